/-! FogNets$Reader -/
set_option maxRecDepth 100000
def RX2 : String := "FogNets$Reader"
def TX2 : u_T := fun k => match k with
  | 0 => ("FogNets$Reader", "windFacts", "[Ljava/lang/String;", true)
  | 1 => ("FogNets$Reader", "fogFacts", "[Ljava/lang/String;", true)
  | 2 => ("FogNets$Reader", "kinds", "[Ljava/lang/String;", true)
  | 3 => ("FogNets$Reader", "lines", "[Ljava/lang/String;", true)
  | 4 => ("FogNets$Reader", "kept", "[Ljava/lang/String;", true)
  | 5 => ("FogNets$Reader", "isTold", "[Z", true)
  | 6 => ("FogNets$Reader", "draft", "LFogNets$Ridge;", false)
  | 7 => ("FogNets$Reader", "facts", "[Ljava/lang/String;", false)
  | 8 => ("FogNets$Reader", "tape", "[I", true)
  | 9 => ("FogNets$Reader", "taped", "I", false)
  | 10 => ("FogNets$Reader", "sort", "[I", true)
  | 11 => ("FogNets$Reader", "value", "[J", true)
  | 12 => ("FogNets$Reader", "place", "[I", true)
  | 13 => ("FogNets$Reader", "at", "I", false)
  | _ => ("FogNets$Reader", "deep", "I", false)
def tyX2 : Nat → FieldType := fun k => match k with
  | 0 => .array (.object "java/lang/String")
  | 1 => .array (.object "java/lang/String")
  | 2 => .array (.object "java/lang/String")
  | 3 => .array (.object "java/lang/String")
  | 4 => .array (.object "java/lang/String")
  | 5 => .array .boolean
  | 6 => .object "FogNets$Ridge"
  | 7 => .array (.object "java/lang/String")
  | 8 => .array .int
  | 9 => .int
  | 10 => .array .int
  | 11 => .array .long
  | 12 => .array .int
  | 13 => .int
  | _ => .int
abbrev wsX20 : List Cond := u_ws RX2 TX2 15
set_option maxRecDepth 100000 in
theorem nmX2 : ∀ a, a < 15 → ∀ b, b < 15 → a ≠ b → (TX2 a).2.1 ≠ (TX2 b).2.1 := by decide +kernel
set_option maxRecDepth 100000 in
theorem tyX2_ok : ∀ k, k < 15 → parseFieldDescriptor (TX2 k).2.2.1 = some (tyX2 k) := by decide +kernel
abbrev cX2_init : ByteArray := prog_19_method_1_code
def yX2_init : MethodName := ⟨RX2, "<init>", "()V"⟩
def dkwX2_init_9 : List UInt8 := [188, 10, 181, 0, 90, 42, 17, 3, 233, 188, 11, 181, 0, 93, 42, 17, 3, 233, 188, 10, 181, 0, 97, 177]
abbrev dktX2_init_9 : List UInt8 := dkwX2_init_9 ++ []
def dkwX2_init_8 : List UInt8 := [181, 0, 79, 42, 42, 180, 0, 15, 181, 0, 83, 42, 17, 3, 232, 188, 10, 181, 0, 86, 42, 17, 3, 233]
abbrev dktX2_init_8 : List UInt8 := dkwX2_init_8 ++ dktX2_init_9
def dkwX2_init_7 : List UInt8 := [18, 70, 83, 89, 16, 7, 18, 72, 83, 89, 16, 8, 18, 74, 83, 181, 0, 76, 42, 16, 6, 188, 4]
abbrev dktX2_init_7 : List UInt8 := dkwX2_init_7 ++ dktX2_init_8
def dkwX2_init_6 : List UInt8 := [83, 89, 5, 18, 62, 83, 89, 6, 18, 64, 83, 89, 7, 18, 66, 83, 89, 8, 18, 68, 83, 89, 16, 6]
abbrev dktX2_init_6 : List UInt8 := dkwX2_init_6 ++ dktX2_init_7
def dkwX2_init_5 : List UInt8 := [83, 89, 8, 18, 53, 83, 181, 0, 55, 42, 16, 9, 189, 0, 9, 89, 3, 18, 58, 83, 89, 4, 18, 60]
abbrev dktX2_init_5 : List UInt8 := dkwX2_init_5 ++ dktX2_init_6
def dkwX2_init_4 : List UInt8 := [89, 3, 18, 43, 83, 89, 4, 18, 45, 83, 89, 5, 18, 47, 83, 89, 6, 18, 49, 83, 89, 7, 18, 51]
abbrev dktX2_init_4 : List UInt8 := dkwX2_init_4 ++ dktX2_init_5
def dkwX2_init_3 : List UInt8 := [89, 6, 18, 34, 83, 89, 7, 18, 36, 83, 89, 8, 18, 38, 83, 181, 0, 40, 42, 16, 6, 189, 0, 9]
abbrev dktX2_init_3 : List UInt8 := dkwX2_init_3 ++ dktX2_init_4
def dkwX2_init_2 : List UInt8 := [181, 0, 25, 42, 16, 6, 189, 0, 9, 89, 3, 18, 28, 83, 89, 4, 18, 30, 83, 89, 5, 18, 32, 83]
abbrev dktX2_init_2 : List UInt8 := dkwX2_init_2 ++ dktX2_init_3
def dkwX2_init_1 : List UInt8 := [189, 0, 9, 89, 3, 18, 11, 83, 89, 4, 18, 13, 83, 89, 5, 18, 21, 83, 89, 6, 18, 23, 83]
abbrev dktX2_init_1 : List UInt8 := dkwX2_init_1 ++ dktX2_init_2
def dkwX2_init_0 : List UInt8 := [42, 183, 0, 3, 42, 5, 189, 0, 9, 89, 3, 18, 11, 83, 89, 4, 18, 13, 83, 181, 0, 15, 42, 7]
abbrev dktX2_init_0 : List UInt8 := dkwX2_init_0 ++ dktX2_init_1
theorem dksX2_init_0 : cX2_init.data.toList.drop 0 = dktX2_init_0 := by decide +kernel
theorem dksX2_init_1 : cX2_init.data.toList.drop 24 = dktX2_init_1 := dk_seg dksX2_init_0 24 rfl rfl
theorem dksX2_init_2 : cX2_init.data.toList.drop 47 = dktX2_init_2 := dk_seg dksX2_init_1 23 rfl rfl
theorem dksX2_init_3 : cX2_init.data.toList.drop 71 = dktX2_init_3 := dk_seg dksX2_init_2 24 rfl rfl
theorem dksX2_init_4 : cX2_init.data.toList.drop 95 = dktX2_init_4 := dk_seg dksX2_init_3 24 rfl rfl
theorem dksX2_init_5 : cX2_init.data.toList.drop 119 = dktX2_init_5 := dk_seg dksX2_init_4 24 rfl rfl
theorem dksX2_init_6 : cX2_init.data.toList.drop 143 = dktX2_init_6 := dk_seg dksX2_init_5 24 rfl rfl
theorem dksX2_init_7 : cX2_init.data.toList.drop 167 = dktX2_init_7 := dk_seg dksX2_init_6 24 rfl rfl
theorem dksX2_init_8 : cX2_init.data.toList.drop 190 = dktX2_init_8 := dk_seg dksX2_init_7 23 rfl rfl
theorem dksX2_init_9 : cX2_init.data.toList.drop 214 = dktX2_init_9 := dk_seg dksX2_init_8 24 rfl rfl
theorem dX2_init_0 : decode cX2_init 0 = .ok (.aload_n 0, 1) := dk_42 (dk_at dksX2_init_0 0 rfl rfl)
theorem dX2_init_1 : decode cX2_init 1 = .ok (.invokespecial 3, 3) := dk_183 0 3 (dk_at dksX2_init_0 1 rfl rfl)
theorem dX2_init_4 : decode cX2_init 4 = .ok (.aload_n 0, 1) := dk_42 (dk_at dksX2_init_0 4 rfl rfl)
theorem dX2_init_5 : decode cX2_init 5 = .ok (.iconst 2, 1) := dk_5 (dk_at dksX2_init_0 5 rfl rfl)
theorem dX2_init_6 : decode cX2_init 6 = .ok (.anewarray 9, 3) := dk_189 0 9 (dk_at dksX2_init_0 6 rfl rfl)
theorem dX2_init_9 : decode cX2_init 9 = .ok (.dup, 1) := dk_89 (dk_at dksX2_init_0 9 rfl rfl)
theorem dX2_init_10 : decode cX2_init 10 = .ok (.iconst 0, 1) := dk_3 (dk_at dksX2_init_0 10 rfl rfl)
theorem dX2_init_11 : decode cX2_init 11 = .ok (.ldc 11, 2) := dk_18 11 (dk_at dksX2_init_0 11 rfl rfl)
theorem dX2_init_13 : decode cX2_init 13 = .ok (.aastore, 1) := dk_83 (dk_at dksX2_init_0 13 rfl rfl)
theorem dX2_init_14 : decode cX2_init 14 = .ok (.dup, 1) := dk_89 (dk_at dksX2_init_0 14 rfl rfl)
theorem dX2_init_15 : decode cX2_init 15 = .ok (.iconst 1, 1) := dk_4 (dk_at dksX2_init_0 15 rfl rfl)
theorem dX2_init_16 : decode cX2_init 16 = .ok (.ldc 13, 2) := dk_18 13 (dk_at dksX2_init_0 16 rfl rfl)
theorem dX2_init_18 : decode cX2_init 18 = .ok (.aastore, 1) := dk_83 (dk_at dksX2_init_0 18 rfl rfl)
theorem dX2_init_19 : decode cX2_init 19 = .ok (.putfield 15, 3) := dk_181 0 15 (dk_at dksX2_init_0 19 rfl rfl)
theorem dX2_init_22 : decode cX2_init 22 = .ok (.aload_n 0, 1) := dk_42 (dk_at dksX2_init_0 22 rfl rfl)
theorem dX2_init_23 : decode cX2_init 23 = .ok (.iconst 4, 1) := dk_7 (dk_at dksX2_init_0 23 rfl rfl)
theorem dX2_init_24 : decode cX2_init 24 = .ok (.anewarray 9, 3) := dk_189 0 9 (dk_at dksX2_init_1 0 rfl rfl)
theorem dX2_init_27 : decode cX2_init 27 = .ok (.dup, 1) := dk_89 (dk_at dksX2_init_1 3 rfl rfl)
theorem dX2_init_28 : decode cX2_init 28 = .ok (.iconst 0, 1) := dk_3 (dk_at dksX2_init_1 4 rfl rfl)
theorem dX2_init_29 : decode cX2_init 29 = .ok (.ldc 11, 2) := dk_18 11 (dk_at dksX2_init_1 5 rfl rfl)
theorem dX2_init_31 : decode cX2_init 31 = .ok (.aastore, 1) := dk_83 (dk_at dksX2_init_1 7 rfl rfl)
theorem dX2_init_32 : decode cX2_init 32 = .ok (.dup, 1) := dk_89 (dk_at dksX2_init_1 8 rfl rfl)
theorem dX2_init_33 : decode cX2_init 33 = .ok (.iconst 1, 1) := dk_4 (dk_at dksX2_init_1 9 rfl rfl)
theorem dX2_init_34 : decode cX2_init 34 = .ok (.ldc 13, 2) := dk_18 13 (dk_at dksX2_init_1 10 rfl rfl)
theorem dX2_init_36 : decode cX2_init 36 = .ok (.aastore, 1) := dk_83 (dk_at dksX2_init_1 12 rfl rfl)
theorem dX2_init_37 : decode cX2_init 37 = .ok (.dup, 1) := dk_89 (dk_at dksX2_init_1 13 rfl rfl)
theorem dX2_init_38 : decode cX2_init 38 = .ok (.iconst 2, 1) := dk_5 (dk_at dksX2_init_1 14 rfl rfl)
theorem dX2_init_39 : decode cX2_init 39 = .ok (.ldc 21, 2) := dk_18 21 (dk_at dksX2_init_1 15 rfl rfl)
theorem dX2_init_41 : decode cX2_init 41 = .ok (.aastore, 1) := dk_83 (dk_at dksX2_init_1 17 rfl rfl)
theorem dX2_init_42 : decode cX2_init 42 = .ok (.dup, 1) := dk_89 (dk_at dksX2_init_1 18 rfl rfl)
theorem dX2_init_43 : decode cX2_init 43 = .ok (.iconst 3, 1) := dk_6 (dk_at dksX2_init_1 19 rfl rfl)
theorem dX2_init_44 : decode cX2_init 44 = .ok (.ldc 23, 2) := dk_18 23 (dk_at dksX2_init_1 20 rfl rfl)
theorem dX2_init_46 : decode cX2_init 46 = .ok (.aastore, 1) := dk_83 (dk_at dksX2_init_1 22 rfl rfl)
theorem dX2_init_47 : decode cX2_init 47 = .ok (.putfield 25, 3) := dk_181 0 25 (dk_at dksX2_init_2 0 rfl rfl)
theorem dX2_init_50 : decode cX2_init 50 = .ok (.aload_n 0, 1) := dk_42 (dk_at dksX2_init_2 3 rfl rfl)
theorem dX2_init_51 : decode cX2_init 51 = .ok (.bipush 6, 2) := dk_16 6 (dk_at dksX2_init_2 4 rfl rfl)
theorem dX2_init_53 : decode cX2_init 53 = .ok (.anewarray 9, 3) := dk_189 0 9 (dk_at dksX2_init_2 6 rfl rfl)
theorem dX2_init_56 : decode cX2_init 56 = .ok (.dup, 1) := dk_89 (dk_at dksX2_init_2 9 rfl rfl)
theorem dX2_init_57 : decode cX2_init 57 = .ok (.iconst 0, 1) := dk_3 (dk_at dksX2_init_2 10 rfl rfl)
theorem dX2_init_58 : decode cX2_init 58 = .ok (.ldc 28, 2) := dk_18 28 (dk_at dksX2_init_2 11 rfl rfl)
theorem dX2_init_60 : decode cX2_init 60 = .ok (.aastore, 1) := dk_83 (dk_at dksX2_init_2 13 rfl rfl)
theorem dX2_init_61 : decode cX2_init 61 = .ok (.dup, 1) := dk_89 (dk_at dksX2_init_2 14 rfl rfl)
theorem dX2_init_62 : decode cX2_init 62 = .ok (.iconst 1, 1) := dk_4 (dk_at dksX2_init_2 15 rfl rfl)
theorem dX2_init_63 : decode cX2_init 63 = .ok (.ldc 30, 2) := dk_18 30 (dk_at dksX2_init_2 16 rfl rfl)
theorem dX2_init_65 : decode cX2_init 65 = .ok (.aastore, 1) := dk_83 (dk_at dksX2_init_2 18 rfl rfl)
theorem dX2_init_66 : decode cX2_init 66 = .ok (.dup, 1) := dk_89 (dk_at dksX2_init_2 19 rfl rfl)
theorem dX2_init_67 : decode cX2_init 67 = .ok (.iconst 2, 1) := dk_5 (dk_at dksX2_init_2 20 rfl rfl)
theorem dX2_init_68 : decode cX2_init 68 = .ok (.ldc 32, 2) := dk_18 32 (dk_at dksX2_init_2 21 rfl rfl)
theorem dX2_init_70 : decode cX2_init 70 = .ok (.aastore, 1) := dk_83 (dk_at dksX2_init_2 23 rfl rfl)
theorem dX2_init_71 : decode cX2_init 71 = .ok (.dup, 1) := dk_89 (dk_at dksX2_init_3 0 rfl rfl)
theorem dX2_init_72 : decode cX2_init 72 = .ok (.iconst 3, 1) := dk_6 (dk_at dksX2_init_3 1 rfl rfl)
theorem dX2_init_73 : decode cX2_init 73 = .ok (.ldc 34, 2) := dk_18 34 (dk_at dksX2_init_3 2 rfl rfl)
theorem dX2_init_75 : decode cX2_init 75 = .ok (.aastore, 1) := dk_83 (dk_at dksX2_init_3 4 rfl rfl)
theorem dX2_init_76 : decode cX2_init 76 = .ok (.dup, 1) := dk_89 (dk_at dksX2_init_3 5 rfl rfl)
theorem dX2_init_77 : decode cX2_init 77 = .ok (.iconst 4, 1) := dk_7 (dk_at dksX2_init_3 6 rfl rfl)
theorem dX2_init_78 : decode cX2_init 78 = .ok (.ldc 36, 2) := dk_18 36 (dk_at dksX2_init_3 7 rfl rfl)
theorem dX2_init_80 : decode cX2_init 80 = .ok (.aastore, 1) := dk_83 (dk_at dksX2_init_3 9 rfl rfl)
theorem dX2_init_81 : decode cX2_init 81 = .ok (.dup, 1) := dk_89 (dk_at dksX2_init_3 10 rfl rfl)
theorem dX2_init_82 : decode cX2_init 82 = .ok (.iconst 5, 1) := dk_8 (dk_at dksX2_init_3 11 rfl rfl)
theorem dX2_init_83 : decode cX2_init 83 = .ok (.ldc 38, 2) := dk_18 38 (dk_at dksX2_init_3 12 rfl rfl)
theorem dX2_init_85 : decode cX2_init 85 = .ok (.aastore, 1) := dk_83 (dk_at dksX2_init_3 14 rfl rfl)
theorem dX2_init_86 : decode cX2_init 86 = .ok (.putfield 40, 3) := dk_181 0 40 (dk_at dksX2_init_3 15 rfl rfl)
theorem dX2_init_89 : decode cX2_init 89 = .ok (.aload_n 0, 1) := dk_42 (dk_at dksX2_init_3 18 rfl rfl)
theorem dX2_init_90 : decode cX2_init 90 = .ok (.bipush 6, 2) := dk_16 6 (dk_at dksX2_init_3 19 rfl rfl)
theorem dX2_init_92 : decode cX2_init 92 = .ok (.anewarray 9, 3) := dk_189 0 9 (dk_at dksX2_init_3 21 rfl rfl)
theorem dX2_init_95 : decode cX2_init 95 = .ok (.dup, 1) := dk_89 (dk_at dksX2_init_4 0 rfl rfl)
theorem dX2_init_96 : decode cX2_init 96 = .ok (.iconst 0, 1) := dk_3 (dk_at dksX2_init_4 1 rfl rfl)
theorem dX2_init_97 : decode cX2_init 97 = .ok (.ldc 43, 2) := dk_18 43 (dk_at dksX2_init_4 2 rfl rfl)
theorem dX2_init_99 : decode cX2_init 99 = .ok (.aastore, 1) := dk_83 (dk_at dksX2_init_4 4 rfl rfl)
theorem dX2_init_100 : decode cX2_init 100 = .ok (.dup, 1) := dk_89 (dk_at dksX2_init_4 5 rfl rfl)
theorem dX2_init_101 : decode cX2_init 101 = .ok (.iconst 1, 1) := dk_4 (dk_at dksX2_init_4 6 rfl rfl)
theorem dX2_init_102 : decode cX2_init 102 = .ok (.ldc 45, 2) := dk_18 45 (dk_at dksX2_init_4 7 rfl rfl)
theorem dX2_init_104 : decode cX2_init 104 = .ok (.aastore, 1) := dk_83 (dk_at dksX2_init_4 9 rfl rfl)
theorem dX2_init_105 : decode cX2_init 105 = .ok (.dup, 1) := dk_89 (dk_at dksX2_init_4 10 rfl rfl)
theorem dX2_init_106 : decode cX2_init 106 = .ok (.iconst 2, 1) := dk_5 (dk_at dksX2_init_4 11 rfl rfl)
theorem dX2_init_107 : decode cX2_init 107 = .ok (.ldc 47, 2) := dk_18 47 (dk_at dksX2_init_4 12 rfl rfl)
theorem dX2_init_109 : decode cX2_init 109 = .ok (.aastore, 1) := dk_83 (dk_at dksX2_init_4 14 rfl rfl)
theorem dX2_init_110 : decode cX2_init 110 = .ok (.dup, 1) := dk_89 (dk_at dksX2_init_4 15 rfl rfl)
theorem dX2_init_111 : decode cX2_init 111 = .ok (.iconst 3, 1) := dk_6 (dk_at dksX2_init_4 16 rfl rfl)
theorem dX2_init_112 : decode cX2_init 112 = .ok (.ldc 49, 2) := dk_18 49 (dk_at dksX2_init_4 17 rfl rfl)
theorem dX2_init_114 : decode cX2_init 114 = .ok (.aastore, 1) := dk_83 (dk_at dksX2_init_4 19 rfl rfl)
theorem dX2_init_115 : decode cX2_init 115 = .ok (.dup, 1) := dk_89 (dk_at dksX2_init_4 20 rfl rfl)
theorem dX2_init_116 : decode cX2_init 116 = .ok (.iconst 4, 1) := dk_7 (dk_at dksX2_init_4 21 rfl rfl)
theorem dX2_init_117 : decode cX2_init 117 = .ok (.ldc 51, 2) := dk_18 51 (dk_at dksX2_init_4 22 rfl rfl)
theorem dX2_init_119 : decode cX2_init 119 = .ok (.aastore, 1) := dk_83 (dk_at dksX2_init_5 0 rfl rfl)
theorem dX2_init_120 : decode cX2_init 120 = .ok (.dup, 1) := dk_89 (dk_at dksX2_init_5 1 rfl rfl)
theorem dX2_init_121 : decode cX2_init 121 = .ok (.iconst 5, 1) := dk_8 (dk_at dksX2_init_5 2 rfl rfl)
theorem dX2_init_122 : decode cX2_init 122 = .ok (.ldc 53, 2) := dk_18 53 (dk_at dksX2_init_5 3 rfl rfl)
theorem dX2_init_124 : decode cX2_init 124 = .ok (.aastore, 1) := dk_83 (dk_at dksX2_init_5 5 rfl rfl)
theorem dX2_init_125 : decode cX2_init 125 = .ok (.putfield 55, 3) := dk_181 0 55 (dk_at dksX2_init_5 6 rfl rfl)
theorem dX2_init_128 : decode cX2_init 128 = .ok (.aload_n 0, 1) := dk_42 (dk_at dksX2_init_5 9 rfl rfl)
theorem dX2_init_129 : decode cX2_init 129 = .ok (.bipush 9, 2) := dk_16 9 (dk_at dksX2_init_5 10 rfl rfl)
theorem dX2_init_131 : decode cX2_init 131 = .ok (.anewarray 9, 3) := dk_189 0 9 (dk_at dksX2_init_5 12 rfl rfl)
theorem dX2_init_134 : decode cX2_init 134 = .ok (.dup, 1) := dk_89 (dk_at dksX2_init_5 15 rfl rfl)
theorem dX2_init_135 : decode cX2_init 135 = .ok (.iconst 0, 1) := dk_3 (dk_at dksX2_init_5 16 rfl rfl)
theorem dX2_init_136 : decode cX2_init 136 = .ok (.ldc 58, 2) := dk_18 58 (dk_at dksX2_init_5 17 rfl rfl)
theorem dX2_init_138 : decode cX2_init 138 = .ok (.aastore, 1) := dk_83 (dk_at dksX2_init_5 19 rfl rfl)
theorem dX2_init_139 : decode cX2_init 139 = .ok (.dup, 1) := dk_89 (dk_at dksX2_init_5 20 rfl rfl)
theorem dX2_init_140 : decode cX2_init 140 = .ok (.iconst 1, 1) := dk_4 (dk_at dksX2_init_5 21 rfl rfl)
theorem dX2_init_141 : decode cX2_init 141 = .ok (.ldc 60, 2) := dk_18 60 (dk_at dksX2_init_5 22 rfl rfl)
theorem dX2_init_143 : decode cX2_init 143 = .ok (.aastore, 1) := dk_83 (dk_at dksX2_init_6 0 rfl rfl)
theorem dX2_init_144 : decode cX2_init 144 = .ok (.dup, 1) := dk_89 (dk_at dksX2_init_6 1 rfl rfl)
theorem dX2_init_145 : decode cX2_init 145 = .ok (.iconst 2, 1) := dk_5 (dk_at dksX2_init_6 2 rfl rfl)
theorem dX2_init_146 : decode cX2_init 146 = .ok (.ldc 62, 2) := dk_18 62 (dk_at dksX2_init_6 3 rfl rfl)
theorem dX2_init_148 : decode cX2_init 148 = .ok (.aastore, 1) := dk_83 (dk_at dksX2_init_6 5 rfl rfl)
theorem dX2_init_149 : decode cX2_init 149 = .ok (.dup, 1) := dk_89 (dk_at dksX2_init_6 6 rfl rfl)
theorem dX2_init_150 : decode cX2_init 150 = .ok (.iconst 3, 1) := dk_6 (dk_at dksX2_init_6 7 rfl rfl)
theorem dX2_init_151 : decode cX2_init 151 = .ok (.ldc 64, 2) := dk_18 64 (dk_at dksX2_init_6 8 rfl rfl)
theorem dX2_init_153 : decode cX2_init 153 = .ok (.aastore, 1) := dk_83 (dk_at dksX2_init_6 10 rfl rfl)
theorem dX2_init_154 : decode cX2_init 154 = .ok (.dup, 1) := dk_89 (dk_at dksX2_init_6 11 rfl rfl)
theorem dX2_init_155 : decode cX2_init 155 = .ok (.iconst 4, 1) := dk_7 (dk_at dksX2_init_6 12 rfl rfl)
theorem dX2_init_156 : decode cX2_init 156 = .ok (.ldc 66, 2) := dk_18 66 (dk_at dksX2_init_6 13 rfl rfl)
theorem dX2_init_158 : decode cX2_init 158 = .ok (.aastore, 1) := dk_83 (dk_at dksX2_init_6 15 rfl rfl)
theorem dX2_init_159 : decode cX2_init 159 = .ok (.dup, 1) := dk_89 (dk_at dksX2_init_6 16 rfl rfl)
theorem dX2_init_160 : decode cX2_init 160 = .ok (.iconst 5, 1) := dk_8 (dk_at dksX2_init_6 17 rfl rfl)
theorem dX2_init_161 : decode cX2_init 161 = .ok (.ldc 68, 2) := dk_18 68 (dk_at dksX2_init_6 18 rfl rfl)
theorem dX2_init_163 : decode cX2_init 163 = .ok (.aastore, 1) := dk_83 (dk_at dksX2_init_6 20 rfl rfl)
theorem dX2_init_164 : decode cX2_init 164 = .ok (.dup, 1) := dk_89 (dk_at dksX2_init_6 21 rfl rfl)
theorem dX2_init_165 : decode cX2_init 165 = .ok (.bipush 6, 2) := dk_16 6 (dk_at dksX2_init_6 22 rfl rfl)
theorem dX2_init_167 : decode cX2_init 167 = .ok (.ldc 70, 2) := dk_18 70 (dk_at dksX2_init_7 0 rfl rfl)
theorem dX2_init_169 : decode cX2_init 169 = .ok (.aastore, 1) := dk_83 (dk_at dksX2_init_7 2 rfl rfl)
theorem dX2_init_170 : decode cX2_init 170 = .ok (.dup, 1) := dk_89 (dk_at dksX2_init_7 3 rfl rfl)
theorem dX2_init_171 : decode cX2_init 171 = .ok (.bipush 7, 2) := dk_16 7 (dk_at dksX2_init_7 4 rfl rfl)
theorem dX2_init_173 : decode cX2_init 173 = .ok (.ldc 72, 2) := dk_18 72 (dk_at dksX2_init_7 6 rfl rfl)
theorem dX2_init_175 : decode cX2_init 175 = .ok (.aastore, 1) := dk_83 (dk_at dksX2_init_7 8 rfl rfl)
theorem dX2_init_176 : decode cX2_init 176 = .ok (.dup, 1) := dk_89 (dk_at dksX2_init_7 9 rfl rfl)
theorem dX2_init_177 : decode cX2_init 177 = .ok (.bipush 8, 2) := dk_16 8 (dk_at dksX2_init_7 10 rfl rfl)
theorem dX2_init_179 : decode cX2_init 179 = .ok (.ldc 74, 2) := dk_18 74 (dk_at dksX2_init_7 12 rfl rfl)
theorem dX2_init_181 : decode cX2_init 181 = .ok (.aastore, 1) := dk_83 (dk_at dksX2_init_7 14 rfl rfl)
theorem dX2_init_182 : decode cX2_init 182 = .ok (.putfield 76, 3) := dk_181 0 76 (dk_at dksX2_init_7 15 rfl rfl)
theorem dX2_init_185 : decode cX2_init 185 = .ok (.aload_n 0, 1) := dk_42 (dk_at dksX2_init_7 18 rfl rfl)
theorem dX2_init_186 : decode cX2_init 186 = .ok (.bipush 6, 2) := dk_16 6 (dk_at dksX2_init_7 19 rfl rfl)
theorem dX2_init_188 : decode cX2_init 188 = .ok (.newarray .boolean, 2) := dk_188_4 (dk_at dksX2_init_7 21 rfl rfl)
theorem dX2_init_190 : decode cX2_init 190 = .ok (.putfield 79, 3) := dk_181 0 79 (dk_at dksX2_init_8 0 rfl rfl)
theorem dX2_init_193 : decode cX2_init 193 = .ok (.aload_n 0, 1) := dk_42 (dk_at dksX2_init_8 3 rfl rfl)
theorem dX2_init_194 : decode cX2_init 194 = .ok (.aload_n 0, 1) := dk_42 (dk_at dksX2_init_8 4 rfl rfl)
theorem dX2_init_195 : decode cX2_init 195 = .ok (.getfield 15, 3) := dk_180 0 15 (dk_at dksX2_init_8 5 rfl rfl)
theorem dX2_init_198 : decode cX2_init 198 = .ok (.putfield 83, 3) := dk_181 0 83 (dk_at dksX2_init_8 8 rfl rfl)
theorem dX2_init_201 : decode cX2_init 201 = .ok (.aload_n 0, 1) := dk_42 (dk_at dksX2_init_8 11 rfl rfl)
theorem dX2_init_202 : decode cX2_init 202 = .ok (.sipush 1000, 3) := dk_17 3 232 (dk_at dksX2_init_8 12 rfl rfl)
theorem dX2_init_205 : decode cX2_init 205 = .ok (.newarray .int, 2) := dk_188_10 (dk_at dksX2_init_8 15 rfl rfl)
theorem dX2_init_207 : decode cX2_init 207 = .ok (.putfield 86, 3) := dk_181 0 86 (dk_at dksX2_init_8 17 rfl rfl)
theorem dX2_init_210 : decode cX2_init 210 = .ok (.aload_n 0, 1) := dk_42 (dk_at dksX2_init_8 20 rfl rfl)
theorem dX2_init_211 : decode cX2_init 211 = .ok (.sipush 1001, 3) := dk_17 3 233 (dk_at dksX2_init_8 21 rfl rfl)
theorem dX2_init_214 : decode cX2_init 214 = .ok (.newarray .int, 2) := dk_188_10 (dk_at dksX2_init_9 0 rfl rfl)
theorem dX2_init_216 : decode cX2_init 216 = .ok (.putfield 90, 3) := dk_181 0 90 (dk_at dksX2_init_9 2 rfl rfl)
theorem dX2_init_219 : decode cX2_init 219 = .ok (.aload_n 0, 1) := dk_42 (dk_at dksX2_init_9 5 rfl rfl)
theorem dX2_init_220 : decode cX2_init 220 = .ok (.sipush 1001, 3) := dk_17 3 233 (dk_at dksX2_init_9 6 rfl rfl)
theorem dX2_init_223 : decode cX2_init 223 = .ok (.newarray .long, 2) := dk_188_11 (dk_at dksX2_init_9 9 rfl rfl)
theorem dX2_init_225 : decode cX2_init 225 = .ok (.putfield 93, 3) := dk_181 0 93 (dk_at dksX2_init_9 11 rfl rfl)
theorem dX2_init_228 : decode cX2_init 228 = .ok (.aload_n 0, 1) := dk_42 (dk_at dksX2_init_9 14 rfl rfl)
theorem dX2_init_229 : decode cX2_init 229 = .ok (.sipush 1001, 3) := dk_17 3 233 (dk_at dksX2_init_9 15 rfl rfl)
theorem dX2_init_232 : decode cX2_init 232 = .ok (.newarray .int, 2) := dk_188_10 (dk_at dksX2_init_9 18 rfl rfl)
theorem dX2_init_234 : decode cX2_init 234 = .ok (.putfield 97, 3) := dk_181 0 97 (dk_at dksX2_init_9 20 rfl rfl)
theorem dX2_init_237 : decode cX2_init 237 = .ok (.return_, 1) := dk_177 (dk_at dksX2_init_9 23 rfl rfl)
abbrev cX2_feed : ByteArray := prog_19_method_2_code
def yX2_feed : MethodName := ⟨RX2, "feed", "(J)V"⟩
def dkwX2_feed_3 : List UInt8 := [167, 255, 189, 177]
abbrev dktX2_feed_3 : List UInt8 := dkwX2_feed_3 ++ []
def dkwX2_feed_2 : List UInt8 := [180, 0, 86, 42, 180, 0, 106, 21, 4, 79, 42, 89, 180, 0, 106, 4, 96, 181, 0, 106, 132, 3, 248]
abbrev dktX2_feed_2 : List UInt8 := dkwX2_feed_2 ++ dktX2_feed_3
def dkwX2_feed_1 : List UInt8 := [21, 4, 16, 32, 16, 126, 184, 0, 102, 153, 0, 34, 42, 180, 0, 106, 17, 3, 232, 162, 0, 24, 42]
abbrev dktX2_feed_1 : List UInt8 := dkwX2_feed_1 ++ dktX2_feed_2
def dkwX2_feed_0 : List UInt8 := [16, 56, 62, 29, 155, 0, 69, 31, 29, 125, 20, 0, 100, 127, 136, 54, 4, 21, 4, 16, 10, 159, 0, 15]
abbrev dktX2_feed_0 : List UInt8 := dkwX2_feed_0 ++ dktX2_feed_1
theorem dksX2_feed_0 : cX2_feed.data.toList.drop 0 = dktX2_feed_0 := by decide +kernel
theorem dksX2_feed_1 : cX2_feed.data.toList.drop 24 = dktX2_feed_1 := dk_seg dksX2_feed_0 24 rfl rfl
theorem dksX2_feed_2 : cX2_feed.data.toList.drop 47 = dktX2_feed_2 := dk_seg dksX2_feed_1 23 rfl rfl
theorem dksX2_feed_3 : cX2_feed.data.toList.drop 70 = dktX2_feed_3 := dk_seg dksX2_feed_2 23 rfl rfl
theorem dX2_feed_0 : decode cX2_feed 0 = .ok (.bipush 56, 2) := dk_16 56 (dk_at dksX2_feed_0 0 rfl rfl)
theorem dX2_feed_2 : decode cX2_feed 2 = .ok (.istore_n 3, 1) := dk_62 (dk_at dksX2_feed_0 2 rfl rfl)
theorem dX2_feed_3 : decode cX2_feed 3 = .ok (.iload_n 3, 1) := dk_29 (dk_at dksX2_feed_0 3 rfl rfl)
theorem dX2_feed_4 : decode cX2_feed 4 = .ok (.ifCond .lt 69, 3) := dk_155 0 69 (dk_at dksX2_feed_0 4 rfl rfl)
theorem dX2_feed_7 : decode cX2_feed 7 = .ok (.lload_n 1, 1) := dk_31 (dk_at dksX2_feed_0 7 rfl rfl)
theorem dX2_feed_8 : decode cX2_feed 8 = .ok (.iload_n 3, 1) := dk_29 (dk_at dksX2_feed_0 8 rfl rfl)
theorem dX2_feed_9 : decode cX2_feed 9 = .ok (.lushr, 1) := dk_125 (dk_at dksX2_feed_0 9 rfl rfl)
theorem dX2_feed_10 : decode cX2_feed 10 = .ok (.ldc2_w 100, 3) := dk_20 0 100 (dk_at dksX2_feed_0 10 rfl rfl)
theorem dX2_feed_13 : decode cX2_feed 13 = .ok (.land, 1) := dk_127 (dk_at dksX2_feed_0 13 rfl rfl)
theorem dX2_feed_14 : decode cX2_feed 14 = .ok (.l2i, 1) := dk_136 (dk_at dksX2_feed_0 14 rfl rfl)
theorem dX2_feed_15 : decode cX2_feed 15 = .ok (.istore 4, 2) := dk_54 4 (dk_at dksX2_feed_0 15 rfl rfl)
theorem dX2_feed_17 : decode cX2_feed 17 = .ok (.iload 4, 2) := dk_21 4 (dk_at dksX2_feed_0 17 rfl rfl)
theorem dX2_feed_19 : decode cX2_feed 19 = .ok (.bipush 10, 2) := dk_16 10 (dk_at dksX2_feed_0 19 rfl rfl)
theorem dX2_feed_21 : decode cX2_feed 21 = .ok (.if_icmp .eq 15, 3) := dk_159 0 15 (dk_at dksX2_feed_0 21 rfl rfl)
theorem dX2_feed_24 : decode cX2_feed 24 = .ok (.iload 4, 2) := dk_21 4 (dk_at dksX2_feed_1 0 rfl rfl)
theorem dX2_feed_26 : decode cX2_feed 26 = .ok (.bipush 32, 2) := dk_16 32 (dk_at dksX2_feed_1 2 rfl rfl)
theorem dX2_feed_28 : decode cX2_feed 28 = .ok (.bipush 126, 2) := dk_16 126 (dk_at dksX2_feed_1 4 rfl rfl)
theorem dX2_feed_30 : decode cX2_feed 30 = .ok (.invokestatic 102, 3) := dk_184 0 102 (dk_at dksX2_feed_1 6 rfl rfl)
theorem dX2_feed_33 : decode cX2_feed 33 = .ok (.ifCond .eq 34, 3) := dk_153 0 34 (dk_at dksX2_feed_1 9 rfl rfl)
theorem dX2_feed_36 : decode cX2_feed 36 = .ok (.aload_n 0, 1) := dk_42 (dk_at dksX2_feed_1 12 rfl rfl)
theorem dX2_feed_37 : decode cX2_feed 37 = .ok (.getfield 106, 3) := dk_180 0 106 (dk_at dksX2_feed_1 13 rfl rfl)
theorem dX2_feed_40 : decode cX2_feed 40 = .ok (.sipush 1000, 3) := dk_17 3 232 (dk_at dksX2_feed_1 16 rfl rfl)
theorem dX2_feed_43 : decode cX2_feed 43 = .ok (.if_icmp .ge 24, 3) := dk_162 0 24 (dk_at dksX2_feed_1 19 rfl rfl)
theorem dX2_feed_46 : decode cX2_feed 46 = .ok (.aload_n 0, 1) := dk_42 (dk_at dksX2_feed_1 22 rfl rfl)
theorem dX2_feed_47 : decode cX2_feed 47 = .ok (.getfield 86, 3) := dk_180 0 86 (dk_at dksX2_feed_2 0 rfl rfl)
theorem dX2_feed_50 : decode cX2_feed 50 = .ok (.aload_n 0, 1) := dk_42 (dk_at dksX2_feed_2 3 rfl rfl)
theorem dX2_feed_51 : decode cX2_feed 51 = .ok (.getfield 106, 3) := dk_180 0 106 (dk_at dksX2_feed_2 4 rfl rfl)
theorem dX2_feed_54 : decode cX2_feed 54 = .ok (.iload 4, 2) := dk_21 4 (dk_at dksX2_feed_2 7 rfl rfl)
theorem dX2_feed_56 : decode cX2_feed 56 = .ok (.iastore, 1) := dk_79 (dk_at dksX2_feed_2 9 rfl rfl)
theorem dX2_feed_57 : decode cX2_feed 57 = .ok (.aload_n 0, 1) := dk_42 (dk_at dksX2_feed_2 10 rfl rfl)
theorem dX2_feed_58 : decode cX2_feed 58 = .ok (.dup, 1) := dk_89 (dk_at dksX2_feed_2 11 rfl rfl)
theorem dX2_feed_59 : decode cX2_feed 59 = .ok (.getfield 106, 3) := dk_180 0 106 (dk_at dksX2_feed_2 12 rfl rfl)
theorem dX2_feed_62 : decode cX2_feed 62 = .ok (.iconst 1, 1) := dk_4 (dk_at dksX2_feed_2 15 rfl rfl)
theorem dX2_feed_63 : decode cX2_feed 63 = .ok (.iadd, 1) := dk_96 (dk_at dksX2_feed_2 16 rfl rfl)
theorem dX2_feed_64 : decode cX2_feed 64 = .ok (.putfield 106, 3) := dk_181 0 106 (dk_at dksX2_feed_2 17 rfl rfl)
theorem dX2_feed_67 : decode cX2_feed 67 = .ok (.iinc 3 (-8), 3) := dk_132 3 248 (dk_at dksX2_feed_2 20 rfl rfl)
theorem dX2_feed_70 : decode cX2_feed 70 = .ok (.goto (-67), 3) := dk_167 255 189 (dk_at dksX2_feed_3 0 rfl rfl)
theorem dX2_feed_73 : decode cX2_feed 73 = .ok (.return_, 1) := dk_177 (dk_at dksX2_feed_3 3 rfl rfl)
abbrev cX2_ridge : ByteArray := prog_19_method_16_code
def yX2_ridge : MethodName := ⟨RX2, "ridge", "()LFogNets$Ridge;"⟩
def dkwX2_ridge_5 : List UInt8 := [191, 42, 16, 59, 182, 0, 184, 167, 255, 173, 42, 180, 0, 174, 176]
abbrev dktX2_ridge_5 : List UInt8 := dkwX2_ridge_5 ++ []
def dkwX2_ridge_4 : List UInt8 := [167, 0, 25, 42, 18, 64, 182, 0, 150, 153, 0, 10, 42, 182, 0, 182, 167, 0, 9, 42, 4, 182, 0, 160]
abbrev dktX2_ridge_4 : List UInt8 := dkwX2_ridge_4 ++ dktX2_ridge_5
def dkwX2_ridge_3 : List UInt8 := [182, 0, 164, 182, 0, 178, 167, 0, 41, 42, 18, 58, 182, 0, 150, 153, 0, 10, 42, 182, 0, 180]
abbrev dktX2_ridge_3 : List UInt8 := dkwX2_ridge_3 ++ dktX2_ridge_4
def dkwX2_ridge_2 : List UInt8 := [46, 153, 0, 77, 42, 42, 180, 0, 55, 182, 0, 164, 2, 159, 0, 18, 42, 42, 42, 180, 0, 55]
abbrev dktX2_ridge_2 : List UInt8 := dkwX2_ridge_2 ++ dktX2_ridge_3
def dkwX2_ridge_1 : List UInt8 := [162, 0, 16, 42, 180, 0, 79, 27, 3, 84, 132, 1, 1, 167, 255, 237, 42, 180, 0, 90, 42, 180, 0, 139]
abbrev dktX2_ridge_1 : List UInt8 := dkwX2_ridge_1 ++ dktX2_ridge_2
def dkwX2_ridge_0 : List UInt8 := [42, 182, 0, 168, 42, 187, 0, 171, 89, 183, 0, 173, 181, 0, 174, 3, 60, 27, 42, 180, 0, 79, 190]
abbrev dktX2_ridge_0 : List UInt8 := dkwX2_ridge_0 ++ dktX2_ridge_1
theorem dksX2_ridge_0 : cX2_ridge.data.toList.drop 0 = dktX2_ridge_0 := by decide +kernel
theorem dksX2_ridge_1 : cX2_ridge.data.toList.drop 23 = dktX2_ridge_1 := dk_seg dksX2_ridge_0 23 rfl rfl
theorem dksX2_ridge_2 : cX2_ridge.data.toList.drop 47 = dktX2_ridge_2 := dk_seg dksX2_ridge_1 24 rfl rfl
theorem dksX2_ridge_3 : cX2_ridge.data.toList.drop 69 = dktX2_ridge_3 := dk_seg dksX2_ridge_2 22 rfl rfl
theorem dksX2_ridge_4 : cX2_ridge.data.toList.drop 91 = dktX2_ridge_4 := dk_seg dksX2_ridge_3 22 rfl rfl
theorem dksX2_ridge_5 : cX2_ridge.data.toList.drop 115 = dktX2_ridge_5 := dk_seg dksX2_ridge_4 24 rfl rfl
theorem dX2_ridge_0 : decode cX2_ridge 0 = .ok (.aload_n 0, 1) := dk_42 (dk_at dksX2_ridge_0 0 rfl rfl)
theorem dX2_ridge_1 : decode cX2_ridge 1 = .ok (.invokevirtual 168, 3) := dk_182 0 168 (dk_at dksX2_ridge_0 1 rfl rfl)
theorem dX2_ridge_4 : decode cX2_ridge 4 = .ok (.aload_n 0, 1) := dk_42 (dk_at dksX2_ridge_0 4 rfl rfl)
theorem dX2_ridge_5 : decode cX2_ridge 5 = .ok (.new 171, 3) := dk_187 0 171 (dk_at dksX2_ridge_0 5 rfl rfl)
theorem dX2_ridge_8 : decode cX2_ridge 8 = .ok (.dup, 1) := dk_89 (dk_at dksX2_ridge_0 8 rfl rfl)
theorem dX2_ridge_9 : decode cX2_ridge 9 = .ok (.invokespecial 173, 3) := dk_183 0 173 (dk_at dksX2_ridge_0 9 rfl rfl)
theorem dX2_ridge_12 : decode cX2_ridge 12 = .ok (.putfield 174, 3) := dk_181 0 174 (dk_at dksX2_ridge_0 12 rfl rfl)
theorem dX2_ridge_15 : decode cX2_ridge 15 = .ok (.iconst 0, 1) := dk_3 (dk_at dksX2_ridge_0 15 rfl rfl)
theorem dX2_ridge_16 : decode cX2_ridge 16 = .ok (.istore_n 1, 1) := dk_60 (dk_at dksX2_ridge_0 16 rfl rfl)
theorem dX2_ridge_17 : decode cX2_ridge 17 = .ok (.iload_n 1, 1) := dk_27 (dk_at dksX2_ridge_0 17 rfl rfl)
theorem dX2_ridge_18 : decode cX2_ridge 18 = .ok (.aload_n 0, 1) := dk_42 (dk_at dksX2_ridge_0 18 rfl rfl)
theorem dX2_ridge_19 : decode cX2_ridge 19 = .ok (.getfield 79, 3) := dk_180 0 79 (dk_at dksX2_ridge_0 19 rfl rfl)
theorem dX2_ridge_22 : decode cX2_ridge 22 = .ok (.arraylength, 1) := dk_190 (dk_at dksX2_ridge_0 22 rfl rfl)
theorem dX2_ridge_23 : decode cX2_ridge 23 = .ok (.if_icmp .ge 16, 3) := dk_162 0 16 (dk_at dksX2_ridge_1 0 rfl rfl)
theorem dX2_ridge_26 : decode cX2_ridge 26 = .ok (.aload_n 0, 1) := dk_42 (dk_at dksX2_ridge_1 3 rfl rfl)
theorem dX2_ridge_27 : decode cX2_ridge 27 = .ok (.getfield 79, 3) := dk_180 0 79 (dk_at dksX2_ridge_1 4 rfl rfl)
theorem dX2_ridge_30 : decode cX2_ridge 30 = .ok (.iload_n 1, 1) := dk_27 (dk_at dksX2_ridge_1 7 rfl rfl)
theorem dX2_ridge_31 : decode cX2_ridge 31 = .ok (.iconst 0, 1) := dk_3 (dk_at dksX2_ridge_1 8 rfl rfl)
theorem dX2_ridge_32 : decode cX2_ridge 32 = .ok (.bastore, 1) := dk_84 (dk_at dksX2_ridge_1 9 rfl rfl)
theorem dX2_ridge_33 : decode cX2_ridge 33 = .ok (.iinc 1 1, 3) := dk_132 1 1 (dk_at dksX2_ridge_1 10 rfl rfl)
theorem dX2_ridge_36 : decode cX2_ridge 36 = .ok (.goto (-19), 3) := dk_167 255 237 (dk_at dksX2_ridge_1 13 rfl rfl)
theorem dX2_ridge_39 : decode cX2_ridge 39 = .ok (.aload_n 0, 1) := dk_42 (dk_at dksX2_ridge_1 16 rfl rfl)
theorem dX2_ridge_40 : decode cX2_ridge 40 = .ok (.getfield 90, 3) := dk_180 0 90 (dk_at dksX2_ridge_1 17 rfl rfl)
theorem dX2_ridge_43 : decode cX2_ridge 43 = .ok (.aload_n 0, 1) := dk_42 (dk_at dksX2_ridge_1 20 rfl rfl)
theorem dX2_ridge_44 : decode cX2_ridge 44 = .ok (.getfield 139, 3) := dk_180 0 139 (dk_at dksX2_ridge_1 21 rfl rfl)
theorem dX2_ridge_47 : decode cX2_ridge 47 = .ok (.iaload, 1) := dk_46 (dk_at dksX2_ridge_2 0 rfl rfl)
theorem dX2_ridge_48 : decode cX2_ridge 48 = .ok (.ifCond .eq 77, 3) := dk_153 0 77 (dk_at dksX2_ridge_2 1 rfl rfl)
theorem dX2_ridge_51 : decode cX2_ridge 51 = .ok (.aload_n 0, 1) := dk_42 (dk_at dksX2_ridge_2 4 rfl rfl)
theorem dX2_ridge_52 : decode cX2_ridge 52 = .ok (.aload_n 0, 1) := dk_42 (dk_at dksX2_ridge_2 5 rfl rfl)
theorem dX2_ridge_53 : decode cX2_ridge 53 = .ok (.getfield 55, 3) := dk_180 0 55 (dk_at dksX2_ridge_2 6 rfl rfl)
theorem dX2_ridge_56 : decode cX2_ridge 56 = .ok (.invokevirtual 164, 3) := dk_182 0 164 (dk_at dksX2_ridge_2 9 rfl rfl)
theorem dX2_ridge_59 : decode cX2_ridge 59 = .ok (.iconst (-1), 1) := dk_2 (dk_at dksX2_ridge_2 12 rfl rfl)
theorem dX2_ridge_60 : decode cX2_ridge 60 = .ok (.if_icmp .eq 18, 3) := dk_159 0 18 (dk_at dksX2_ridge_2 13 rfl rfl)
theorem dX2_ridge_63 : decode cX2_ridge 63 = .ok (.aload_n 0, 1) := dk_42 (dk_at dksX2_ridge_2 16 rfl rfl)
theorem dX2_ridge_64 : decode cX2_ridge 64 = .ok (.aload_n 0, 1) := dk_42 (dk_at dksX2_ridge_2 17 rfl rfl)
theorem dX2_ridge_65 : decode cX2_ridge 65 = .ok (.aload_n 0, 1) := dk_42 (dk_at dksX2_ridge_2 18 rfl rfl)
theorem dX2_ridge_66 : decode cX2_ridge 66 = .ok (.getfield 55, 3) := dk_180 0 55 (dk_at dksX2_ridge_2 19 rfl rfl)
theorem dX2_ridge_69 : decode cX2_ridge 69 = .ok (.invokevirtual 164, 3) := dk_182 0 164 (dk_at dksX2_ridge_3 0 rfl rfl)
theorem dX2_ridge_72 : decode cX2_ridge 72 = .ok (.invokevirtual 178, 3) := dk_182 0 178 (dk_at dksX2_ridge_3 3 rfl rfl)
theorem dX2_ridge_75 : decode cX2_ridge 75 = .ok (.goto 41, 3) := dk_167 0 41 (dk_at dksX2_ridge_3 6 rfl rfl)
theorem dX2_ridge_78 : decode cX2_ridge 78 = .ok (.aload_n 0, 1) := dk_42 (dk_at dksX2_ridge_3 9 rfl rfl)
theorem dX2_ridge_79 : decode cX2_ridge 79 = .ok (.ldc 58, 2) := dk_18 58 (dk_at dksX2_ridge_3 10 rfl rfl)
theorem dX2_ridge_81 : decode cX2_ridge 81 = .ok (.invokevirtual 150, 3) := dk_182 0 150 (dk_at dksX2_ridge_3 12 rfl rfl)
theorem dX2_ridge_84 : decode cX2_ridge 84 = .ok (.ifCond .eq 10, 3) := dk_153 0 10 (dk_at dksX2_ridge_3 15 rfl rfl)
theorem dX2_ridge_87 : decode cX2_ridge 87 = .ok (.aload_n 0, 1) := dk_42 (dk_at dksX2_ridge_3 18 rfl rfl)
theorem dX2_ridge_88 : decode cX2_ridge 88 = .ok (.invokevirtual 180, 3) := dk_182 0 180 (dk_at dksX2_ridge_3 19 rfl rfl)
theorem dX2_ridge_91 : decode cX2_ridge 91 = .ok (.goto 25, 3) := dk_167 0 25 (dk_at dksX2_ridge_4 0 rfl rfl)
theorem dX2_ridge_94 : decode cX2_ridge 94 = .ok (.aload_n 0, 1) := dk_42 (dk_at dksX2_ridge_4 3 rfl rfl)
theorem dX2_ridge_95 : decode cX2_ridge 95 = .ok (.ldc 64, 2) := dk_18 64 (dk_at dksX2_ridge_4 4 rfl rfl)
theorem dX2_ridge_97 : decode cX2_ridge 97 = .ok (.invokevirtual 150, 3) := dk_182 0 150 (dk_at dksX2_ridge_4 6 rfl rfl)
theorem dX2_ridge_100 : decode cX2_ridge 100 = .ok (.ifCond .eq 10, 3) := dk_153 0 10 (dk_at dksX2_ridge_4 9 rfl rfl)
theorem dX2_ridge_103 : decode cX2_ridge 103 = .ok (.aload_n 0, 1) := dk_42 (dk_at dksX2_ridge_4 12 rfl rfl)
theorem dX2_ridge_104 : decode cX2_ridge 104 = .ok (.invokevirtual 182, 3) := dk_182 0 182 (dk_at dksX2_ridge_4 13 rfl rfl)
theorem dX2_ridge_107 : decode cX2_ridge 107 = .ok (.goto 9, 3) := dk_167 0 9 (dk_at dksX2_ridge_4 16 rfl rfl)
theorem dX2_ridge_110 : decode cX2_ridge 110 = .ok (.aload_n 0, 1) := dk_42 (dk_at dksX2_ridge_4 19 rfl rfl)
theorem dX2_ridge_111 : decode cX2_ridge 111 = .ok (.iconst 1, 1) := dk_4 (dk_at dksX2_ridge_4 20 rfl rfl)
theorem dX2_ridge_112 : decode cX2_ridge 112 = .ok (.invokevirtual 160, 3) := dk_182 0 160 (dk_at dksX2_ridge_4 21 rfl rfl)
theorem dX2_ridge_115 : decode cX2_ridge 115 = .ok (.athrow, 1) := dk_191 (dk_at dksX2_ridge_5 0 rfl rfl)
theorem dX2_ridge_116 : decode cX2_ridge 116 = .ok (.aload_n 0, 1) := dk_42 (dk_at dksX2_ridge_5 1 rfl rfl)
theorem dX2_ridge_117 : decode cX2_ridge 117 = .ok (.bipush 59, 2) := dk_16 59 (dk_at dksX2_ridge_5 2 rfl rfl)
theorem dX2_ridge_119 : decode cX2_ridge 119 = .ok (.invokevirtual 184, 3) := dk_182 0 184 (dk_at dksX2_ridge_5 4 rfl rfl)
theorem dX2_ridge_122 : decode cX2_ridge 122 = .ok (.goto (-83), 3) := dk_167 255 173 (dk_at dksX2_ridge_5 7 rfl rfl)
theorem dX2_ridge_125 : decode cX2_ridge 125 = .ok (.aload_n 0, 1) := dk_42 (dk_at dksX2_ridge_5 10 rfl rfl)
theorem dX2_ridge_126 : decode cX2_ridge 126 = .ok (.getfield 174, 3) := dk_180 0 174 (dk_at dksX2_ridge_5 11 rfl rfl)
theorem dX2_ridge_129 : decode cX2_ridge 129 = .ok (.areturn, 1) := dk_176 (dk_at dksX2_ridge_5 14 rfl rfl)
abbrev cX2_cut : ByteArray := prog_19_method_6_code
def yX2_cut : MethodName := ⟨RX2, "cut", "()V"⟩
def dkwX2_cut_12 : List UInt8 := [181, 0, 139, 177]
abbrev dktX2_cut_12 : List UInt8 := dkwX2_cut_12 ++ []
def dkwX2_cut_11 : List UInt8 := [79, 132, 2, 1, 167, 255, 5, 42, 180, 0, 90, 28, 3, 79, 42, 180, 0, 97, 28, 27, 79, 42, 3]
abbrev dktX2_cut_11 : List UInt8 := dkwX2_cut_11 ++ dktX2_cut_12
def dkwX2_cut_10 : List UInt8 := [155, 0, 7, 6, 167, 0, 4, 7, 79, 42, 180, 0, 93, 28, 22, 6, 80, 42, 180, 0, 97, 28, 21, 5]
abbrev dktX2_cut_10 : List UInt8 := dkwX2_cut_10 ++ dktX2_cut_11
def dkwX2_cut_9 : List UInt8 := [79, 167, 0, 32, 21, 4, 133, 55, 6, 132, 3, 1, 42, 180, 0, 90, 28, 18, 133, 21, 4, 182, 0, 135]
abbrev dktX2_cut_9 : List UInt8 := dkwX2_cut_9 ++ dktX2_cut_10
def dkwX2_cut_8 : List UInt8 := [132, 3, 1, 167, 255, 208, 42, 180, 0, 90, 28, 29, 21, 5, 100, 7, 164, 0, 7, 7, 167, 0, 4, 5]
abbrev dktX2_cut_8 : List UInt8 := dkwX2_cut_8 ++ dktX2_cut_9
def dkwX2_cut_7 : List UInt8 := [7, 162, 0, 23, 20, 0, 129, 22, 6, 105, 42, 180, 0, 86, 29, 46, 133, 97, 20, 0, 131, 101, 55, 6]
abbrev dktX2_cut_7 : List UInt8 := dkwX2_cut_7 ++ dktX2_cut_8
def dkwX2_cut_6 : List UInt8 := [153, 0, 76, 29, 27, 162, 0, 49, 42, 180, 0, 86, 29, 46, 184, 0, 126, 153, 0, 37, 29, 21, 5, 100]
abbrev dktX2_cut_6 : List UInt8 := dkwX2_cut_6 ++ dktX2_cut_7
def dkwX2_cut_5 : List UInt8 := [29, 21, 5, 100, 16, 8, 164, 0, 7, 7, 167, 0, 4, 4, 79, 167, 0, 113, 21, 4, 184, 0, 126]
abbrev dktX2_cut_5 : List UInt8 := dkwX2_cut_5 ++ dktX2_cut_6
def dkwX2_cut_4 : List UInt8 := [180, 0, 86, 29, 46, 133, 97, 20, 0, 120, 101, 55, 6, 132, 3, 1, 167, 255, 207, 42, 180, 0, 90, 28]
abbrev dktX2_cut_4 : List UInt8 := dkwX2_cut_4 ++ dktX2_cut_5
def dkwX2_cut_3 : List UInt8 := [184, 0, 122, 153, 0, 38, 29, 21, 5, 100, 16, 8, 162, 0, 23, 20, 0, 114, 22, 6, 105, 42]
abbrev dktX2_cut_3 : List UInt8 := dkwX2_cut_3 ++ dktX2_cut_4
def dkwX2_cut_2 : List UInt8 := [54, 5, 9, 55, 6, 21, 4, 184, 0, 122, 153, 0, 78, 29, 27, 162, 0, 50, 42, 180, 0, 86, 29, 46]
abbrev dktX2_cut_2 : List UInt8 := dkwX2_cut_2 ++ dktX2_cut_3
def dkwX2_cut_1 : List UInt8 := [46, 54, 4, 21, 4, 16, 10, 159, 0, 10, 21, 4, 16, 32, 160, 0, 9, 132, 3, 1, 167, 255, 226, 29]
abbrev dktX2_cut_1 : List UInt8 := dkwX2_cut_1 ++ dktX2_cut_2
def dkwX2_cut_0 : List UInt8 := [42, 180, 0, 106, 60, 42, 3, 181, 0, 106, 3, 61, 3, 62, 29, 27, 162, 0, 252, 42, 180, 0, 86, 29]
abbrev dktX2_cut_0 : List UInt8 := dkwX2_cut_0 ++ dktX2_cut_1
theorem dksX2_cut_0 : cX2_cut.data.toList.drop 0 = dktX2_cut_0 := by decide +kernel
theorem dksX2_cut_1 : cX2_cut.data.toList.drop 24 = dktX2_cut_1 := dk_seg dksX2_cut_0 24 rfl rfl
theorem dksX2_cut_2 : cX2_cut.data.toList.drop 48 = dktX2_cut_2 := dk_seg dksX2_cut_1 24 rfl rfl
theorem dksX2_cut_3 : cX2_cut.data.toList.drop 72 = dktX2_cut_3 := dk_seg dksX2_cut_2 24 rfl rfl
theorem dksX2_cut_4 : cX2_cut.data.toList.drop 94 = dktX2_cut_4 := dk_seg dksX2_cut_3 22 rfl rfl
theorem dksX2_cut_5 : cX2_cut.data.toList.drop 118 = dktX2_cut_5 := dk_seg dksX2_cut_4 24 rfl rfl
theorem dksX2_cut_6 : cX2_cut.data.toList.drop 141 = dktX2_cut_6 := dk_seg dksX2_cut_5 23 rfl rfl
theorem dksX2_cut_7 : cX2_cut.data.toList.drop 165 = dktX2_cut_7 := dk_seg dksX2_cut_6 24 rfl rfl
theorem dksX2_cut_8 : cX2_cut.data.toList.drop 189 = dktX2_cut_8 := dk_seg dksX2_cut_7 24 rfl rfl
theorem dksX2_cut_9 : cX2_cut.data.toList.drop 213 = dktX2_cut_9 := dk_seg dksX2_cut_8 24 rfl rfl
theorem dksX2_cut_10 : cX2_cut.data.toList.drop 237 = dktX2_cut_10 := dk_seg dksX2_cut_9 24 rfl rfl
theorem dksX2_cut_11 : cX2_cut.data.toList.drop 261 = dktX2_cut_11 := dk_seg dksX2_cut_10 24 rfl rfl
theorem dksX2_cut_12 : cX2_cut.data.toList.drop 284 = dktX2_cut_12 := dk_seg dksX2_cut_11 23 rfl rfl
theorem dX2_cut_0 : decode cX2_cut 0 = .ok (.aload_n 0, 1) := dk_42 (dk_at dksX2_cut_0 0 rfl rfl)
theorem dX2_cut_1 : decode cX2_cut 1 = .ok (.getfield 106, 3) := dk_180 0 106 (dk_at dksX2_cut_0 1 rfl rfl)
theorem dX2_cut_4 : decode cX2_cut 4 = .ok (.istore_n 1, 1) := dk_60 (dk_at dksX2_cut_0 4 rfl rfl)
theorem dX2_cut_5 : decode cX2_cut 5 = .ok (.aload_n 0, 1) := dk_42 (dk_at dksX2_cut_0 5 rfl rfl)
theorem dX2_cut_6 : decode cX2_cut 6 = .ok (.iconst 0, 1) := dk_3 (dk_at dksX2_cut_0 6 rfl rfl)
theorem dX2_cut_7 : decode cX2_cut 7 = .ok (.putfield 106, 3) := dk_181 0 106 (dk_at dksX2_cut_0 7 rfl rfl)
theorem dX2_cut_10 : decode cX2_cut 10 = .ok (.iconst 0, 1) := dk_3 (dk_at dksX2_cut_0 10 rfl rfl)
theorem dX2_cut_11 : decode cX2_cut 11 = .ok (.istore_n 2, 1) := dk_61 (dk_at dksX2_cut_0 11 rfl rfl)
theorem dX2_cut_12 : decode cX2_cut 12 = .ok (.iconst 0, 1) := dk_3 (dk_at dksX2_cut_0 12 rfl rfl)
theorem dX2_cut_13 : decode cX2_cut 13 = .ok (.istore_n 3, 1) := dk_62 (dk_at dksX2_cut_0 13 rfl rfl)
theorem dX2_cut_14 : decode cX2_cut 14 = .ok (.iload_n 3, 1) := dk_29 (dk_at dksX2_cut_0 14 rfl rfl)
theorem dX2_cut_15 : decode cX2_cut 15 = .ok (.iload_n 1, 1) := dk_27 (dk_at dksX2_cut_0 15 rfl rfl)
theorem dX2_cut_16 : decode cX2_cut 16 = .ok (.if_icmp .ge 252, 3) := dk_162 0 252 (dk_at dksX2_cut_0 16 rfl rfl)
theorem dX2_cut_19 : decode cX2_cut 19 = .ok (.aload_n 0, 1) := dk_42 (dk_at dksX2_cut_0 19 rfl rfl)
theorem dX2_cut_20 : decode cX2_cut 20 = .ok (.getfield 86, 3) := dk_180 0 86 (dk_at dksX2_cut_0 20 rfl rfl)
theorem dX2_cut_23 : decode cX2_cut 23 = .ok (.iload_n 3, 1) := dk_29 (dk_at dksX2_cut_0 23 rfl rfl)
theorem dX2_cut_24 : decode cX2_cut 24 = .ok (.iaload, 1) := dk_46 (dk_at dksX2_cut_1 0 rfl rfl)
theorem dX2_cut_25 : decode cX2_cut 25 = .ok (.istore 4, 2) := dk_54 4 (dk_at dksX2_cut_1 1 rfl rfl)
theorem dX2_cut_27 : decode cX2_cut 27 = .ok (.iload 4, 2) := dk_21 4 (dk_at dksX2_cut_1 3 rfl rfl)
theorem dX2_cut_29 : decode cX2_cut 29 = .ok (.bipush 10, 2) := dk_16 10 (dk_at dksX2_cut_1 5 rfl rfl)
theorem dX2_cut_31 : decode cX2_cut 31 = .ok (.if_icmp .eq 10, 3) := dk_159 0 10 (dk_at dksX2_cut_1 7 rfl rfl)
theorem dX2_cut_34 : decode cX2_cut 34 = .ok (.iload 4, 2) := dk_21 4 (dk_at dksX2_cut_1 10 rfl rfl)
theorem dX2_cut_36 : decode cX2_cut 36 = .ok (.bipush 32, 2) := dk_16 32 (dk_at dksX2_cut_1 12 rfl rfl)
theorem dX2_cut_38 : decode cX2_cut 38 = .ok (.if_icmp .ne 9, 3) := dk_160 0 9 (dk_at dksX2_cut_1 14 rfl rfl)
theorem dX2_cut_41 : decode cX2_cut 41 = .ok (.iinc 3 1, 3) := dk_132 3 1 (dk_at dksX2_cut_1 17 rfl rfl)
theorem dX2_cut_44 : decode cX2_cut 44 = .ok (.goto (-30), 3) := dk_167 255 226 (dk_at dksX2_cut_1 20 rfl rfl)
theorem dX2_cut_47 : decode cX2_cut 47 = .ok (.iload_n 3, 1) := dk_29 (dk_at dksX2_cut_1 23 rfl rfl)
theorem dX2_cut_48 : decode cX2_cut 48 = .ok (.istore 5, 2) := dk_54 5 (dk_at dksX2_cut_2 0 rfl rfl)
theorem dX2_cut_50 : decode cX2_cut 50 = .ok (.lconst 0, 1) := dk_9 (dk_at dksX2_cut_2 2 rfl rfl)
theorem dX2_cut_51 : decode cX2_cut 51 = .ok (.lstore 6, 2) := dk_55 6 (dk_at dksX2_cut_2 3 rfl rfl)
theorem dX2_cut_53 : decode cX2_cut 53 = .ok (.iload 4, 2) := dk_21 4 (dk_at dksX2_cut_2 5 rfl rfl)
theorem dX2_cut_55 : decode cX2_cut 55 = .ok (.invokestatic 122, 3) := dk_184 0 122 (dk_at dksX2_cut_2 7 rfl rfl)
theorem dX2_cut_58 : decode cX2_cut 58 = .ok (.ifCond .eq 78, 3) := dk_153 0 78 (dk_at dksX2_cut_2 10 rfl rfl)
theorem dX2_cut_61 : decode cX2_cut 61 = .ok (.iload_n 3, 1) := dk_29 (dk_at dksX2_cut_2 13 rfl rfl)
theorem dX2_cut_62 : decode cX2_cut 62 = .ok (.iload_n 1, 1) := dk_27 (dk_at dksX2_cut_2 14 rfl rfl)
theorem dX2_cut_63 : decode cX2_cut 63 = .ok (.if_icmp .ge 50, 3) := dk_162 0 50 (dk_at dksX2_cut_2 15 rfl rfl)
theorem dX2_cut_66 : decode cX2_cut 66 = .ok (.aload_n 0, 1) := dk_42 (dk_at dksX2_cut_2 18 rfl rfl)
theorem dX2_cut_67 : decode cX2_cut 67 = .ok (.getfield 86, 3) := dk_180 0 86 (dk_at dksX2_cut_2 19 rfl rfl)
theorem dX2_cut_70 : decode cX2_cut 70 = .ok (.iload_n 3, 1) := dk_29 (dk_at dksX2_cut_2 22 rfl rfl)
theorem dX2_cut_71 : decode cX2_cut 71 = .ok (.iaload, 1) := dk_46 (dk_at dksX2_cut_2 23 rfl rfl)
theorem dX2_cut_72 : decode cX2_cut 72 = .ok (.invokestatic 122, 3) := dk_184 0 122 (dk_at dksX2_cut_3 0 rfl rfl)
theorem dX2_cut_75 : decode cX2_cut 75 = .ok (.ifCond .eq 38, 3) := dk_153 0 38 (dk_at dksX2_cut_3 3 rfl rfl)
theorem dX2_cut_78 : decode cX2_cut 78 = .ok (.iload_n 3, 1) := dk_29 (dk_at dksX2_cut_3 6 rfl rfl)
theorem dX2_cut_79 : decode cX2_cut 79 = .ok (.iload 5, 2) := dk_21 5 (dk_at dksX2_cut_3 7 rfl rfl)
theorem dX2_cut_81 : decode cX2_cut 81 = .ok (.isub, 1) := dk_100 (dk_at dksX2_cut_3 9 rfl rfl)
theorem dX2_cut_82 : decode cX2_cut 82 = .ok (.bipush 8, 2) := dk_16 8 (dk_at dksX2_cut_3 10 rfl rfl)
theorem dX2_cut_84 : decode cX2_cut 84 = .ok (.if_icmp .ge 23, 3) := dk_162 0 23 (dk_at dksX2_cut_3 12 rfl rfl)
theorem dX2_cut_87 : decode cX2_cut 87 = .ok (.ldc2_w 114, 3) := dk_20 0 114 (dk_at dksX2_cut_3 15 rfl rfl)
theorem dX2_cut_90 : decode cX2_cut 90 = .ok (.lload 6, 2) := dk_22 6 (dk_at dksX2_cut_3 18 rfl rfl)
theorem dX2_cut_92 : decode cX2_cut 92 = .ok (.lmul, 1) := dk_105 (dk_at dksX2_cut_3 20 rfl rfl)
theorem dX2_cut_93 : decode cX2_cut 93 = .ok (.aload_n 0, 1) := dk_42 (dk_at dksX2_cut_3 21 rfl rfl)
theorem dX2_cut_94 : decode cX2_cut 94 = .ok (.getfield 86, 3) := dk_180 0 86 (dk_at dksX2_cut_4 0 rfl rfl)
theorem dX2_cut_97 : decode cX2_cut 97 = .ok (.iload_n 3, 1) := dk_29 (dk_at dksX2_cut_4 3 rfl rfl)
theorem dX2_cut_98 : decode cX2_cut 98 = .ok (.iaload, 1) := dk_46 (dk_at dksX2_cut_4 4 rfl rfl)
theorem dX2_cut_99 : decode cX2_cut 99 = .ok (.i2l, 1) := dk_133 (dk_at dksX2_cut_4 5 rfl rfl)
theorem dX2_cut_100 : decode cX2_cut 100 = .ok (.ladd, 1) := dk_97 (dk_at dksX2_cut_4 6 rfl rfl)
theorem dX2_cut_101 : decode cX2_cut 101 = .ok (.ldc2_w 120, 3) := dk_20 0 120 (dk_at dksX2_cut_4 7 rfl rfl)
theorem dX2_cut_104 : decode cX2_cut 104 = .ok (.lsub, 1) := dk_101 (dk_at dksX2_cut_4 10 rfl rfl)
theorem dX2_cut_105 : decode cX2_cut 105 = .ok (.lstore 6, 2) := dk_55 6 (dk_at dksX2_cut_4 11 rfl rfl)
theorem dX2_cut_107 : decode cX2_cut 107 = .ok (.iinc 3 1, 3) := dk_132 3 1 (dk_at dksX2_cut_4 13 rfl rfl)
theorem dX2_cut_110 : decode cX2_cut 110 = .ok (.goto (-49), 3) := dk_167 255 207 (dk_at dksX2_cut_4 16 rfl rfl)
theorem dX2_cut_113 : decode cX2_cut 113 = .ok (.aload_n 0, 1) := dk_42 (dk_at dksX2_cut_4 19 rfl rfl)
theorem dX2_cut_114 : decode cX2_cut 114 = .ok (.getfield 90, 3) := dk_180 0 90 (dk_at dksX2_cut_4 20 rfl rfl)
theorem dX2_cut_117 : decode cX2_cut 117 = .ok (.iload_n 2, 1) := dk_28 (dk_at dksX2_cut_4 23 rfl rfl)
theorem dX2_cut_118 : decode cX2_cut 118 = .ok (.iload_n 3, 1) := dk_29 (dk_at dksX2_cut_5 0 rfl rfl)
theorem dX2_cut_119 : decode cX2_cut 119 = .ok (.iload 5, 2) := dk_21 5 (dk_at dksX2_cut_5 1 rfl rfl)
theorem dX2_cut_121 : decode cX2_cut 121 = .ok (.isub, 1) := dk_100 (dk_at dksX2_cut_5 3 rfl rfl)
theorem dX2_cut_122 : decode cX2_cut 122 = .ok (.bipush 8, 2) := dk_16 8 (dk_at dksX2_cut_5 4 rfl rfl)
theorem dX2_cut_124 : decode cX2_cut 124 = .ok (.if_icmp .le 7, 3) := dk_164 0 7 (dk_at dksX2_cut_5 6 rfl rfl)
theorem dX2_cut_127 : decode cX2_cut 127 = .ok (.iconst 4, 1) := dk_7 (dk_at dksX2_cut_5 9 rfl rfl)
theorem dX2_cut_128 : decode cX2_cut 128 = .ok (.goto 4, 3) := dk_167 0 4 (dk_at dksX2_cut_5 10 rfl rfl)
theorem dX2_cut_131 : decode cX2_cut 131 = .ok (.iconst 1, 1) := dk_4 (dk_at dksX2_cut_5 13 rfl rfl)
theorem dX2_cut_132 : decode cX2_cut 132 = .ok (.iastore, 1) := dk_79 (dk_at dksX2_cut_5 14 rfl rfl)
theorem dX2_cut_133 : decode cX2_cut 133 = .ok (.goto 113, 3) := dk_167 0 113 (dk_at dksX2_cut_5 15 rfl rfl)
theorem dX2_cut_136 : decode cX2_cut 136 = .ok (.iload 4, 2) := dk_21 4 (dk_at dksX2_cut_5 18 rfl rfl)
theorem dX2_cut_138 : decode cX2_cut 138 = .ok (.invokestatic 126, 3) := dk_184 0 126 (dk_at dksX2_cut_5 20 rfl rfl)
theorem dX2_cut_141 : decode cX2_cut 141 = .ok (.ifCond .eq 76, 3) := dk_153 0 76 (dk_at dksX2_cut_6 0 rfl rfl)
theorem dX2_cut_144 : decode cX2_cut 144 = .ok (.iload_n 3, 1) := dk_29 (dk_at dksX2_cut_6 3 rfl rfl)
theorem dX2_cut_145 : decode cX2_cut 145 = .ok (.iload_n 1, 1) := dk_27 (dk_at dksX2_cut_6 4 rfl rfl)
theorem dX2_cut_146 : decode cX2_cut 146 = .ok (.if_icmp .ge 49, 3) := dk_162 0 49 (dk_at dksX2_cut_6 5 rfl rfl)
theorem dX2_cut_149 : decode cX2_cut 149 = .ok (.aload_n 0, 1) := dk_42 (dk_at dksX2_cut_6 8 rfl rfl)
theorem dX2_cut_150 : decode cX2_cut 150 = .ok (.getfield 86, 3) := dk_180 0 86 (dk_at dksX2_cut_6 9 rfl rfl)
theorem dX2_cut_153 : decode cX2_cut 153 = .ok (.iload_n 3, 1) := dk_29 (dk_at dksX2_cut_6 12 rfl rfl)
theorem dX2_cut_154 : decode cX2_cut 154 = .ok (.iaload, 1) := dk_46 (dk_at dksX2_cut_6 13 rfl rfl)
theorem dX2_cut_155 : decode cX2_cut 155 = .ok (.invokestatic 126, 3) := dk_184 0 126 (dk_at dksX2_cut_6 14 rfl rfl)
theorem dX2_cut_158 : decode cX2_cut 158 = .ok (.ifCond .eq 37, 3) := dk_153 0 37 (dk_at dksX2_cut_6 17 rfl rfl)
theorem dX2_cut_161 : decode cX2_cut 161 = .ok (.iload_n 3, 1) := dk_29 (dk_at dksX2_cut_6 20 rfl rfl)
theorem dX2_cut_162 : decode cX2_cut 162 = .ok (.iload 5, 2) := dk_21 5 (dk_at dksX2_cut_6 21 rfl rfl)
theorem dX2_cut_164 : decode cX2_cut 164 = .ok (.isub, 1) := dk_100 (dk_at dksX2_cut_6 23 rfl rfl)
theorem dX2_cut_165 : decode cX2_cut 165 = .ok (.iconst 4, 1) := dk_7 (dk_at dksX2_cut_7 0 rfl rfl)
theorem dX2_cut_166 : decode cX2_cut 166 = .ok (.if_icmp .ge 23, 3) := dk_162 0 23 (dk_at dksX2_cut_7 1 rfl rfl)
theorem dX2_cut_169 : decode cX2_cut 169 = .ok (.ldc2_w 129, 3) := dk_20 0 129 (dk_at dksX2_cut_7 4 rfl rfl)
theorem dX2_cut_172 : decode cX2_cut 172 = .ok (.lload 6, 2) := dk_22 6 (dk_at dksX2_cut_7 7 rfl rfl)
theorem dX2_cut_174 : decode cX2_cut 174 = .ok (.lmul, 1) := dk_105 (dk_at dksX2_cut_7 9 rfl rfl)
theorem dX2_cut_175 : decode cX2_cut 175 = .ok (.aload_n 0, 1) := dk_42 (dk_at dksX2_cut_7 10 rfl rfl)
theorem dX2_cut_176 : decode cX2_cut 176 = .ok (.getfield 86, 3) := dk_180 0 86 (dk_at dksX2_cut_7 11 rfl rfl)
theorem dX2_cut_179 : decode cX2_cut 179 = .ok (.iload_n 3, 1) := dk_29 (dk_at dksX2_cut_7 14 rfl rfl)
theorem dX2_cut_180 : decode cX2_cut 180 = .ok (.iaload, 1) := dk_46 (dk_at dksX2_cut_7 15 rfl rfl)
theorem dX2_cut_181 : decode cX2_cut 181 = .ok (.i2l, 1) := dk_133 (dk_at dksX2_cut_7 16 rfl rfl)
theorem dX2_cut_182 : decode cX2_cut 182 = .ok (.ladd, 1) := dk_97 (dk_at dksX2_cut_7 17 rfl rfl)
theorem dX2_cut_183 : decode cX2_cut 183 = .ok (.ldc2_w 131, 3) := dk_20 0 131 (dk_at dksX2_cut_7 18 rfl rfl)
theorem dX2_cut_186 : decode cX2_cut 186 = .ok (.lsub, 1) := dk_101 (dk_at dksX2_cut_7 21 rfl rfl)
theorem dX2_cut_187 : decode cX2_cut 187 = .ok (.lstore 6, 2) := dk_55 6 (dk_at dksX2_cut_7 22 rfl rfl)
theorem dX2_cut_189 : decode cX2_cut 189 = .ok (.iinc 3 1, 3) := dk_132 3 1 (dk_at dksX2_cut_8 0 rfl rfl)
theorem dX2_cut_192 : decode cX2_cut 192 = .ok (.goto (-48), 3) := dk_167 255 208 (dk_at dksX2_cut_8 3 rfl rfl)
theorem dX2_cut_195 : decode cX2_cut 195 = .ok (.aload_n 0, 1) := dk_42 (dk_at dksX2_cut_8 6 rfl rfl)
theorem dX2_cut_196 : decode cX2_cut 196 = .ok (.getfield 90, 3) := dk_180 0 90 (dk_at dksX2_cut_8 7 rfl rfl)
theorem dX2_cut_199 : decode cX2_cut 199 = .ok (.iload_n 2, 1) := dk_28 (dk_at dksX2_cut_8 10 rfl rfl)
theorem dX2_cut_200 : decode cX2_cut 200 = .ok (.iload_n 3, 1) := dk_29 (dk_at dksX2_cut_8 11 rfl rfl)
theorem dX2_cut_201 : decode cX2_cut 201 = .ok (.iload 5, 2) := dk_21 5 (dk_at dksX2_cut_8 12 rfl rfl)
theorem dX2_cut_203 : decode cX2_cut 203 = .ok (.isub, 1) := dk_100 (dk_at dksX2_cut_8 14 rfl rfl)
theorem dX2_cut_204 : decode cX2_cut 204 = .ok (.iconst 4, 1) := dk_7 (dk_at dksX2_cut_8 15 rfl rfl)
theorem dX2_cut_205 : decode cX2_cut 205 = .ok (.if_icmp .le 7, 3) := dk_164 0 7 (dk_at dksX2_cut_8 16 rfl rfl)
theorem dX2_cut_208 : decode cX2_cut 208 = .ok (.iconst 4, 1) := dk_7 (dk_at dksX2_cut_8 19 rfl rfl)
theorem dX2_cut_209 : decode cX2_cut 209 = .ok (.goto 4, 3) := dk_167 0 4 (dk_at dksX2_cut_8 20 rfl rfl)
theorem dX2_cut_212 : decode cX2_cut 212 = .ok (.iconst 2, 1) := dk_5 (dk_at dksX2_cut_8 23 rfl rfl)
theorem dX2_cut_213 : decode cX2_cut 213 = .ok (.iastore, 1) := dk_79 (dk_at dksX2_cut_9 0 rfl rfl)
theorem dX2_cut_214 : decode cX2_cut 214 = .ok (.goto 32, 3) := dk_167 0 32 (dk_at dksX2_cut_9 1 rfl rfl)
theorem dX2_cut_217 : decode cX2_cut 217 = .ok (.iload 4, 2) := dk_21 4 (dk_at dksX2_cut_9 4 rfl rfl)
theorem dX2_cut_219 : decode cX2_cut 219 = .ok (.i2l, 1) := dk_133 (dk_at dksX2_cut_9 6 rfl rfl)
theorem dX2_cut_220 : decode cX2_cut 220 = .ok (.lstore 6, 2) := dk_55 6 (dk_at dksX2_cut_9 7 rfl rfl)
theorem dX2_cut_222 : decode cX2_cut 222 = .ok (.iinc 3 1, 3) := dk_132 3 1 (dk_at dksX2_cut_9 9 rfl rfl)
theorem dX2_cut_225 : decode cX2_cut 225 = .ok (.aload_n 0, 1) := dk_42 (dk_at dksX2_cut_9 12 rfl rfl)
theorem dX2_cut_226 : decode cX2_cut 226 = .ok (.getfield 90, 3) := dk_180 0 90 (dk_at dksX2_cut_9 13 rfl rfl)
theorem dX2_cut_229 : decode cX2_cut 229 = .ok (.iload_n 2, 1) := dk_28 (dk_at dksX2_cut_9 16 rfl rfl)
theorem dX2_cut_230 : decode cX2_cut 230 = .ok (.ldc 133, 2) := dk_18 133 (dk_at dksX2_cut_9 17 rfl rfl)
theorem dX2_cut_232 : decode cX2_cut 232 = .ok (.iload 4, 2) := dk_21 4 (dk_at dksX2_cut_9 19 rfl rfl)
theorem dX2_cut_234 : decode cX2_cut 234 = .ok (.invokevirtual 135, 3) := dk_182 0 135 (dk_at dksX2_cut_9 21 rfl rfl)
theorem dX2_cut_237 : decode cX2_cut 237 = .ok (.ifCond .lt 7, 3) := dk_155 0 7 (dk_at dksX2_cut_10 0 rfl rfl)
theorem dX2_cut_240 : decode cX2_cut 240 = .ok (.iconst 3, 1) := dk_6 (dk_at dksX2_cut_10 3 rfl rfl)
theorem dX2_cut_241 : decode cX2_cut 241 = .ok (.goto 4, 3) := dk_167 0 4 (dk_at dksX2_cut_10 4 rfl rfl)
theorem dX2_cut_244 : decode cX2_cut 244 = .ok (.iconst 4, 1) := dk_7 (dk_at dksX2_cut_10 7 rfl rfl)
theorem dX2_cut_245 : decode cX2_cut 245 = .ok (.iastore, 1) := dk_79 (dk_at dksX2_cut_10 8 rfl rfl)
theorem dX2_cut_246 : decode cX2_cut 246 = .ok (.aload_n 0, 1) := dk_42 (dk_at dksX2_cut_10 9 rfl rfl)
theorem dX2_cut_247 : decode cX2_cut 247 = .ok (.getfield 93, 3) := dk_180 0 93 (dk_at dksX2_cut_10 10 rfl rfl)
theorem dX2_cut_250 : decode cX2_cut 250 = .ok (.iload_n 2, 1) := dk_28 (dk_at dksX2_cut_10 13 rfl rfl)
theorem dX2_cut_251 : decode cX2_cut 251 = .ok (.lload 6, 2) := dk_22 6 (dk_at dksX2_cut_10 14 rfl rfl)
theorem dX2_cut_253 : decode cX2_cut 253 = .ok (.lastore, 1) := dk_80 (dk_at dksX2_cut_10 16 rfl rfl)
theorem dX2_cut_254 : decode cX2_cut 254 = .ok (.aload_n 0, 1) := dk_42 (dk_at dksX2_cut_10 17 rfl rfl)
theorem dX2_cut_255 : decode cX2_cut 255 = .ok (.getfield 97, 3) := dk_180 0 97 (dk_at dksX2_cut_10 18 rfl rfl)
theorem dX2_cut_258 : decode cX2_cut 258 = .ok (.iload_n 2, 1) := dk_28 (dk_at dksX2_cut_10 21 rfl rfl)
theorem dX2_cut_259 : decode cX2_cut 259 = .ok (.iload 5, 2) := dk_21 5 (dk_at dksX2_cut_10 22 rfl rfl)
theorem dX2_cut_261 : decode cX2_cut 261 = .ok (.iastore, 1) := dk_79 (dk_at dksX2_cut_11 0 rfl rfl)
theorem dX2_cut_262 : decode cX2_cut 262 = .ok (.iinc 2 1, 3) := dk_132 2 1 (dk_at dksX2_cut_11 1 rfl rfl)
theorem dX2_cut_265 : decode cX2_cut 265 = .ok (.goto (-251), 3) := dk_167 255 5 (dk_at dksX2_cut_11 4 rfl rfl)
theorem dX2_cut_268 : decode cX2_cut 268 = .ok (.aload_n 0, 1) := dk_42 (dk_at dksX2_cut_11 7 rfl rfl)
theorem dX2_cut_269 : decode cX2_cut 269 = .ok (.getfield 90, 3) := dk_180 0 90 (dk_at dksX2_cut_11 8 rfl rfl)
theorem dX2_cut_272 : decode cX2_cut 272 = .ok (.iload_n 2, 1) := dk_28 (dk_at dksX2_cut_11 11 rfl rfl)
theorem dX2_cut_273 : decode cX2_cut 273 = .ok (.iconst 0, 1) := dk_3 (dk_at dksX2_cut_11 12 rfl rfl)
theorem dX2_cut_274 : decode cX2_cut 274 = .ok (.iastore, 1) := dk_79 (dk_at dksX2_cut_11 13 rfl rfl)
theorem dX2_cut_275 : decode cX2_cut 275 = .ok (.aload_n 0, 1) := dk_42 (dk_at dksX2_cut_11 14 rfl rfl)
theorem dX2_cut_276 : decode cX2_cut 276 = .ok (.getfield 97, 3) := dk_180 0 97 (dk_at dksX2_cut_11 15 rfl rfl)
theorem dX2_cut_279 : decode cX2_cut 279 = .ok (.iload_n 2, 1) := dk_28 (dk_at dksX2_cut_11 18 rfl rfl)
theorem dX2_cut_280 : decode cX2_cut 280 = .ok (.iload_n 1, 1) := dk_27 (dk_at dksX2_cut_11 19 rfl rfl)
theorem dX2_cut_281 : decode cX2_cut 281 = .ok (.iastore, 1) := dk_79 (dk_at dksX2_cut_11 20 rfl rfl)
theorem dX2_cut_282 : decode cX2_cut 282 = .ok (.aload_n 0, 1) := dk_42 (dk_at dksX2_cut_11 21 rfl rfl)
theorem dX2_cut_283 : decode cX2_cut 283 = .ok (.iconst 0, 1) := dk_3 (dk_at dksX2_cut_11 22 rfl rfl)
theorem dX2_cut_284 : decode cX2_cut 284 = .ok (.putfield 139, 3) := dk_181 0 139 (dk_at dksX2_cut_12 0 rfl rfl)
theorem dX2_cut_287 : decode cX2_cut 287 = .ok (.return_, 1) := dk_177 (dk_at dksX2_cut_12 3 rfl rfl)
abbrev cX2_isLetter : ByteArray := prog_19_method_4_code
def yX2_isLetter : MethodName := ⟨RX2, "isLetter", "(I)Z"⟩
def dkwX2_isLetter_0 : List UInt8 := [26, 16, 97, 16, 122, 184, 0, 102, 172]
abbrev dktX2_isLetter_0 : List UInt8 := dkwX2_isLetter_0 ++ []
theorem dksX2_isLetter_0 : cX2_isLetter.data.toList.drop 0 = dktX2_isLetter_0 := by decide +kernel
theorem dX2_isLetter_0 : decode cX2_isLetter 0 = .ok (.iload_n 0, 1) := dk_26 (dk_at dksX2_isLetter_0 0 rfl rfl)
theorem dX2_isLetter_1 : decode cX2_isLetter 1 = .ok (.bipush 97, 2) := dk_16 97 (dk_at dksX2_isLetter_0 1 rfl rfl)
theorem dX2_isLetter_3 : decode cX2_isLetter 3 = .ok (.bipush 122, 2) := dk_16 122 (dk_at dksX2_isLetter_0 3 rfl rfl)
theorem dX2_isLetter_5 : decode cX2_isLetter 5 = .ok (.invokestatic 102, 3) := dk_184 0 102 (dk_at dksX2_isLetter_0 5 rfl rfl)
theorem dX2_isLetter_8 : decode cX2_isLetter 8 = .ok (.ireturn, 1) := dk_172 (dk_at dksX2_isLetter_0 8 rfl rfl)
abbrev cX2_isDigit : ByteArray := prog_19_method_5_code
def yX2_isDigit : MethodName := ⟨RX2, "isDigit", "(I)Z"⟩
def dkwX2_isDigit_0 : List UInt8 := [26, 16, 48, 16, 57, 184, 0, 102, 172]
abbrev dktX2_isDigit_0 : List UInt8 := dkwX2_isDigit_0 ++ []
theorem dksX2_isDigit_0 : cX2_isDigit.data.toList.drop 0 = dktX2_isDigit_0 := by decide +kernel
theorem dX2_isDigit_0 : decode cX2_isDigit 0 = .ok (.iload_n 0, 1) := dk_26 (dk_at dksX2_isDigit_0 0 rfl rfl)
theorem dX2_isDigit_1 : decode cX2_isDigit 1 = .ok (.bipush 48, 2) := dk_16 48 (dk_at dksX2_isDigit_0 1 rfl rfl)
theorem dX2_isDigit_3 : decode cX2_isDigit 3 = .ok (.bipush 57, 2) := dk_16 57 (dk_at dksX2_isDigit_0 3 rfl rfl)
theorem dX2_isDigit_5 : decode cX2_isDigit 5 = .ok (.invokestatic 102, 3) := dk_184 0 102 (dk_at dksX2_isDigit_0 5 rfl rfl)
theorem dX2_isDigit_8 : decode cX2_isDigit 8 = .ok (.ireturn, 1) := dk_172 (dk_at dksX2_isDigit_0 8 rfl rfl)
abbrev cX2_which : ByteArray := prog_19_method_10_code
def yX2_which : MethodName := ⟨RX2, "which", "([Ljava/lang/String;)I"⟩
def dkwX2_which_1 : List UInt8 := [167, 255, 235, 2, 172]
abbrev dktX2_which_1 : List UInt8 := dkwX2_which_1 ++ []
def dkwX2_which_0 : List UInt8 := [3, 61, 28, 43, 190, 162, 0, 21, 42, 43, 28, 50, 182, 0, 150, 153, 0, 5, 28, 172, 132, 2, 1]
abbrev dktX2_which_0 : List UInt8 := dkwX2_which_0 ++ dktX2_which_1
theorem dksX2_which_0 : cX2_which.data.toList.drop 0 = dktX2_which_0 := by decide +kernel
theorem dksX2_which_1 : cX2_which.data.toList.drop 23 = dktX2_which_1 := dk_seg dksX2_which_0 23 rfl rfl
theorem dX2_which_0 : decode cX2_which 0 = .ok (.iconst 0, 1) := dk_3 (dk_at dksX2_which_0 0 rfl rfl)
theorem dX2_which_1 : decode cX2_which 1 = .ok (.istore_n 2, 1) := dk_61 (dk_at dksX2_which_0 1 rfl rfl)
theorem dX2_which_2 : decode cX2_which 2 = .ok (.iload_n 2, 1) := dk_28 (dk_at dksX2_which_0 2 rfl rfl)
theorem dX2_which_3 : decode cX2_which 3 = .ok (.aload_n 1, 1) := dk_43 (dk_at dksX2_which_0 3 rfl rfl)
theorem dX2_which_4 : decode cX2_which 4 = .ok (.arraylength, 1) := dk_190 (dk_at dksX2_which_0 4 rfl rfl)
theorem dX2_which_5 : decode cX2_which 5 = .ok (.if_icmp .ge 21, 3) := dk_162 0 21 (dk_at dksX2_which_0 5 rfl rfl)
theorem dX2_which_8 : decode cX2_which 8 = .ok (.aload_n 0, 1) := dk_42 (dk_at dksX2_which_0 8 rfl rfl)
theorem dX2_which_9 : decode cX2_which 9 = .ok (.aload_n 1, 1) := dk_43 (dk_at dksX2_which_0 9 rfl rfl)
theorem dX2_which_10 : decode cX2_which 10 = .ok (.iload_n 2, 1) := dk_28 (dk_at dksX2_which_0 10 rfl rfl)
theorem dX2_which_11 : decode cX2_which 11 = .ok (.aaload, 1) := dk_50 (dk_at dksX2_which_0 11 rfl rfl)
theorem dX2_which_12 : decode cX2_which 12 = .ok (.invokevirtual 150, 3) := dk_182 0 150 (dk_at dksX2_which_0 12 rfl rfl)
theorem dX2_which_15 : decode cX2_which 15 = .ok (.ifCond .eq 5, 3) := dk_153 0 5 (dk_at dksX2_which_0 15 rfl rfl)
theorem dX2_which_18 : decode cX2_which 18 = .ok (.iload_n 2, 1) := dk_28 (dk_at dksX2_which_0 18 rfl rfl)
theorem dX2_which_19 : decode cX2_which 19 = .ok (.ireturn, 1) := dk_172 (dk_at dksX2_which_0 19 rfl rfl)
theorem dX2_which_20 : decode cX2_which 20 = .ok (.iinc 2 1, 3) := dk_132 2 1 (dk_at dksX2_which_0 20 rfl rfl)
theorem dX2_which_23 : decode cX2_which 23 = .ok (.goto (-21), 3) := dk_167 255 235 (dk_at dksX2_which_1 0 rfl rfl)
theorem dX2_which_26 : decode cX2_which 26 = .ok (.iconst (-1), 1) := dk_2 (dk_at dksX2_which_1 3 rfl rfl)
theorem dX2_which_27 : decode cX2_which 27 = .ok (.ireturn, 1) := dk_172 (dk_at dksX2_which_1 4 rfl rfl)
abbrev cX2_isWord : ByteArray := prog_19_method_8_code
def yX2_isWord : MethodName := ⟨RX2, "isWord", "(Ljava/lang/String;)Z"⟩
def dkwX2_isWord_1 : List UInt8 := [184, 0, 146, 148, 154, 0, 7, 4, 167, 0, 4, 3, 172]
abbrev dktX2_isWord_1 : List UInt8 := dkwX2_isWord_1 ++ []
def dkwX2_isWord_0 : List UInt8 := [42, 180, 0, 90, 42, 180, 0, 139, 46, 4, 160, 0, 24, 42, 180, 0, 93, 42, 180, 0, 139, 47, 43]
abbrev dktX2_isWord_0 : List UInt8 := dkwX2_isWord_0 ++ dktX2_isWord_1
theorem dksX2_isWord_0 : cX2_isWord.data.toList.drop 0 = dktX2_isWord_0 := by decide +kernel
theorem dksX2_isWord_1 : cX2_isWord.data.toList.drop 23 = dktX2_isWord_1 := dk_seg dksX2_isWord_0 23 rfl rfl
theorem dX2_isWord_0 : decode cX2_isWord 0 = .ok (.aload_n 0, 1) := dk_42 (dk_at dksX2_isWord_0 0 rfl rfl)
theorem dX2_isWord_1 : decode cX2_isWord 1 = .ok (.getfield 90, 3) := dk_180 0 90 (dk_at dksX2_isWord_0 1 rfl rfl)
theorem dX2_isWord_4 : decode cX2_isWord 4 = .ok (.aload_n 0, 1) := dk_42 (dk_at dksX2_isWord_0 4 rfl rfl)
theorem dX2_isWord_5 : decode cX2_isWord 5 = .ok (.getfield 139, 3) := dk_180 0 139 (dk_at dksX2_isWord_0 5 rfl rfl)
theorem dX2_isWord_8 : decode cX2_isWord 8 = .ok (.iaload, 1) := dk_46 (dk_at dksX2_isWord_0 8 rfl rfl)
theorem dX2_isWord_9 : decode cX2_isWord 9 = .ok (.iconst 1, 1) := dk_4 (dk_at dksX2_isWord_0 9 rfl rfl)
theorem dX2_isWord_10 : decode cX2_isWord 10 = .ok (.if_icmp .ne 24, 3) := dk_160 0 24 (dk_at dksX2_isWord_0 10 rfl rfl)
theorem dX2_isWord_13 : decode cX2_isWord 13 = .ok (.aload_n 0, 1) := dk_42 (dk_at dksX2_isWord_0 13 rfl rfl)
theorem dX2_isWord_14 : decode cX2_isWord 14 = .ok (.getfield 93, 3) := dk_180 0 93 (dk_at dksX2_isWord_0 14 rfl rfl)
theorem dX2_isWord_17 : decode cX2_isWord 17 = .ok (.aload_n 0, 1) := dk_42 (dk_at dksX2_isWord_0 17 rfl rfl)
theorem dX2_isWord_18 : decode cX2_isWord 18 = .ok (.getfield 139, 3) := dk_180 0 139 (dk_at dksX2_isWord_0 18 rfl rfl)
theorem dX2_isWord_21 : decode cX2_isWord 21 = .ok (.laload, 1) := dk_47 (dk_at dksX2_isWord_0 21 rfl rfl)
theorem dX2_isWord_22 : decode cX2_isWord 22 = .ok (.aload_n 1, 1) := dk_43 (dk_at dksX2_isWord_0 22 rfl rfl)
theorem dX2_isWord_23 : decode cX2_isWord 23 = .ok (.invokestatic 146, 3) := dk_184 0 146 (dk_at dksX2_isWord_1 0 rfl rfl)
theorem dX2_isWord_26 : decode cX2_isWord 26 = .ok (.lcmp, 1) := dk_148 (dk_at dksX2_isWord_1 3 rfl rfl)
theorem dX2_isWord_27 : decode cX2_isWord 27 = .ok (.ifCond .ne 7, 3) := dk_154 0 7 (dk_at dksX2_isWord_1 4 rfl rfl)
theorem dX2_isWord_30 : decode cX2_isWord 30 = .ok (.iconst 1, 1) := dk_4 (dk_at dksX2_isWord_1 7 rfl rfl)
theorem dX2_isWord_31 : decode cX2_isWord 31 = .ok (.goto 4, 3) := dk_167 0 4 (dk_at dksX2_isWord_1 8 rfl rfl)
theorem dX2_isWord_34 : decode cX2_isWord 34 = .ok (.iconst 0, 1) := dk_3 (dk_at dksX2_isWord_1 11 rfl rfl)
theorem dX2_isWord_35 : decode cX2_isWord 35 = .ok (.ireturn, 1) := dk_172 (dk_at dksX2_isWord_1 12 rfl rfl)
abbrev cX2_word : ByteArray := prog_19_method_3_code
def yX2_word : MethodName := ⟨RX2, "word", "(Ljava/lang/String;)J"⟩
def dkwX2_word_1 : List UInt8 := [20, 0, 120, 101, 64, 132, 3, 1, 167, 255, 228, 31, 173]
abbrev dktX2_word_1 : List UInt8 := dkwX2_word_1 ++ []
def dkwX2_word_0 : List UInt8 := [9, 64, 3, 62, 29, 42, 182, 0, 110, 162, 0, 26, 20, 0, 114, 31, 105, 42, 29, 182, 0, 116, 133, 97]
abbrev dktX2_word_0 : List UInt8 := dkwX2_word_0 ++ dktX2_word_1
theorem dksX2_word_0 : cX2_word.data.toList.drop 0 = dktX2_word_0 := by decide +kernel
theorem dksX2_word_1 : cX2_word.data.toList.drop 24 = dktX2_word_1 := dk_seg dksX2_word_0 24 rfl rfl
theorem dX2_word_0 : decode cX2_word 0 = .ok (.lconst 0, 1) := dk_9 (dk_at dksX2_word_0 0 rfl rfl)
theorem dX2_word_1 : decode cX2_word 1 = .ok (.lstore_n 1, 1) := dk_64 (dk_at dksX2_word_0 1 rfl rfl)
theorem dX2_word_2 : decode cX2_word 2 = .ok (.iconst 0, 1) := dk_3 (dk_at dksX2_word_0 2 rfl rfl)
theorem dX2_word_3 : decode cX2_word 3 = .ok (.istore_n 3, 1) := dk_62 (dk_at dksX2_word_0 3 rfl rfl)
theorem dX2_word_4 : decode cX2_word 4 = .ok (.iload_n 3, 1) := dk_29 (dk_at dksX2_word_0 4 rfl rfl)
theorem dX2_word_5 : decode cX2_word 5 = .ok (.aload_n 0, 1) := dk_42 (dk_at dksX2_word_0 5 rfl rfl)
theorem dX2_word_6 : decode cX2_word 6 = .ok (.invokevirtual 110, 3) := dk_182 0 110 (dk_at dksX2_word_0 6 rfl rfl)
theorem dX2_word_9 : decode cX2_word 9 = .ok (.if_icmp .ge 26, 3) := dk_162 0 26 (dk_at dksX2_word_0 9 rfl rfl)
theorem dX2_word_12 : decode cX2_word 12 = .ok (.ldc2_w 114, 3) := dk_20 0 114 (dk_at dksX2_word_0 12 rfl rfl)
theorem dX2_word_15 : decode cX2_word 15 = .ok (.lload_n 1, 1) := dk_31 (dk_at dksX2_word_0 15 rfl rfl)
theorem dX2_word_16 : decode cX2_word 16 = .ok (.lmul, 1) := dk_105 (dk_at dksX2_word_0 16 rfl rfl)
theorem dX2_word_17 : decode cX2_word 17 = .ok (.aload_n 0, 1) := dk_42 (dk_at dksX2_word_0 17 rfl rfl)
theorem dX2_word_18 : decode cX2_word 18 = .ok (.iload_n 3, 1) := dk_29 (dk_at dksX2_word_0 18 rfl rfl)
theorem dX2_word_19 : decode cX2_word 19 = .ok (.invokevirtual 116, 3) := dk_182 0 116 (dk_at dksX2_word_0 19 rfl rfl)
theorem dX2_word_22 : decode cX2_word 22 = .ok (.i2l, 1) := dk_133 (dk_at dksX2_word_0 22 rfl rfl)
theorem dX2_word_23 : decode cX2_word 23 = .ok (.ladd, 1) := dk_97 (dk_at dksX2_word_0 23 rfl rfl)
theorem dX2_word_24 : decode cX2_word 24 = .ok (.ldc2_w 120, 3) := dk_20 0 120 (dk_at dksX2_word_1 0 rfl rfl)
theorem dX2_word_27 : decode cX2_word 27 = .ok (.lsub, 1) := dk_101 (dk_at dksX2_word_1 3 rfl rfl)
theorem dX2_word_28 : decode cX2_word 28 = .ok (.lstore_n 1, 1) := dk_64 (dk_at dksX2_word_1 4 rfl rfl)
theorem dX2_word_29 : decode cX2_word 29 = .ok (.iinc 3 1, 3) := dk_132 3 1 (dk_at dksX2_word_1 5 rfl rfl)
theorem dX2_word_32 : decode cX2_word 32 = .ok (.goto (-28), 3) := dk_167 255 228 (dk_at dksX2_word_1 8 rfl rfl)
theorem dX2_word_35 : decode cX2_word 35 = .ok (.lload_n 1, 1) := dk_31 (dk_at dksX2_word_1 11 rfl rfl)
theorem dX2_word_36 : decode cX2_word 36 = .ok (.lreturn, 1) := dk_173 (dk_at dksX2_word_1 12 rfl rfl)
abbrev cX2_line : ByteArray := prog_19_method_18_code
def yX2_line : MethodName := ⟨RX2, "line", "(I)V"⟩
def dkwX2_line_9 : List UInt8 := [177]
abbrev dktX2_line_9 : List UInt8 := dkwX2_line_9 ++ []
def dkwX2_line_8 : List UInt8 := [182, 0, 217, 181, 0, 221, 167, 0, 18, 42, 180, 0, 174, 42, 42, 180, 0, 25, 182, 0, 217, 181, 0, 224]
abbrev dktX2_line_8 : List UInt8 := dkwX2_line_8 ++ dktX2_line_9
def dkwX2_line_7 : List UInt8 := [42, 3, 16, 10, 182, 0, 201, 181, 0, 215, 167, 0, 36, 42, 180, 0, 174, 42, 42, 180, 0, 15]
abbrev dktX2_line_7 : List UInt8 := dkwX2_line_7 ++ dktX2_line_8
def dkwX2_line_6 : List UInt8 := [167, 0, 70, 42, 180, 0, 174, 42, 3, 16, 99, 182, 0, 201, 181, 0, 213, 167, 0, 53, 42, 180, 0, 174]
abbrev dktX2_line_6 : List UInt8 := dkwX2_line_6 ++ dktX2_line_7
def dkwX2_line_5 : List UInt8 := [182, 0, 201, 181, 0, 208, 167, 0, 87, 42, 180, 0, 174, 42, 4, 16, 12, 182, 0, 201, 181, 0, 211]
abbrev dktX2_line_5 : List UInt8 := dkwX2_line_5 ++ dktX2_line_6
def dkwX2_line_4 : List UInt8 := [42, 180, 0, 174, 42, 4, 16, 8, 182, 0, 201, 181, 0, 205, 42, 180, 0, 174, 42, 4, 16, 8]
abbrev dktX2_line_4 : List UInt8 := dkwX2_line_4 ++ dktX2_line_5
def dkwX2_line_3 : List UInt8 := [170, 0, 0, 0, 0, 134, 0, 0, 0, 0, 0, 0, 0, 4, 0, 0, 0, 34, 0, 0, 0, 65, 0, 0, 0, 82, 0, 0, 0, 99, 0, 0, 0, 116]
abbrev dktX2_line_3 : List UInt8 := dkwX2_line_3 ++ dktX2_line_4
def dkwX2_line_2 : List UInt8 := [181, 0, 139, 27]
abbrev dktX2_line_2 : List UInt8 := dkwX2_line_2 ++ dktX2_line_3
def dkwX2_line_1 : List UInt8 := [154, 0, 9, 42, 6, 182, 0, 160, 191, 42, 180, 0, 79, 27, 4, 84, 42, 89, 180, 0, 139, 4, 96]
abbrev dktX2_line_1 : List UInt8 := dkwX2_line_1 ++ dktX2_line_2
def dkwX2_line_0 : List UInt8 := [42, 180, 0, 79, 27, 51, 154, 0, 20, 27, 154, 0, 22, 42, 180, 0, 174, 180, 0, 191, 182, 0, 195]
abbrev dktX2_line_0 : List UInt8 := dkwX2_line_0 ++ dktX2_line_1
theorem dksX2_line_0 : cX2_line.data.toList.drop 0 = dktX2_line_0 := by decide +kernel
theorem dksX2_line_1 : cX2_line.data.toList.drop 23 = dktX2_line_1 := dk_seg dksX2_line_0 23 rfl rfl
theorem dksX2_line_2 : cX2_line.data.toList.drop 46 = dktX2_line_2 := dk_seg dksX2_line_1 23 rfl rfl
theorem dksX2_line_3 : cX2_line.data.toList.drop 50 = dktX2_line_3 := dk_seg dksX2_line_2 4 rfl rfl
theorem dksX2_line_4 : cX2_line.data.toList.drop 84 = dktX2_line_4 := dk_seg dksX2_line_3 34 rfl rfl
theorem dksX2_line_5 : cX2_line.data.toList.drop 106 = dktX2_line_5 := dk_seg dksX2_line_4 22 rfl rfl
theorem dksX2_line_6 : cX2_line.data.toList.drop 129 = dktX2_line_6 := dk_seg dksX2_line_5 23 rfl rfl
theorem dksX2_line_7 : cX2_line.data.toList.drop 153 = dktX2_line_7 := dk_seg dksX2_line_6 24 rfl rfl
theorem dksX2_line_8 : cX2_line.data.toList.drop 175 = dktX2_line_8 := dk_seg dksX2_line_7 22 rfl rfl
theorem dksX2_line_9 : cX2_line.data.toList.drop 199 = dktX2_line_9 := dk_seg dksX2_line_8 24 rfl rfl
theorem dX2_line_0 : decode cX2_line 0 = .ok (.aload_n 0, 1) := dk_42 (dk_at dksX2_line_0 0 rfl rfl)
theorem dX2_line_1 : decode cX2_line 1 = .ok (.getfield 79, 3) := dk_180 0 79 (dk_at dksX2_line_0 1 rfl rfl)
theorem dX2_line_4 : decode cX2_line 4 = .ok (.iload_n 1, 1) := dk_27 (dk_at dksX2_line_0 4 rfl rfl)
theorem dX2_line_5 : decode cX2_line 5 = .ok (.baload, 1) := dk_51 (dk_at dksX2_line_0 5 rfl rfl)
theorem dX2_line_6 : decode cX2_line 6 = .ok (.ifCond .ne 20, 3) := dk_154 0 20 (dk_at dksX2_line_0 6 rfl rfl)
theorem dX2_line_9 : decode cX2_line 9 = .ok (.iload_n 1, 1) := dk_27 (dk_at dksX2_line_0 9 rfl rfl)
theorem dX2_line_10 : decode cX2_line 10 = .ok (.ifCond .ne 22, 3) := dk_154 0 22 (dk_at dksX2_line_0 10 rfl rfl)
theorem dX2_line_13 : decode cX2_line 13 = .ok (.aload_n 0, 1) := dk_42 (dk_at dksX2_line_0 13 rfl rfl)
theorem dX2_line_14 : decode cX2_line 14 = .ok (.getfield 174, 3) := dk_180 0 174 (dk_at dksX2_line_0 14 rfl rfl)
theorem dX2_line_17 : decode cX2_line 17 = .ok (.getfield 191, 3) := dk_180 0 191 (dk_at dksX2_line_0 17 rfl rfl)
theorem dX2_line_20 : decode cX2_line 20 = .ok (.invokevirtual 195, 3) := dk_182 0 195 (dk_at dksX2_line_0 20 rfl rfl)
theorem dX2_line_23 : decode cX2_line 23 = .ok (.ifCond .ne 9, 3) := dk_154 0 9 (dk_at dksX2_line_1 0 rfl rfl)
theorem dX2_line_26 : decode cX2_line 26 = .ok (.aload_n 0, 1) := dk_42 (dk_at dksX2_line_1 3 rfl rfl)
theorem dX2_line_27 : decode cX2_line 27 = .ok (.iconst 3, 1) := dk_6 (dk_at dksX2_line_1 4 rfl rfl)
theorem dX2_line_28 : decode cX2_line 28 = .ok (.invokevirtual 160, 3) := dk_182 0 160 (dk_at dksX2_line_1 5 rfl rfl)
theorem dX2_line_31 : decode cX2_line 31 = .ok (.athrow, 1) := dk_191 (dk_at dksX2_line_1 8 rfl rfl)
theorem dX2_line_32 : decode cX2_line 32 = .ok (.aload_n 0, 1) := dk_42 (dk_at dksX2_line_1 9 rfl rfl)
theorem dX2_line_33 : decode cX2_line 33 = .ok (.getfield 79, 3) := dk_180 0 79 (dk_at dksX2_line_1 10 rfl rfl)
theorem dX2_line_36 : decode cX2_line 36 = .ok (.iload_n 1, 1) := dk_27 (dk_at dksX2_line_1 13 rfl rfl)
theorem dX2_line_37 : decode cX2_line 37 = .ok (.iconst 1, 1) := dk_4 (dk_at dksX2_line_1 14 rfl rfl)
theorem dX2_line_38 : decode cX2_line 38 = .ok (.bastore, 1) := dk_84 (dk_at dksX2_line_1 15 rfl rfl)
theorem dX2_line_39 : decode cX2_line 39 = .ok (.aload_n 0, 1) := dk_42 (dk_at dksX2_line_1 16 rfl rfl)
theorem dX2_line_40 : decode cX2_line 40 = .ok (.dup, 1) := dk_89 (dk_at dksX2_line_1 17 rfl rfl)
theorem dX2_line_41 : decode cX2_line 41 = .ok (.getfield 139, 3) := dk_180 0 139 (dk_at dksX2_line_1 18 rfl rfl)
theorem dX2_line_44 : decode cX2_line 44 = .ok (.iconst 1, 1) := dk_4 (dk_at dksX2_line_1 21 rfl rfl)
theorem dX2_line_45 : decode cX2_line 45 = .ok (.iadd, 1) := dk_96 (dk_at dksX2_line_1 22 rfl rfl)
theorem dX2_line_46 : decode cX2_line 46 = .ok (.putfield 139, 3) := dk_181 0 139 (dk_at dksX2_line_2 0 rfl rfl)
theorem dX2_line_49 : decode cX2_line 49 = .ok (.iload_n 1, 1) := dk_27 (dk_at dksX2_line_2 3 rfl rfl)
theorem dX2_line_50 : decode cX2_line 50 = .ok (.tableswitch 134 0 4 #[34, 65, 82, 99, 116], 34) := by decide +kernel
theorem dX2_line_84 : decode cX2_line 84 = .ok (.aload_n 0, 1) := dk_42 (dk_at dksX2_line_4 0 rfl rfl)
theorem dX2_line_85 : decode cX2_line 85 = .ok (.getfield 174, 3) := dk_180 0 174 (dk_at dksX2_line_4 1 rfl rfl)
theorem dX2_line_88 : decode cX2_line 88 = .ok (.aload_n 0, 1) := dk_42 (dk_at dksX2_line_4 4 rfl rfl)
theorem dX2_line_89 : decode cX2_line 89 = .ok (.iconst 1, 1) := dk_4 (dk_at dksX2_line_4 5 rfl rfl)
theorem dX2_line_90 : decode cX2_line 90 = .ok (.bipush 8, 2) := dk_16 8 (dk_at dksX2_line_4 6 rfl rfl)
theorem dX2_line_92 : decode cX2_line 92 = .ok (.invokevirtual 201, 3) := dk_182 0 201 (dk_at dksX2_line_4 8 rfl rfl)
theorem dX2_line_95 : decode cX2_line 95 = .ok (.putfield 205, 3) := dk_181 0 205 (dk_at dksX2_line_4 11 rfl rfl)
theorem dX2_line_98 : decode cX2_line 98 = .ok (.aload_n 0, 1) := dk_42 (dk_at dksX2_line_4 14 rfl rfl)
theorem dX2_line_99 : decode cX2_line 99 = .ok (.getfield 174, 3) := dk_180 0 174 (dk_at dksX2_line_4 15 rfl rfl)
theorem dX2_line_102 : decode cX2_line 102 = .ok (.aload_n 0, 1) := dk_42 (dk_at dksX2_line_4 18 rfl rfl)
theorem dX2_line_103 : decode cX2_line 103 = .ok (.iconst 1, 1) := dk_4 (dk_at dksX2_line_4 19 rfl rfl)
theorem dX2_line_104 : decode cX2_line 104 = .ok (.bipush 8, 2) := dk_16 8 (dk_at dksX2_line_4 20 rfl rfl)
theorem dX2_line_106 : decode cX2_line 106 = .ok (.invokevirtual 201, 3) := dk_182 0 201 (dk_at dksX2_line_5 0 rfl rfl)
theorem dX2_line_109 : decode cX2_line 109 = .ok (.putfield 208, 3) := dk_181 0 208 (dk_at dksX2_line_5 3 rfl rfl)
theorem dX2_line_112 : decode cX2_line 112 = .ok (.goto 87, 3) := dk_167 0 87 (dk_at dksX2_line_5 6 rfl rfl)
theorem dX2_line_115 : decode cX2_line 115 = .ok (.aload_n 0, 1) := dk_42 (dk_at dksX2_line_5 9 rfl rfl)
theorem dX2_line_116 : decode cX2_line 116 = .ok (.getfield 174, 3) := dk_180 0 174 (dk_at dksX2_line_5 10 rfl rfl)
theorem dX2_line_119 : decode cX2_line 119 = .ok (.aload_n 0, 1) := dk_42 (dk_at dksX2_line_5 13 rfl rfl)
theorem dX2_line_120 : decode cX2_line 120 = .ok (.iconst 1, 1) := dk_4 (dk_at dksX2_line_5 14 rfl rfl)
theorem dX2_line_121 : decode cX2_line 121 = .ok (.bipush 12, 2) := dk_16 12 (dk_at dksX2_line_5 15 rfl rfl)
theorem dX2_line_123 : decode cX2_line 123 = .ok (.invokevirtual 201, 3) := dk_182 0 201 (dk_at dksX2_line_5 17 rfl rfl)
theorem dX2_line_126 : decode cX2_line 126 = .ok (.putfield 211, 3) := dk_181 0 211 (dk_at dksX2_line_5 20 rfl rfl)
theorem dX2_line_129 : decode cX2_line 129 = .ok (.goto 70, 3) := dk_167 0 70 (dk_at dksX2_line_6 0 rfl rfl)
theorem dX2_line_132 : decode cX2_line 132 = .ok (.aload_n 0, 1) := dk_42 (dk_at dksX2_line_6 3 rfl rfl)
theorem dX2_line_133 : decode cX2_line 133 = .ok (.getfield 174, 3) := dk_180 0 174 (dk_at dksX2_line_6 4 rfl rfl)
theorem dX2_line_136 : decode cX2_line 136 = .ok (.aload_n 0, 1) := dk_42 (dk_at dksX2_line_6 7 rfl rfl)
theorem dX2_line_137 : decode cX2_line 137 = .ok (.iconst 0, 1) := dk_3 (dk_at dksX2_line_6 8 rfl rfl)
theorem dX2_line_138 : decode cX2_line 138 = .ok (.bipush 99, 2) := dk_16 99 (dk_at dksX2_line_6 9 rfl rfl)
theorem dX2_line_140 : decode cX2_line 140 = .ok (.invokevirtual 201, 3) := dk_182 0 201 (dk_at dksX2_line_6 11 rfl rfl)
theorem dX2_line_143 : decode cX2_line 143 = .ok (.putfield 213, 3) := dk_181 0 213 (dk_at dksX2_line_6 14 rfl rfl)
theorem dX2_line_146 : decode cX2_line 146 = .ok (.goto 53, 3) := dk_167 0 53 (dk_at dksX2_line_6 17 rfl rfl)
theorem dX2_line_149 : decode cX2_line 149 = .ok (.aload_n 0, 1) := dk_42 (dk_at dksX2_line_6 20 rfl rfl)
theorem dX2_line_150 : decode cX2_line 150 = .ok (.getfield 174, 3) := dk_180 0 174 (dk_at dksX2_line_6 21 rfl rfl)
theorem dX2_line_153 : decode cX2_line 153 = .ok (.aload_n 0, 1) := dk_42 (dk_at dksX2_line_7 0 rfl rfl)
theorem dX2_line_154 : decode cX2_line 154 = .ok (.iconst 0, 1) := dk_3 (dk_at dksX2_line_7 1 rfl rfl)
theorem dX2_line_155 : decode cX2_line 155 = .ok (.bipush 10, 2) := dk_16 10 (dk_at dksX2_line_7 2 rfl rfl)
theorem dX2_line_157 : decode cX2_line 157 = .ok (.invokevirtual 201, 3) := dk_182 0 201 (dk_at dksX2_line_7 4 rfl rfl)
theorem dX2_line_160 : decode cX2_line 160 = .ok (.putfield 215, 3) := dk_181 0 215 (dk_at dksX2_line_7 7 rfl rfl)
theorem dX2_line_163 : decode cX2_line 163 = .ok (.goto 36, 3) := dk_167 0 36 (dk_at dksX2_line_7 10 rfl rfl)
theorem dX2_line_166 : decode cX2_line 166 = .ok (.aload_n 0, 1) := dk_42 (dk_at dksX2_line_7 13 rfl rfl)
theorem dX2_line_167 : decode cX2_line 167 = .ok (.getfield 174, 3) := dk_180 0 174 (dk_at dksX2_line_7 14 rfl rfl)
theorem dX2_line_170 : decode cX2_line 170 = .ok (.aload_n 0, 1) := dk_42 (dk_at dksX2_line_7 17 rfl rfl)
theorem dX2_line_171 : decode cX2_line 171 = .ok (.aload_n 0, 1) := dk_42 (dk_at dksX2_line_7 18 rfl rfl)
theorem dX2_line_172 : decode cX2_line 172 = .ok (.getfield 15, 3) := dk_180 0 15 (dk_at dksX2_line_7 19 rfl rfl)
theorem dX2_line_175 : decode cX2_line 175 = .ok (.invokevirtual 217, 3) := dk_182 0 217 (dk_at dksX2_line_8 0 rfl rfl)
theorem dX2_line_178 : decode cX2_line 178 = .ok (.putfield 221, 3) := dk_181 0 221 (dk_at dksX2_line_8 3 rfl rfl)
theorem dX2_line_181 : decode cX2_line 181 = .ok (.goto 18, 3) := dk_167 0 18 (dk_at dksX2_line_8 6 rfl rfl)
theorem dX2_line_184 : decode cX2_line 184 = .ok (.aload_n 0, 1) := dk_42 (dk_at dksX2_line_8 9 rfl rfl)
theorem dX2_line_185 : decode cX2_line 185 = .ok (.getfield 174, 3) := dk_180 0 174 (dk_at dksX2_line_8 10 rfl rfl)
theorem dX2_line_188 : decode cX2_line 188 = .ok (.aload_n 0, 1) := dk_42 (dk_at dksX2_line_8 13 rfl rfl)
theorem dX2_line_189 : decode cX2_line 189 = .ok (.aload_n 0, 1) := dk_42 (dk_at dksX2_line_8 14 rfl rfl)
theorem dX2_line_190 : decode cX2_line 190 = .ok (.getfield 25, 3) := dk_180 0 25 (dk_at dksX2_line_8 15 rfl rfl)
theorem dX2_line_193 : decode cX2_line 193 = .ok (.invokevirtual 217, 3) := dk_182 0 217 (dk_at dksX2_line_8 18 rfl rfl)
theorem dX2_line_196 : decode cX2_line 196 = .ok (.putfield 224, 3) := dk_181 0 224 (dk_at dksX2_line_8 21 rfl rfl)
theorem dX2_line_199 : decode cX2_line 199 = .ok (.return_, 1) := dk_177 (dk_at dksX2_line_9 0 rfl rfl)
abbrev cX2_wrong : ByteArray := prog_19_method_7_code
def yX2_wrong : MethodName := ⟨RX2, "wrong", "(I)LFogNets$Wrong;"⟩
def dkwX2_wrong_0 : List UInt8 := [187, 0, 141, 89, 27, 16, 16, 42, 180, 0, 97, 42, 180, 0, 139, 46, 104, 96, 183, 0, 143, 176]
abbrev dktX2_wrong_0 : List UInt8 := dkwX2_wrong_0 ++ []
theorem dksX2_wrong_0 : cX2_wrong.data.toList.drop 0 = dktX2_wrong_0 := by decide +kernel
theorem dX2_wrong_0 : decode cX2_wrong 0 = .ok (.new 141, 3) := dk_187 0 141 (dk_at dksX2_wrong_0 0 rfl rfl)
theorem dX2_wrong_3 : decode cX2_wrong 3 = .ok (.dup, 1) := dk_89 (dk_at dksX2_wrong_0 3 rfl rfl)
theorem dX2_wrong_4 : decode cX2_wrong 4 = .ok (.iload_n 1, 1) := dk_27 (dk_at dksX2_wrong_0 4 rfl rfl)
theorem dX2_wrong_5 : decode cX2_wrong 5 = .ok (.bipush 16, 2) := dk_16 16 (dk_at dksX2_wrong_0 5 rfl rfl)
theorem dX2_wrong_7 : decode cX2_wrong 7 = .ok (.aload_n 0, 1) := dk_42 (dk_at dksX2_wrong_0 7 rfl rfl)
theorem dX2_wrong_8 : decode cX2_wrong 8 = .ok (.getfield 97, 3) := dk_180 0 97 (dk_at dksX2_wrong_0 8 rfl rfl)
theorem dX2_wrong_11 : decode cX2_wrong 11 = .ok (.aload_n 0, 1) := dk_42 (dk_at dksX2_wrong_0 11 rfl rfl)
theorem dX2_wrong_12 : decode cX2_wrong 12 = .ok (.getfield 139, 3) := dk_180 0 139 (dk_at dksX2_wrong_0 12 rfl rfl)
theorem dX2_wrong_15 : decode cX2_wrong 15 = .ok (.iaload, 1) := dk_46 (dk_at dksX2_wrong_0 15 rfl rfl)
theorem dX2_wrong_16 : decode cX2_wrong 16 = .ok (.imul, 1) := dk_104 (dk_at dksX2_wrong_0 16 rfl rfl)
theorem dX2_wrong_17 : decode cX2_wrong 17 = .ok (.iadd, 1) := dk_96 (dk_at dksX2_wrong_0 17 rfl rfl)
theorem dX2_wrong_18 : decode cX2_wrong 18 = .ok (.invokespecial 143, 3) := dk_183 0 143 (dk_at dksX2_wrong_0 18 rfl rfl)
theorem dX2_wrong_21 : decode cX2_wrong 21 = .ok (.areturn, 1) := dk_176 (dk_at dksX2_wrong_0 21 rfl rfl)
abbrev cX2_number : ByteArray := prog_19_method_14_code
def yX2_number : MethodName := ⟨RX2, "number", "(II)I"⟩
def dkwX2_number_3 : List UInt8 := [180, 0, 139, 4, 100, 47, 136, 172]
abbrev dktX2_number_3 : List UInt8 := dkwX2_number_3 ++ []
def dkwX2_number_2 : List UInt8 := [158, 0, 9, 42, 7, 182, 0, 160, 191, 42, 89, 180, 0, 139, 4, 96, 181, 0, 139, 42, 180, 0, 93, 42]
abbrev dktX2_number_2 : List UInt8 := dkwX2_number_2 ++ dktX2_number_3
def dkwX2_number_1 : List UInt8 := [180, 0, 139, 47, 27, 133, 148, 155, 0, 18, 42, 180, 0, 93, 42, 180, 0, 139, 47, 28, 133, 148]
abbrev dktX2_number_1 : List UInt8 := dkwX2_number_1 ++ dktX2_number_2
def dkwX2_number_0 : List UInt8 := [42, 180, 0, 90, 42, 180, 0, 139, 46, 5, 159, 0, 9, 42, 4, 182, 0, 160, 191, 42, 180, 0, 93, 42]
abbrev dktX2_number_0 : List UInt8 := dkwX2_number_0 ++ dktX2_number_1
theorem dksX2_number_0 : cX2_number.data.toList.drop 0 = dktX2_number_0 := by decide +kernel
theorem dksX2_number_1 : cX2_number.data.toList.drop 24 = dktX2_number_1 := dk_seg dksX2_number_0 24 rfl rfl
theorem dksX2_number_2 : cX2_number.data.toList.drop 46 = dktX2_number_2 := dk_seg dksX2_number_1 22 rfl rfl
theorem dksX2_number_3 : cX2_number.data.toList.drop 70 = dktX2_number_3 := dk_seg dksX2_number_2 24 rfl rfl
theorem dX2_number_0 : decode cX2_number 0 = .ok (.aload_n 0, 1) := dk_42 (dk_at dksX2_number_0 0 rfl rfl)
theorem dX2_number_1 : decode cX2_number 1 = .ok (.getfield 90, 3) := dk_180 0 90 (dk_at dksX2_number_0 1 rfl rfl)
theorem dX2_number_4 : decode cX2_number 4 = .ok (.aload_n 0, 1) := dk_42 (dk_at dksX2_number_0 4 rfl rfl)
theorem dX2_number_5 : decode cX2_number 5 = .ok (.getfield 139, 3) := dk_180 0 139 (dk_at dksX2_number_0 5 rfl rfl)
theorem dX2_number_8 : decode cX2_number 8 = .ok (.iaload, 1) := dk_46 (dk_at dksX2_number_0 8 rfl rfl)
theorem dX2_number_9 : decode cX2_number 9 = .ok (.iconst 2, 1) := dk_5 (dk_at dksX2_number_0 9 rfl rfl)
theorem dX2_number_10 : decode cX2_number 10 = .ok (.if_icmp .eq 9, 3) := dk_159 0 9 (dk_at dksX2_number_0 10 rfl rfl)
theorem dX2_number_13 : decode cX2_number 13 = .ok (.aload_n 0, 1) := dk_42 (dk_at dksX2_number_0 13 rfl rfl)
theorem dX2_number_14 : decode cX2_number 14 = .ok (.iconst 1, 1) := dk_4 (dk_at dksX2_number_0 14 rfl rfl)
theorem dX2_number_15 : decode cX2_number 15 = .ok (.invokevirtual 160, 3) := dk_182 0 160 (dk_at dksX2_number_0 15 rfl rfl)
theorem dX2_number_18 : decode cX2_number 18 = .ok (.athrow, 1) := dk_191 (dk_at dksX2_number_0 18 rfl rfl)
theorem dX2_number_19 : decode cX2_number 19 = .ok (.aload_n 0, 1) := dk_42 (dk_at dksX2_number_0 19 rfl rfl)
theorem dX2_number_20 : decode cX2_number 20 = .ok (.getfield 93, 3) := dk_180 0 93 (dk_at dksX2_number_0 20 rfl rfl)
theorem dX2_number_23 : decode cX2_number 23 = .ok (.aload_n 0, 1) := dk_42 (dk_at dksX2_number_0 23 rfl rfl)
theorem dX2_number_24 : decode cX2_number 24 = .ok (.getfield 139, 3) := dk_180 0 139 (dk_at dksX2_number_1 0 rfl rfl)
theorem dX2_number_27 : decode cX2_number 27 = .ok (.laload, 1) := dk_47 (dk_at dksX2_number_1 3 rfl rfl)
theorem dX2_number_28 : decode cX2_number 28 = .ok (.iload_n 1, 1) := dk_27 (dk_at dksX2_number_1 4 rfl rfl)
theorem dX2_number_29 : decode cX2_number 29 = .ok (.i2l, 1) := dk_133 (dk_at dksX2_number_1 5 rfl rfl)
theorem dX2_number_30 : decode cX2_number 30 = .ok (.lcmp, 1) := dk_148 (dk_at dksX2_number_1 6 rfl rfl)
theorem dX2_number_31 : decode cX2_number 31 = .ok (.ifCond .lt 18, 3) := dk_155 0 18 (dk_at dksX2_number_1 7 rfl rfl)
theorem dX2_number_34 : decode cX2_number 34 = .ok (.aload_n 0, 1) := dk_42 (dk_at dksX2_number_1 10 rfl rfl)
theorem dX2_number_35 : decode cX2_number 35 = .ok (.getfield 93, 3) := dk_180 0 93 (dk_at dksX2_number_1 11 rfl rfl)
theorem dX2_number_38 : decode cX2_number 38 = .ok (.aload_n 0, 1) := dk_42 (dk_at dksX2_number_1 14 rfl rfl)
theorem dX2_number_39 : decode cX2_number 39 = .ok (.getfield 139, 3) := dk_180 0 139 (dk_at dksX2_number_1 15 rfl rfl)
theorem dX2_number_42 : decode cX2_number 42 = .ok (.laload, 1) := dk_47 (dk_at dksX2_number_1 18 rfl rfl)
theorem dX2_number_43 : decode cX2_number 43 = .ok (.iload_n 2, 1) := dk_28 (dk_at dksX2_number_1 19 rfl rfl)
theorem dX2_number_44 : decode cX2_number 44 = .ok (.i2l, 1) := dk_133 (dk_at dksX2_number_1 20 rfl rfl)
theorem dX2_number_45 : decode cX2_number 45 = .ok (.lcmp, 1) := dk_148 (dk_at dksX2_number_1 21 rfl rfl)
theorem dX2_number_46 : decode cX2_number 46 = .ok (.ifCond .le 9, 3) := dk_158 0 9 (dk_at dksX2_number_2 0 rfl rfl)
theorem dX2_number_49 : decode cX2_number 49 = .ok (.aload_n 0, 1) := dk_42 (dk_at dksX2_number_2 3 rfl rfl)
theorem dX2_number_50 : decode cX2_number 50 = .ok (.iconst 4, 1) := dk_7 (dk_at dksX2_number_2 4 rfl rfl)
theorem dX2_number_51 : decode cX2_number 51 = .ok (.invokevirtual 160, 3) := dk_182 0 160 (dk_at dksX2_number_2 5 rfl rfl)
theorem dX2_number_54 : decode cX2_number 54 = .ok (.athrow, 1) := dk_191 (dk_at dksX2_number_2 8 rfl rfl)
theorem dX2_number_55 : decode cX2_number 55 = .ok (.aload_n 0, 1) := dk_42 (dk_at dksX2_number_2 9 rfl rfl)
theorem dX2_number_56 : decode cX2_number 56 = .ok (.dup, 1) := dk_89 (dk_at dksX2_number_2 10 rfl rfl)
theorem dX2_number_57 : decode cX2_number 57 = .ok (.getfield 139, 3) := dk_180 0 139 (dk_at dksX2_number_2 11 rfl rfl)
theorem dX2_number_60 : decode cX2_number 60 = .ok (.iconst 1, 1) := dk_4 (dk_at dksX2_number_2 14 rfl rfl)
theorem dX2_number_61 : decode cX2_number 61 = .ok (.iadd, 1) := dk_96 (dk_at dksX2_number_2 15 rfl rfl)
theorem dX2_number_62 : decode cX2_number 62 = .ok (.putfield 139, 3) := dk_181 0 139 (dk_at dksX2_number_2 16 rfl rfl)
theorem dX2_number_65 : decode cX2_number 65 = .ok (.aload_n 0, 1) := dk_42 (dk_at dksX2_number_2 19 rfl rfl)
theorem dX2_number_66 : decode cX2_number 66 = .ok (.getfield 93, 3) := dk_180 0 93 (dk_at dksX2_number_2 20 rfl rfl)
theorem dX2_number_69 : decode cX2_number 69 = .ok (.aload_n 0, 1) := dk_42 (dk_at dksX2_number_2 23 rfl rfl)
theorem dX2_number_70 : decode cX2_number 70 = .ok (.getfield 139, 3) := dk_180 0 139 (dk_at dksX2_number_3 0 rfl rfl)
theorem dX2_number_73 : decode cX2_number 73 = .ok (.iconst 1, 1) := dk_4 (dk_at dksX2_number_3 3 rfl rfl)
theorem dX2_number_74 : decode cX2_number 74 = .ok (.isub, 1) := dk_100 (dk_at dksX2_number_3 4 rfl rfl)
theorem dX2_number_75 : decode cX2_number 75 = .ok (.laload, 1) := dk_47 (dk_at dksX2_number_3 5 rfl rfl)
theorem dX2_number_76 : decode cX2_number 76 = .ok (.l2i, 1) := dk_136 (dk_at dksX2_number_3 6 rfl rfl)
theorem dX2_number_77 : decode cX2_number 77 = .ok (.ireturn, 1) := dk_172 (dk_at dksX2_number_3 7 rfl rfl)
abbrev cX2_law : ByteArray := prog_19_method_17_code
def yX2_law : MethodName := ⟨RX2, "law", "([Ljava/lang/String;)LFogNets$Expression;"⟩
def dkwX2_law_0 : List UInt8 := [42, 43, 181, 0, 83, 42, 182, 0, 187, 176]
abbrev dktX2_law_0 : List UInt8 := dkwX2_law_0 ++ []
theorem dksX2_law_0 : cX2_law.data.toList.drop 0 = dktX2_law_0 := by decide +kernel
theorem dX2_law_0 : decode cX2_law 0 = .ok (.aload_n 0, 1) := dk_42 (dk_at dksX2_law_0 0 rfl rfl)
theorem dX2_law_1 : decode cX2_law 1 = .ok (.aload_n 1, 1) := dk_43 (dk_at dksX2_law_0 1 rfl rfl)
theorem dX2_law_2 : decode cX2_law 2 = .ok (.putfield 83, 3) := dk_181 0 83 (dk_at dksX2_law_0 2 rfl rfl)
theorem dX2_law_5 : decode cX2_law 5 = .ok (.aload_n 0, 1) := dk_42 (dk_at dksX2_law_0 5 rfl rfl)
theorem dX2_law_6 : decode cX2_law 6 = .ok (.invokevirtual 187, 3) := dk_182 0 187 (dk_at dksX2_law_0 6 rfl rfl)
theorem dX2_law_9 : decode cX2_law 9 = .ok (.areturn, 1) := dk_176 (dk_at dksX2_law_0 9 rfl rfl)
abbrev cX2_whole : ByteArray := prog_19_method_23_code
def yX2_whole : MethodName := ⟨RX2, "whole", "()LFogNets$Expression;"⟩
def dkwX2_whole_0 : List UInt8 := [42, 3, 181, 1, 12, 42, 182, 1, 15, 176]
abbrev dktX2_whole_0 : List UInt8 := dkwX2_whole_0 ++ []
theorem dksX2_whole_0 : cX2_whole.data.toList.drop 0 = dktX2_whole_0 := by decide +kernel
theorem dX2_whole_0 : decode cX2_whole 0 = .ok (.aload_n 0, 1) := dk_42 (dk_at dksX2_whole_0 0 rfl rfl)
theorem dX2_whole_1 : decode cX2_whole 1 = .ok (.iconst 0, 1) := dk_3 (dk_at dksX2_whole_0 1 rfl rfl)
theorem dX2_whole_2 : decode cX2_whole 2 = .ok (.putfield 268, 3) := dk_181 1 12 (dk_at dksX2_whole_0 2 rfl rfl)
theorem dX2_whole_5 : decode cX2_whole 5 = .ok (.aload_n 0, 1) := dk_42 (dk_at dksX2_whole_0 5 rfl rfl)
theorem dX2_whole_6 : decode cX2_whole 6 = .ok (.invokevirtual 271, 3) := dk_182 1 15 (dk_at dksX2_whole_0 6 rfl rfl)
theorem dX2_whole_9 : decode cX2_whole 9 = .ok (.areturn, 1) := dk_176 (dk_at dksX2_whole_0 9 rfl rfl)
abbrev cX2_all : ByteArray := prog_19_method_25_code
def yX2_all : MethodName := ⟨RX2, "all", "()LFogNets$Expression;"⟩
def dkwX2_all_4 : List UInt8 := [199, 0, 7, 43, 167, 0, 4, 44, 176]
abbrev dktX2_all_4 : List UInt8 := dkwX2_all_4 ++ []
def dkwX2_all_3 : List UInt8 := [183, 1, 35, 167, 0, 12, 187, 1, 36, 89, 25, 4, 183, 1, 38, 182, 1, 0, 87, 167, 255, 176, 44]
abbrev dktX2_all_3 : List UInt8 := dkwX2_all_3 ++ dktX2_all_4
def dkwX2_all_2 : List UInt8 := [58, 4, 43, 44, 184, 1, 26, 77, 44, 180, 1, 30, 29, 153, 0, 15, 187, 1, 33, 89, 25, 4]
abbrev dktX2_all_2 : List UInt8 := dkwX2_all_2 ++ dktX2_all_3
def dkwX2_all_1 : List UInt8 := [153, 0, 68, 42, 18, 72, 182, 0, 150, 62, 42, 89, 180, 0, 139, 4, 96, 181, 0, 139, 42, 182, 1, 23]
abbrev dktX2_all_1 : List UInt8 := dkwX2_all_1 ++ dktX2_all_2
def dkwX2_all_0 : List UInt8 := [42, 182, 1, 23, 76, 1, 77, 42, 18, 72, 182, 0, 150, 154, 0, 12, 42, 18, 74, 182, 0, 150]
abbrev dktX2_all_0 : List UInt8 := dkwX2_all_0 ++ dktX2_all_1
theorem dksX2_all_0 : cX2_all.data.toList.drop 0 = dktX2_all_0 := by decide +kernel
theorem dksX2_all_1 : cX2_all.data.toList.drop 22 = dktX2_all_1 := dk_seg dksX2_all_0 22 rfl rfl
theorem dksX2_all_2 : cX2_all.data.toList.drop 46 = dktX2_all_2 := dk_seg dksX2_all_1 24 rfl rfl
theorem dksX2_all_3 : cX2_all.data.toList.drop 68 = dktX2_all_3 := dk_seg dksX2_all_2 22 rfl rfl
theorem dksX2_all_4 : cX2_all.data.toList.drop 91 = dktX2_all_4 := dk_seg dksX2_all_3 23 rfl rfl
theorem dX2_all_0 : decode cX2_all 0 = .ok (.aload_n 0, 1) := dk_42 (dk_at dksX2_all_0 0 rfl rfl)
theorem dX2_all_1 : decode cX2_all 1 = .ok (.invokevirtual 279, 3) := dk_182 1 23 (dk_at dksX2_all_0 1 rfl rfl)
theorem dX2_all_4 : decode cX2_all 4 = .ok (.astore_n 1, 1) := dk_76 (dk_at dksX2_all_0 4 rfl rfl)
theorem dX2_all_5 : decode cX2_all 5 = .ok (.aconst_null, 1) := dk_1 (dk_at dksX2_all_0 5 rfl rfl)
theorem dX2_all_6 : decode cX2_all 6 = .ok (.astore_n 2, 1) := dk_77 (dk_at dksX2_all_0 6 rfl rfl)
theorem dX2_all_7 : decode cX2_all 7 = .ok (.aload_n 0, 1) := dk_42 (dk_at dksX2_all_0 7 rfl rfl)
theorem dX2_all_8 : decode cX2_all 8 = .ok (.ldc 72, 2) := dk_18 72 (dk_at dksX2_all_0 8 rfl rfl)
theorem dX2_all_10 : decode cX2_all 10 = .ok (.invokevirtual 150, 3) := dk_182 0 150 (dk_at dksX2_all_0 10 rfl rfl)
theorem dX2_all_13 : decode cX2_all 13 = .ok (.ifCond .ne 12, 3) := dk_154 0 12 (dk_at dksX2_all_0 13 rfl rfl)
theorem dX2_all_16 : decode cX2_all 16 = .ok (.aload_n 0, 1) := dk_42 (dk_at dksX2_all_0 16 rfl rfl)
theorem dX2_all_17 : decode cX2_all 17 = .ok (.ldc 74, 2) := dk_18 74 (dk_at dksX2_all_0 17 rfl rfl)
theorem dX2_all_19 : decode cX2_all 19 = .ok (.invokevirtual 150, 3) := dk_182 0 150 (dk_at dksX2_all_0 19 rfl rfl)
theorem dX2_all_22 : decode cX2_all 22 = .ok (.ifCond .eq 68, 3) := dk_153 0 68 (dk_at dksX2_all_1 0 rfl rfl)
theorem dX2_all_25 : decode cX2_all 25 = .ok (.aload_n 0, 1) := dk_42 (dk_at dksX2_all_1 3 rfl rfl)
theorem dX2_all_26 : decode cX2_all 26 = .ok (.ldc 72, 2) := dk_18 72 (dk_at dksX2_all_1 4 rfl rfl)
theorem dX2_all_28 : decode cX2_all 28 = .ok (.invokevirtual 150, 3) := dk_182 0 150 (dk_at dksX2_all_1 6 rfl rfl)
theorem dX2_all_31 : decode cX2_all 31 = .ok (.istore_n 3, 1) := dk_62 (dk_at dksX2_all_1 9 rfl rfl)
theorem dX2_all_32 : decode cX2_all 32 = .ok (.aload_n 0, 1) := dk_42 (dk_at dksX2_all_1 10 rfl rfl)
theorem dX2_all_33 : decode cX2_all 33 = .ok (.dup, 1) := dk_89 (dk_at dksX2_all_1 11 rfl rfl)
theorem dX2_all_34 : decode cX2_all 34 = .ok (.getfield 139, 3) := dk_180 0 139 (dk_at dksX2_all_1 12 rfl rfl)
theorem dX2_all_37 : decode cX2_all 37 = .ok (.iconst 1, 1) := dk_4 (dk_at dksX2_all_1 15 rfl rfl)
theorem dX2_all_38 : decode cX2_all 38 = .ok (.iadd, 1) := dk_96 (dk_at dksX2_all_1 16 rfl rfl)
theorem dX2_all_39 : decode cX2_all 39 = .ok (.putfield 139, 3) := dk_181 0 139 (dk_at dksX2_all_1 17 rfl rfl)
theorem dX2_all_42 : decode cX2_all 42 = .ok (.aload_n 0, 1) := dk_42 (dk_at dksX2_all_1 20 rfl rfl)
theorem dX2_all_43 : decode cX2_all 43 = .ok (.invokevirtual 279, 3) := dk_182 1 23 (dk_at dksX2_all_1 21 rfl rfl)
theorem dX2_all_46 : decode cX2_all 46 = .ok (.astore 4, 2) := dk_58 4 (dk_at dksX2_all_2 0 rfl rfl)
theorem dX2_all_48 : decode cX2_all 48 = .ok (.aload_n 1, 1) := dk_43 (dk_at dksX2_all_2 2 rfl rfl)
theorem dX2_all_49 : decode cX2_all 49 = .ok (.aload_n 2, 1) := dk_44 (dk_at dksX2_all_2 3 rfl rfl)
theorem dX2_all_50 : decode cX2_all 50 = .ok (.invokestatic 282, 3) := dk_184 1 26 (dk_at dksX2_all_2 4 rfl rfl)
theorem dX2_all_53 : decode cX2_all 53 = .ok (.astore_n 2, 1) := dk_77 (dk_at dksX2_all_2 7 rfl rfl)
theorem dX2_all_54 : decode cX2_all 54 = .ok (.aload_n 2, 1) := dk_44 (dk_at dksX2_all_2 8 rfl rfl)
theorem dX2_all_55 : decode cX2_all 55 = .ok (.getfield 286, 3) := dk_180 1 30 (dk_at dksX2_all_2 9 rfl rfl)
theorem dX2_all_58 : decode cX2_all 58 = .ok (.iload_n 3, 1) := dk_29 (dk_at dksX2_all_2 12 rfl rfl)
theorem dX2_all_59 : decode cX2_all 59 = .ok (.ifCond .eq 15, 3) := dk_153 0 15 (dk_at dksX2_all_2 13 rfl rfl)
theorem dX2_all_62 : decode cX2_all 62 = .ok (.new 289, 3) := dk_187 1 33 (dk_at dksX2_all_2 16 rfl rfl)
theorem dX2_all_65 : decode cX2_all 65 = .ok (.dup, 1) := dk_89 (dk_at dksX2_all_2 19 rfl rfl)
theorem dX2_all_66 : decode cX2_all 66 = .ok (.aload 4, 2) := dk_25 4 (dk_at dksX2_all_2 20 rfl rfl)
theorem dX2_all_68 : decode cX2_all 68 = .ok (.invokespecial 291, 3) := dk_183 1 35 (dk_at dksX2_all_3 0 rfl rfl)
theorem dX2_all_71 : decode cX2_all 71 = .ok (.goto 12, 3) := dk_167 0 12 (dk_at dksX2_all_3 3 rfl rfl)
theorem dX2_all_74 : decode cX2_all 74 = .ok (.new 292, 3) := dk_187 1 36 (dk_at dksX2_all_3 6 rfl rfl)
theorem dX2_all_77 : decode cX2_all 77 = .ok (.dup, 1) := dk_89 (dk_at dksX2_all_3 9 rfl rfl)
theorem dX2_all_78 : decode cX2_all 78 = .ok (.aload 4, 2) := dk_25 4 (dk_at dksX2_all_3 10 rfl rfl)
theorem dX2_all_80 : decode cX2_all 80 = .ok (.invokespecial 294, 3) := dk_183 1 38 (dk_at dksX2_all_3 12 rfl rfl)
theorem dX2_all_83 : decode cX2_all 83 = .ok (.invokevirtual 256, 3) := dk_182 1 0 (dk_at dksX2_all_3 15 rfl rfl)
theorem dX2_all_86 : decode cX2_all 86 = .ok (.pop, 1) := dk_87 (dk_at dksX2_all_3 18 rfl rfl)
theorem dX2_all_87 : decode cX2_all 87 = .ok (.goto (-80), 3) := dk_167 255 176 (dk_at dksX2_all_3 19 rfl rfl)
theorem dX2_all_90 : decode cX2_all 90 = .ok (.aload_n 2, 1) := dk_44 (dk_at dksX2_all_3 22 rfl rfl)
theorem dX2_all_91 : decode cX2_all 91 = .ok (.ifnonnull 7, 3) := dk_199 0 7 (dk_at dksX2_all_4 0 rfl rfl)
theorem dX2_all_94 : decode cX2_all 94 = .ok (.aload_n 1, 1) := dk_43 (dk_at dksX2_all_4 3 rfl rfl)
theorem dX2_all_95 : decode cX2_all 95 = .ok (.goto 4, 3) := dk_167 0 4 (dk_at dksX2_all_4 4 rfl rfl)
theorem dX2_all_98 : decode cX2_all 98 = .ok (.aload_n 2, 1) := dk_44 (dk_at dksX2_all_4 7 rfl rfl)
theorem dX2_all_99 : decode cX2_all 99 = .ok (.areturn, 1) := dk_176 (dk_at dksX2_all_4 8 rfl rfl)
abbrev cX2_test : ByteArray := prog_19_method_26_code
def yX2_test : MethodName := ⟨RX2, "test", "()LFogNets$Expression;"⟩
def dkwX2_test_3 : List UInt8 := [183, 1, 44, 167, 0, 11, 187, 1, 45, 89, 45, 183, 1, 47, 182, 1, 0, 87, 25, 4, 176]
abbrev dktX2_test_3 : List UInt8 := dkwX2_test_3 ++ []
def dkwX2_test_2 : List UInt8 := [187, 1, 18, 89, 43, 183, 1, 20, 58, 4, 25, 4, 180, 1, 30, 28, 153, 0, 14, 187, 1, 42, 89, 45]
abbrev dktX2_test_2 : List UInt8 := dkwX2_test_2 ++ dktX2_test_3
def dkwX2_test_1 : List UInt8 := [176, 42, 16, 60, 182, 0, 154, 61, 42, 89, 180, 0, 139, 4, 96, 181, 0, 139, 42, 182, 1, 39, 78]
abbrev dktX2_test_1 : List UInt8 := dkwX2_test_1 ++ dktX2_test_2
def dkwX2_test_0 : List UInt8 := [42, 182, 1, 39, 76, 42, 16, 60, 182, 0, 154, 154, 0, 14, 42, 16, 61, 182, 0, 154, 154, 0, 5, 43]
abbrev dktX2_test_0 : List UInt8 := dkwX2_test_0 ++ dktX2_test_1
theorem dksX2_test_0 : cX2_test.data.toList.drop 0 = dktX2_test_0 := by decide +kernel
theorem dksX2_test_1 : cX2_test.data.toList.drop 24 = dktX2_test_1 := dk_seg dksX2_test_0 24 rfl rfl
theorem dksX2_test_2 : cX2_test.data.toList.drop 47 = dktX2_test_2 := dk_seg dksX2_test_1 23 rfl rfl
theorem dksX2_test_3 : cX2_test.data.toList.drop 71 = dktX2_test_3 := dk_seg dksX2_test_2 24 rfl rfl
theorem dX2_test_0 : decode cX2_test 0 = .ok (.aload_n 0, 1) := dk_42 (dk_at dksX2_test_0 0 rfl rfl)
theorem dX2_test_1 : decode cX2_test 1 = .ok (.invokevirtual 295, 3) := dk_182 1 39 (dk_at dksX2_test_0 1 rfl rfl)
theorem dX2_test_4 : decode cX2_test 4 = .ok (.astore_n 1, 1) := dk_76 (dk_at dksX2_test_0 4 rfl rfl)
theorem dX2_test_5 : decode cX2_test 5 = .ok (.aload_n 0, 1) := dk_42 (dk_at dksX2_test_0 5 rfl rfl)
theorem dX2_test_6 : decode cX2_test 6 = .ok (.bipush 60, 2) := dk_16 60 (dk_at dksX2_test_0 6 rfl rfl)
theorem dX2_test_8 : decode cX2_test 8 = .ok (.invokevirtual 154, 3) := dk_182 0 154 (dk_at dksX2_test_0 8 rfl rfl)
theorem dX2_test_11 : decode cX2_test 11 = .ok (.ifCond .ne 14, 3) := dk_154 0 14 (dk_at dksX2_test_0 11 rfl rfl)
theorem dX2_test_14 : decode cX2_test 14 = .ok (.aload_n 0, 1) := dk_42 (dk_at dksX2_test_0 14 rfl rfl)
theorem dX2_test_15 : decode cX2_test 15 = .ok (.bipush 61, 2) := dk_16 61 (dk_at dksX2_test_0 15 rfl rfl)
theorem dX2_test_17 : decode cX2_test 17 = .ok (.invokevirtual 154, 3) := dk_182 0 154 (dk_at dksX2_test_0 17 rfl rfl)
theorem dX2_test_20 : decode cX2_test 20 = .ok (.ifCond .ne 5, 3) := dk_154 0 5 (dk_at dksX2_test_0 20 rfl rfl)
theorem dX2_test_23 : decode cX2_test 23 = .ok (.aload_n 1, 1) := dk_43 (dk_at dksX2_test_0 23 rfl rfl)
theorem dX2_test_24 : decode cX2_test 24 = .ok (.areturn, 1) := dk_176 (dk_at dksX2_test_1 0 rfl rfl)
theorem dX2_test_25 : decode cX2_test 25 = .ok (.aload_n 0, 1) := dk_42 (dk_at dksX2_test_1 1 rfl rfl)
theorem dX2_test_26 : decode cX2_test 26 = .ok (.bipush 60, 2) := dk_16 60 (dk_at dksX2_test_1 2 rfl rfl)
theorem dX2_test_28 : decode cX2_test 28 = .ok (.invokevirtual 154, 3) := dk_182 0 154 (dk_at dksX2_test_1 4 rfl rfl)
theorem dX2_test_31 : decode cX2_test 31 = .ok (.istore_n 2, 1) := dk_61 (dk_at dksX2_test_1 7 rfl rfl)
theorem dX2_test_32 : decode cX2_test 32 = .ok (.aload_n 0, 1) := dk_42 (dk_at dksX2_test_1 8 rfl rfl)
theorem dX2_test_33 : decode cX2_test 33 = .ok (.dup, 1) := dk_89 (dk_at dksX2_test_1 9 rfl rfl)
theorem dX2_test_34 : decode cX2_test 34 = .ok (.getfield 139, 3) := dk_180 0 139 (dk_at dksX2_test_1 10 rfl rfl)
theorem dX2_test_37 : decode cX2_test 37 = .ok (.iconst 1, 1) := dk_4 (dk_at dksX2_test_1 13 rfl rfl)
theorem dX2_test_38 : decode cX2_test 38 = .ok (.iadd, 1) := dk_96 (dk_at dksX2_test_1 14 rfl rfl)
theorem dX2_test_39 : decode cX2_test 39 = .ok (.putfield 139, 3) := dk_181 0 139 (dk_at dksX2_test_1 15 rfl rfl)
theorem dX2_test_42 : decode cX2_test 42 = .ok (.aload_n 0, 1) := dk_42 (dk_at dksX2_test_1 18 rfl rfl)
theorem dX2_test_43 : decode cX2_test 43 = .ok (.invokevirtual 295, 3) := dk_182 1 39 (dk_at dksX2_test_1 19 rfl rfl)
theorem dX2_test_46 : decode cX2_test 46 = .ok (.astore_n 3, 1) := dk_78 (dk_at dksX2_test_1 22 rfl rfl)
theorem dX2_test_47 : decode cX2_test 47 = .ok (.new 274, 3) := dk_187 1 18 (dk_at dksX2_test_2 0 rfl rfl)
theorem dX2_test_50 : decode cX2_test 50 = .ok (.dup, 1) := dk_89 (dk_at dksX2_test_2 3 rfl rfl)
theorem dX2_test_51 : decode cX2_test 51 = .ok (.aload_n 1, 1) := dk_43 (dk_at dksX2_test_2 4 rfl rfl)
theorem dX2_test_52 : decode cX2_test 52 = .ok (.invokespecial 276, 3) := dk_183 1 20 (dk_at dksX2_test_2 5 rfl rfl)
theorem dX2_test_55 : decode cX2_test 55 = .ok (.astore 4, 2) := dk_58 4 (dk_at dksX2_test_2 8 rfl rfl)
theorem dX2_test_57 : decode cX2_test 57 = .ok (.aload 4, 2) := dk_25 4 (dk_at dksX2_test_2 10 rfl rfl)
theorem dX2_test_59 : decode cX2_test 59 = .ok (.getfield 286, 3) := dk_180 1 30 (dk_at dksX2_test_2 12 rfl rfl)
theorem dX2_test_62 : decode cX2_test 62 = .ok (.iload_n 2, 1) := dk_28 (dk_at dksX2_test_2 15 rfl rfl)
theorem dX2_test_63 : decode cX2_test 63 = .ok (.ifCond .eq 14, 3) := dk_153 0 14 (dk_at dksX2_test_2 16 rfl rfl)
theorem dX2_test_66 : decode cX2_test 66 = .ok (.new 298, 3) := dk_187 1 42 (dk_at dksX2_test_2 19 rfl rfl)
theorem dX2_test_69 : decode cX2_test 69 = .ok (.dup, 1) := dk_89 (dk_at dksX2_test_2 22 rfl rfl)
theorem dX2_test_70 : decode cX2_test 70 = .ok (.aload_n 3, 1) := dk_45 (dk_at dksX2_test_2 23 rfl rfl)
theorem dX2_test_71 : decode cX2_test 71 = .ok (.invokespecial 300, 3) := dk_183 1 44 (dk_at dksX2_test_3 0 rfl rfl)
theorem dX2_test_74 : decode cX2_test 74 = .ok (.goto 11, 3) := dk_167 0 11 (dk_at dksX2_test_3 3 rfl rfl)
theorem dX2_test_77 : decode cX2_test 77 = .ok (.new 301, 3) := dk_187 1 45 (dk_at dksX2_test_3 6 rfl rfl)
theorem dX2_test_80 : decode cX2_test 80 = .ok (.dup, 1) := dk_89 (dk_at dksX2_test_3 9 rfl rfl)
theorem dX2_test_81 : decode cX2_test 81 = .ok (.aload_n 3, 1) := dk_45 (dk_at dksX2_test_3 10 rfl rfl)
theorem dX2_test_82 : decode cX2_test 82 = .ok (.invokespecial 303, 3) := dk_183 1 47 (dk_at dksX2_test_3 11 rfl rfl)
theorem dX2_test_85 : decode cX2_test 85 = .ok (.invokevirtual 256, 3) := dk_182 1 0 (dk_at dksX2_test_3 14 rfl rfl)
theorem dX2_test_88 : decode cX2_test 88 = .ok (.pop, 1) := dk_87 (dk_at dksX2_test_3 17 rfl rfl)
theorem dX2_test_89 : decode cX2_test 89 = .ok (.aload 4, 2) := dk_25 4 (dk_at dksX2_test_3 18 rfl rfl)
theorem dX2_test_91 : decode cX2_test 91 = .ok (.areturn, 1) := dk_176 (dk_at dksX2_test_3 20 rfl rfl)
abbrev cX2_sum : ByteArray := prog_19_method_27_code
def yX2_sum : MethodName := ⟨RX2, "sum", "()LFogNets$Expression;"⟩
def dkwX2_sum_4 : List UInt8 := [199, 0, 7, 43, 167, 0, 4, 44, 176]
abbrev dktX2_sum_4 : List UInt8 := dkwX2_sum_4 ++ []
def dkwX2_sum_3 : List UInt8 := [183, 1, 53, 167, 0, 12, 187, 1, 54, 89, 25, 4, 183, 1, 56, 182, 1, 0, 87, 167, 255, 176, 44]
abbrev dktX2_sum_3 : List UInt8 := dkwX2_sum_3 ++ dktX2_sum_4
def dkwX2_sum_2 : List UInt8 := [58, 4, 43, 44, 184, 1, 26, 77, 44, 180, 1, 30, 29, 153, 0, 15, 187, 1, 51, 89, 25, 4]
abbrev dktX2_sum_2 : List UInt8 := dkwX2_sum_2 ++ dktX2_sum_3
def dkwX2_sum_1 : List UInt8 := [153, 0, 68, 42, 16, 43, 182, 0, 154, 62, 42, 89, 180, 0, 139, 4, 96, 181, 0, 139, 42, 182, 1, 48]
abbrev dktX2_sum_1 : List UInt8 := dkwX2_sum_1 ++ dktX2_sum_2
def dkwX2_sum_0 : List UInt8 := [42, 182, 1, 48, 76, 1, 77, 42, 16, 43, 182, 0, 154, 154, 0, 12, 42, 16, 45, 182, 0, 154]
abbrev dktX2_sum_0 : List UInt8 := dkwX2_sum_0 ++ dktX2_sum_1
theorem dksX2_sum_0 : cX2_sum.data.toList.drop 0 = dktX2_sum_0 := by decide +kernel
theorem dksX2_sum_1 : cX2_sum.data.toList.drop 22 = dktX2_sum_1 := dk_seg dksX2_sum_0 22 rfl rfl
theorem dksX2_sum_2 : cX2_sum.data.toList.drop 46 = dktX2_sum_2 := dk_seg dksX2_sum_1 24 rfl rfl
theorem dksX2_sum_3 : cX2_sum.data.toList.drop 68 = dktX2_sum_3 := dk_seg dksX2_sum_2 22 rfl rfl
theorem dksX2_sum_4 : cX2_sum.data.toList.drop 91 = dktX2_sum_4 := dk_seg dksX2_sum_3 23 rfl rfl
theorem dX2_sum_0 : decode cX2_sum 0 = .ok (.aload_n 0, 1) := dk_42 (dk_at dksX2_sum_0 0 rfl rfl)
theorem dX2_sum_1 : decode cX2_sum 1 = .ok (.invokevirtual 304, 3) := dk_182 1 48 (dk_at dksX2_sum_0 1 rfl rfl)
theorem dX2_sum_4 : decode cX2_sum 4 = .ok (.astore_n 1, 1) := dk_76 (dk_at dksX2_sum_0 4 rfl rfl)
theorem dX2_sum_5 : decode cX2_sum 5 = .ok (.aconst_null, 1) := dk_1 (dk_at dksX2_sum_0 5 rfl rfl)
theorem dX2_sum_6 : decode cX2_sum 6 = .ok (.astore_n 2, 1) := dk_77 (dk_at dksX2_sum_0 6 rfl rfl)
theorem dX2_sum_7 : decode cX2_sum 7 = .ok (.aload_n 0, 1) := dk_42 (dk_at dksX2_sum_0 7 rfl rfl)
theorem dX2_sum_8 : decode cX2_sum 8 = .ok (.bipush 43, 2) := dk_16 43 (dk_at dksX2_sum_0 8 rfl rfl)
theorem dX2_sum_10 : decode cX2_sum 10 = .ok (.invokevirtual 154, 3) := dk_182 0 154 (dk_at dksX2_sum_0 10 rfl rfl)
theorem dX2_sum_13 : decode cX2_sum 13 = .ok (.ifCond .ne 12, 3) := dk_154 0 12 (dk_at dksX2_sum_0 13 rfl rfl)
theorem dX2_sum_16 : decode cX2_sum 16 = .ok (.aload_n 0, 1) := dk_42 (dk_at dksX2_sum_0 16 rfl rfl)
theorem dX2_sum_17 : decode cX2_sum 17 = .ok (.bipush 45, 2) := dk_16 45 (dk_at dksX2_sum_0 17 rfl rfl)
theorem dX2_sum_19 : decode cX2_sum 19 = .ok (.invokevirtual 154, 3) := dk_182 0 154 (dk_at dksX2_sum_0 19 rfl rfl)
theorem dX2_sum_22 : decode cX2_sum 22 = .ok (.ifCond .eq 68, 3) := dk_153 0 68 (dk_at dksX2_sum_1 0 rfl rfl)
theorem dX2_sum_25 : decode cX2_sum 25 = .ok (.aload_n 0, 1) := dk_42 (dk_at dksX2_sum_1 3 rfl rfl)
theorem dX2_sum_26 : decode cX2_sum 26 = .ok (.bipush 43, 2) := dk_16 43 (dk_at dksX2_sum_1 4 rfl rfl)
theorem dX2_sum_28 : decode cX2_sum 28 = .ok (.invokevirtual 154, 3) := dk_182 0 154 (dk_at dksX2_sum_1 6 rfl rfl)
theorem dX2_sum_31 : decode cX2_sum 31 = .ok (.istore_n 3, 1) := dk_62 (dk_at dksX2_sum_1 9 rfl rfl)
theorem dX2_sum_32 : decode cX2_sum 32 = .ok (.aload_n 0, 1) := dk_42 (dk_at dksX2_sum_1 10 rfl rfl)
theorem dX2_sum_33 : decode cX2_sum 33 = .ok (.dup, 1) := dk_89 (dk_at dksX2_sum_1 11 rfl rfl)
theorem dX2_sum_34 : decode cX2_sum 34 = .ok (.getfield 139, 3) := dk_180 0 139 (dk_at dksX2_sum_1 12 rfl rfl)
theorem dX2_sum_37 : decode cX2_sum 37 = .ok (.iconst 1, 1) := dk_4 (dk_at dksX2_sum_1 15 rfl rfl)
theorem dX2_sum_38 : decode cX2_sum 38 = .ok (.iadd, 1) := dk_96 (dk_at dksX2_sum_1 16 rfl rfl)
theorem dX2_sum_39 : decode cX2_sum 39 = .ok (.putfield 139, 3) := dk_181 0 139 (dk_at dksX2_sum_1 17 rfl rfl)
theorem dX2_sum_42 : decode cX2_sum 42 = .ok (.aload_n 0, 1) := dk_42 (dk_at dksX2_sum_1 20 rfl rfl)
theorem dX2_sum_43 : decode cX2_sum 43 = .ok (.invokevirtual 304, 3) := dk_182 1 48 (dk_at dksX2_sum_1 21 rfl rfl)
theorem dX2_sum_46 : decode cX2_sum 46 = .ok (.astore 4, 2) := dk_58 4 (dk_at dksX2_sum_2 0 rfl rfl)
theorem dX2_sum_48 : decode cX2_sum 48 = .ok (.aload_n 1, 1) := dk_43 (dk_at dksX2_sum_2 2 rfl rfl)
theorem dX2_sum_49 : decode cX2_sum 49 = .ok (.aload_n 2, 1) := dk_44 (dk_at dksX2_sum_2 3 rfl rfl)
theorem dX2_sum_50 : decode cX2_sum 50 = .ok (.invokestatic 282, 3) := dk_184 1 26 (dk_at dksX2_sum_2 4 rfl rfl)
theorem dX2_sum_53 : decode cX2_sum 53 = .ok (.astore_n 2, 1) := dk_77 (dk_at dksX2_sum_2 7 rfl rfl)
theorem dX2_sum_54 : decode cX2_sum 54 = .ok (.aload_n 2, 1) := dk_44 (dk_at dksX2_sum_2 8 rfl rfl)
theorem dX2_sum_55 : decode cX2_sum 55 = .ok (.getfield 286, 3) := dk_180 1 30 (dk_at dksX2_sum_2 9 rfl rfl)
theorem dX2_sum_58 : decode cX2_sum 58 = .ok (.iload_n 3, 1) := dk_29 (dk_at dksX2_sum_2 12 rfl rfl)
theorem dX2_sum_59 : decode cX2_sum 59 = .ok (.ifCond .eq 15, 3) := dk_153 0 15 (dk_at dksX2_sum_2 13 rfl rfl)
theorem dX2_sum_62 : decode cX2_sum 62 = .ok (.new 307, 3) := dk_187 1 51 (dk_at dksX2_sum_2 16 rfl rfl)
theorem dX2_sum_65 : decode cX2_sum 65 = .ok (.dup, 1) := dk_89 (dk_at dksX2_sum_2 19 rfl rfl)
theorem dX2_sum_66 : decode cX2_sum 66 = .ok (.aload 4, 2) := dk_25 4 (dk_at dksX2_sum_2 20 rfl rfl)
theorem dX2_sum_68 : decode cX2_sum 68 = .ok (.invokespecial 309, 3) := dk_183 1 53 (dk_at dksX2_sum_3 0 rfl rfl)
theorem dX2_sum_71 : decode cX2_sum 71 = .ok (.goto 12, 3) := dk_167 0 12 (dk_at dksX2_sum_3 3 rfl rfl)
theorem dX2_sum_74 : decode cX2_sum 74 = .ok (.new 310, 3) := dk_187 1 54 (dk_at dksX2_sum_3 6 rfl rfl)
theorem dX2_sum_77 : decode cX2_sum 77 = .ok (.dup, 1) := dk_89 (dk_at dksX2_sum_3 9 rfl rfl)
theorem dX2_sum_78 : decode cX2_sum 78 = .ok (.aload 4, 2) := dk_25 4 (dk_at dksX2_sum_3 10 rfl rfl)
theorem dX2_sum_80 : decode cX2_sum 80 = .ok (.invokespecial 312, 3) := dk_183 1 56 (dk_at dksX2_sum_3 12 rfl rfl)
theorem dX2_sum_83 : decode cX2_sum 83 = .ok (.invokevirtual 256, 3) := dk_182 1 0 (dk_at dksX2_sum_3 15 rfl rfl)
theorem dX2_sum_86 : decode cX2_sum 86 = .ok (.pop, 1) := dk_87 (dk_at dksX2_sum_3 18 rfl rfl)
theorem dX2_sum_87 : decode cX2_sum 87 = .ok (.goto (-80), 3) := dk_167 255 176 (dk_at dksX2_sum_3 19 rfl rfl)
theorem dX2_sum_90 : decode cX2_sum 90 = .ok (.aload_n 2, 1) := dk_44 (dk_at dksX2_sum_3 22 rfl rfl)
theorem dX2_sum_91 : decode cX2_sum 91 = .ok (.ifnonnull 7, 3) := dk_199 0 7 (dk_at dksX2_sum_4 0 rfl rfl)
theorem dX2_sum_94 : decode cX2_sum 94 = .ok (.aload_n 1, 1) := dk_43 (dk_at dksX2_sum_4 3 rfl rfl)
theorem dX2_sum_95 : decode cX2_sum 95 = .ok (.goto 4, 3) := dk_167 0 4 (dk_at dksX2_sum_4 4 rfl rfl)
theorem dX2_sum_98 : decode cX2_sum 98 = .ok (.aload_n 2, 1) := dk_44 (dk_at dksX2_sum_4 7 rfl rfl)
theorem dX2_sum_99 : decode cX2_sum 99 = .ok (.areturn, 1) := dk_176 (dk_at dksX2_sum_4 8 rfl rfl)
abbrev cX2_term : ByteArray := prog_19_method_28_code
def yX2_term : MethodName := ⟨RX2, "term", "()LFogNets$Expression;"⟩
def dkwX2_term_2 : List UInt8 := [199, 0, 7, 43, 167, 0, 4, 44, 176]
abbrev dktX2_term_2 : List UInt8 := dkwX2_term_2 ++ []
def dkwX2_term_1 : List UInt8 := [184, 1, 26, 77, 44, 180, 1, 30, 187, 1, 60, 89, 45, 183, 1, 62, 182, 1, 0, 87, 167, 255, 220, 44]
abbrev dktX2_term_1 : List UInt8 := dkwX2_term_1 ++ dktX2_term_2
def dkwX2_term_0 : List UInt8 := [42, 182, 1, 57, 76, 1, 77, 42, 16, 42, 182, 0, 157, 153, 0, 33, 42, 182, 1, 57, 78, 43, 44]
abbrev dktX2_term_0 : List UInt8 := dkwX2_term_0 ++ dktX2_term_1
theorem dksX2_term_0 : cX2_term.data.toList.drop 0 = dktX2_term_0 := by decide +kernel
theorem dksX2_term_1 : cX2_term.data.toList.drop 23 = dktX2_term_1 := dk_seg dksX2_term_0 23 rfl rfl
theorem dksX2_term_2 : cX2_term.data.toList.drop 47 = dktX2_term_2 := dk_seg dksX2_term_1 24 rfl rfl
theorem dX2_term_0 : decode cX2_term 0 = .ok (.aload_n 0, 1) := dk_42 (dk_at dksX2_term_0 0 rfl rfl)
theorem dX2_term_1 : decode cX2_term 1 = .ok (.invokevirtual 313, 3) := dk_182 1 57 (dk_at dksX2_term_0 1 rfl rfl)
theorem dX2_term_4 : decode cX2_term 4 = .ok (.astore_n 1, 1) := dk_76 (dk_at dksX2_term_0 4 rfl rfl)
theorem dX2_term_5 : decode cX2_term 5 = .ok (.aconst_null, 1) := dk_1 (dk_at dksX2_term_0 5 rfl rfl)
theorem dX2_term_6 : decode cX2_term 6 = .ok (.astore_n 2, 1) := dk_77 (dk_at dksX2_term_0 6 rfl rfl)
theorem dX2_term_7 : decode cX2_term 7 = .ok (.aload_n 0, 1) := dk_42 (dk_at dksX2_term_0 7 rfl rfl)
theorem dX2_term_8 : decode cX2_term 8 = .ok (.bipush 42, 2) := dk_16 42 (dk_at dksX2_term_0 8 rfl rfl)
theorem dX2_term_10 : decode cX2_term 10 = .ok (.invokevirtual 157, 3) := dk_182 0 157 (dk_at dksX2_term_0 10 rfl rfl)
theorem dX2_term_13 : decode cX2_term 13 = .ok (.ifCond .eq 33, 3) := dk_153 0 33 (dk_at dksX2_term_0 13 rfl rfl)
theorem dX2_term_16 : decode cX2_term 16 = .ok (.aload_n 0, 1) := dk_42 (dk_at dksX2_term_0 16 rfl rfl)
theorem dX2_term_17 : decode cX2_term 17 = .ok (.invokevirtual 313, 3) := dk_182 1 57 (dk_at dksX2_term_0 17 rfl rfl)
theorem dX2_term_20 : decode cX2_term 20 = .ok (.astore_n 3, 1) := dk_78 (dk_at dksX2_term_0 20 rfl rfl)
theorem dX2_term_21 : decode cX2_term 21 = .ok (.aload_n 1, 1) := dk_43 (dk_at dksX2_term_0 21 rfl rfl)
theorem dX2_term_22 : decode cX2_term 22 = .ok (.aload_n 2, 1) := dk_44 (dk_at dksX2_term_0 22 rfl rfl)
theorem dX2_term_23 : decode cX2_term 23 = .ok (.invokestatic 282, 3) := dk_184 1 26 (dk_at dksX2_term_1 0 rfl rfl)
theorem dX2_term_26 : decode cX2_term 26 = .ok (.astore_n 2, 1) := dk_77 (dk_at dksX2_term_1 3 rfl rfl)
theorem dX2_term_27 : decode cX2_term 27 = .ok (.aload_n 2, 1) := dk_44 (dk_at dksX2_term_1 4 rfl rfl)
theorem dX2_term_28 : decode cX2_term 28 = .ok (.getfield 286, 3) := dk_180 1 30 (dk_at dksX2_term_1 5 rfl rfl)
theorem dX2_term_31 : decode cX2_term 31 = .ok (.new 316, 3) := dk_187 1 60 (dk_at dksX2_term_1 8 rfl rfl)
theorem dX2_term_34 : decode cX2_term 34 = .ok (.dup, 1) := dk_89 (dk_at dksX2_term_1 11 rfl rfl)
theorem dX2_term_35 : decode cX2_term 35 = .ok (.aload_n 3, 1) := dk_45 (dk_at dksX2_term_1 12 rfl rfl)
theorem dX2_term_36 : decode cX2_term 36 = .ok (.invokespecial 318, 3) := dk_183 1 62 (dk_at dksX2_term_1 13 rfl rfl)
theorem dX2_term_39 : decode cX2_term 39 = .ok (.invokevirtual 256, 3) := dk_182 1 0 (dk_at dksX2_term_1 16 rfl rfl)
theorem dX2_term_42 : decode cX2_term 42 = .ok (.pop, 1) := dk_87 (dk_at dksX2_term_1 19 rfl rfl)
theorem dX2_term_43 : decode cX2_term 43 = .ok (.goto (-36), 3) := dk_167 255 220 (dk_at dksX2_term_1 20 rfl rfl)
theorem dX2_term_46 : decode cX2_term 46 = .ok (.aload_n 2, 1) := dk_44 (dk_at dksX2_term_1 23 rfl rfl)
theorem dX2_term_47 : decode cX2_term 47 = .ok (.ifnonnull 7, 3) := dk_199 0 7 (dk_at dksX2_term_2 0 rfl rfl)
theorem dX2_term_50 : decode cX2_term 50 = .ok (.aload_n 1, 1) := dk_43 (dk_at dksX2_term_2 3 rfl rfl)
theorem dX2_term_51 : decode cX2_term 51 = .ok (.goto 4, 3) := dk_167 0 4 (dk_at dksX2_term_2 4 rfl rfl)
theorem dX2_term_54 : decode cX2_term 54 = .ok (.aload_n 2, 1) := dk_44 (dk_at dksX2_term_2 7 rfl rfl)
theorem dX2_term_55 : decode cX2_term 55 = .ok (.areturn, 1) := dk_176 (dk_at dksX2_term_2 8 rfl rfl)
abbrev cX2_part : ByteArray := prog_19_method_29_code
def yX2_part : MethodName := ⟨RX2, "part", "()LFogNets$Expression;"⟩
def dkwX2_part_8 : List UInt8 := [45, 176]
abbrev dktX2_part_8 : List UInt8 := dkwX2_part_8 ++ []
def dkwX2_part_7 : List UInt8 := [182, 1, 15, 78, 28, 154, 0, 9, 42, 16, 41, 182, 0, 184, 42, 89, 180, 1, 12, 4, 100, 181, 1, 12]
abbrev dktX2_part_7 : List UInt8 := dkwX2_part_7 ++ dktX2_part_8
def dkwX2_part_6 : List UInt8 := [181, 1, 12, 28, 153, 0, 17, 187, 1, 69, 89, 42, 182, 1, 57, 183, 1, 71, 167, 0, 7, 42]
abbrev dktX2_part_6 : List UInt8 := dkwX2_part_6 ++ dktX2_part_7
def dkwX2_part_5 : List UInt8 := [180, 0, 93, 42, 180, 0, 139, 4, 100, 47, 136, 183, 1, 68, 176, 42, 89, 180, 1, 12, 4, 96]
abbrev dktX2_part_5 : List UInt8 := dkwX2_part_5 ++ dktX2_part_6
def dkwX2_part_4 : List UInt8 := [154, 0, 38, 42, 180, 0, 90, 42, 180, 0, 139, 4, 100, 46, 5, 160, 0, 23, 187, 1, 66, 89, 42]
abbrev dktX2_part_4 : List UInt8 := dkwX2_part_4 ++ dktX2_part_5
def dkwX2_part_3 : List UInt8 := [89, 180, 0, 139, 4, 96, 181, 0, 139, 27, 2, 159, 0, 12, 187, 1, 63, 89, 27, 183, 1, 65, 176, 28]
abbrev dktX2_part_3 : List UInt8 := dkwX2_part_3 ++ dktX2_part_4
def dkwX2_part_2 : List UInt8 := [154, 0, 9, 42, 4, 182, 0, 160, 191, 42, 180, 1, 12, 8, 160, 0, 9, 42, 8, 182, 0, 160, 191, 42]
abbrev dktX2_part_2 : List UInt8 := dkwX2_part_2 ++ dktX2_part_3
def dkwX2_part_1 : List UInt8 := [154, 0, 31, 42, 180, 0, 90, 42, 180, 0, 139, 46, 5, 159, 0, 18, 42, 16, 40, 182, 0, 154]
abbrev dktX2_part_1 : List UInt8 := dkwX2_part_1 ++ dktX2_part_2
def dkwX2_part_0 : List UInt8 := [42, 42, 180, 0, 83, 182, 0, 164, 60, 42, 18, 70, 182, 0, 150, 61, 27, 2, 160, 0, 35, 28]
abbrev dktX2_part_0 : List UInt8 := dkwX2_part_0 ++ dktX2_part_1
theorem dksX2_part_0 : cX2_part.data.toList.drop 0 = dktX2_part_0 := by decide +kernel
theorem dksX2_part_1 : cX2_part.data.toList.drop 22 = dktX2_part_1 := dk_seg dksX2_part_0 22 rfl rfl
theorem dksX2_part_2 : cX2_part.data.toList.drop 44 = dktX2_part_2 := dk_seg dksX2_part_1 22 rfl rfl
theorem dksX2_part_3 : cX2_part.data.toList.drop 68 = dktX2_part_3 := dk_seg dksX2_part_2 24 rfl rfl
theorem dksX2_part_4 : cX2_part.data.toList.drop 92 = dktX2_part_4 := dk_seg dksX2_part_3 24 rfl rfl
theorem dksX2_part_5 : cX2_part.data.toList.drop 115 = dktX2_part_5 := dk_seg dksX2_part_4 23 rfl rfl
theorem dksX2_part_6 : cX2_part.data.toList.drop 137 = dktX2_part_6 := dk_seg dksX2_part_5 22 rfl rfl
theorem dksX2_part_7 : cX2_part.data.toList.drop 159 = dktX2_part_7 := dk_seg dksX2_part_6 22 rfl rfl
theorem dksX2_part_8 : cX2_part.data.toList.drop 183 = dktX2_part_8 := dk_seg dksX2_part_7 24 rfl rfl
theorem dX2_part_0 : decode cX2_part 0 = .ok (.aload_n 0, 1) := dk_42 (dk_at dksX2_part_0 0 rfl rfl)
theorem dX2_part_1 : decode cX2_part 1 = .ok (.aload_n 0, 1) := dk_42 (dk_at dksX2_part_0 1 rfl rfl)
theorem dX2_part_2 : decode cX2_part 2 = .ok (.getfield 83, 3) := dk_180 0 83 (dk_at dksX2_part_0 2 rfl rfl)
theorem dX2_part_5 : decode cX2_part 5 = .ok (.invokevirtual 164, 3) := dk_182 0 164 (dk_at dksX2_part_0 5 rfl rfl)
theorem dX2_part_8 : decode cX2_part 8 = .ok (.istore_n 1, 1) := dk_60 (dk_at dksX2_part_0 8 rfl rfl)
theorem dX2_part_9 : decode cX2_part 9 = .ok (.aload_n 0, 1) := dk_42 (dk_at dksX2_part_0 9 rfl rfl)
theorem dX2_part_10 : decode cX2_part 10 = .ok (.ldc 70, 2) := dk_18 70 (dk_at dksX2_part_0 10 rfl rfl)
theorem dX2_part_12 : decode cX2_part 12 = .ok (.invokevirtual 150, 3) := dk_182 0 150 (dk_at dksX2_part_0 12 rfl rfl)
theorem dX2_part_15 : decode cX2_part 15 = .ok (.istore_n 2, 1) := dk_61 (dk_at dksX2_part_0 15 rfl rfl)
theorem dX2_part_16 : decode cX2_part 16 = .ok (.iload_n 1, 1) := dk_27 (dk_at dksX2_part_0 16 rfl rfl)
theorem dX2_part_17 : decode cX2_part 17 = .ok (.iconst (-1), 1) := dk_2 (dk_at dksX2_part_0 17 rfl rfl)
theorem dX2_part_18 : decode cX2_part 18 = .ok (.if_icmp .ne 35, 3) := dk_160 0 35 (dk_at dksX2_part_0 18 rfl rfl)
theorem dX2_part_21 : decode cX2_part 21 = .ok (.iload_n 2, 1) := dk_28 (dk_at dksX2_part_0 21 rfl rfl)
theorem dX2_part_22 : decode cX2_part 22 = .ok (.ifCond .ne 31, 3) := dk_154 0 31 (dk_at dksX2_part_1 0 rfl rfl)
theorem dX2_part_25 : decode cX2_part 25 = .ok (.aload_n 0, 1) := dk_42 (dk_at dksX2_part_1 3 rfl rfl)
theorem dX2_part_26 : decode cX2_part 26 = .ok (.getfield 90, 3) := dk_180 0 90 (dk_at dksX2_part_1 4 rfl rfl)
theorem dX2_part_29 : decode cX2_part 29 = .ok (.aload_n 0, 1) := dk_42 (dk_at dksX2_part_1 7 rfl rfl)
theorem dX2_part_30 : decode cX2_part 30 = .ok (.getfield 139, 3) := dk_180 0 139 (dk_at dksX2_part_1 8 rfl rfl)
theorem dX2_part_33 : decode cX2_part 33 = .ok (.iaload, 1) := dk_46 (dk_at dksX2_part_1 11 rfl rfl)
theorem dX2_part_34 : decode cX2_part 34 = .ok (.iconst 2, 1) := dk_5 (dk_at dksX2_part_1 12 rfl rfl)
theorem dX2_part_35 : decode cX2_part 35 = .ok (.if_icmp .eq 18, 3) := dk_159 0 18 (dk_at dksX2_part_1 13 rfl rfl)
theorem dX2_part_38 : decode cX2_part 38 = .ok (.aload_n 0, 1) := dk_42 (dk_at dksX2_part_1 16 rfl rfl)
theorem dX2_part_39 : decode cX2_part 39 = .ok (.bipush 40, 2) := dk_16 40 (dk_at dksX2_part_1 17 rfl rfl)
theorem dX2_part_41 : decode cX2_part 41 = .ok (.invokevirtual 154, 3) := dk_182 0 154 (dk_at dksX2_part_1 19 rfl rfl)
theorem dX2_part_44 : decode cX2_part 44 = .ok (.ifCond .ne 9, 3) := dk_154 0 9 (dk_at dksX2_part_2 0 rfl rfl)
theorem dX2_part_47 : decode cX2_part 47 = .ok (.aload_n 0, 1) := dk_42 (dk_at dksX2_part_2 3 rfl rfl)
theorem dX2_part_48 : decode cX2_part 48 = .ok (.iconst 1, 1) := dk_4 (dk_at dksX2_part_2 4 rfl rfl)
theorem dX2_part_49 : decode cX2_part 49 = .ok (.invokevirtual 160, 3) := dk_182 0 160 (dk_at dksX2_part_2 5 rfl rfl)
theorem dX2_part_52 : decode cX2_part 52 = .ok (.athrow, 1) := dk_191 (dk_at dksX2_part_2 8 rfl rfl)
theorem dX2_part_53 : decode cX2_part 53 = .ok (.aload_n 0, 1) := dk_42 (dk_at dksX2_part_2 9 rfl rfl)
theorem dX2_part_54 : decode cX2_part 54 = .ok (.getfield 268, 3) := dk_180 1 12 (dk_at dksX2_part_2 10 rfl rfl)
theorem dX2_part_57 : decode cX2_part 57 = .ok (.iconst 5, 1) := dk_8 (dk_at dksX2_part_2 13 rfl rfl)
theorem dX2_part_58 : decode cX2_part 58 = .ok (.if_icmp .ne 9, 3) := dk_160 0 9 (dk_at dksX2_part_2 14 rfl rfl)
theorem dX2_part_61 : decode cX2_part 61 = .ok (.aload_n 0, 1) := dk_42 (dk_at dksX2_part_2 17 rfl rfl)
theorem dX2_part_62 : decode cX2_part 62 = .ok (.iconst 5, 1) := dk_8 (dk_at dksX2_part_2 18 rfl rfl)
theorem dX2_part_63 : decode cX2_part 63 = .ok (.invokevirtual 160, 3) := dk_182 0 160 (dk_at dksX2_part_2 19 rfl rfl)
theorem dX2_part_66 : decode cX2_part 66 = .ok (.athrow, 1) := dk_191 (dk_at dksX2_part_2 22 rfl rfl)
theorem dX2_part_67 : decode cX2_part 67 = .ok (.aload_n 0, 1) := dk_42 (dk_at dksX2_part_2 23 rfl rfl)
theorem dX2_part_68 : decode cX2_part 68 = .ok (.dup, 1) := dk_89 (dk_at dksX2_part_3 0 rfl rfl)
theorem dX2_part_69 : decode cX2_part 69 = .ok (.getfield 139, 3) := dk_180 0 139 (dk_at dksX2_part_3 1 rfl rfl)
theorem dX2_part_72 : decode cX2_part 72 = .ok (.iconst 1, 1) := dk_4 (dk_at dksX2_part_3 4 rfl rfl)
theorem dX2_part_73 : decode cX2_part 73 = .ok (.iadd, 1) := dk_96 (dk_at dksX2_part_3 5 rfl rfl)
theorem dX2_part_74 : decode cX2_part 74 = .ok (.putfield 139, 3) := dk_181 0 139 (dk_at dksX2_part_3 6 rfl rfl)
theorem dX2_part_77 : decode cX2_part 77 = .ok (.iload_n 1, 1) := dk_27 (dk_at dksX2_part_3 9 rfl rfl)
theorem dX2_part_78 : decode cX2_part 78 = .ok (.iconst (-1), 1) := dk_2 (dk_at dksX2_part_3 10 rfl rfl)
theorem dX2_part_79 : decode cX2_part 79 = .ok (.if_icmp .eq 12, 3) := dk_159 0 12 (dk_at dksX2_part_3 11 rfl rfl)
theorem dX2_part_82 : decode cX2_part 82 = .ok (.new 319, 3) := dk_187 1 63 (dk_at dksX2_part_3 14 rfl rfl)
theorem dX2_part_85 : decode cX2_part 85 = .ok (.dup, 1) := dk_89 (dk_at dksX2_part_3 17 rfl rfl)
theorem dX2_part_86 : decode cX2_part 86 = .ok (.iload_n 1, 1) := dk_27 (dk_at dksX2_part_3 18 rfl rfl)
theorem dX2_part_87 : decode cX2_part 87 = .ok (.invokespecial 321, 3) := dk_183 1 65 (dk_at dksX2_part_3 19 rfl rfl)
theorem dX2_part_90 : decode cX2_part 90 = .ok (.areturn, 1) := dk_176 (dk_at dksX2_part_3 22 rfl rfl)
theorem dX2_part_91 : decode cX2_part 91 = .ok (.iload_n 2, 1) := dk_28 (dk_at dksX2_part_3 23 rfl rfl)
theorem dX2_part_92 : decode cX2_part 92 = .ok (.ifCond .ne 38, 3) := dk_154 0 38 (dk_at dksX2_part_4 0 rfl rfl)
theorem dX2_part_95 : decode cX2_part 95 = .ok (.aload_n 0, 1) := dk_42 (dk_at dksX2_part_4 3 rfl rfl)
theorem dX2_part_96 : decode cX2_part 96 = .ok (.getfield 90, 3) := dk_180 0 90 (dk_at dksX2_part_4 4 rfl rfl)
theorem dX2_part_99 : decode cX2_part 99 = .ok (.aload_n 0, 1) := dk_42 (dk_at dksX2_part_4 7 rfl rfl)
theorem dX2_part_100 : decode cX2_part 100 = .ok (.getfield 139, 3) := dk_180 0 139 (dk_at dksX2_part_4 8 rfl rfl)
theorem dX2_part_103 : decode cX2_part 103 = .ok (.iconst 1, 1) := dk_4 (dk_at dksX2_part_4 11 rfl rfl)
theorem dX2_part_104 : decode cX2_part 104 = .ok (.isub, 1) := dk_100 (dk_at dksX2_part_4 12 rfl rfl)
theorem dX2_part_105 : decode cX2_part 105 = .ok (.iaload, 1) := dk_46 (dk_at dksX2_part_4 13 rfl rfl)
theorem dX2_part_106 : decode cX2_part 106 = .ok (.iconst 2, 1) := dk_5 (dk_at dksX2_part_4 14 rfl rfl)
theorem dX2_part_107 : decode cX2_part 107 = .ok (.if_icmp .ne 23, 3) := dk_160 0 23 (dk_at dksX2_part_4 15 rfl rfl)
theorem dX2_part_110 : decode cX2_part 110 = .ok (.new 322, 3) := dk_187 1 66 (dk_at dksX2_part_4 18 rfl rfl)
theorem dX2_part_113 : decode cX2_part 113 = .ok (.dup, 1) := dk_89 (dk_at dksX2_part_4 21 rfl rfl)
theorem dX2_part_114 : decode cX2_part 114 = .ok (.aload_n 0, 1) := dk_42 (dk_at dksX2_part_4 22 rfl rfl)
theorem dX2_part_115 : decode cX2_part 115 = .ok (.getfield 93, 3) := dk_180 0 93 (dk_at dksX2_part_5 0 rfl rfl)
theorem dX2_part_118 : decode cX2_part 118 = .ok (.aload_n 0, 1) := dk_42 (dk_at dksX2_part_5 3 rfl rfl)
theorem dX2_part_119 : decode cX2_part 119 = .ok (.getfield 139, 3) := dk_180 0 139 (dk_at dksX2_part_5 4 rfl rfl)
theorem dX2_part_122 : decode cX2_part 122 = .ok (.iconst 1, 1) := dk_4 (dk_at dksX2_part_5 7 rfl rfl)
theorem dX2_part_123 : decode cX2_part 123 = .ok (.isub, 1) := dk_100 (dk_at dksX2_part_5 8 rfl rfl)
theorem dX2_part_124 : decode cX2_part 124 = .ok (.laload, 1) := dk_47 (dk_at dksX2_part_5 9 rfl rfl)
theorem dX2_part_125 : decode cX2_part 125 = .ok (.l2i, 1) := dk_136 (dk_at dksX2_part_5 10 rfl rfl)
theorem dX2_part_126 : decode cX2_part 126 = .ok (.invokespecial 324, 3) := dk_183 1 68 (dk_at dksX2_part_5 11 rfl rfl)
theorem dX2_part_129 : decode cX2_part 129 = .ok (.areturn, 1) := dk_176 (dk_at dksX2_part_5 14 rfl rfl)
theorem dX2_part_130 : decode cX2_part 130 = .ok (.aload_n 0, 1) := dk_42 (dk_at dksX2_part_5 15 rfl rfl)
theorem dX2_part_131 : decode cX2_part 131 = .ok (.dup, 1) := dk_89 (dk_at dksX2_part_5 16 rfl rfl)
theorem dX2_part_132 : decode cX2_part 132 = .ok (.getfield 268, 3) := dk_180 1 12 (dk_at dksX2_part_5 17 rfl rfl)
theorem dX2_part_135 : decode cX2_part 135 = .ok (.iconst 1, 1) := dk_4 (dk_at dksX2_part_5 20 rfl rfl)
theorem dX2_part_136 : decode cX2_part 136 = .ok (.iadd, 1) := dk_96 (dk_at dksX2_part_5 21 rfl rfl)
theorem dX2_part_137 : decode cX2_part 137 = .ok (.putfield 268, 3) := dk_181 1 12 (dk_at dksX2_part_6 0 rfl rfl)
theorem dX2_part_140 : decode cX2_part 140 = .ok (.iload_n 2, 1) := dk_28 (dk_at dksX2_part_6 3 rfl rfl)
theorem dX2_part_141 : decode cX2_part 141 = .ok (.ifCond .eq 17, 3) := dk_153 0 17 (dk_at dksX2_part_6 4 rfl rfl)
theorem dX2_part_144 : decode cX2_part 144 = .ok (.new 325, 3) := dk_187 1 69 (dk_at dksX2_part_6 7 rfl rfl)
theorem dX2_part_147 : decode cX2_part 147 = .ok (.dup, 1) := dk_89 (dk_at dksX2_part_6 10 rfl rfl)
theorem dX2_part_148 : decode cX2_part 148 = .ok (.aload_n 0, 1) := dk_42 (dk_at dksX2_part_6 11 rfl rfl)
theorem dX2_part_149 : decode cX2_part 149 = .ok (.invokevirtual 313, 3) := dk_182 1 57 (dk_at dksX2_part_6 12 rfl rfl)
theorem dX2_part_152 : decode cX2_part 152 = .ok (.invokespecial 327, 3) := dk_183 1 71 (dk_at dksX2_part_6 15 rfl rfl)
theorem dX2_part_155 : decode cX2_part 155 = .ok (.goto 7, 3) := dk_167 0 7 (dk_at dksX2_part_6 18 rfl rfl)
theorem dX2_part_158 : decode cX2_part 158 = .ok (.aload_n 0, 1) := dk_42 (dk_at dksX2_part_6 21 rfl rfl)
theorem dX2_part_159 : decode cX2_part 159 = .ok (.invokevirtual 271, 3) := dk_182 1 15 (dk_at dksX2_part_7 0 rfl rfl)
theorem dX2_part_162 : decode cX2_part 162 = .ok (.astore_n 3, 1) := dk_78 (dk_at dksX2_part_7 3 rfl rfl)
theorem dX2_part_163 : decode cX2_part 163 = .ok (.iload_n 2, 1) := dk_28 (dk_at dksX2_part_7 4 rfl rfl)
theorem dX2_part_164 : decode cX2_part 164 = .ok (.ifCond .ne 9, 3) := dk_154 0 9 (dk_at dksX2_part_7 5 rfl rfl)
theorem dX2_part_167 : decode cX2_part 167 = .ok (.aload_n 0, 1) := dk_42 (dk_at dksX2_part_7 8 rfl rfl)
theorem dX2_part_168 : decode cX2_part 168 = .ok (.bipush 41, 2) := dk_16 41 (dk_at dksX2_part_7 9 rfl rfl)
theorem dX2_part_170 : decode cX2_part 170 = .ok (.invokevirtual 184, 3) := dk_182 0 184 (dk_at dksX2_part_7 11 rfl rfl)
theorem dX2_part_173 : decode cX2_part 173 = .ok (.aload_n 0, 1) := dk_42 (dk_at dksX2_part_7 14 rfl rfl)
theorem dX2_part_174 : decode cX2_part 174 = .ok (.dup, 1) := dk_89 (dk_at dksX2_part_7 15 rfl rfl)
theorem dX2_part_175 : decode cX2_part 175 = .ok (.getfield 268, 3) := dk_180 1 12 (dk_at dksX2_part_7 16 rfl rfl)
theorem dX2_part_178 : decode cX2_part 178 = .ok (.iconst 1, 1) := dk_4 (dk_at dksX2_part_7 19 rfl rfl)
theorem dX2_part_179 : decode cX2_part 179 = .ok (.isub, 1) := dk_100 (dk_at dksX2_part_7 20 rfl rfl)
theorem dX2_part_180 : decode cX2_part 180 = .ok (.putfield 268, 3) := dk_181 1 12 (dk_at dksX2_part_7 21 rfl rfl)
theorem dX2_part_183 : decode cX2_part 183 = .ok (.aload_n 3, 1) := dk_45 (dk_at dksX2_part_8 0 rfl rfl)
theorem dX2_part_184 : decode cX2_part 184 = .ok (.areturn, 1) := dk_176 (dk_at dksX2_part_8 1 rfl rfl)
abbrev cX2_isSign : ByteArray := prog_19_method_11_code
def yX2_isSign : MethodName := ⟨RX2, "isSign", "(I)Z"⟩
def dkwX2_isSign_1 : List UInt8 := [148, 154, 0, 7, 4, 167, 0, 4, 3, 172]
abbrev dktX2_isSign_1 : List UInt8 := dkwX2_isSign_1 ++ []
def dkwX2_isSign_0 : List UInt8 := [42, 180, 0, 90, 42, 180, 0, 139, 46, 6, 160, 0, 22, 42, 180, 0, 93, 42, 180, 0, 139, 47, 27, 133]
abbrev dktX2_isSign_0 : List UInt8 := dkwX2_isSign_0 ++ dktX2_isSign_1
theorem dksX2_isSign_0 : cX2_isSign.data.toList.drop 0 = dktX2_isSign_0 := by decide +kernel
theorem dksX2_isSign_1 : cX2_isSign.data.toList.drop 24 = dktX2_isSign_1 := dk_seg dksX2_isSign_0 24 rfl rfl
theorem dX2_isSign_0 : decode cX2_isSign 0 = .ok (.aload_n 0, 1) := dk_42 (dk_at dksX2_isSign_0 0 rfl rfl)
theorem dX2_isSign_1 : decode cX2_isSign 1 = .ok (.getfield 90, 3) := dk_180 0 90 (dk_at dksX2_isSign_0 1 rfl rfl)
theorem dX2_isSign_4 : decode cX2_isSign 4 = .ok (.aload_n 0, 1) := dk_42 (dk_at dksX2_isSign_0 4 rfl rfl)
theorem dX2_isSign_5 : decode cX2_isSign 5 = .ok (.getfield 139, 3) := dk_180 0 139 (dk_at dksX2_isSign_0 5 rfl rfl)
theorem dX2_isSign_8 : decode cX2_isSign 8 = .ok (.iaload, 1) := dk_46 (dk_at dksX2_isSign_0 8 rfl rfl)
theorem dX2_isSign_9 : decode cX2_isSign 9 = .ok (.iconst 3, 1) := dk_6 (dk_at dksX2_isSign_0 9 rfl rfl)
theorem dX2_isSign_10 : decode cX2_isSign 10 = .ok (.if_icmp .ne 22, 3) := dk_160 0 22 (dk_at dksX2_isSign_0 10 rfl rfl)
theorem dX2_isSign_13 : decode cX2_isSign 13 = .ok (.aload_n 0, 1) := dk_42 (dk_at dksX2_isSign_0 13 rfl rfl)
theorem dX2_isSign_14 : decode cX2_isSign 14 = .ok (.getfield 93, 3) := dk_180 0 93 (dk_at dksX2_isSign_0 14 rfl rfl)
theorem dX2_isSign_17 : decode cX2_isSign 17 = .ok (.aload_n 0, 1) := dk_42 (dk_at dksX2_isSign_0 17 rfl rfl)
theorem dX2_isSign_18 : decode cX2_isSign 18 = .ok (.getfield 139, 3) := dk_180 0 139 (dk_at dksX2_isSign_0 18 rfl rfl)
theorem dX2_isSign_21 : decode cX2_isSign 21 = .ok (.laload, 1) := dk_47 (dk_at dksX2_isSign_0 21 rfl rfl)
theorem dX2_isSign_22 : decode cX2_isSign 22 = .ok (.iload_n 1, 1) := dk_27 (dk_at dksX2_isSign_0 22 rfl rfl)
theorem dX2_isSign_23 : decode cX2_isSign 23 = .ok (.i2l, 1) := dk_133 (dk_at dksX2_isSign_0 23 rfl rfl)
theorem dX2_isSign_24 : decode cX2_isSign 24 = .ok (.lcmp, 1) := dk_148 (dk_at dksX2_isSign_1 0 rfl rfl)
theorem dX2_isSign_25 : decode cX2_isSign 25 = .ok (.ifCond .ne 7, 3) := dk_154 0 7 (dk_at dksX2_isSign_1 1 rfl rfl)
theorem dX2_isSign_28 : decode cX2_isSign 28 = .ok (.iconst 1, 1) := dk_4 (dk_at dksX2_isSign_1 4 rfl rfl)
theorem dX2_isSign_29 : decode cX2_isSign 29 = .ok (.goto 4, 3) := dk_167 0 4 (dk_at dksX2_isSign_1 5 rfl rfl)
theorem dX2_isSign_32 : decode cX2_isSign 32 = .ok (.iconst 0, 1) := dk_3 (dk_at dksX2_isSign_1 8 rfl rfl)
theorem dX2_isSign_33 : decode cX2_isSign 33 = .ok (.ireturn, 1) := dk_172 (dk_at dksX2_isSign_1 9 rfl rfl)
abbrev cX2_sign : ByteArray := prog_19_method_13_code
def yX2_sign : MethodName := ⟨RX2, "sign", "(I)V"⟩
def dkwX2_sign_0 : List UInt8 := [42, 27, 182, 0, 157, 154, 0, 9, 42, 4, 182, 0, 160, 191, 177]
abbrev dktX2_sign_0 : List UInt8 := dkwX2_sign_0 ++ []
theorem dksX2_sign_0 : cX2_sign.data.toList.drop 0 = dktX2_sign_0 := by decide +kernel
theorem dX2_sign_0 : decode cX2_sign 0 = .ok (.aload_n 0, 1) := dk_42 (dk_at dksX2_sign_0 0 rfl rfl)
theorem dX2_sign_1 : decode cX2_sign 1 = .ok (.iload_n 1, 1) := dk_27 (dk_at dksX2_sign_0 1 rfl rfl)
theorem dX2_sign_2 : decode cX2_sign 2 = .ok (.invokevirtual 157, 3) := dk_182 0 157 (dk_at dksX2_sign_0 2 rfl rfl)
theorem dX2_sign_5 : decode cX2_sign 5 = .ok (.ifCond .ne 9, 3) := dk_154 0 9 (dk_at dksX2_sign_0 5 rfl rfl)
theorem dX2_sign_8 : decode cX2_sign 8 = .ok (.aload_n 0, 1) := dk_42 (dk_at dksX2_sign_0 8 rfl rfl)
theorem dX2_sign_9 : decode cX2_sign 9 = .ok (.iconst 1, 1) := dk_4 (dk_at dksX2_sign_0 9 rfl rfl)
theorem dX2_sign_10 : decode cX2_sign 10 = .ok (.invokevirtual 160, 3) := dk_182 0 160 (dk_at dksX2_sign_0 10 rfl rfl)
theorem dX2_sign_13 : decode cX2_sign 13 = .ok (.athrow, 1) := dk_191 (dk_at dksX2_sign_0 13 rfl rfl)
theorem dX2_sign_14 : decode cX2_sign 14 = .ok (.return_, 1) := dk_177 (dk_at dksX2_sign_0 14 rfl rfl)
abbrev cX2_hasSign : ByteArray := prog_19_method_12_code
def yX2_hasSign : MethodName := ⟨RX2, "hasSign", "(I)Z"⟩
def dkwX2_hasSign_0 : List UInt8 := [42, 27, 182, 0, 154, 61, 28, 153, 0, 13, 42, 89, 180, 0, 139, 4, 96, 181, 0, 139, 28, 172]
abbrev dktX2_hasSign_0 : List UInt8 := dkwX2_hasSign_0 ++ []
theorem dksX2_hasSign_0 : cX2_hasSign.data.toList.drop 0 = dktX2_hasSign_0 := by decide +kernel
theorem dX2_hasSign_0 : decode cX2_hasSign 0 = .ok (.aload_n 0, 1) := dk_42 (dk_at dksX2_hasSign_0 0 rfl rfl)
theorem dX2_hasSign_1 : decode cX2_hasSign 1 = .ok (.iload_n 1, 1) := dk_27 (dk_at dksX2_hasSign_0 1 rfl rfl)
theorem dX2_hasSign_2 : decode cX2_hasSign 2 = .ok (.invokevirtual 154, 3) := dk_182 0 154 (dk_at dksX2_hasSign_0 2 rfl rfl)
theorem dX2_hasSign_5 : decode cX2_hasSign 5 = .ok (.istore_n 2, 1) := dk_61 (dk_at dksX2_hasSign_0 5 rfl rfl)
theorem dX2_hasSign_6 : decode cX2_hasSign 6 = .ok (.iload_n 2, 1) := dk_28 (dk_at dksX2_hasSign_0 6 rfl rfl)
theorem dX2_hasSign_7 : decode cX2_hasSign 7 = .ok (.ifCond .eq 13, 3) := dk_153 0 13 (dk_at dksX2_hasSign_0 7 rfl rfl)
theorem dX2_hasSign_10 : decode cX2_hasSign 10 = .ok (.aload_n 0, 1) := dk_42 (dk_at dksX2_hasSign_0 10 rfl rfl)
theorem dX2_hasSign_11 : decode cX2_hasSign 11 = .ok (.dup, 1) := dk_89 (dk_at dksX2_hasSign_0 11 rfl rfl)
theorem dX2_hasSign_12 : decode cX2_hasSign 12 = .ok (.getfield 139, 3) := dk_180 0 139 (dk_at dksX2_hasSign_0 12 rfl rfl)
theorem dX2_hasSign_15 : decode cX2_hasSign 15 = .ok (.iconst 1, 1) := dk_4 (dk_at dksX2_hasSign_0 15 rfl rfl)
theorem dX2_hasSign_16 : decode cX2_hasSign 16 = .ok (.iadd, 1) := dk_96 (dk_at dksX2_hasSign_0 16 rfl rfl)
theorem dX2_hasSign_17 : decode cX2_hasSign 17 = .ok (.putfield 139, 3) := dk_181 0 139 (dk_at dksX2_hasSign_0 17 rfl rfl)
theorem dX2_hasSign_20 : decode cX2_hasSign 20 = .ok (.iload_n 2, 1) := dk_28 (dk_at dksX2_hasSign_0 20 rfl rfl)
theorem dX2_hasSign_21 : decode cX2_hasSign 21 = .ok (.ireturn, 1) := dk_172 (dk_at dksX2_hasSign_0 21 rfl rfl)
abbrev cX2_chain : ByteArray := prog_19_method_24_code
def yX2_chain : MethodName := ⟨RX2, "chain", "(LFogNets$Expression;LFogNets$Chain;)LFogNets$Chain;"⟩
def dkwX2_chain_0 : List UInt8 := [43, 199, 0, 14, 187, 1, 18, 89, 42, 183, 1, 20, 167, 0, 4, 43, 176]
abbrev dktX2_chain_0 : List UInt8 := dkwX2_chain_0 ++ []
theorem dksX2_chain_0 : cX2_chain.data.toList.drop 0 = dktX2_chain_0 := by decide +kernel
theorem dX2_chain_0 : decode cX2_chain 0 = .ok (.aload_n 1, 1) := dk_43 (dk_at dksX2_chain_0 0 rfl rfl)
theorem dX2_chain_1 : decode cX2_chain 1 = .ok (.ifnonnull 14, 3) := dk_199 0 14 (dk_at dksX2_chain_0 1 rfl rfl)
theorem dX2_chain_4 : decode cX2_chain 4 = .ok (.new 274, 3) := dk_187 1 18 (dk_at dksX2_chain_0 4 rfl rfl)
theorem dX2_chain_7 : decode cX2_chain 7 = .ok (.dup, 1) := dk_89 (dk_at dksX2_chain_0 7 rfl rfl)
theorem dX2_chain_8 : decode cX2_chain 8 = .ok (.aload_n 0, 1) := dk_42 (dk_at dksX2_chain_0 8 rfl rfl)
theorem dX2_chain_9 : decode cX2_chain 9 = .ok (.invokespecial 276, 3) := dk_183 1 20 (dk_at dksX2_chain_0 9 rfl rfl)
theorem dX2_chain_12 : decode cX2_chain 12 = .ok (.goto 4, 3) := dk_167 0 4 (dk_at dksX2_chain_0 12 rfl rfl)
theorem dX2_chain_15 : decode cX2_chain 15 = .ok (.aload_n 1, 1) := dk_43 (dk_at dksX2_chain_0 15 rfl rfl)
theorem dX2_chain_16 : decode cX2_chain 16 = .ok (.areturn, 1) := dk_176 (dk_at dksX2_chain_0 16 rfl rfl)
abbrev cX2_village : ByteArray := prog_19_method_20_code
def yX2_village : MethodName := ⟨RX2, "village", "()V"⟩
def dkwX2_village_6 : List UInt8 := [184, 0, 250, 182, 1, 0, 87, 177]
abbrev dktX2_village_6 : List UInt8 := dkwX2_village_6 ++ []
def dkwX2_village_5 : List UInt8 := [180, 0, 248, 27, 42, 18, 62, 3, 17, 39, 15, 182, 0, 245, 79, 42, 180, 0, 174, 180, 0, 230, 32]
abbrev dktX2_village_5 : List UInt8 := dkwX2_village_5 ++ dktX2_village_6
def dkwX2_village_4 : List UInt8 := [180, 0, 174, 180, 0, 243, 27, 42, 18, 60, 3, 17, 3, 231, 182, 0, 245, 79, 42, 180, 0, 174]
abbrev dktX2_village_4 : List UInt8 := dkwX2_village_4 ++ dktX2_village_5
def dkwX2_village_3 : List UInt8 := [191, 42, 180, 0, 93, 42, 180, 0, 139, 47, 65, 42, 89, 180, 0, 139, 4, 96, 181, 0, 139, 42]
abbrev dktX2_village_3 : List UInt8 := dkwX2_village_3 ++ dktX2_village_4
def dkwX2_village_2 : List UInt8 := [180, 0, 174, 42, 180, 0, 93, 42, 180, 0, 139, 47, 182, 0, 239, 2, 159, 0, 9, 42, 6, 182, 0, 160]
abbrev dktX2_village_2 : List UInt8 := dkwX2_village_2 ++ dktX2_village_3
def dkwX2_village_1 : List UInt8 := [89, 180, 0, 139, 4, 96, 181, 0, 139, 42, 182, 0, 236, 154, 0, 9, 42, 4, 182, 0, 160, 191, 42]
abbrev dktX2_village_1 : List UInt8 := dkwX2_village_1 ++ dktX2_village_2
def dkwX2_village_0 : List UInt8 := [42, 180, 0, 174, 180, 0, 230, 182, 0, 233, 60, 27, 16, 6, 160, 0, 9, 42, 8, 182, 0, 160, 191, 42]
abbrev dktX2_village_0 : List UInt8 := dkwX2_village_0 ++ dktX2_village_1
theorem dksX2_village_0 : cX2_village.data.toList.drop 0 = dktX2_village_0 := by decide +kernel
theorem dksX2_village_1 : cX2_village.data.toList.drop 24 = dktX2_village_1 := dk_seg dksX2_village_0 24 rfl rfl
theorem dksX2_village_2 : cX2_village.data.toList.drop 47 = dktX2_village_2 := dk_seg dksX2_village_1 23 rfl rfl
theorem dksX2_village_3 : cX2_village.data.toList.drop 71 = dktX2_village_3 := dk_seg dksX2_village_2 24 rfl rfl
theorem dksX2_village_4 : cX2_village.data.toList.drop 93 = dktX2_village_4 := dk_seg dksX2_village_3 22 rfl rfl
theorem dksX2_village_5 : cX2_village.data.toList.drop 115 = dktX2_village_5 := dk_seg dksX2_village_4 22 rfl rfl
theorem dksX2_village_6 : cX2_village.data.toList.drop 138 = dktX2_village_6 := dk_seg dksX2_village_5 23 rfl rfl
theorem dX2_village_0 : decode cX2_village 0 = .ok (.aload_n 0, 1) := dk_42 (dk_at dksX2_village_0 0 rfl rfl)
theorem dX2_village_1 : decode cX2_village 1 = .ok (.getfield 174, 3) := dk_180 0 174 (dk_at dksX2_village_0 1 rfl rfl)
theorem dX2_village_4 : decode cX2_village 4 = .ok (.getfield 230, 3) := dk_180 0 230 (dk_at dksX2_village_0 4 rfl rfl)
theorem dX2_village_7 : decode cX2_village 7 = .ok (.invokevirtual 233, 3) := dk_182 0 233 (dk_at dksX2_village_0 7 rfl rfl)
theorem dX2_village_10 : decode cX2_village 10 = .ok (.istore_n 1, 1) := dk_60 (dk_at dksX2_village_0 10 rfl rfl)
theorem dX2_village_11 : decode cX2_village 11 = .ok (.iload_n 1, 1) := dk_27 (dk_at dksX2_village_0 11 rfl rfl)
theorem dX2_village_12 : decode cX2_village 12 = .ok (.bipush 6, 2) := dk_16 6 (dk_at dksX2_village_0 12 rfl rfl)
theorem dX2_village_14 : decode cX2_village 14 = .ok (.if_icmp .ne 9, 3) := dk_160 0 9 (dk_at dksX2_village_0 14 rfl rfl)
theorem dX2_village_17 : decode cX2_village 17 = .ok (.aload_n 0, 1) := dk_42 (dk_at dksX2_village_0 17 rfl rfl)
theorem dX2_village_18 : decode cX2_village 18 = .ok (.iconst 5, 1) := dk_8 (dk_at dksX2_village_0 18 rfl rfl)
theorem dX2_village_19 : decode cX2_village 19 = .ok (.invokevirtual 160, 3) := dk_182 0 160 (dk_at dksX2_village_0 19 rfl rfl)
theorem dX2_village_22 : decode cX2_village 22 = .ok (.athrow, 1) := dk_191 (dk_at dksX2_village_0 22 rfl rfl)
theorem dX2_village_23 : decode cX2_village 23 = .ok (.aload_n 0, 1) := dk_42 (dk_at dksX2_village_0 23 rfl rfl)
theorem dX2_village_24 : decode cX2_village 24 = .ok (.dup, 1) := dk_89 (dk_at dksX2_village_1 0 rfl rfl)
theorem dX2_village_25 : decode cX2_village 25 = .ok (.getfield 139, 3) := dk_180 0 139 (dk_at dksX2_village_1 1 rfl rfl)
theorem dX2_village_28 : decode cX2_village 28 = .ok (.iconst 1, 1) := dk_4 (dk_at dksX2_village_1 4 rfl rfl)
theorem dX2_village_29 : decode cX2_village 29 = .ok (.iadd, 1) := dk_96 (dk_at dksX2_village_1 5 rfl rfl)
theorem dX2_village_30 : decode cX2_village 30 = .ok (.putfield 139, 3) := dk_181 0 139 (dk_at dksX2_village_1 6 rfl rfl)
theorem dX2_village_33 : decode cX2_village 33 = .ok (.aload_n 0, 1) := dk_42 (dk_at dksX2_village_1 9 rfl rfl)
theorem dX2_village_34 : decode cX2_village 34 = .ok (.invokevirtual 236, 3) := dk_182 0 236 (dk_at dksX2_village_1 10 rfl rfl)
theorem dX2_village_37 : decode cX2_village 37 = .ok (.ifCond .ne 9, 3) := dk_154 0 9 (dk_at dksX2_village_1 13 rfl rfl)
theorem dX2_village_40 : decode cX2_village 40 = .ok (.aload_n 0, 1) := dk_42 (dk_at dksX2_village_1 16 rfl rfl)
theorem dX2_village_41 : decode cX2_village 41 = .ok (.iconst 1, 1) := dk_4 (dk_at dksX2_village_1 17 rfl rfl)
theorem dX2_village_42 : decode cX2_village 42 = .ok (.invokevirtual 160, 3) := dk_182 0 160 (dk_at dksX2_village_1 18 rfl rfl)
theorem dX2_village_45 : decode cX2_village 45 = .ok (.athrow, 1) := dk_191 (dk_at dksX2_village_1 21 rfl rfl)
theorem dX2_village_46 : decode cX2_village 46 = .ok (.aload_n 0, 1) := dk_42 (dk_at dksX2_village_1 22 rfl rfl)
theorem dX2_village_47 : decode cX2_village 47 = .ok (.getfield 174, 3) := dk_180 0 174 (dk_at dksX2_village_2 0 rfl rfl)
theorem dX2_village_50 : decode cX2_village 50 = .ok (.aload_n 0, 1) := dk_42 (dk_at dksX2_village_2 3 rfl rfl)
theorem dX2_village_51 : decode cX2_village 51 = .ok (.getfield 93, 3) := dk_180 0 93 (dk_at dksX2_village_2 4 rfl rfl)
theorem dX2_village_54 : decode cX2_village 54 = .ok (.aload_n 0, 1) := dk_42 (dk_at dksX2_village_2 7 rfl rfl)
theorem dX2_village_55 : decode cX2_village 55 = .ok (.getfield 139, 3) := dk_180 0 139 (dk_at dksX2_village_2 8 rfl rfl)
theorem dX2_village_58 : decode cX2_village 58 = .ok (.laload, 1) := dk_47 (dk_at dksX2_village_2 11 rfl rfl)
theorem dX2_village_59 : decode cX2_village 59 = .ok (.invokevirtual 239, 3) := dk_182 0 239 (dk_at dksX2_village_2 12 rfl rfl)
theorem dX2_village_62 : decode cX2_village 62 = .ok (.iconst (-1), 1) := dk_2 (dk_at dksX2_village_2 15 rfl rfl)
theorem dX2_village_63 : decode cX2_village 63 = .ok (.if_icmp .eq 9, 3) := dk_159 0 9 (dk_at dksX2_village_2 16 rfl rfl)
theorem dX2_village_66 : decode cX2_village 66 = .ok (.aload_n 0, 1) := dk_42 (dk_at dksX2_village_2 19 rfl rfl)
theorem dX2_village_67 : decode cX2_village 67 = .ok (.iconst 3, 1) := dk_6 (dk_at dksX2_village_2 20 rfl rfl)
theorem dX2_village_68 : decode cX2_village 68 = .ok (.invokevirtual 160, 3) := dk_182 0 160 (dk_at dksX2_village_2 21 rfl rfl)
theorem dX2_village_71 : decode cX2_village 71 = .ok (.athrow, 1) := dk_191 (dk_at dksX2_village_3 0 rfl rfl)
theorem dX2_village_72 : decode cX2_village 72 = .ok (.aload_n 0, 1) := dk_42 (dk_at dksX2_village_3 1 rfl rfl)
theorem dX2_village_73 : decode cX2_village 73 = .ok (.getfield 93, 3) := dk_180 0 93 (dk_at dksX2_village_3 2 rfl rfl)
theorem dX2_village_76 : decode cX2_village 76 = .ok (.aload_n 0, 1) := dk_42 (dk_at dksX2_village_3 5 rfl rfl)
theorem dX2_village_77 : decode cX2_village 77 = .ok (.getfield 139, 3) := dk_180 0 139 (dk_at dksX2_village_3 6 rfl rfl)
theorem dX2_village_80 : decode cX2_village 80 = .ok (.laload, 1) := dk_47 (dk_at dksX2_village_3 9 rfl rfl)
theorem dX2_village_81 : decode cX2_village 81 = .ok (.lstore_n 2, 1) := dk_65 (dk_at dksX2_village_3 10 rfl rfl)
theorem dX2_village_82 : decode cX2_village 82 = .ok (.aload_n 0, 1) := dk_42 (dk_at dksX2_village_3 11 rfl rfl)
theorem dX2_village_83 : decode cX2_village 83 = .ok (.dup, 1) := dk_89 (dk_at dksX2_village_3 12 rfl rfl)
theorem dX2_village_84 : decode cX2_village 84 = .ok (.getfield 139, 3) := dk_180 0 139 (dk_at dksX2_village_3 13 rfl rfl)
theorem dX2_village_87 : decode cX2_village 87 = .ok (.iconst 1, 1) := dk_4 (dk_at dksX2_village_3 16 rfl rfl)
theorem dX2_village_88 : decode cX2_village 88 = .ok (.iadd, 1) := dk_96 (dk_at dksX2_village_3 17 rfl rfl)
theorem dX2_village_89 : decode cX2_village 89 = .ok (.putfield 139, 3) := dk_181 0 139 (dk_at dksX2_village_3 18 rfl rfl)
theorem dX2_village_92 : decode cX2_village 92 = .ok (.aload_n 0, 1) := dk_42 (dk_at dksX2_village_3 21 rfl rfl)
theorem dX2_village_93 : decode cX2_village 93 = .ok (.getfield 174, 3) := dk_180 0 174 (dk_at dksX2_village_4 0 rfl rfl)
theorem dX2_village_96 : decode cX2_village 96 = .ok (.getfield 243, 3) := dk_180 0 243 (dk_at dksX2_village_4 3 rfl rfl)
theorem dX2_village_99 : decode cX2_village 99 = .ok (.iload_n 1, 1) := dk_27 (dk_at dksX2_village_4 6 rfl rfl)
theorem dX2_village_100 : decode cX2_village 100 = .ok (.aload_n 0, 1) := dk_42 (dk_at dksX2_village_4 7 rfl rfl)
theorem dX2_village_101 : decode cX2_village 101 = .ok (.ldc 60, 2) := dk_18 60 (dk_at dksX2_village_4 8 rfl rfl)
theorem dX2_village_103 : decode cX2_village 103 = .ok (.iconst 0, 1) := dk_3 (dk_at dksX2_village_4 10 rfl rfl)
theorem dX2_village_104 : decode cX2_village 104 = .ok (.sipush 999, 3) := dk_17 3 231 (dk_at dksX2_village_4 11 rfl rfl)
theorem dX2_village_107 : decode cX2_village 107 = .ok (.invokevirtual 245, 3) := dk_182 0 245 (dk_at dksX2_village_4 14 rfl rfl)
theorem dX2_village_110 : decode cX2_village 110 = .ok (.iastore, 1) := dk_79 (dk_at dksX2_village_4 17 rfl rfl)
theorem dX2_village_111 : decode cX2_village 111 = .ok (.aload_n 0, 1) := dk_42 (dk_at dksX2_village_4 18 rfl rfl)
theorem dX2_village_112 : decode cX2_village 112 = .ok (.getfield 174, 3) := dk_180 0 174 (dk_at dksX2_village_4 19 rfl rfl)
theorem dX2_village_115 : decode cX2_village 115 = .ok (.getfield 248, 3) := dk_180 0 248 (dk_at dksX2_village_5 0 rfl rfl)
theorem dX2_village_118 : decode cX2_village 118 = .ok (.iload_n 1, 1) := dk_27 (dk_at dksX2_village_5 3 rfl rfl)
theorem dX2_village_119 : decode cX2_village 119 = .ok (.aload_n 0, 1) := dk_42 (dk_at dksX2_village_5 4 rfl rfl)
theorem dX2_village_120 : decode cX2_village 120 = .ok (.ldc 62, 2) := dk_18 62 (dk_at dksX2_village_5 5 rfl rfl)
theorem dX2_village_122 : decode cX2_village 122 = .ok (.iconst 0, 1) := dk_3 (dk_at dksX2_village_5 7 rfl rfl)
theorem dX2_village_123 : decode cX2_village 123 = .ok (.sipush 9999, 3) := dk_17 39 15 (dk_at dksX2_village_5 8 rfl rfl)
theorem dX2_village_126 : decode cX2_village 126 = .ok (.invokevirtual 245, 3) := dk_182 0 245 (dk_at dksX2_village_5 11 rfl rfl)
theorem dX2_village_129 : decode cX2_village 129 = .ok (.iastore, 1) := dk_79 (dk_at dksX2_village_5 14 rfl rfl)
theorem dX2_village_130 : decode cX2_village 130 = .ok (.aload_n 0, 1) := dk_42 (dk_at dksX2_village_5 15 rfl rfl)
theorem dX2_village_131 : decode cX2_village 131 = .ok (.getfield 174, 3) := dk_180 0 174 (dk_at dksX2_village_5 16 rfl rfl)
theorem dX2_village_134 : decode cX2_village 134 = .ok (.getfield 230, 3) := dk_180 0 230 (dk_at dksX2_village_5 19 rfl rfl)
theorem dX2_village_137 : decode cX2_village 137 = .ok (.lload_n 2, 1) := dk_32 (dk_at dksX2_village_5 22 rfl rfl)
theorem dX2_village_138 : decode cX2_village 138 = .ok (.invokestatic 250, 3) := dk_184 0 250 (dk_at dksX2_village_6 0 rfl rfl)
theorem dX2_village_141 : decode cX2_village 141 = .ok (.invokevirtual 256, 3) := dk_182 1 0 (dk_at dksX2_village_6 3 rfl rfl)
theorem dX2_village_144 : decode cX2_village 144 = .ok (.pop, 1) := dk_87 (dk_at dksX2_village_6 6 rfl rfl)
theorem dX2_village_145 : decode cX2_village 145 = .ok (.return_, 1) := dk_177 (dk_at dksX2_village_6 7 rfl rfl)
abbrev cX2_isName : ByteArray := prog_19_method_15_code
def yX2_isName : MethodName := ⟨RX2, "isName", "()Z"⟩
def dkwX2_isName_2 : List UInt8 := [160, 0, 7, 4, 167, 0, 4, 3, 172]
abbrev dktX2_isName_2 : List UInt8 := dkwX2_isName_2 ++ []
def dkwX2_isName_1 : List UInt8 := [160, 0, 31, 42, 42, 180, 0, 76, 182, 0, 164, 2, 160, 0, 19, 42, 42, 180, 0, 40, 182, 0, 164, 2]
abbrev dktX2_isName_1 : List UInt8 := dkwX2_isName_1 ++ dktX2_isName_2
def dkwX2_isName_0 : List UInt8 := [42, 180, 0, 90, 42, 180, 0, 139, 46, 4, 160, 0, 43, 42, 42, 180, 0, 55, 182, 0, 164, 2]
abbrev dktX2_isName_0 : List UInt8 := dkwX2_isName_0 ++ dktX2_isName_1
theorem dksX2_isName_0 : cX2_isName.data.toList.drop 0 = dktX2_isName_0 := by decide +kernel
theorem dksX2_isName_1 : cX2_isName.data.toList.drop 22 = dktX2_isName_1 := dk_seg dksX2_isName_0 22 rfl rfl
theorem dksX2_isName_2 : cX2_isName.data.toList.drop 46 = dktX2_isName_2 := dk_seg dksX2_isName_1 24 rfl rfl
theorem dX2_isName_0 : decode cX2_isName 0 = .ok (.aload_n 0, 1) := dk_42 (dk_at dksX2_isName_0 0 rfl rfl)
theorem dX2_isName_1 : decode cX2_isName 1 = .ok (.getfield 90, 3) := dk_180 0 90 (dk_at dksX2_isName_0 1 rfl rfl)
theorem dX2_isName_4 : decode cX2_isName 4 = .ok (.aload_n 0, 1) := dk_42 (dk_at dksX2_isName_0 4 rfl rfl)
theorem dX2_isName_5 : decode cX2_isName 5 = .ok (.getfield 139, 3) := dk_180 0 139 (dk_at dksX2_isName_0 5 rfl rfl)
theorem dX2_isName_8 : decode cX2_isName 8 = .ok (.iaload, 1) := dk_46 (dk_at dksX2_isName_0 8 rfl rfl)
theorem dX2_isName_9 : decode cX2_isName 9 = .ok (.iconst 1, 1) := dk_4 (dk_at dksX2_isName_0 9 rfl rfl)
theorem dX2_isName_10 : decode cX2_isName 10 = .ok (.if_icmp .ne 43, 3) := dk_160 0 43 (dk_at dksX2_isName_0 10 rfl rfl)
theorem dX2_isName_13 : decode cX2_isName 13 = .ok (.aload_n 0, 1) := dk_42 (dk_at dksX2_isName_0 13 rfl rfl)
theorem dX2_isName_14 : decode cX2_isName 14 = .ok (.aload_n 0, 1) := dk_42 (dk_at dksX2_isName_0 14 rfl rfl)
theorem dX2_isName_15 : decode cX2_isName 15 = .ok (.getfield 55, 3) := dk_180 0 55 (dk_at dksX2_isName_0 15 rfl rfl)
theorem dX2_isName_18 : decode cX2_isName 18 = .ok (.invokevirtual 164, 3) := dk_182 0 164 (dk_at dksX2_isName_0 18 rfl rfl)
theorem dX2_isName_21 : decode cX2_isName 21 = .ok (.iconst (-1), 1) := dk_2 (dk_at dksX2_isName_0 21 rfl rfl)
theorem dX2_isName_22 : decode cX2_isName 22 = .ok (.if_icmp .ne 31, 3) := dk_160 0 31 (dk_at dksX2_isName_1 0 rfl rfl)
theorem dX2_isName_25 : decode cX2_isName 25 = .ok (.aload_n 0, 1) := dk_42 (dk_at dksX2_isName_1 3 rfl rfl)
theorem dX2_isName_26 : decode cX2_isName 26 = .ok (.aload_n 0, 1) := dk_42 (dk_at dksX2_isName_1 4 rfl rfl)
theorem dX2_isName_27 : decode cX2_isName 27 = .ok (.getfield 76, 3) := dk_180 0 76 (dk_at dksX2_isName_1 5 rfl rfl)
theorem dX2_isName_30 : decode cX2_isName 30 = .ok (.invokevirtual 164, 3) := dk_182 0 164 (dk_at dksX2_isName_1 8 rfl rfl)
theorem dX2_isName_33 : decode cX2_isName 33 = .ok (.iconst (-1), 1) := dk_2 (dk_at dksX2_isName_1 11 rfl rfl)
theorem dX2_isName_34 : decode cX2_isName 34 = .ok (.if_icmp .ne 19, 3) := dk_160 0 19 (dk_at dksX2_isName_1 12 rfl rfl)
theorem dX2_isName_37 : decode cX2_isName 37 = .ok (.aload_n 0, 1) := dk_42 (dk_at dksX2_isName_1 15 rfl rfl)
theorem dX2_isName_38 : decode cX2_isName 38 = .ok (.aload_n 0, 1) := dk_42 (dk_at dksX2_isName_1 16 rfl rfl)
theorem dX2_isName_39 : decode cX2_isName 39 = .ok (.getfield 40, 3) := dk_180 0 40 (dk_at dksX2_isName_1 17 rfl rfl)
theorem dX2_isName_42 : decode cX2_isName 42 = .ok (.invokevirtual 164, 3) := dk_182 0 164 (dk_at dksX2_isName_1 20 rfl rfl)
theorem dX2_isName_45 : decode cX2_isName 45 = .ok (.iconst (-1), 1) := dk_2 (dk_at dksX2_isName_1 23 rfl rfl)
theorem dX2_isName_46 : decode cX2_isName 46 = .ok (.if_icmp .ne 7, 3) := dk_160 0 7 (dk_at dksX2_isName_2 0 rfl rfl)
theorem dX2_isName_49 : decode cX2_isName 49 = .ok (.iconst 1, 1) := dk_4 (dk_at dksX2_isName_2 3 rfl rfl)
theorem dX2_isName_50 : decode cX2_isName 50 = .ok (.goto 4, 3) := dk_167 0 4 (dk_at dksX2_isName_2 4 rfl rfl)
theorem dX2_isName_53 : decode cX2_isName 53 = .ok (.iconst 0, 1) := dk_3 (dk_at dksX2_isName_2 7 rfl rfl)
theorem dX2_isName_54 : decode cX2_isName 54 = .ok (.ireturn, 1) := dk_172 (dk_at dksX2_isName_2 8 rfl rfl)
abbrev cX2_number_2 : ByteArray := prog_19_method_19_code
def yX2_number_2 : MethodName := ⟨RX2, "number", "(Ljava/lang/String;II)I"⟩
def dkwX2_number_2_0 : List UInt8 := [42, 43, 182, 0, 226, 42, 28, 29, 182, 0, 201, 172]
abbrev dktX2_number_2_0 : List UInt8 := dkwX2_number_2_0 ++ []
theorem dksX2_number_2_0 : cX2_number_2.data.toList.drop 0 = dktX2_number_2_0 := by decide +kernel
theorem dX2_number_2_0 : decode cX2_number_2 0 = .ok (.aload_n 0, 1) := dk_42 (dk_at dksX2_number_2_0 0 rfl rfl)
theorem dX2_number_2_1 : decode cX2_number_2 1 = .ok (.aload_n 1, 1) := dk_43 (dk_at dksX2_number_2_0 1 rfl rfl)
theorem dX2_number_2_2 : decode cX2_number_2 2 = .ok (.invokevirtual 226, 3) := dk_182 0 226 (dk_at dksX2_number_2_0 2 rfl rfl)
theorem dX2_number_2_5 : decode cX2_number_2 5 = .ok (.aload_n 0, 1) := dk_42 (dk_at dksX2_number_2_0 5 rfl rfl)
theorem dX2_number_2_6 : decode cX2_number_2 6 = .ok (.iload_n 2, 1) := dk_28 (dk_at dksX2_number_2_0 6 rfl rfl)
theorem dX2_number_2_7 : decode cX2_number_2 7 = .ok (.iload_n 3, 1) := dk_29 (dk_at dksX2_number_2_0 7 rfl rfl)
theorem dX2_number_2_8 : decode cX2_number_2 8 = .ok (.invokevirtual 201, 3) := dk_182 0 201 (dk_at dksX2_number_2_0 8 rfl rfl)
theorem dX2_number_2_11 : decode cX2_number_2 11 = .ok (.ireturn, 1) := dk_172 (dk_at dksX2_number_2_0 11 rfl rfl)
abbrev cX2_takeWord : ByteArray := prog_19_method_22_code
def yX2_takeWord : MethodName := ⟨RX2, "takeWord", "(Ljava/lang/String;)V"⟩
def dkwX2_takeWord_0 : List UInt8 := [42, 43, 182, 1, 9, 154, 0, 9, 42, 4, 182, 0, 160, 191, 177]
abbrev dktX2_takeWord_0 : List UInt8 := dkwX2_takeWord_0 ++ []
theorem dksX2_takeWord_0 : cX2_takeWord.data.toList.drop 0 = dktX2_takeWord_0 := by decide +kernel
theorem dX2_takeWord_0 : decode cX2_takeWord 0 = .ok (.aload_n 0, 1) := dk_42 (dk_at dksX2_takeWord_0 0 rfl rfl)
theorem dX2_takeWord_1 : decode cX2_takeWord 1 = .ok (.aload_n 1, 1) := dk_43 (dk_at dksX2_takeWord_0 1 rfl rfl)
theorem dX2_takeWord_2 : decode cX2_takeWord 2 = .ok (.invokevirtual 265, 3) := dk_182 1 9 (dk_at dksX2_takeWord_0 2 rfl rfl)
theorem dX2_takeWord_5 : decode cX2_takeWord 5 = .ok (.ifCond .ne 9, 3) := dk_154 0 9 (dk_at dksX2_takeWord_0 5 rfl rfl)
theorem dX2_takeWord_8 : decode cX2_takeWord 8 = .ok (.aload_n 0, 1) := dk_42 (dk_at dksX2_takeWord_0 8 rfl rfl)
theorem dX2_takeWord_9 : decode cX2_takeWord 9 = .ok (.iconst 1, 1) := dk_4 (dk_at dksX2_takeWord_0 9 rfl rfl)
theorem dX2_takeWord_10 : decode cX2_takeWord 10 = .ok (.invokevirtual 160, 3) := dk_182 0 160 (dk_at dksX2_takeWord_0 10 rfl rfl)
theorem dX2_takeWord_13 : decode cX2_takeWord 13 = .ok (.athrow, 1) := dk_191 (dk_at dksX2_takeWord_0 13 rfl rfl)
theorem dX2_takeWord_14 : decode cX2_takeWord 14 = .ok (.return_, 1) := dk_177 (dk_at dksX2_takeWord_0 14 rfl rfl)
abbrev cX2_hasWord : ByteArray := prog_19_method_9_code
def yX2_hasWord : MethodName := ⟨RX2, "hasWord", "(Ljava/lang/String;)Z"⟩
def dkwX2_hasWord_0 : List UInt8 := [42, 43, 182, 0, 150, 61, 28, 153, 0, 13, 42, 89, 180, 0, 139, 4, 96, 181, 0, 139, 28, 172]
abbrev dktX2_hasWord_0 : List UInt8 := dkwX2_hasWord_0 ++ []
theorem dksX2_hasWord_0 : cX2_hasWord.data.toList.drop 0 = dktX2_hasWord_0 := by decide +kernel
theorem dX2_hasWord_0 : decode cX2_hasWord 0 = .ok (.aload_n 0, 1) := dk_42 (dk_at dksX2_hasWord_0 0 rfl rfl)
theorem dX2_hasWord_1 : decode cX2_hasWord 1 = .ok (.aload_n 1, 1) := dk_43 (dk_at dksX2_hasWord_0 1 rfl rfl)
theorem dX2_hasWord_2 : decode cX2_hasWord 2 = .ok (.invokevirtual 150, 3) := dk_182 0 150 (dk_at dksX2_hasWord_0 2 rfl rfl)
theorem dX2_hasWord_5 : decode cX2_hasWord 5 = .ok (.istore_n 2, 1) := dk_61 (dk_at dksX2_hasWord_0 5 rfl rfl)
theorem dX2_hasWord_6 : decode cX2_hasWord 6 = .ok (.iload_n 2, 1) := dk_28 (dk_at dksX2_hasWord_0 6 rfl rfl)
theorem dX2_hasWord_7 : decode cX2_hasWord 7 = .ok (.ifCond .eq 13, 3) := dk_153 0 13 (dk_at dksX2_hasWord_0 7 rfl rfl)
theorem dX2_hasWord_10 : decode cX2_hasWord 10 = .ok (.aload_n 0, 1) := dk_42 (dk_at dksX2_hasWord_0 10 rfl rfl)
theorem dX2_hasWord_11 : decode cX2_hasWord 11 = .ok (.dup, 1) := dk_89 (dk_at dksX2_hasWord_0 11 rfl rfl)
theorem dX2_hasWord_12 : decode cX2_hasWord 12 = .ok (.getfield 139, 3) := dk_180 0 139 (dk_at dksX2_hasWord_0 12 rfl rfl)
theorem dX2_hasWord_15 : decode cX2_hasWord 15 = .ok (.iconst 1, 1) := dk_4 (dk_at dksX2_hasWord_0 15 rfl rfl)
theorem dX2_hasWord_16 : decode cX2_hasWord 16 = .ok (.iadd, 1) := dk_96 (dk_at dksX2_hasWord_0 16 rfl rfl)
theorem dX2_hasWord_17 : decode cX2_hasWord 17 = .ok (.putfield 139, 3) := dk_181 0 139 (dk_at dksX2_hasWord_0 17 rfl rfl)
theorem dX2_hasWord_20 : decode cX2_hasWord 20 = .ok (.iload_n 2, 1) := dk_28 (dk_at dksX2_hasWord_0 20 rfl rfl)
theorem dX2_hasWord_21 : decode cX2_hasWord 21 = .ok (.ireturn, 1) := dk_172 (dk_at dksX2_hasWord_0 21 rfl rfl)
abbrev cX2_net : ByteArray := prog_19_method_21_code
def yX2_net : MethodName := ⟨RX2, "net", "()V"⟩
def dkwX2_net_11 : List UInt8 := [180, 0, 191, 21, 5, 28, 21, 4, 184, 1, 6, 182, 1, 0, 87, 177]
abbrev dktX2_net_11 : List UInt8 := dkwX2_net_11 ++ []
def dkwX2_net_10 : List UInt8 := [160, 0, 9, 42, 4, 182, 0, 160, 191, 42, 89, 180, 0, 139, 4, 96, 181, 0, 139, 42, 180, 0, 174]
abbrev dktX2_net_10 : List UInt8 := dkwX2_net_10 ++ dktX2_net_11
def dkwX2_net_9 : List UInt8 := [42, 18, 68, 3, 16, 10, 182, 0, 245, 54, 4, 42, 42, 180, 0, 40, 182, 0, 164, 54, 5, 21, 5, 2]
abbrev dktX2_net_9 : List UInt8 := dkwX2_net_9 ++ dktX2_net_10
def dkwX2_net_8 : List UInt8 := [180, 1, 4, 27, 16, 8, 42, 3, 42, 180, 0, 174, 180, 0, 208, 4, 100, 182, 0, 201, 104, 29, 96, 79]
abbrev dktX2_net_8 : List UInt8 := dkwX2_net_8 ++ dktX2_net_9
def dkwX2_net_7 : List UInt8 := [180, 0, 139, 47, 148, 154, 0, 9, 42, 6, 182, 0, 160, 191, 132, 4, 1, 167, 255, 184, 42, 180, 0, 174]
abbrev dktX2_net_7 : List UInt8 := dkwX2_net_7 ++ dktX2_net_8
def dkwX2_net_6 : List UInt8 := [160, 0, 36, 42, 180, 0, 174, 180, 1, 4, 21, 4, 46, 16, 8, 108, 133, 42, 180, 0, 93, 42]
abbrev dktX2_net_6 : List UInt8 := dkwX2_net_6 ++ dktX2_net_7
def dkwX2_net_5 : List UInt8 := [180, 0, 139, 46, 5, 160, 0, 53, 42, 180, 0, 174, 180, 1, 4, 21, 4, 46, 16, 8, 112, 29]
abbrev dktX2_net_5 : List UInt8 := dkwX2_net_5 ++ dktX2_net_6
def dkwX2_net_4 : List UInt8 := [180, 0, 205, 4, 100, 182, 0, 245, 62, 3, 54, 4, 21, 4, 27, 162, 0, 72, 42, 180, 0, 90, 42]
abbrev dktX2_net_4 : List UInt8 := dkwX2_net_4 ++ dktX2_net_5
def dkwX2_net_3 : List UInt8 := [182, 0, 160, 191, 42, 89, 180, 0, 139, 4, 96, 181, 0, 139, 42, 18, 66, 3, 42, 180, 0, 174]
abbrev dktX2_net_3 : List UInt8 := dkwX2_net_3 ++ dktX2_net_4
def dkwX2_net_2 : List UInt8 := [180, 0, 174, 42, 180, 0, 93, 42, 180, 0, 139, 47, 182, 0, 239, 61, 28, 2, 160, 0, 9, 42, 5]
abbrev dktX2_net_2 : List UInt8 := dkwX2_net_2 ++ dktX2_net_3
def dkwX2_net_1 : List UInt8 := [89, 180, 0, 139, 4, 96, 181, 0, 139, 42, 182, 0, 236, 154, 0, 9, 42, 4, 182, 0, 160, 191, 42]
abbrev dktX2_net_1 : List UInt8 := dkwX2_net_1 ++ dktX2_net_2
def dkwX2_net_0 : List UInt8 := [42, 180, 0, 174, 180, 0, 191, 182, 0, 233, 60, 27, 16, 12, 160, 0, 9, 42, 8, 182, 0, 160, 191, 42]
abbrev dktX2_net_0 : List UInt8 := dkwX2_net_0 ++ dktX2_net_1
theorem dksX2_net_0 : cX2_net.data.toList.drop 0 = dktX2_net_0 := by decide +kernel
theorem dksX2_net_1 : cX2_net.data.toList.drop 24 = dktX2_net_1 := dk_seg dksX2_net_0 24 rfl rfl
theorem dksX2_net_2 : cX2_net.data.toList.drop 47 = dktX2_net_2 := dk_seg dksX2_net_1 23 rfl rfl
theorem dksX2_net_3 : cX2_net.data.toList.drop 70 = dktX2_net_3 := dk_seg dksX2_net_2 23 rfl rfl
theorem dksX2_net_4 : cX2_net.data.toList.drop 92 = dktX2_net_4 := dk_seg dksX2_net_3 22 rfl rfl
theorem dksX2_net_5 : cX2_net.data.toList.drop 115 = dktX2_net_5 := dk_seg dksX2_net_4 23 rfl rfl
theorem dksX2_net_6 : cX2_net.data.toList.drop 137 = dktX2_net_6 := dk_seg dksX2_net_5 22 rfl rfl
theorem dksX2_net_7 : cX2_net.data.toList.drop 159 = dktX2_net_7 := dk_seg dksX2_net_6 22 rfl rfl
theorem dksX2_net_8 : cX2_net.data.toList.drop 183 = dktX2_net_8 := dk_seg dksX2_net_7 24 rfl rfl
theorem dksX2_net_9 : cX2_net.data.toList.drop 207 = dktX2_net_9 := dk_seg dksX2_net_8 24 rfl rfl
theorem dksX2_net_10 : cX2_net.data.toList.drop 231 = dktX2_net_10 := dk_seg dksX2_net_9 24 rfl rfl
theorem dksX2_net_11 : cX2_net.data.toList.drop 254 = dktX2_net_11 := dk_seg dksX2_net_10 23 rfl rfl
theorem dX2_net_0 : decode cX2_net 0 = .ok (.aload_n 0, 1) := dk_42 (dk_at dksX2_net_0 0 rfl rfl)
theorem dX2_net_1 : decode cX2_net 1 = .ok (.getfield 174, 3) := dk_180 0 174 (dk_at dksX2_net_0 1 rfl rfl)
theorem dX2_net_4 : decode cX2_net 4 = .ok (.getfield 191, 3) := dk_180 0 191 (dk_at dksX2_net_0 4 rfl rfl)
theorem dX2_net_7 : decode cX2_net 7 = .ok (.invokevirtual 233, 3) := dk_182 0 233 (dk_at dksX2_net_0 7 rfl rfl)
theorem dX2_net_10 : decode cX2_net 10 = .ok (.istore_n 1, 1) := dk_60 (dk_at dksX2_net_0 10 rfl rfl)
theorem dX2_net_11 : decode cX2_net 11 = .ok (.iload_n 1, 1) := dk_27 (dk_at dksX2_net_0 11 rfl rfl)
theorem dX2_net_12 : decode cX2_net 12 = .ok (.bipush 12, 2) := dk_16 12 (dk_at dksX2_net_0 12 rfl rfl)
theorem dX2_net_14 : decode cX2_net 14 = .ok (.if_icmp .ne 9, 3) := dk_160 0 9 (dk_at dksX2_net_0 14 rfl rfl)
theorem dX2_net_17 : decode cX2_net 17 = .ok (.aload_n 0, 1) := dk_42 (dk_at dksX2_net_0 17 rfl rfl)
theorem dX2_net_18 : decode cX2_net 18 = .ok (.iconst 5, 1) := dk_8 (dk_at dksX2_net_0 18 rfl rfl)
theorem dX2_net_19 : decode cX2_net 19 = .ok (.invokevirtual 160, 3) := dk_182 0 160 (dk_at dksX2_net_0 19 rfl rfl)
theorem dX2_net_22 : decode cX2_net 22 = .ok (.athrow, 1) := dk_191 (dk_at dksX2_net_0 22 rfl rfl)
theorem dX2_net_23 : decode cX2_net 23 = .ok (.aload_n 0, 1) := dk_42 (dk_at dksX2_net_0 23 rfl rfl)
theorem dX2_net_24 : decode cX2_net 24 = .ok (.dup, 1) := dk_89 (dk_at dksX2_net_1 0 rfl rfl)
theorem dX2_net_25 : decode cX2_net 25 = .ok (.getfield 139, 3) := dk_180 0 139 (dk_at dksX2_net_1 1 rfl rfl)
theorem dX2_net_28 : decode cX2_net 28 = .ok (.iconst 1, 1) := dk_4 (dk_at dksX2_net_1 4 rfl rfl)
theorem dX2_net_29 : decode cX2_net 29 = .ok (.iadd, 1) := dk_96 (dk_at dksX2_net_1 5 rfl rfl)
theorem dX2_net_30 : decode cX2_net 30 = .ok (.putfield 139, 3) := dk_181 0 139 (dk_at dksX2_net_1 6 rfl rfl)
theorem dX2_net_33 : decode cX2_net 33 = .ok (.aload_n 0, 1) := dk_42 (dk_at dksX2_net_1 9 rfl rfl)
theorem dX2_net_34 : decode cX2_net 34 = .ok (.invokevirtual 236, 3) := dk_182 0 236 (dk_at dksX2_net_1 10 rfl rfl)
theorem dX2_net_37 : decode cX2_net 37 = .ok (.ifCond .ne 9, 3) := dk_154 0 9 (dk_at dksX2_net_1 13 rfl rfl)
theorem dX2_net_40 : decode cX2_net 40 = .ok (.aload_n 0, 1) := dk_42 (dk_at dksX2_net_1 16 rfl rfl)
theorem dX2_net_41 : decode cX2_net 41 = .ok (.iconst 1, 1) := dk_4 (dk_at dksX2_net_1 17 rfl rfl)
theorem dX2_net_42 : decode cX2_net 42 = .ok (.invokevirtual 160, 3) := dk_182 0 160 (dk_at dksX2_net_1 18 rfl rfl)
theorem dX2_net_45 : decode cX2_net 45 = .ok (.athrow, 1) := dk_191 (dk_at dksX2_net_1 21 rfl rfl)
theorem dX2_net_46 : decode cX2_net 46 = .ok (.aload_n 0, 1) := dk_42 (dk_at dksX2_net_1 22 rfl rfl)
theorem dX2_net_47 : decode cX2_net 47 = .ok (.getfield 174, 3) := dk_180 0 174 (dk_at dksX2_net_2 0 rfl rfl)
theorem dX2_net_50 : decode cX2_net 50 = .ok (.aload_n 0, 1) := dk_42 (dk_at dksX2_net_2 3 rfl rfl)
theorem dX2_net_51 : decode cX2_net 51 = .ok (.getfield 93, 3) := dk_180 0 93 (dk_at dksX2_net_2 4 rfl rfl)
theorem dX2_net_54 : decode cX2_net 54 = .ok (.aload_n 0, 1) := dk_42 (dk_at dksX2_net_2 7 rfl rfl)
theorem dX2_net_55 : decode cX2_net 55 = .ok (.getfield 139, 3) := dk_180 0 139 (dk_at dksX2_net_2 8 rfl rfl)
theorem dX2_net_58 : decode cX2_net 58 = .ok (.laload, 1) := dk_47 (dk_at dksX2_net_2 11 rfl rfl)
theorem dX2_net_59 : decode cX2_net 59 = .ok (.invokevirtual 239, 3) := dk_182 0 239 (dk_at dksX2_net_2 12 rfl rfl)
theorem dX2_net_62 : decode cX2_net 62 = .ok (.istore_n 2, 1) := dk_61 (dk_at dksX2_net_2 15 rfl rfl)
theorem dX2_net_63 : decode cX2_net 63 = .ok (.iload_n 2, 1) := dk_28 (dk_at dksX2_net_2 16 rfl rfl)
theorem dX2_net_64 : decode cX2_net 64 = .ok (.iconst (-1), 1) := dk_2 (dk_at dksX2_net_2 17 rfl rfl)
theorem dX2_net_65 : decode cX2_net 65 = .ok (.if_icmp .ne 9, 3) := dk_160 0 9 (dk_at dksX2_net_2 18 rfl rfl)
theorem dX2_net_68 : decode cX2_net 68 = .ok (.aload_n 0, 1) := dk_42 (dk_at dksX2_net_2 21 rfl rfl)
theorem dX2_net_69 : decode cX2_net 69 = .ok (.iconst 2, 1) := dk_5 (dk_at dksX2_net_2 22 rfl rfl)
theorem dX2_net_70 : decode cX2_net 70 = .ok (.invokevirtual 160, 3) := dk_182 0 160 (dk_at dksX2_net_3 0 rfl rfl)
theorem dX2_net_73 : decode cX2_net 73 = .ok (.athrow, 1) := dk_191 (dk_at dksX2_net_3 3 rfl rfl)
theorem dX2_net_74 : decode cX2_net 74 = .ok (.aload_n 0, 1) := dk_42 (dk_at dksX2_net_3 4 rfl rfl)
theorem dX2_net_75 : decode cX2_net 75 = .ok (.dup, 1) := dk_89 (dk_at dksX2_net_3 5 rfl rfl)
theorem dX2_net_76 : decode cX2_net 76 = .ok (.getfield 139, 3) := dk_180 0 139 (dk_at dksX2_net_3 6 rfl rfl)
theorem dX2_net_79 : decode cX2_net 79 = .ok (.iconst 1, 1) := dk_4 (dk_at dksX2_net_3 9 rfl rfl)
theorem dX2_net_80 : decode cX2_net 80 = .ok (.iadd, 1) := dk_96 (dk_at dksX2_net_3 10 rfl rfl)
theorem dX2_net_81 : decode cX2_net 81 = .ok (.putfield 139, 3) := dk_181 0 139 (dk_at dksX2_net_3 11 rfl rfl)
theorem dX2_net_84 : decode cX2_net 84 = .ok (.aload_n 0, 1) := dk_42 (dk_at dksX2_net_3 14 rfl rfl)
theorem dX2_net_85 : decode cX2_net 85 = .ok (.ldc 66, 2) := dk_18 66 (dk_at dksX2_net_3 15 rfl rfl)
theorem dX2_net_87 : decode cX2_net 87 = .ok (.iconst 0, 1) := dk_3 (dk_at dksX2_net_3 17 rfl rfl)
theorem dX2_net_88 : decode cX2_net 88 = .ok (.aload_n 0, 1) := dk_42 (dk_at dksX2_net_3 18 rfl rfl)
theorem dX2_net_89 : decode cX2_net 89 = .ok (.getfield 174, 3) := dk_180 0 174 (dk_at dksX2_net_3 19 rfl rfl)
theorem dX2_net_92 : decode cX2_net 92 = .ok (.getfield 205, 3) := dk_180 0 205 (dk_at dksX2_net_4 0 rfl rfl)
theorem dX2_net_95 : decode cX2_net 95 = .ok (.iconst 1, 1) := dk_4 (dk_at dksX2_net_4 3 rfl rfl)
theorem dX2_net_96 : decode cX2_net 96 = .ok (.isub, 1) := dk_100 (dk_at dksX2_net_4 4 rfl rfl)
theorem dX2_net_97 : decode cX2_net 97 = .ok (.invokevirtual 245, 3) := dk_182 0 245 (dk_at dksX2_net_4 5 rfl rfl)
theorem dX2_net_100 : decode cX2_net 100 = .ok (.istore_n 3, 1) := dk_62 (dk_at dksX2_net_4 8 rfl rfl)
theorem dX2_net_101 : decode cX2_net 101 = .ok (.iconst 0, 1) := dk_3 (dk_at dksX2_net_4 9 rfl rfl)
theorem dX2_net_102 : decode cX2_net 102 = .ok (.istore 4, 2) := dk_54 4 (dk_at dksX2_net_4 10 rfl rfl)
theorem dX2_net_104 : decode cX2_net 104 = .ok (.iload 4, 2) := dk_21 4 (dk_at dksX2_net_4 12 rfl rfl)
theorem dX2_net_106 : decode cX2_net 106 = .ok (.iload_n 1, 1) := dk_27 (dk_at dksX2_net_4 14 rfl rfl)
theorem dX2_net_107 : decode cX2_net 107 = .ok (.if_icmp .ge 72, 3) := dk_162 0 72 (dk_at dksX2_net_4 15 rfl rfl)
theorem dX2_net_110 : decode cX2_net 110 = .ok (.aload_n 0, 1) := dk_42 (dk_at dksX2_net_4 18 rfl rfl)
theorem dX2_net_111 : decode cX2_net 111 = .ok (.getfield 90, 3) := dk_180 0 90 (dk_at dksX2_net_4 19 rfl rfl)
theorem dX2_net_114 : decode cX2_net 114 = .ok (.aload_n 0, 1) := dk_42 (dk_at dksX2_net_4 22 rfl rfl)
theorem dX2_net_115 : decode cX2_net 115 = .ok (.getfield 139, 3) := dk_180 0 139 (dk_at dksX2_net_5 0 rfl rfl)
theorem dX2_net_118 : decode cX2_net 118 = .ok (.iaload, 1) := dk_46 (dk_at dksX2_net_5 3 rfl rfl)
theorem dX2_net_119 : decode cX2_net 119 = .ok (.iconst 2, 1) := dk_5 (dk_at dksX2_net_5 4 rfl rfl)
theorem dX2_net_120 : decode cX2_net 120 = .ok (.if_icmp .ne 53, 3) := dk_160 0 53 (dk_at dksX2_net_5 5 rfl rfl)
theorem dX2_net_123 : decode cX2_net 123 = .ok (.aload_n 0, 1) := dk_42 (dk_at dksX2_net_5 8 rfl rfl)
theorem dX2_net_124 : decode cX2_net 124 = .ok (.getfield 174, 3) := dk_180 0 174 (dk_at dksX2_net_5 9 rfl rfl)
theorem dX2_net_127 : decode cX2_net 127 = .ok (.getfield 260, 3) := dk_180 1 4 (dk_at dksX2_net_5 12 rfl rfl)
theorem dX2_net_130 : decode cX2_net 130 = .ok (.iload 4, 2) := dk_21 4 (dk_at dksX2_net_5 15 rfl rfl)
theorem dX2_net_132 : decode cX2_net 132 = .ok (.iaload, 1) := dk_46 (dk_at dksX2_net_5 17 rfl rfl)
theorem dX2_net_133 : decode cX2_net 133 = .ok (.bipush 8, 2) := dk_16 8 (dk_at dksX2_net_5 18 rfl rfl)
theorem dX2_net_135 : decode cX2_net 135 = .ok (.irem, 1) := dk_112 (dk_at dksX2_net_5 20 rfl rfl)
theorem dX2_net_136 : decode cX2_net 136 = .ok (.iload_n 3, 1) := dk_29 (dk_at dksX2_net_5 21 rfl rfl)
theorem dX2_net_137 : decode cX2_net 137 = .ok (.if_icmp .ne 36, 3) := dk_160 0 36 (dk_at dksX2_net_6 0 rfl rfl)
theorem dX2_net_140 : decode cX2_net 140 = .ok (.aload_n 0, 1) := dk_42 (dk_at dksX2_net_6 3 rfl rfl)
theorem dX2_net_141 : decode cX2_net 141 = .ok (.getfield 174, 3) := dk_180 0 174 (dk_at dksX2_net_6 4 rfl rfl)
theorem dX2_net_144 : decode cX2_net 144 = .ok (.getfield 260, 3) := dk_180 1 4 (dk_at dksX2_net_6 7 rfl rfl)
theorem dX2_net_147 : decode cX2_net 147 = .ok (.iload 4, 2) := dk_21 4 (dk_at dksX2_net_6 10 rfl rfl)
theorem dX2_net_149 : decode cX2_net 149 = .ok (.iaload, 1) := dk_46 (dk_at dksX2_net_6 12 rfl rfl)
theorem dX2_net_150 : decode cX2_net 150 = .ok (.bipush 8, 2) := dk_16 8 (dk_at dksX2_net_6 13 rfl rfl)
theorem dX2_net_152 : decode cX2_net 152 = .ok (.idiv, 1) := dk_108 (dk_at dksX2_net_6 15 rfl rfl)
theorem dX2_net_153 : decode cX2_net 153 = .ok (.i2l, 1) := dk_133 (dk_at dksX2_net_6 16 rfl rfl)
theorem dX2_net_154 : decode cX2_net 154 = .ok (.aload_n 0, 1) := dk_42 (dk_at dksX2_net_6 17 rfl rfl)
theorem dX2_net_155 : decode cX2_net 155 = .ok (.getfield 93, 3) := dk_180 0 93 (dk_at dksX2_net_6 18 rfl rfl)
theorem dX2_net_158 : decode cX2_net 158 = .ok (.aload_n 0, 1) := dk_42 (dk_at dksX2_net_6 21 rfl rfl)
theorem dX2_net_159 : decode cX2_net 159 = .ok (.getfield 139, 3) := dk_180 0 139 (dk_at dksX2_net_7 0 rfl rfl)
theorem dX2_net_162 : decode cX2_net 162 = .ok (.laload, 1) := dk_47 (dk_at dksX2_net_7 3 rfl rfl)
theorem dX2_net_163 : decode cX2_net 163 = .ok (.lcmp, 1) := dk_148 (dk_at dksX2_net_7 4 rfl rfl)
theorem dX2_net_164 : decode cX2_net 164 = .ok (.ifCond .ne 9, 3) := dk_154 0 9 (dk_at dksX2_net_7 5 rfl rfl)
theorem dX2_net_167 : decode cX2_net 167 = .ok (.aload_n 0, 1) := dk_42 (dk_at dksX2_net_7 8 rfl rfl)
theorem dX2_net_168 : decode cX2_net 168 = .ok (.iconst 3, 1) := dk_6 (dk_at dksX2_net_7 9 rfl rfl)
theorem dX2_net_169 : decode cX2_net 169 = .ok (.invokevirtual 160, 3) := dk_182 0 160 (dk_at dksX2_net_7 10 rfl rfl)
theorem dX2_net_172 : decode cX2_net 172 = .ok (.athrow, 1) := dk_191 (dk_at dksX2_net_7 13 rfl rfl)
theorem dX2_net_173 : decode cX2_net 173 = .ok (.iinc 4 1, 3) := dk_132 4 1 (dk_at dksX2_net_7 14 rfl rfl)
theorem dX2_net_176 : decode cX2_net 176 = .ok (.goto (-72), 3) := dk_167 255 184 (dk_at dksX2_net_7 17 rfl rfl)
theorem dX2_net_179 : decode cX2_net 179 = .ok (.aload_n 0, 1) := dk_42 (dk_at dksX2_net_7 20 rfl rfl)
theorem dX2_net_180 : decode cX2_net 180 = .ok (.getfield 174, 3) := dk_180 0 174 (dk_at dksX2_net_7 21 rfl rfl)
theorem dX2_net_183 : decode cX2_net 183 = .ok (.getfield 260, 3) := dk_180 1 4 (dk_at dksX2_net_8 0 rfl rfl)
theorem dX2_net_186 : decode cX2_net 186 = .ok (.iload_n 1, 1) := dk_27 (dk_at dksX2_net_8 3 rfl rfl)
theorem dX2_net_187 : decode cX2_net 187 = .ok (.bipush 8, 2) := dk_16 8 (dk_at dksX2_net_8 4 rfl rfl)
theorem dX2_net_189 : decode cX2_net 189 = .ok (.aload_n 0, 1) := dk_42 (dk_at dksX2_net_8 6 rfl rfl)
theorem dX2_net_190 : decode cX2_net 190 = .ok (.iconst 0, 1) := dk_3 (dk_at dksX2_net_8 7 rfl rfl)
theorem dX2_net_191 : decode cX2_net 191 = .ok (.aload_n 0, 1) := dk_42 (dk_at dksX2_net_8 8 rfl rfl)
theorem dX2_net_192 : decode cX2_net 192 = .ok (.getfield 174, 3) := dk_180 0 174 (dk_at dksX2_net_8 9 rfl rfl)
theorem dX2_net_195 : decode cX2_net 195 = .ok (.getfield 208, 3) := dk_180 0 208 (dk_at dksX2_net_8 12 rfl rfl)
theorem dX2_net_198 : decode cX2_net 198 = .ok (.iconst 1, 1) := dk_4 (dk_at dksX2_net_8 15 rfl rfl)
theorem dX2_net_199 : decode cX2_net 199 = .ok (.isub, 1) := dk_100 (dk_at dksX2_net_8 16 rfl rfl)
theorem dX2_net_200 : decode cX2_net 200 = .ok (.invokevirtual 201, 3) := dk_182 0 201 (dk_at dksX2_net_8 17 rfl rfl)
theorem dX2_net_203 : decode cX2_net 203 = .ok (.imul, 1) := dk_104 (dk_at dksX2_net_8 20 rfl rfl)
theorem dX2_net_204 : decode cX2_net 204 = .ok (.iload_n 3, 1) := dk_29 (dk_at dksX2_net_8 21 rfl rfl)
theorem dX2_net_205 : decode cX2_net 205 = .ok (.iadd, 1) := dk_96 (dk_at dksX2_net_8 22 rfl rfl)
theorem dX2_net_206 : decode cX2_net 206 = .ok (.iastore, 1) := dk_79 (dk_at dksX2_net_8 23 rfl rfl)
theorem dX2_net_207 : decode cX2_net 207 = .ok (.aload_n 0, 1) := dk_42 (dk_at dksX2_net_9 0 rfl rfl)
theorem dX2_net_208 : decode cX2_net 208 = .ok (.ldc 68, 2) := dk_18 68 (dk_at dksX2_net_9 1 rfl rfl)
theorem dX2_net_210 : decode cX2_net 210 = .ok (.iconst 0, 1) := dk_3 (dk_at dksX2_net_9 3 rfl rfl)
theorem dX2_net_211 : decode cX2_net 211 = .ok (.bipush 10, 2) := dk_16 10 (dk_at dksX2_net_9 4 rfl rfl)
theorem dX2_net_213 : decode cX2_net 213 = .ok (.invokevirtual 245, 3) := dk_182 0 245 (dk_at dksX2_net_9 6 rfl rfl)
theorem dX2_net_216 : decode cX2_net 216 = .ok (.istore 4, 2) := dk_54 4 (dk_at dksX2_net_9 9 rfl rfl)
theorem dX2_net_218 : decode cX2_net 218 = .ok (.aload_n 0, 1) := dk_42 (dk_at dksX2_net_9 11 rfl rfl)
theorem dX2_net_219 : decode cX2_net 219 = .ok (.aload_n 0, 1) := dk_42 (dk_at dksX2_net_9 12 rfl rfl)
theorem dX2_net_220 : decode cX2_net 220 = .ok (.getfield 40, 3) := dk_180 0 40 (dk_at dksX2_net_9 13 rfl rfl)
theorem dX2_net_223 : decode cX2_net 223 = .ok (.invokevirtual 164, 3) := dk_182 0 164 (dk_at dksX2_net_9 16 rfl rfl)
theorem dX2_net_226 : decode cX2_net 226 = .ok (.istore 5, 2) := dk_54 5 (dk_at dksX2_net_9 19 rfl rfl)
theorem dX2_net_228 : decode cX2_net 228 = .ok (.iload 5, 2) := dk_21 5 (dk_at dksX2_net_9 21 rfl rfl)
theorem dX2_net_230 : decode cX2_net 230 = .ok (.iconst (-1), 1) := dk_2 (dk_at dksX2_net_9 23 rfl rfl)
theorem dX2_net_231 : decode cX2_net 231 = .ok (.if_icmp .ne 9, 3) := dk_160 0 9 (dk_at dksX2_net_10 0 rfl rfl)
theorem dX2_net_234 : decode cX2_net 234 = .ok (.aload_n 0, 1) := dk_42 (dk_at dksX2_net_10 3 rfl rfl)
theorem dX2_net_235 : decode cX2_net 235 = .ok (.iconst 1, 1) := dk_4 (dk_at dksX2_net_10 4 rfl rfl)
theorem dX2_net_236 : decode cX2_net 236 = .ok (.invokevirtual 160, 3) := dk_182 0 160 (dk_at dksX2_net_10 5 rfl rfl)
theorem dX2_net_239 : decode cX2_net 239 = .ok (.athrow, 1) := dk_191 (dk_at dksX2_net_10 8 rfl rfl)
theorem dX2_net_240 : decode cX2_net 240 = .ok (.aload_n 0, 1) := dk_42 (dk_at dksX2_net_10 9 rfl rfl)
theorem dX2_net_241 : decode cX2_net 241 = .ok (.dup, 1) := dk_89 (dk_at dksX2_net_10 10 rfl rfl)
theorem dX2_net_242 : decode cX2_net 242 = .ok (.getfield 139, 3) := dk_180 0 139 (dk_at dksX2_net_10 11 rfl rfl)
theorem dX2_net_245 : decode cX2_net 245 = .ok (.iconst 1, 1) := dk_4 (dk_at dksX2_net_10 14 rfl rfl)
theorem dX2_net_246 : decode cX2_net 246 = .ok (.iadd, 1) := dk_96 (dk_at dksX2_net_10 15 rfl rfl)
theorem dX2_net_247 : decode cX2_net 247 = .ok (.putfield 139, 3) := dk_181 0 139 (dk_at dksX2_net_10 16 rfl rfl)
theorem dX2_net_250 : decode cX2_net 250 = .ok (.aload_n 0, 1) := dk_42 (dk_at dksX2_net_10 19 rfl rfl)
theorem dX2_net_251 : decode cX2_net 251 = .ok (.getfield 174, 3) := dk_180 0 174 (dk_at dksX2_net_10 20 rfl rfl)
theorem dX2_net_254 : decode cX2_net 254 = .ok (.getfield 191, 3) := dk_180 0 191 (dk_at dksX2_net_11 0 rfl rfl)
theorem dX2_net_257 : decode cX2_net 257 = .ok (.iload 5, 2) := dk_21 5 (dk_at dksX2_net_11 3 rfl rfl)
theorem dX2_net_259 : decode cX2_net 259 = .ok (.iload_n 2, 1) := dk_28 (dk_at dksX2_net_11 5 rfl rfl)
theorem dX2_net_260 : decode cX2_net 260 = .ok (.iload 4, 2) := dk_21 4 (dk_at dksX2_net_11 6 rfl rfl)
theorem dX2_net_262 : decode cX2_net 262 = .ok (.invokestatic 262, 3) := dk_184 1 6 (dk_at dksX2_net_11 8 rfl rfl)
theorem dX2_net_265 : decode cX2_net 265 = .ok (.invokevirtual 256, 3) := dk_182 1 0 (dk_at dksX2_net_11 11 rfl rfl)
theorem dX2_net_268 : decode cX2_net 268 = .ok (.pop, 1) := dk_87 (dk_at dksX2_net_11 14 rfl rfl)
theorem dX2_net_269 : decode cX2_net 269 = .ok (.return_, 1) := dk_177 (dk_at dksX2_net_11 15 rfl rfl)
theorem q94 : (Jvm.Cond.initialized "FogNets$Reader") ∈ lw_all := lw_g (lw_at lw_m1 2 rfl) rfl
theorem q151 : (Jvm.Cond.instantiable "FogNets$Reader" (15 : Nat)) ∈ lw_all := lw_g (lw_at lw_m1 59 rfl) rfl
theorem q153 : (Jvm.Cond.instanceMethod ({ cls := "FogNets$Reader", name := "<init>", desc := "()V" } : Jvm.MethodName)) ∈ lw_all := lw_g (lw_at lw_m1 61 rfl) rfl
theorem q154 : (Jvm.Cond.code ({ cls := "FogNets$Reader", name := "<init>", desc := "()V" } : Jvm.MethodName) prog_19_method_1_code (1 : Nat) (Option.none : Option Jvm.ClassFile.FieldType)) ∈ lw_all := lw_g (lw_at lw_m1 62 rfl) rfl
theorem q155 : (Jvm.Cond.methodLink "FogNets$Reader" (3 : Nat) ({ cls := "java/lang/Object", name := "<init>", desc := "()V" } : Jvm.MethodName)) ∈ lw_all := lw_g (lw_at lw_m1 63 rfl) rfl
theorem q156 : (Jvm.Cond.classLink "FogNets$Reader" (9 : Nat) "java/lang/String") ∈ lw_all := lw_g (lw_at lw_m1 64 rfl) rfl
theorem q158 : (Jvm.Cond.stringRef "FogNets$Reader" (11 : Nat) "hour") ∈ lw_tbl := lw_at lw_m1 66 rfl
theorem q159 : (Jvm.Cond.stringRef "FogNets$Reader" (13 : Nat) "night") ∈ lw_tbl := lw_at lw_m1 67 rfl
theorem q160 : (Jvm.Cond.stringRef "FogNets$Reader" (21 : Nat) "line") ∈ lw_tbl := lw_at lw_m1 68 rfl
theorem q161 : (Jvm.Cond.stringRef "FogNets$Reader" (23 : Nat) "way") ∈ lw_tbl := lw_at lw_m1 69 rfl
theorem q162 : (Jvm.Cond.stringRef "FogNets$Reader" (28 : Nat) "plain") ∈ lw_tbl := lw_at lw_m1 70 rfl
theorem q163 : (Jvm.Cond.stringRef "FogNets$Reader" (30 : Nat) "shroud") ∈ lw_tbl := lw_at lw_m1 71 rfl
theorem q164 : (Jvm.Cond.stringRef "FogNets$Reader" (32 : Nat) "birds") ∈ lw_tbl := lw_at lw_m1 72 rfl
theorem q165 : (Jvm.Cond.stringRef "FogNets$Reader" (34 : Nat) "torn") ∈ lw_tbl := lw_at lw_m1 73 rfl
theorem q166 : (Jvm.Cond.stringRef "FogNets$Reader" (36 : Nat) "spite") ∈ lw_tbl := lw_at lw_m1 74 rfl
theorem q167 : (Jvm.Cond.stringRef "FogNets$Reader" (38 : Nat) "high") ∈ lw_tbl := lw_at lw_m1 75 rfl
theorem q168 : (Jvm.Cond.stringRef "FogNets$Reader" (43 : Nat) "field") ∈ lw_tbl := lw_at lw_m1 76 rfl
theorem q169 : (Jvm.Cond.stringRef "FogNets$Reader" (45 : Nat) "hours") ∈ lw_tbl := lw_at lw_m1 77 rfl
theorem q170 : (Jvm.Cond.stringRef "FogNets$Reader" (47 : Nat) "dew") ∈ lw_tbl := lw_at lw_m1 78 rfl
theorem q171 : (Jvm.Cond.stringRef "FogNets$Reader" (49 : Nat) "turns") ∈ lw_tbl := lw_at lw_m1 79 rfl
theorem q172 : (Jvm.Cond.stringRef "FogNets$Reader" (51 : Nat) "wind") ∈ lw_tbl := lw_at lw_m1 80 rfl
theorem q173 : (Jvm.Cond.stringRef "FogNets$Reader" (53 : Nat) "fog") ∈ lw_tbl := lw_at lw_m1 81 rfl
theorem q174 : (Jvm.Cond.stringRef "FogNets$Reader" (58 : Nat) "village") ∈ lw_tbl := lw_at lw_m1 82 rfl
theorem q175 : (Jvm.Cond.stringRef "FogNets$Reader" (60 : Nat) "thirst") ∈ lw_tbl := lw_at lw_m1 83 rfl
theorem q176 : (Jvm.Cond.stringRef "FogNets$Reader" (62 : Nat) "tank") ∈ lw_tbl := lw_at lw_m1 84 rfl
theorem q177 : (Jvm.Cond.stringRef "FogNets$Reader" (64 : Nat) "net") ∈ lw_tbl := lw_at lw_m1 85 rfl
theorem q178 : (Jvm.Cond.stringRef "FogNets$Reader" (66 : Nat) "at") ∈ lw_tbl := lw_at lw_m1 86 rfl
theorem q179 : (Jvm.Cond.stringRef "FogNets$Reader" (68 : Nat) "mesh") ∈ lw_tbl := lw_at lw_m1 87 rfl
theorem q180 : (Jvm.Cond.stringRef "FogNets$Reader" (70 : Nat) "not") ∈ lw_tbl := lw_at lw_m1 88 rfl
theorem q181 : (Jvm.Cond.stringRef "FogNets$Reader" (72 : Nat) "and") ∈ lw_tbl := lw_at lw_m1 89 rfl
theorem q182 : (Jvm.Cond.stringRef "FogNets$Reader" (74 : Nat) "or") ∈ lw_tbl := lw_at lw_m1 90 rfl
theorem q183 : (Jvm.Cond.fieldLink "FogNets$Reader" (15 : Nat) "FogNets$Reader" "windFacts" "[Ljava/lang/String;") ∈ lw_all := lw_g (lw_at lw_m1 91 rfl) rfl
theorem q184 : (Jvm.Cond.fieldLink "FogNets$Reader" (25 : Nat) "FogNets$Reader" "fogFacts" "[Ljava/lang/String;") ∈ lw_all := lw_g (lw_at lw_m1 92 rfl) rfl
theorem q185 : (Jvm.Cond.fieldLink "FogNets$Reader" (40 : Nat) "FogNets$Reader" "kinds" "[Ljava/lang/String;") ∈ lw_all := lw_g (lw_at lw_m1 93 rfl) rfl
theorem q186 : (Jvm.Cond.fieldLink "FogNets$Reader" (55 : Nat) "FogNets$Reader" "lines" "[Ljava/lang/String;") ∈ lw_all := lw_g (lw_at lw_m1 94 rfl) rfl
theorem q187 : (Jvm.Cond.fieldLink "FogNets$Reader" (76 : Nat) "FogNets$Reader" "kept" "[Ljava/lang/String;") ∈ lw_all := lw_g (lw_at lw_m1 95 rfl) rfl
theorem q188 : (Jvm.Cond.fieldLink "FogNets$Reader" (79 : Nat) "FogNets$Reader" "isTold" "[Z") ∈ lw_all := lw_g (lw_at lw_m1 96 rfl) rfl
theorem q189 : (Jvm.Cond.fieldLink "FogNets$Reader" (174 : Nat) "FogNets$Reader" "draft" "LFogNets$Ridge;") ∈ lw_all := lw_g (lw_at lw_m1 97 rfl) rfl
theorem q190 : (Jvm.Cond.fieldLink "FogNets$Reader" (83 : Nat) "FogNets$Reader" "facts" "[Ljava/lang/String;") ∈ lw_all := lw_g (lw_at lw_m1 98 rfl) rfl
theorem q191 : (Jvm.Cond.fieldLink "FogNets$Reader" (86 : Nat) "FogNets$Reader" "tape" "[I") ∈ lw_all := lw_g (lw_at lw_m1 99 rfl) rfl
theorem q192 : (Jvm.Cond.fieldLink "FogNets$Reader" (106 : Nat) "FogNets$Reader" "taped" "I") ∈ lw_all := lw_g (lw_at lw_m1 100 rfl) rfl
theorem q194 : (Jvm.Cond.fieldLink "FogNets$Reader" (90 : Nat) "FogNets$Reader" "sort" "[I") ∈ lw_all := lw_g (lw_at lw_m1 102 rfl) rfl
theorem q195 : (Jvm.Cond.fieldLink "FogNets$Reader" (93 : Nat) "FogNets$Reader" "value" "[J") ∈ lw_all := lw_g (lw_at lw_m1 103 rfl) rfl
theorem q196 : (Jvm.Cond.fieldLink "FogNets$Reader" (97 : Nat) "FogNets$Reader" "place" "[I") ∈ lw_all := lw_g (lw_at lw_m1 104 rfl) rfl
theorem q197 : (Jvm.Cond.fieldLink "FogNets$Reader" (139 : Nat) "FogNets$Reader" "at" "I") ∈ lw_all := lw_g (lw_at lw_m1 105 rfl) rfl
theorem q198 : (Jvm.Cond.fieldLink "FogNets$Reader" (268 : Nat) "FogNets$Reader" "deep" "I") ∈ lw_all := lw_g (lw_at lw_m1 106 rfl) rfl
theorem q199 : (Jvm.Cond.laysFinal "FogNets$Reader" "FogNets$Reader" "windFacts" "[Ljava/lang/String;") ∈ lw_all := lw_g (lw_at lw_m1 107 rfl) rfl
theorem q200 : (Jvm.Cond.soleField "FogNets$Reader" "windFacts") ∈ lw_all := lw_g (lw_at lw_m1 108 rfl) rfl
theorem q201 : (Jvm.Cond.laysFinal "FogNets$Reader" "FogNets$Reader" "fogFacts" "[Ljava/lang/String;") ∈ lw_all := lw_g (lw_at lw_m1 109 rfl) rfl
theorem q202 : (Jvm.Cond.soleField "FogNets$Reader" "fogFacts") ∈ lw_all := lw_g (lw_at lw_m1 110 rfl) rfl
theorem q203 : (Jvm.Cond.laysFinal "FogNets$Reader" "FogNets$Reader" "kinds" "[Ljava/lang/String;") ∈ lw_all := lw_g (lw_at lw_m1 111 rfl) rfl
theorem q204 : (Jvm.Cond.soleField "FogNets$Reader" "kinds") ∈ lw_all := lw_g (lw_at lw_m1 112 rfl) rfl
theorem q205 : (Jvm.Cond.laysFinal "FogNets$Reader" "FogNets$Reader" "lines" "[Ljava/lang/String;") ∈ lw_all := lw_g (lw_at lw_m1 113 rfl) rfl
theorem q206 : (Jvm.Cond.soleField "FogNets$Reader" "lines") ∈ lw_all := lw_g (lw_at lw_m1 114 rfl) rfl
theorem q207 : (Jvm.Cond.laysFinal "FogNets$Reader" "FogNets$Reader" "kept" "[Ljava/lang/String;") ∈ lw_all := lw_g (lw_at lw_m1 115 rfl) rfl
theorem q208 : (Jvm.Cond.soleField "FogNets$Reader" "kept") ∈ lw_all := lw_g (lw_at lw_m1 116 rfl) rfl
theorem q209 : (Jvm.Cond.laysFinal "FogNets$Reader" "FogNets$Reader" "isTold" "[Z") ∈ lw_all := lw_g (lw_at lw_m1 117 rfl) rfl
theorem q210 : (Jvm.Cond.soleField "FogNets$Reader" "isTold") ∈ lw_all := lw_g (lw_at lw_m1 118 rfl) rfl
theorem q211 : (Jvm.Cond.lays "FogNets$Reader" "FogNets$Reader" "draft" "LFogNets$Ridge;") ∈ lw_all := lw_g (lw_at lw_m1 119 rfl) rfl
theorem q212 : (Jvm.Cond.soleField "FogNets$Reader" "draft") ∈ lw_all := lw_g (lw_at lw_m1 120 rfl) rfl
theorem q213 : (Jvm.Cond.lays "FogNets$Reader" "FogNets$Reader" "facts" "[Ljava/lang/String;") ∈ lw_all := lw_g (lw_at lw_m1 121 rfl) rfl
theorem q214 : (Jvm.Cond.soleField "FogNets$Reader" "facts") ∈ lw_all := lw_g (lw_at lw_m1 122 rfl) rfl
theorem q215 : (Jvm.Cond.laysFinal "FogNets$Reader" "FogNets$Reader" "tape" "[I") ∈ lw_all := lw_g (lw_at lw_m1 123 rfl) rfl
theorem q216 : (Jvm.Cond.soleField "FogNets$Reader" "tape") ∈ lw_all := lw_g (lw_at lw_m1 124 rfl) rfl
theorem q217 : (Jvm.Cond.lays "FogNets$Reader" "FogNets$Reader" "taped" "I") ∈ lw_all := lw_g (lw_at lw_m1 125 rfl) rfl
theorem q218 : (Jvm.Cond.soleField "FogNets$Reader" "taped") ∈ lw_all := lw_g (lw_at lw_m1 126 rfl) rfl
theorem q219 : (Jvm.Cond.laysFinal "FogNets$Reader" "FogNets$Reader" "sort" "[I") ∈ lw_all := lw_g (lw_at lw_m1 127 rfl) rfl
theorem q220 : (Jvm.Cond.soleField "FogNets$Reader" "sort") ∈ lw_all := lw_g (lw_at lw_m1 128 rfl) rfl
theorem q221 : (Jvm.Cond.laysFinal "FogNets$Reader" "FogNets$Reader" "value" "[J") ∈ lw_all := lw_g (lw_at lw_m1 129 rfl) rfl
theorem q222 : (Jvm.Cond.soleField "FogNets$Reader" "value") ∈ lw_all := lw_g (lw_at lw_m1 130 rfl) rfl
theorem q223 : (Jvm.Cond.laysFinal "FogNets$Reader" "FogNets$Reader" "place" "[I") ∈ lw_all := lw_g (lw_at lw_m1 131 rfl) rfl
theorem q224 : (Jvm.Cond.soleField "FogNets$Reader" "place") ∈ lw_all := lw_g (lw_at lw_m1 132 rfl) rfl
theorem q225 : (Jvm.Cond.lays "FogNets$Reader" "FogNets$Reader" "at" "I") ∈ lw_all := lw_g (lw_at lw_m1 133 rfl) rfl
theorem q226 : (Jvm.Cond.soleField "FogNets$Reader" "at") ∈ lw_all := lw_g (lw_at lw_m1 134 rfl) rfl
theorem q227 : (Jvm.Cond.lays "FogNets$Reader" "FogNets$Reader" "deep" "I") ∈ lw_all := lw_g (lw_at lw_m1 135 rfl) rfl
theorem q228 : (Jvm.Cond.soleField "FogNets$Reader" "deep") ∈ lw_all := lw_g (lw_at lw_m1 136 rfl) rfl
theorem q229 : (Jvm.Cond.superclass "FogNets$Reader" "java/lang/Object") ∈ lw_all := lw_g (lw_at lw_m1 137 rfl) rfl
theorem q281 : (Jvm.Cond.fieldLink "FogNets$Reader" (205 : Nat) "FogNets$Ridge" "columns" "I") ∈ lw_all := lw_g (lw_at lw_m1 189 rfl) rfl
theorem q284 : (Jvm.Cond.fieldLink "FogNets$Reader" (208 : Nat) "FogNets$Ridge" "rows" "I") ∈ lw_all := lw_g (lw_at lw_m1 192 rfl) rfl
theorem q290 : (Jvm.Cond.fieldLink "FogNets$Reader" (211 : Nat) "FogNets$Ridge" "hours" "I") ∈ lw_all := lw_g (lw_at lw_m1 198 rfl) rfl
theorem q292 : (Jvm.Cond.fieldLink "FogNets$Reader" (213 : Nat) "FogNets$Ridge" "dew" "I") ∈ lw_all := lw_g (lw_at lw_m1 200 rfl) rfl
theorem q293 : (Jvm.Cond.fieldLink "FogNets$Reader" (215 : Nat) "FogNets$Ridge" "turns" "I") ∈ lw_all := lw_g (lw_at lw_m1 201 rfl) rfl
theorem q296 : (Jvm.Cond.fieldLink "FogNets$Reader" (221 : Nat) "FogNets$Ridge" "wind" "LFogNets$Expression;") ∈ lw_all := lw_g (lw_at lw_m1 204 rfl) rfl
theorem q298 : (Jvm.Cond.fieldLink "FogNets$Reader" (224 : Nat) "FogNets$Ridge" "fog" "LFogNets$Expression;") ∈ lw_all := lw_g (lw_at lw_m1 206 rfl) rfl
theorem q302 : (Jvm.Cond.fieldLink "FogNets$Reader" (230 : Nat) "FogNets$Ridge" "names" "Ljava/util/ArrayList;") ∈ lw_all := lw_g (lw_at lw_m1 210 rfl) rfl
theorem q306 : (Jvm.Cond.fieldLink "FogNets$Reader" (243 : Nat) "FogNets$Ridge" "thirst" "[I") ∈ lw_all := lw_g (lw_at lw_m1 214 rfl) rfl
theorem q309 : (Jvm.Cond.fieldLink "FogNets$Reader" (248 : Nat) "FogNets$Ridge" "tank" "[I") ∈ lw_all := lw_g (lw_at lw_m1 217 rfl) rfl
theorem q312 : (Jvm.Cond.fieldLink "FogNets$Reader" (191 : Nat) "FogNets$Ridge" "nets" "Ljava/util/ArrayList;") ∈ lw_all := lw_g (lw_at lw_m1 220 rfl) rfl
theorem q315 : (Jvm.Cond.fieldLink "FogNets$Reader" (260 : Nat) "FogNets$Ridge" "at" "[I") ∈ lw_all := lw_g (lw_at lw_m1 223 rfl) rfl
theorem q499 : (Jvm.Cond.instanceMethod ({ cls := "FogNets$Reader", name := "feed", desc := "(J)V" } : Jvm.MethodName)) ∈ lw_all := lw_g (lw_at lw_m2 167 rfl) rfl
theorem q500 : (Jvm.Cond.selects "FogNets$Reader" ({ cls := "FogNets$Reader", name := "feed", desc := "(J)V" } : Jvm.MethodName) ({ cls := "FogNets$Reader", name := "feed", desc := "(J)V" } : Jvm.MethodName)) ∈ lw_all := lw_g (lw_at lw_m2 168 rfl) rfl
theorem q501 : (Jvm.Cond.code ({ cls := "FogNets$Reader", name := "feed", desc := "(J)V" } : Jvm.MethodName) prog_19_method_2_code (5 : Nat) (Option.none : Option Jvm.ClassFile.FieldType)) ∈ lw_all := lw_g (lw_at lw_m2 169 rfl) rfl
theorem q502 : (Jvm.Cond.constantLong "FogNets$Reader" (100 : Nat) (255 : Int64)) ∈ lw_all := lw_g (lw_at lw_m2 170 rfl) rfl
theorem q503 : (Jvm.Cond.methodLinkNest "FogNets$Reader" (102 : Nat) ({ cls := "FogNets", name := "within", desc := "(III)Z" } : Jvm.MethodName) "FogNets") ∈ lw_tbl := lw_at lw_m2 171 rfl
theorem q512 : (Jvm.Cond.instanceMethod ({ cls := "FogNets$Reader", name := "ridge", desc := "()LFogNets$Ridge;" } : Jvm.MethodName)) ∈ lw_all := lw_g (lw_at lw_m2 180 rfl) rfl
theorem q513 : (Jvm.Cond.selects "FogNets$Reader" ({ cls := "FogNets$Reader", name := "ridge", desc := "()LFogNets$Ridge;" } : Jvm.MethodName) ({ cls := "FogNets$Reader", name := "ridge", desc := "()LFogNets$Ridge;" } : Jvm.MethodName)) ∈ lw_all := lw_g (lw_at lw_m2 181 rfl) rfl
theorem q514 : (Jvm.Cond.code ({ cls := "FogNets$Reader", name := "ridge", desc := "()LFogNets$Ridge;" } : Jvm.MethodName) prog_19_method_16_code (2 : Nat) (Option.some (Jvm.ClassFile.FieldType.object "FogNets$Ridge"))) ∈ lw_all := lw_g (lw_at lw_m2 182 rfl) rfl
theorem q515 : (Jvm.Cond.methodLink "FogNets$Reader" (168 : Nat) ({ cls := "FogNets$Reader", name := "cut", desc := "()V" } : Jvm.MethodName)) ∈ lw_all := lw_g (lw_at lw_m2 183 rfl) rfl
theorem q516 : (Jvm.Cond.privateMethod ({ cls := "FogNets$Reader", name := "cut", desc := "()V" } : Jvm.MethodName)) ∈ lw_tbl := lw_at lw_m2 184 rfl
theorem q517 : (Jvm.Cond.instanceMethod ({ cls := "FogNets$Reader", name := "cut", desc := "()V" } : Jvm.MethodName)) ∈ lw_all := lw_g (lw_at lw_m2 185 rfl) rfl
theorem q518 : (Jvm.Cond.code ({ cls := "FogNets$Reader", name := "cut", desc := "()V" } : Jvm.MethodName) prog_19_method_6_code (8 : Nat) (Option.none : Option Jvm.ClassFile.FieldType)) ∈ lw_all := lw_g (lw_at lw_m2 186 rfl) rfl
theorem q519 : (Jvm.Cond.methodLink "FogNets$Reader" (122 : Nat) ({ cls := "FogNets$Reader", name := "isLetter", desc := "(I)Z" } : Jvm.MethodName)) ∈ lw_all := lw_g (lw_at lw_m2 187 rfl) rfl
theorem q520 : (Jvm.Cond.static ({ cls := "FogNets$Reader", name := "isLetter", desc := "(I)Z" } : Jvm.MethodName)) ∈ lw_all := lw_g (lw_at lw_m2 188 rfl) rfl
theorem q521 : (Jvm.Cond.code ({ cls := "FogNets$Reader", name := "isLetter", desc := "(I)Z" } : Jvm.MethodName) prog_19_method_4_code (1 : Nat) (Option.some Jvm.ClassFile.FieldType.boolean)) ∈ lw_all := lw_g (lw_at lw_m2 189 rfl) rfl
theorem q522 : (Jvm.Cond.constantLong "FogNets$Reader" (114 : Nat) (27 : Int64)) ∈ lw_all := lw_g (lw_at lw_m2 190 rfl) rfl
theorem q523 : (Jvm.Cond.constantLong "FogNets$Reader" (120 : Nat) (96 : Int64)) ∈ lw_all := lw_g (lw_at lw_m2 191 rfl) rfl
theorem q524 : (Jvm.Cond.methodLink "FogNets$Reader" (126 : Nat) ({ cls := "FogNets$Reader", name := "isDigit", desc := "(I)Z" } : Jvm.MethodName)) ∈ lw_all := lw_g (lw_at lw_m2 192 rfl) rfl
theorem q525 : (Jvm.Cond.static ({ cls := "FogNets$Reader", name := "isDigit", desc := "(I)Z" } : Jvm.MethodName)) ∈ lw_all := lw_g (lw_at lw_m2 193 rfl) rfl
theorem q526 : (Jvm.Cond.code ({ cls := "FogNets$Reader", name := "isDigit", desc := "(I)Z" } : Jvm.MethodName) prog_19_method_5_code (1 : Nat) (Option.some Jvm.ClassFile.FieldType.boolean)) ∈ lw_all := lw_g (lw_at lw_m2 194 rfl) rfl
theorem q527 : (Jvm.Cond.constantLong "FogNets$Reader" (129 : Nat) (10 : Int64)) ∈ lw_all := lw_g (lw_at lw_m2 195 rfl) rfl
theorem q528 : (Jvm.Cond.constantLong "FogNets$Reader" (131 : Nat) (48 : Int64)) ∈ lw_all := lw_g (lw_at lw_m2 196 rfl) rfl
theorem q529 : (Jvm.Cond.stringRef "FogNets$Reader" (133 : Nat) "()<=+-*;") ∈ lw_tbl := lw_at lw_m2 197 rfl
theorem q530 : (Jvm.Cond.methodLink "FogNets$Reader" (135 : Nat) ({ cls := "java/lang/String", name := "indexOf", desc := "(I)I" } : Jvm.MethodName)) ∈ lw_all := lw_g (lw_at lw_m2 198 rfl) rfl
theorem q616 : (Jvm.Cond.classLink "FogNets$Reader" (171 : Nat) "FogNets$Ridge") ∈ lw_all := lw_g (lw_at lw_m3 44 rfl) rfl
theorem q617 : (Jvm.Cond.methodLinkNest "FogNets$Reader" (173 : Nat) ({ cls := "FogNets$Ridge", name := "<init>", desc := "()V" } : Jvm.MethodName) "FogNets") ∈ lw_tbl := lw_at lw_m3 45 rfl
theorem q618 : (Jvm.Cond.methodLink "FogNets$Reader" (164 : Nat) ({ cls := "FogNets$Reader", name := "which", desc := "([Ljava/lang/String;)I" } : Jvm.MethodName)) ∈ lw_all := lw_g (lw_at lw_m3 46 rfl) rfl
theorem q619 : (Jvm.Cond.privateMethod ({ cls := "FogNets$Reader", name := "which", desc := "([Ljava/lang/String;)I" } : Jvm.MethodName)) ∈ lw_tbl := lw_at lw_m3 47 rfl
theorem q620 : (Jvm.Cond.instanceMethod ({ cls := "FogNets$Reader", name := "which", desc := "([Ljava/lang/String;)I" } : Jvm.MethodName)) ∈ lw_all := lw_g (lw_at lw_m3 48 rfl) rfl
theorem q621 : (Jvm.Cond.code ({ cls := "FogNets$Reader", name := "which", desc := "([Ljava/lang/String;)I" } : Jvm.MethodName) prog_19_method_10_code (3 : Nat) (Option.some Jvm.ClassFile.FieldType.int)) ∈ lw_all := lw_g (lw_at lw_m3 49 rfl) rfl
theorem q622 : (Jvm.Cond.methodLink "FogNets$Reader" (150 : Nat) ({ cls := "FogNets$Reader", name := "isWord", desc := "(Ljava/lang/String;)Z" } : Jvm.MethodName)) ∈ lw_all := lw_g (lw_at lw_m3 50 rfl) rfl
theorem q623 : (Jvm.Cond.privateMethod ({ cls := "FogNets$Reader", name := "isWord", desc := "(Ljava/lang/String;)Z" } : Jvm.MethodName)) ∈ lw_tbl := lw_at lw_m3 51 rfl
theorem q624 : (Jvm.Cond.instanceMethod ({ cls := "FogNets$Reader", name := "isWord", desc := "(Ljava/lang/String;)Z" } : Jvm.MethodName)) ∈ lw_all := lw_g (lw_at lw_m3 52 rfl) rfl
theorem q625 : (Jvm.Cond.code ({ cls := "FogNets$Reader", name := "isWord", desc := "(Ljava/lang/String;)Z" } : Jvm.MethodName) prog_19_method_8_code (2 : Nat) (Option.some Jvm.ClassFile.FieldType.boolean)) ∈ lw_all := lw_g (lw_at lw_m3 53 rfl) rfl
theorem q626 : (Jvm.Cond.methodLink "FogNets$Reader" (146 : Nat) ({ cls := "FogNets$Reader", name := "word", desc := "(Ljava/lang/String;)J" } : Jvm.MethodName)) ∈ lw_all := lw_g (lw_at lw_m3 54 rfl) rfl
theorem q627 : (Jvm.Cond.static ({ cls := "FogNets$Reader", name := "word", desc := "(Ljava/lang/String;)J" } : Jvm.MethodName)) ∈ lw_all := lw_g (lw_at lw_m3 55 rfl) rfl
theorem q628 : (Jvm.Cond.code ({ cls := "FogNets$Reader", name := "word", desc := "(Ljava/lang/String;)J" } : Jvm.MethodName) prog_19_method_3_code (4 : Nat) (Option.some Jvm.ClassFile.FieldType.long)) ∈ lw_all := lw_g (lw_at lw_m3 56 rfl) rfl
theorem q629 : (Jvm.Cond.methodLink "FogNets$Reader" (110 : Nat) ({ cls := "java/lang/String", name := "length", desc := "()I" } : Jvm.MethodName)) ∈ lw_all := lw_g (lw_at lw_m3 57 rfl) rfl
theorem q630 : (Jvm.Cond.methodLink "FogNets$Reader" (116 : Nat) ({ cls := "java/lang/String", name := "charAt", desc := "(I)C" } : Jvm.MethodName)) ∈ lw_all := lw_g (lw_at lw_m3 58 rfl) rfl
theorem q648 : (Jvm.Cond.methodLink "FogNets$Reader" (178 : Nat) ({ cls := "FogNets$Reader", name := "line", desc := "(I)V" } : Jvm.MethodName)) ∈ lw_all := lw_g (lw_at lw_m3 76 rfl) rfl
theorem q649 : (Jvm.Cond.privateMethod ({ cls := "FogNets$Reader", name := "line", desc := "(I)V" } : Jvm.MethodName)) ∈ lw_tbl := lw_at lw_m3 77 rfl
theorem q650 : (Jvm.Cond.instanceMethod ({ cls := "FogNets$Reader", name := "line", desc := "(I)V" } : Jvm.MethodName)) ∈ lw_all := lw_g (lw_at lw_m3 78 rfl) rfl
theorem q651 : (Jvm.Cond.code ({ cls := "FogNets$Reader", name := "line", desc := "(I)V" } : Jvm.MethodName) prog_19_method_18_code (2 : Nat) (Option.none : Option Jvm.ClassFile.FieldType)) ∈ lw_all := lw_g (lw_at lw_m3 79 rfl) rfl
theorem q652 : (Jvm.Cond.methodLink "FogNets$Reader" (195 : Nat) ({ cls := "java/util/ArrayList", name := "isEmpty", desc := "()Z" } : Jvm.MethodName)) ∈ lw_all := lw_g (lw_at lw_m3 80 rfl) rfl
theorem q656 : (Jvm.Cond.methodLink "FogNets$Reader" (160 : Nat) ({ cls := "FogNets$Reader", name := "wrong", desc := "(I)LFogNets$Wrong;" } : Jvm.MethodName)) ∈ lw_all := lw_g (lw_at lw_m3 84 rfl) rfl
theorem q657 : (Jvm.Cond.privateMethod ({ cls := "FogNets$Reader", name := "wrong", desc := "(I)LFogNets$Wrong;" } : Jvm.MethodName)) ∈ lw_tbl := lw_at lw_m3 85 rfl
theorem q658 : (Jvm.Cond.instanceMethod ({ cls := "FogNets$Reader", name := "wrong", desc := "(I)LFogNets$Wrong;" } : Jvm.MethodName)) ∈ lw_all := lw_g (lw_at lw_m3 86 rfl) rfl
theorem q659 : (Jvm.Cond.code ({ cls := "FogNets$Reader", name := "wrong", desc := "(I)LFogNets$Wrong;" } : Jvm.MethodName) prog_19_method_7_code (2 : Nat) (Option.some (Jvm.ClassFile.FieldType.object "FogNets$Wrong"))) ∈ lw_all := lw_g (lw_at lw_m3 87 rfl) rfl
theorem q660 : (Jvm.Cond.classLink "FogNets$Reader" (141 : Nat) "FogNets$Wrong") ∈ lw_all := lw_g (lw_at lw_m3 88 rfl) rfl
theorem q698 : (Jvm.Cond.methodLink "FogNets$Reader" (143 : Nat) ({ cls := "FogNets$Wrong", name := "<init>", desc := "(I)V" } : Jvm.MethodName)) ∈ lw_all := lw_g (lw_at lw_m3 126 rfl) rfl
theorem q721 : (Jvm.Cond.methodLink "FogNets$Reader" (201 : Nat) ({ cls := "FogNets$Reader", name := "number", desc := "(II)I" } : Jvm.MethodName)) ∈ lw_all := lw_g (lw_at lw_m3 149 rfl) rfl
theorem q722 : (Jvm.Cond.privateMethod ({ cls := "FogNets$Reader", name := "number", desc := "(II)I" } : Jvm.MethodName)) ∈ lw_tbl := lw_at lw_m3 150 rfl
theorem q723 : (Jvm.Cond.instanceMethod ({ cls := "FogNets$Reader", name := "number", desc := "(II)I" } : Jvm.MethodName)) ∈ lw_all := lw_g (lw_at lw_m3 151 rfl) rfl
theorem q724 : (Jvm.Cond.code ({ cls := "FogNets$Reader", name := "number", desc := "(II)I" } : Jvm.MethodName) prog_19_method_14_code (3 : Nat) (Option.some Jvm.ClassFile.FieldType.int)) ∈ lw_all := lw_g (lw_at lw_m3 152 rfl) rfl
theorem q725 : (Jvm.Cond.methodLink "FogNets$Reader" (217 : Nat) ({ cls := "FogNets$Reader", name := "law", desc := "([Ljava/lang/String;)LFogNets$Expression;" } : Jvm.MethodName)) ∈ lw_all := lw_g (lw_at lw_m3 153 rfl) rfl
theorem q726 : (Jvm.Cond.privateMethod ({ cls := "FogNets$Reader", name := "law", desc := "([Ljava/lang/String;)LFogNets$Expression;" } : Jvm.MethodName)) ∈ lw_tbl := lw_at lw_m3 154 rfl
theorem q727 : (Jvm.Cond.instanceMethod ({ cls := "FogNets$Reader", name := "law", desc := "([Ljava/lang/String;)LFogNets$Expression;" } : Jvm.MethodName)) ∈ lw_all := lw_g (lw_at lw_m3 155 rfl) rfl
theorem q728 : (Jvm.Cond.code ({ cls := "FogNets$Reader", name := "law", desc := "([Ljava/lang/String;)LFogNets$Expression;" } : Jvm.MethodName) prog_19_method_17_code (2 : Nat) (Option.some (Jvm.ClassFile.FieldType.object "FogNets$Expression"))) ∈ lw_all := lw_g (lw_at lw_m3 156 rfl) rfl
theorem q729 : (Jvm.Cond.methodLink "FogNets$Reader" (187 : Nat) ({ cls := "FogNets$Reader", name := "whole", desc := "()LFogNets$Expression;" } : Jvm.MethodName)) ∈ lw_all := lw_g (lw_at lw_m3 157 rfl) rfl
theorem q730 : (Jvm.Cond.privateMethod ({ cls := "FogNets$Reader", name := "whole", desc := "()LFogNets$Expression;" } : Jvm.MethodName)) ∈ lw_tbl := lw_at lw_m3 158 rfl
theorem q731 : (Jvm.Cond.instanceMethod ({ cls := "FogNets$Reader", name := "whole", desc := "()LFogNets$Expression;" } : Jvm.MethodName)) ∈ lw_all := lw_g (lw_at lw_m3 159 rfl) rfl
theorem q732 : (Jvm.Cond.code ({ cls := "FogNets$Reader", name := "whole", desc := "()LFogNets$Expression;" } : Jvm.MethodName) prog_19_method_23_code (1 : Nat) (Option.some (Jvm.ClassFile.FieldType.object "FogNets$Expression"))) ∈ lw_all := lw_g (lw_at lw_m3 160 rfl) rfl
theorem q733 : (Jvm.Cond.methodLink "FogNets$Reader" (271 : Nat) ({ cls := "FogNets$Reader", name := "all", desc := "()LFogNets$Expression;" } : Jvm.MethodName)) ∈ lw_all := lw_g (lw_at lw_m3 161 rfl) rfl
theorem q734 : (Jvm.Cond.privateMethod ({ cls := "FogNets$Reader", name := "all", desc := "()LFogNets$Expression;" } : Jvm.MethodName)) ∈ lw_tbl := lw_at lw_m3 162 rfl
theorem q735 : (Jvm.Cond.instanceMethod ({ cls := "FogNets$Reader", name := "all", desc := "()LFogNets$Expression;" } : Jvm.MethodName)) ∈ lw_all := lw_g (lw_at lw_m3 163 rfl) rfl
theorem q736 : (Jvm.Cond.code ({ cls := "FogNets$Reader", name := "all", desc := "()LFogNets$Expression;" } : Jvm.MethodName) prog_19_method_25_code (5 : Nat) (Option.some (Jvm.ClassFile.FieldType.object "FogNets$Expression"))) ∈ lw_all := lw_g (lw_at lw_m3 164 rfl) rfl
theorem q737 : (Jvm.Cond.methodLink "FogNets$Reader" (279 : Nat) ({ cls := "FogNets$Reader", name := "test", desc := "()LFogNets$Expression;" } : Jvm.MethodName)) ∈ lw_all := lw_g (lw_at lw_m3 165 rfl) rfl
theorem q738 : (Jvm.Cond.privateMethod ({ cls := "FogNets$Reader", name := "test", desc := "()LFogNets$Expression;" } : Jvm.MethodName)) ∈ lw_tbl := lw_at lw_m3 166 rfl
theorem q739 : (Jvm.Cond.instanceMethod ({ cls := "FogNets$Reader", name := "test", desc := "()LFogNets$Expression;" } : Jvm.MethodName)) ∈ lw_all := lw_g (lw_at lw_m3 167 rfl) rfl
theorem q740 : (Jvm.Cond.code ({ cls := "FogNets$Reader", name := "test", desc := "()LFogNets$Expression;" } : Jvm.MethodName) prog_19_method_26_code (5 : Nat) (Option.some (Jvm.ClassFile.FieldType.object "FogNets$Expression"))) ∈ lw_all := lw_g (lw_at lw_m3 168 rfl) rfl
theorem q741 : (Jvm.Cond.methodLink "FogNets$Reader" (295 : Nat) ({ cls := "FogNets$Reader", name := "sum", desc := "()LFogNets$Expression;" } : Jvm.MethodName)) ∈ lw_all := lw_g (lw_at lw_m3 169 rfl) rfl
theorem q742 : (Jvm.Cond.privateMethod ({ cls := "FogNets$Reader", name := "sum", desc := "()LFogNets$Expression;" } : Jvm.MethodName)) ∈ lw_tbl := lw_at lw_m3 170 rfl
theorem q743 : (Jvm.Cond.instanceMethod ({ cls := "FogNets$Reader", name := "sum", desc := "()LFogNets$Expression;" } : Jvm.MethodName)) ∈ lw_all := lw_g (lw_at lw_m3 171 rfl) rfl
theorem q744 : (Jvm.Cond.code ({ cls := "FogNets$Reader", name := "sum", desc := "()LFogNets$Expression;" } : Jvm.MethodName) prog_19_method_27_code (5 : Nat) (Option.some (Jvm.ClassFile.FieldType.object "FogNets$Expression"))) ∈ lw_all := lw_g (lw_at lw_m3 172 rfl) rfl
theorem q745 : (Jvm.Cond.methodLink "FogNets$Reader" (304 : Nat) ({ cls := "FogNets$Reader", name := "term", desc := "()LFogNets$Expression;" } : Jvm.MethodName)) ∈ lw_all := lw_g (lw_at lw_m3 173 rfl) rfl
theorem q746 : (Jvm.Cond.privateMethod ({ cls := "FogNets$Reader", name := "term", desc := "()LFogNets$Expression;" } : Jvm.MethodName)) ∈ lw_tbl := lw_at lw_m3 174 rfl
theorem q747 : (Jvm.Cond.instanceMethod ({ cls := "FogNets$Reader", name := "term", desc := "()LFogNets$Expression;" } : Jvm.MethodName)) ∈ lw_all := lw_g (lw_at lw_m3 175 rfl) rfl
theorem q748 : (Jvm.Cond.code ({ cls := "FogNets$Reader", name := "term", desc := "()LFogNets$Expression;" } : Jvm.MethodName) prog_19_method_28_code (4 : Nat) (Option.some (Jvm.ClassFile.FieldType.object "FogNets$Expression"))) ∈ lw_all := lw_g (lw_at lw_m3 176 rfl) rfl
theorem q749 : (Jvm.Cond.methodLink "FogNets$Reader" (313 : Nat) ({ cls := "FogNets$Reader", name := "part", desc := "()LFogNets$Expression;" } : Jvm.MethodName)) ∈ lw_all := lw_g (lw_at lw_m3 177 rfl) rfl
theorem q750 : (Jvm.Cond.privateMethod ({ cls := "FogNets$Reader", name := "part", desc := "()LFogNets$Expression;" } : Jvm.MethodName)) ∈ lw_tbl := lw_at lw_m3 178 rfl
theorem q751 : (Jvm.Cond.instanceMethod ({ cls := "FogNets$Reader", name := "part", desc := "()LFogNets$Expression;" } : Jvm.MethodName)) ∈ lw_all := lw_g (lw_at lw_m3 179 rfl) rfl
theorem q752 : (Jvm.Cond.code ({ cls := "FogNets$Reader", name := "part", desc := "()LFogNets$Expression;" } : Jvm.MethodName) prog_19_method_29_code (4 : Nat) (Option.some (Jvm.ClassFile.FieldType.object "FogNets$Expression"))) ∈ lw_all := lw_g (lw_at lw_m3 180 rfl) rfl
theorem q753 : (Jvm.Cond.methodLink "FogNets$Reader" (154 : Nat) ({ cls := "FogNets$Reader", name := "isSign", desc := "(I)Z" } : Jvm.MethodName)) ∈ lw_all := lw_g (lw_at lw_m3 181 rfl) rfl
theorem q754 : (Jvm.Cond.privateMethod ({ cls := "FogNets$Reader", name := "isSign", desc := "(I)Z" } : Jvm.MethodName)) ∈ lw_tbl := lw_at lw_m3 182 rfl
theorem q755 : (Jvm.Cond.instanceMethod ({ cls := "FogNets$Reader", name := "isSign", desc := "(I)Z" } : Jvm.MethodName)) ∈ lw_all := lw_g (lw_at lw_m3 183 rfl) rfl
theorem q756 : (Jvm.Cond.code ({ cls := "FogNets$Reader", name := "isSign", desc := "(I)Z" } : Jvm.MethodName) prog_19_method_11_code (2 : Nat) (Option.some Jvm.ClassFile.FieldType.boolean)) ∈ lw_all := lw_g (lw_at lw_m3 184 rfl) rfl
theorem q757 : (Jvm.Cond.classLink "FogNets$Reader" (319 : Nat) "FogNets$Fact") ∈ lw_all := lw_g (lw_at lw_m3 185 rfl) rfl
theorem q759 : (Jvm.Cond.methodLink "FogNets$Reader" (321 : Nat) ({ cls := "FogNets$Fact", name := "<init>", desc := "(I)V" } : Jvm.MethodName)) ∈ lw_all := lw_g (lw_at lw_m3 187 rfl) rfl
theorem q770 : (Jvm.Cond.classLink "FogNets$Reader" (322 : Nat) "FogNets$Plain") ∈ lw_all := lw_g (lw_at lw_m3 198 rfl) rfl
theorem q772 : (Jvm.Cond.methodLink "FogNets$Reader" (324 : Nat) ({ cls := "FogNets$Plain", name := "<init>", desc := "(I)V" } : Jvm.MethodName)) ∈ lw_all := lw_g (lw_at lw_m3 200 rfl) rfl
theorem q780 : (Jvm.Cond.classLink "FogNets$Reader" (325 : Nat) "FogNets$Not") ∈ lw_all := lw_g (lw_at lw_m3 208 rfl) rfl
theorem q782 : (Jvm.Cond.methodLink "FogNets$Reader" (327 : Nat) ({ cls := "FogNets$Not", name := "<init>", desc := "(LFogNets$Expression;)V" } : Jvm.MethodName)) ∈ lw_all := lw_g (lw_at lw_m3 210 rfl) rfl
theorem q790 : (Jvm.Cond.methodLink "FogNets$Reader" (184 : Nat) ({ cls := "FogNets$Reader", name := "sign", desc := "(I)V" } : Jvm.MethodName)) ∈ lw_all := lw_g (lw_at lw_m3 218 rfl) rfl
theorem q791 : (Jvm.Cond.privateMethod ({ cls := "FogNets$Reader", name := "sign", desc := "(I)V" } : Jvm.MethodName)) ∈ lw_tbl := lw_at lw_m3 219 rfl
theorem q792 : (Jvm.Cond.instanceMethod ({ cls := "FogNets$Reader", name := "sign", desc := "(I)V" } : Jvm.MethodName)) ∈ lw_all := lw_g (lw_at lw_m3 220 rfl) rfl
theorem q793 : (Jvm.Cond.code ({ cls := "FogNets$Reader", name := "sign", desc := "(I)V" } : Jvm.MethodName) prog_19_method_13_code (2 : Nat) (Option.none : Option Jvm.ClassFile.FieldType)) ∈ lw_all := lw_g (lw_at lw_m3 221 rfl) rfl
theorem q794 : (Jvm.Cond.methodLink "FogNets$Reader" (157 : Nat) ({ cls := "FogNets$Reader", name := "hasSign", desc := "(I)Z" } : Jvm.MethodName)) ∈ lw_all := lw_g (lw_at lw_m3 222 rfl) rfl
theorem q795 : (Jvm.Cond.privateMethod ({ cls := "FogNets$Reader", name := "hasSign", desc := "(I)Z" } : Jvm.MethodName)) ∈ lw_tbl := lw_at lw_m3 223 rfl
theorem q796 : (Jvm.Cond.instanceMethod ({ cls := "FogNets$Reader", name := "hasSign", desc := "(I)Z" } : Jvm.MethodName)) ∈ lw_all := lw_g (lw_at lw_m3 224 rfl) rfl
theorem q797 : (Jvm.Cond.code ({ cls := "FogNets$Reader", name := "hasSign", desc := "(I)Z" } : Jvm.MethodName) prog_19_method_12_code (3 : Nat) (Option.some Jvm.ClassFile.FieldType.boolean)) ∈ lw_all := lw_g (lw_at lw_m3 225 rfl) rfl
theorem q798 : (Jvm.Cond.methodLink "FogNets$Reader" (282 : Nat) ({ cls := "FogNets$Reader", name := "chain", desc := "(LFogNets$Expression;LFogNets$Chain;)LFogNets$Chain;" } : Jvm.MethodName)) ∈ lw_all := lw_g (lw_at lw_m3 226 rfl) rfl
theorem q799 : (Jvm.Cond.static ({ cls := "FogNets$Reader", name := "chain", desc := "(LFogNets$Expression;LFogNets$Chain;)LFogNets$Chain;" } : Jvm.MethodName)) ∈ lw_all := lw_g (lw_at lw_m3 227 rfl) rfl
theorem q800 : (Jvm.Cond.code ({ cls := "FogNets$Reader", name := "chain", desc := "(LFogNets$Expression;LFogNets$Chain;)LFogNets$Chain;" } : Jvm.MethodName) prog_19_method_24_code (2 : Nat) (Option.some (Jvm.ClassFile.FieldType.object "FogNets$Chain"))) ∈ lw_all := lw_g (lw_at lw_m3 228 rfl) rfl
theorem q801 : (Jvm.Cond.classLink "FogNets$Reader" (274 : Nat) "FogNets$Chain") ∈ lw_all := lw_g (lw_at lw_m3 229 rfl) rfl
theorem q803 : (Jvm.Cond.methodLink "FogNets$Reader" (276 : Nat) ({ cls := "FogNets$Chain", name := "<init>", desc := "(LFogNets$Expression;)V" } : Jvm.MethodName)) ∈ lw_all := lw_g (lw_at lw_m3 231 rfl) rfl
theorem q811 : (Jvm.Cond.fieldLink "FogNets$Reader" (286 : Nat) "FogNets$Chain" "links" "Ljava/util/ArrayList;") ∈ lw_all := lw_g (lw_at lw_m3 239 rfl) rfl
theorem q817 : (Jvm.Cond.classLink "FogNets$Reader" (316 : Nat) "FogNets$Times") ∈ lw_all := lw_g (lw_at lw_m4 5 rfl) rfl
theorem q819 : (Jvm.Cond.methodLink "FogNets$Reader" (318 : Nat) ({ cls := "FogNets$Times", name := "<init>", desc := "(LFogNets$Expression;)V" } : Jvm.MethodName)) ∈ lw_all := lw_g (lw_at lw_m4 7 rfl) rfl
theorem q830 : (Jvm.Cond.methodLink "FogNets$Reader" (256 : Nat) ({ cls := "java/util/ArrayList", name := "add", desc := "(Ljava/lang/Object;)Z" } : Jvm.MethodName)) ∈ lw_all := lw_g (lw_at lw_m4 18 rfl) rfl
theorem q876 : (Jvm.Cond.selects "FogNets$Reader" ({ cls := "java/lang/Object", name := "getClass", desc := "()Ljava/lang/Class;" } : Jvm.MethodName) ({ cls := "java/lang/Object", name := "getClass", desc := "()Ljava/lang/Class;" } : Jvm.MethodName)) ∈ lw_all := lw_g (lw_at lw_m4 64 rfl) rfl
theorem q901 : (Jvm.Cond.classLink "FogNets$Reader" (307 : Nat) "FogNets$Plus") ∈ lw_all := lw_g (lw_at lw_m4 89 rfl) rfl
theorem q903 : (Jvm.Cond.methodLink "FogNets$Reader" (309 : Nat) ({ cls := "FogNets$Plus", name := "<init>", desc := "(LFogNets$Expression;)V" } : Jvm.MethodName)) ∈ lw_all := lw_g (lw_at lw_m4 91 rfl) rfl
theorem q909 : (Jvm.Cond.classLink "FogNets$Reader" (310 : Nat) "FogNets$Minus") ∈ lw_all := lw_g (lw_at lw_m4 97 rfl) rfl
theorem q911 : (Jvm.Cond.methodLink "FogNets$Reader" (312 : Nat) ({ cls := "FogNets$Minus", name := "<init>", desc := "(LFogNets$Expression;)V" } : Jvm.MethodName)) ∈ lw_all := lw_g (lw_at lw_m4 99 rfl) rfl
theorem q917 : (Jvm.Cond.classLink "FogNets$Reader" (298 : Nat) "FogNets$Less") ∈ lw_all := lw_g (lw_at lw_m4 105 rfl) rfl
theorem q919 : (Jvm.Cond.methodLink "FogNets$Reader" (300 : Nat) ({ cls := "FogNets$Less", name := "<init>", desc := "(LFogNets$Expression;)V" } : Jvm.MethodName)) ∈ lw_all := lw_g (lw_at lw_m4 107 rfl) rfl
theorem q925 : (Jvm.Cond.classLink "FogNets$Reader" (301 : Nat) "FogNets$Same") ∈ lw_all := lw_g (lw_at lw_m4 113 rfl) rfl
theorem q927 : (Jvm.Cond.methodLink "FogNets$Reader" (303 : Nat) ({ cls := "FogNets$Same", name := "<init>", desc := "(LFogNets$Expression;)V" } : Jvm.MethodName)) ∈ lw_all := lw_g (lw_at lw_m4 115 rfl) rfl
theorem q933 : (Jvm.Cond.classLink "FogNets$Reader" (289 : Nat) "FogNets$And") ∈ lw_all := lw_g (lw_at lw_m4 121 rfl) rfl
theorem q935 : (Jvm.Cond.methodLink "FogNets$Reader" (291 : Nat) ({ cls := "FogNets$And", name := "<init>", desc := "(LFogNets$Expression;)V" } : Jvm.MethodName)) ∈ lw_all := lw_g (lw_at lw_m4 123 rfl) rfl
theorem q941 : (Jvm.Cond.classLink "FogNets$Reader" (292 : Nat) "FogNets$Or") ∈ lw_all := lw_g (lw_at lw_m4 129 rfl) rfl
theorem q943 : (Jvm.Cond.methodLink "FogNets$Reader" (294 : Nat) ({ cls := "FogNets$Or", name := "<init>", desc := "(LFogNets$Expression;)V" } : Jvm.MethodName)) ∈ lw_all := lw_g (lw_at lw_m4 131 rfl) rfl
theorem q949 : (Jvm.Cond.methodLink "FogNets$Reader" (180 : Nat) ({ cls := "FogNets$Reader", name := "village", desc := "()V" } : Jvm.MethodName)) ∈ lw_all := lw_g (lw_at lw_m4 137 rfl) rfl
theorem q950 : (Jvm.Cond.privateMethod ({ cls := "FogNets$Reader", name := "village", desc := "()V" } : Jvm.MethodName)) ∈ lw_tbl := lw_at lw_m4 138 rfl
theorem q951 : (Jvm.Cond.instanceMethod ({ cls := "FogNets$Reader", name := "village", desc := "()V" } : Jvm.MethodName)) ∈ lw_all := lw_g (lw_at lw_m4 139 rfl) rfl
theorem q952 : (Jvm.Cond.code ({ cls := "FogNets$Reader", name := "village", desc := "()V" } : Jvm.MethodName) prog_19_method_20_code (4 : Nat) (Option.none : Option Jvm.ClassFile.FieldType)) ∈ lw_all := lw_g (lw_at lw_m4 140 rfl) rfl
theorem q953 : (Jvm.Cond.methodLink "FogNets$Reader" (233 : Nat) ({ cls := "java/util/ArrayList", name := "size", desc := "()I" } : Jvm.MethodName)) ∈ lw_all := lw_g (lw_at lw_m4 141 rfl) rfl
theorem q954 : (Jvm.Cond.methodLink "FogNets$Reader" (236 : Nat) ({ cls := "FogNets$Reader", name := "isName", desc := "()Z" } : Jvm.MethodName)) ∈ lw_all := lw_g (lw_at lw_m4 142 rfl) rfl
theorem q955 : (Jvm.Cond.privateMethod ({ cls := "FogNets$Reader", name := "isName", desc := "()Z" } : Jvm.MethodName)) ∈ lw_tbl := lw_at lw_m4 143 rfl
theorem q956 : (Jvm.Cond.instanceMethod ({ cls := "FogNets$Reader", name := "isName", desc := "()Z" } : Jvm.MethodName)) ∈ lw_all := lw_g (lw_at lw_m4 144 rfl) rfl
theorem q957 : (Jvm.Cond.code ({ cls := "FogNets$Reader", name := "isName", desc := "()Z" } : Jvm.MethodName) prog_19_method_15_code (1 : Nat) (Option.some Jvm.ClassFile.FieldType.boolean)) ∈ lw_all := lw_g (lw_at lw_m4 145 rfl) rfl
theorem q958 : (Jvm.Cond.methodLink "FogNets$Reader" (239 : Nat) ({ cls := "FogNets$Ridge", name := "find", desc := "(J)I" } : Jvm.MethodName)) ∈ lw_all := lw_g (lw_at lw_m4 146 rfl) rfl
theorem q969 : (Jvm.Cond.methodLink "FogNets$Reader" (245 : Nat) ({ cls := "FogNets$Reader", name := "number", desc := "(Ljava/lang/String;II)I" } : Jvm.MethodName)) ∈ lw_all := lw_g (lw_at lw_m4 157 rfl) rfl
theorem q970 : (Jvm.Cond.privateMethod ({ cls := "FogNets$Reader", name := "number", desc := "(Ljava/lang/String;II)I" } : Jvm.MethodName)) ∈ lw_tbl := lw_at lw_m4 158 rfl
theorem q971 : (Jvm.Cond.instanceMethod ({ cls := "FogNets$Reader", name := "number", desc := "(Ljava/lang/String;II)I" } : Jvm.MethodName)) ∈ lw_all := lw_g (lw_at lw_m4 159 rfl) rfl
theorem q972 : (Jvm.Cond.code ({ cls := "FogNets$Reader", name := "number", desc := "(Ljava/lang/String;II)I" } : Jvm.MethodName) prog_19_method_19_code (4 : Nat) (Option.some Jvm.ClassFile.FieldType.int)) ∈ lw_all := lw_g (lw_at lw_m4 160 rfl) rfl
theorem q973 : (Jvm.Cond.methodLink "FogNets$Reader" (226 : Nat) ({ cls := "FogNets$Reader", name := "takeWord", desc := "(Ljava/lang/String;)V" } : Jvm.MethodName)) ∈ lw_all := lw_g (lw_at lw_m4 161 rfl) rfl
theorem q974 : (Jvm.Cond.privateMethod ({ cls := "FogNets$Reader", name := "takeWord", desc := "(Ljava/lang/String;)V" } : Jvm.MethodName)) ∈ lw_tbl := lw_at lw_m4 162 rfl
theorem q975 : (Jvm.Cond.instanceMethod ({ cls := "FogNets$Reader", name := "takeWord", desc := "(Ljava/lang/String;)V" } : Jvm.MethodName)) ∈ lw_all := lw_g (lw_at lw_m4 163 rfl) rfl
theorem q976 : (Jvm.Cond.code ({ cls := "FogNets$Reader", name := "takeWord", desc := "(Ljava/lang/String;)V" } : Jvm.MethodName) prog_19_method_22_code (2 : Nat) (Option.none : Option Jvm.ClassFile.FieldType)) ∈ lw_all := lw_g (lw_at lw_m4 164 rfl) rfl
theorem q977 : (Jvm.Cond.methodLink "FogNets$Reader" (265 : Nat) ({ cls := "FogNets$Reader", name := "hasWord", desc := "(Ljava/lang/String;)Z" } : Jvm.MethodName)) ∈ lw_all := lw_g (lw_at lw_m4 165 rfl) rfl
theorem q978 : (Jvm.Cond.privateMethod ({ cls := "FogNets$Reader", name := "hasWord", desc := "(Ljava/lang/String;)Z" } : Jvm.MethodName)) ∈ lw_tbl := lw_at lw_m4 166 rfl
theorem q979 : (Jvm.Cond.instanceMethod ({ cls := "FogNets$Reader", name := "hasWord", desc := "(Ljava/lang/String;)Z" } : Jvm.MethodName)) ∈ lw_all := lw_g (lw_at lw_m4 167 rfl) rfl
theorem q980 : (Jvm.Cond.code ({ cls := "FogNets$Reader", name := "hasWord", desc := "(Ljava/lang/String;)Z" } : Jvm.MethodName) prog_19_method_9_code (3 : Nat) (Option.some Jvm.ClassFile.FieldType.boolean)) ∈ lw_all := lw_g (lw_at lw_m4 168 rfl) rfl
theorem q981 : (Jvm.Cond.methodLink "FogNets$Reader" (250 : Nat) ({ cls := "java/lang/Long", name := "valueOf", desc := "(J)Ljava/lang/Long;" } : Jvm.MethodName)) ∈ lw_all := lw_g (lw_at lw_m4 169 rfl) rfl
theorem q1001 : (Jvm.Cond.methodLink "FogNets$Reader" (182 : Nat) ({ cls := "FogNets$Reader", name := "net", desc := "()V" } : Jvm.MethodName)) ∈ lw_all := lw_g (lw_at lw_m4 189 rfl) rfl
theorem q1002 : (Jvm.Cond.privateMethod ({ cls := "FogNets$Reader", name := "net", desc := "()V" } : Jvm.MethodName)) ∈ lw_tbl := lw_at lw_m4 190 rfl
theorem q1003 : (Jvm.Cond.instanceMethod ({ cls := "FogNets$Reader", name := "net", desc := "()V" } : Jvm.MethodName)) ∈ lw_all := lw_g (lw_at lw_m4 191 rfl) rfl
theorem q1004 : (Jvm.Cond.code ({ cls := "FogNets$Reader", name := "net", desc := "()V" } : Jvm.MethodName) prog_19_method_21_code (6 : Nat) (Option.none : Option Jvm.ClassFile.FieldType)) ∈ lw_all := lw_g (lw_at lw_m4 192 rfl) rfl
theorem q1005 : (Jvm.Cond.methodLinkNest "FogNets$Reader" (262 : Nat) ({ cls := "FogNets", name := "net", desc := "(III)LFogNets$Net;" } : Jvm.MethodName) "FogNets") ∈ lw_tbl := lw_at lw_m4 193 rfl
theorem q2065 : (Jvm.Cond.castable "FogNets$Reader" "java/lang/Object") ∈ lw_tbl := lw_at lw_m9 53 rfl
theorem in_X2 : ∀ w ∈ wsX20, w ∈ lw_all := lw_in wsX20 [199, 201, 203, 205, 207, 209, 211, 213, 215, 217, 219, 221, 223, 225, 227] (by decide +kernel) (by decide +kernel)
