/-! FogNetsModel -/
set_option maxRecDepth 100000
def RX8 : String := "FogNetsModel"
def TX8 : u_T := fun k => match k with
  | 0 => ("FogNetsModel", "thrown", "I", false)
  | 1 => ("FogNetsModel", "taped", "I", false)
  | 2 => ("FogNetsModel", "tape", "[I", true)
  | 3 => ("FogNetsModel", "size", "I", false)
  | 4 => ("FogNetsModel", "place", "I", false)
  | 5 => ("FogNetsModel", "begin", "I", false)
  | 6 => ("FogNetsModel", "token", "I", false)
  | 7 => ("FogNetsModel", "word", "J", false)
  | 8 => ("FogNetsModel", "told", "I", false)
  | 9 => ("FogNetsModel", "wrong", "I", false)
  | 10 => ("FogNetsModel", "ridge", "[I", true)
  | 11 => ("FogNetsModel", "thirst", "[I", true)
  | 12 => ("FogNetsModel", "tankAt", "[I", true)
  | 13 => ("FogNetsModel", "names", "[J", true)
  | 14 => ("FogNetsModel", "villageOf", "[I", true)
  | 15 => ("FogNetsModel", "placeAt", "[I", true)
  | 16 => ("FogNetsModel", "mesh", "[I", true)
  | 17 => ("FogNetsModel", "kind", "[I", true)
  | 18 => ("FogNetsModel", "lineFrom", "[I", true)
  | 19 => ("FogNetsModel", "lineTo", "[I", true)
  | 20 => ("FogNetsModel", "codes", "[I", true)
  | 21 => ("FogNetsModel", "code", "I", false)
  | 22 => ("FogNetsModel", "isTold", "I", false)
  | 23 => ("FogNetsModel", "isFog", "Z", false)
  | 24 => ("FogNetsModel", "opened", "[I", true)
  | 25 => ("FogNetsModel", "compared", "[Z", true)
  | 26 => ("FogNetsModel", "kept", "[I", true)
  | 27 => ("FogNetsModel", "keptBy", "[I", true)
  | 28 => ("FogNetsModel", "ahead", "[I", true)
  | 29 => ("FogNetsModel", "against", "[I", true)
  | 30 => ("FogNetsModel", "sum", "[I", true)
  | 31 => ("FogNetsModel", "sumBy", "[I", true)
  | 32 => ("FogNetsModel", "term", "[I", true)
  | 33 => ("FogNetsModel", "termBy", "[I", true)
  | 34 => ("FogNetsModel", "byNot", "[I", true)
  | 35 => ("FogNetsModel", "valueOf", "[I", true)
  | 36 => ("FogNetsModel", "given", "I", false)
  | 37 => ("FogNetsModel", "s", "[I", true)
  | 38 => ("FogNetsModel", "aside", "[I", true)
  | 39 => ("FogNetsModel", "marked", "[I", true)
  | 40 => ("FogNetsModel", "takes", "[I", true)
  | 41 => ("FogNetsModel", "been", "[I", true)
  | 42 => ("FogNetsModel", "playedRounds", "I", false)
  | 43 => ("FogNetsModel", "isRest", "Z", false)
  | 44 => ("FogNetsModel", "worthOf", "[I", true)
  | 45 => ("FogNetsModel", "g", "J", false)
  | _ => ("FogNetsModel", "isLaid", "[Z", true)
def tyX8 : Nat → FieldType := fun k => match k with
  | 0 => .int
  | 1 => .int
  | 2 => .array .int
  | 3 => .int
  | 4 => .int
  | 5 => .int
  | 6 => .int
  | 7 => .long
  | 8 => .int
  | 9 => .int
  | 10 => .array .int
  | 11 => .array .int
  | 12 => .array .int
  | 13 => .array .long
  | 14 => .array .int
  | 15 => .array .int
  | 16 => .array .int
  | 17 => .array .int
  | 18 => .array .int
  | 19 => .array .int
  | 20 => .array .int
  | 21 => .int
  | 22 => .int
  | 23 => .boolean
  | 24 => .array .int
  | 25 => .array .boolean
  | 26 => .array .int
  | 27 => .array .int
  | 28 => .array .int
  | 29 => .array .int
  | 30 => .array .int
  | 31 => .array .int
  | 32 => .array .int
  | 33 => .array .int
  | 34 => .array .int
  | 35 => .array .int
  | 36 => .int
  | 37 => .array .int
  | 38 => .array .int
  | 39 => .array .int
  | 40 => .array .int
  | 41 => .array .int
  | 42 => .int
  | 43 => .boolean
  | 44 => .array .int
  | 45 => .long
  | _ => .array .boolean
abbrev wsX80 : List Cond := u_ws RX8 TX8 47
set_option maxRecDepth 100000 in
theorem nmX8 : ∀ a, a < 47 → ∀ b, b < 47 → a ≠ b → (TX8 a).2.1 ≠ (TX8 b).2.1 := by decide +kernel
set_option maxRecDepth 100000 in
theorem tyX8_ok : ∀ k, k < 47 → parseFieldDescriptor (TX8 k).2.2.1 = some (tyX8 k) := by decide +kernel
abbrev cX8_init : ByteArray := prog_30_method_1_code
def yX8_init : MethodName := ⟨RX8, "<init>", "()V"⟩
def dkwX8_init_10 : List UInt8 := [181, 0, 96, 42, 16, 64, 188, 10, 181, 0, 99, 42, 7, 188, 4, 181, 0, 102, 42, 3, 182, 0, 105, 177]
abbrev dktX8_init_10 : List UInt8 := dkwX8_init_10 ++ []
def dkwX8_init_9 : List UInt8 := [42, 17, 1, 64, 188, 10, 181, 0, 90, 42, 16, 13, 188, 10, 181, 0, 93, 42, 17, 4, 188, 188, 10]
abbrev dktX8_init_9 : List UInt8 := dkwX8_init_9 ++ dktX8_init_10
def dkwX8_init_8 : List UInt8 := [42, 16, 20, 188, 10, 181, 0, 81, 42, 16, 80, 188, 10, 181, 0, 84, 42, 16, 80, 188, 10, 181, 0, 87]
abbrev dktX8_init_8 : List UInt8 := dkwX8_init_8 ++ dktX8_init_9
def dkwX8_init_7 : List UInt8 := [42, 16, 7, 188, 10, 181, 0, 72, 42, 16, 7, 188, 10, 181, 0, 75, 42, 16, 7, 188, 10, 181, 0, 78]
abbrev dktX8_init_7 : List UInt8 := dkwX8_init_7 ++ dktX8_init_8
def dkwX8_init_6 : List UInt8 := [42, 16, 7, 188, 10, 181, 0, 63, 42, 16, 7, 188, 10, 181, 0, 66, 42, 16, 7, 188, 10, 181, 0, 69]
abbrev dktX8_init_6 : List UInt8 := dkwX8_init_6 ++ dktX8_init_7
def dkwX8_init_5 : List UInt8 := [42, 16, 7, 188, 10, 181, 0, 54, 42, 16, 7, 188, 10, 181, 0, 57, 42, 16, 7, 188, 10, 181, 0, 60]
abbrev dktX8_init_5 : List UInt8 := dkwX8_init_5 ++ dktX8_init_6
def dkwX8_init_4 : List UInt8 := [17, 23, 112, 188, 10, 181, 0, 44, 42, 16, 7, 188, 10, 181, 0, 47, 42, 16, 7, 188, 4, 181, 0, 50]
abbrev dktX8_init_4 : List UInt8 := dkwX8_init_4 ++ dktX8_init_5
def dkwX8_init_3 : List UInt8 := [188, 10, 181, 0, 35, 42, 16, 12, 188, 10, 181, 0, 38, 42, 16, 12, 188, 10, 181, 0, 41, 42]
abbrev dktX8_init_3 : List UInt8 := dkwX8_init_3 ++ dktX8_init_4
def dkwX8_init_2 : List UInt8 := [188, 10, 181, 0, 26, 42, 16, 78, 188, 10, 181, 0, 29, 42, 16, 78, 188, 10, 181, 0, 32, 42, 16, 78]
abbrev dktX8_init_2 : List UInt8 := dkwX8_init_2 ++ dktX8_init_3
def dkwX8_init_1 : List UInt8 := [188, 10, 181, 0, 16, 42, 16, 36, 188, 10, 181, 0, 19, 42, 16, 6, 188, 11, 181, 0, 22, 42, 16, 78]
abbrev dktX8_init_1 : List UInt8 := dkwX8_init_1 ++ dktX8_init_2
def dkwX8_init_0 : List UInt8 := [42, 183, 0, 1, 42, 17, 3, 232, 188, 10, 181, 0, 7, 42, 16, 42, 188, 10, 181, 0, 13, 42, 16, 36]
abbrev dktX8_init_0 : List UInt8 := dkwX8_init_0 ++ dktX8_init_1
theorem dksX8_init_0 : cX8_init.data.toList.drop 0 = dktX8_init_0 := by decide +kernel
theorem dksX8_init_1 : cX8_init.data.toList.drop 24 = dktX8_init_1 := dk_seg dksX8_init_0 24 rfl rfl
theorem dksX8_init_2 : cX8_init.data.toList.drop 48 = dktX8_init_2 := dk_seg dksX8_init_1 24 rfl rfl
theorem dksX8_init_3 : cX8_init.data.toList.drop 72 = dktX8_init_3 := dk_seg dksX8_init_2 24 rfl rfl
theorem dksX8_init_4 : cX8_init.data.toList.drop 94 = dktX8_init_4 := dk_seg dksX8_init_3 22 rfl rfl
theorem dksX8_init_5 : cX8_init.data.toList.drop 118 = dktX8_init_5 := dk_seg dksX8_init_4 24 rfl rfl
theorem dksX8_init_6 : cX8_init.data.toList.drop 142 = dktX8_init_6 := dk_seg dksX8_init_5 24 rfl rfl
theorem dksX8_init_7 : cX8_init.data.toList.drop 166 = dktX8_init_7 := dk_seg dksX8_init_6 24 rfl rfl
theorem dksX8_init_8 : cX8_init.data.toList.drop 190 = dktX8_init_8 := dk_seg dksX8_init_7 24 rfl rfl
theorem dksX8_init_9 : cX8_init.data.toList.drop 214 = dktX8_init_9 := dk_seg dksX8_init_8 24 rfl rfl
theorem dksX8_init_10 : cX8_init.data.toList.drop 237 = dktX8_init_10 := dk_seg dksX8_init_9 23 rfl rfl
theorem dX8_init_0 : decode cX8_init 0 = .ok (.aload_n 0, 1) := dk_42 (dk_at dksX8_init_0 0 rfl rfl)
theorem dX8_init_1 : decode cX8_init 1 = .ok (.invokespecial 1, 3) := dk_183 0 1 (dk_at dksX8_init_0 1 rfl rfl)
theorem dX8_init_4 : decode cX8_init 4 = .ok (.aload_n 0, 1) := dk_42 (dk_at dksX8_init_0 4 rfl rfl)
theorem dX8_init_5 : decode cX8_init 5 = .ok (.sipush 1000, 3) := dk_17 3 232 (dk_at dksX8_init_0 5 rfl rfl)
theorem dX8_init_8 : decode cX8_init 8 = .ok (.newarray .int, 2) := dk_188_10 (dk_at dksX8_init_0 8 rfl rfl)
theorem dX8_init_10 : decode cX8_init 10 = .ok (.putfield 7, 3) := dk_181 0 7 (dk_at dksX8_init_0 10 rfl rfl)
theorem dX8_init_13 : decode cX8_init 13 = .ok (.aload_n 0, 1) := dk_42 (dk_at dksX8_init_0 13 rfl rfl)
theorem dX8_init_14 : decode cX8_init 14 = .ok (.bipush 42, 2) := dk_16 42 (dk_at dksX8_init_0 14 rfl rfl)
theorem dX8_init_16 : decode cX8_init 16 = .ok (.newarray .int, 2) := dk_188_10 (dk_at dksX8_init_0 16 rfl rfl)
theorem dX8_init_18 : decode cX8_init 18 = .ok (.putfield 13, 3) := dk_181 0 13 (dk_at dksX8_init_0 18 rfl rfl)
theorem dX8_init_21 : decode cX8_init 21 = .ok (.aload_n 0, 1) := dk_42 (dk_at dksX8_init_0 21 rfl rfl)
theorem dX8_init_22 : decode cX8_init 22 = .ok (.bipush 36, 2) := dk_16 36 (dk_at dksX8_init_0 22 rfl rfl)
theorem dX8_init_24 : decode cX8_init 24 = .ok (.newarray .int, 2) := dk_188_10 (dk_at dksX8_init_1 0 rfl rfl)
theorem dX8_init_26 : decode cX8_init 26 = .ok (.putfield 16, 3) := dk_181 0 16 (dk_at dksX8_init_1 2 rfl rfl)
theorem dX8_init_29 : decode cX8_init 29 = .ok (.aload_n 0, 1) := dk_42 (dk_at dksX8_init_1 5 rfl rfl)
theorem dX8_init_30 : decode cX8_init 30 = .ok (.bipush 36, 2) := dk_16 36 (dk_at dksX8_init_1 6 rfl rfl)
theorem dX8_init_32 : decode cX8_init 32 = .ok (.newarray .int, 2) := dk_188_10 (dk_at dksX8_init_1 8 rfl rfl)
theorem dX8_init_34 : decode cX8_init 34 = .ok (.putfield 19, 3) := dk_181 0 19 (dk_at dksX8_init_1 10 rfl rfl)
theorem dX8_init_37 : decode cX8_init 37 = .ok (.aload_n 0, 1) := dk_42 (dk_at dksX8_init_1 13 rfl rfl)
theorem dX8_init_38 : decode cX8_init 38 = .ok (.bipush 6, 2) := dk_16 6 (dk_at dksX8_init_1 14 rfl rfl)
theorem dX8_init_40 : decode cX8_init 40 = .ok (.newarray .long, 2) := dk_188_11 (dk_at dksX8_init_1 16 rfl rfl)
theorem dX8_init_42 : decode cX8_init 42 = .ok (.putfield 22, 3) := dk_181 0 22 (dk_at dksX8_init_1 18 rfl rfl)
theorem dX8_init_45 : decode cX8_init 45 = .ok (.aload_n 0, 1) := dk_42 (dk_at dksX8_init_1 21 rfl rfl)
theorem dX8_init_46 : decode cX8_init 46 = .ok (.bipush 78, 2) := dk_16 78 (dk_at dksX8_init_1 22 rfl rfl)
theorem dX8_init_48 : decode cX8_init 48 = .ok (.newarray .int, 2) := dk_188_10 (dk_at dksX8_init_2 0 rfl rfl)
theorem dX8_init_50 : decode cX8_init 50 = .ok (.putfield 26, 3) := dk_181 0 26 (dk_at dksX8_init_2 2 rfl rfl)
theorem dX8_init_53 : decode cX8_init 53 = .ok (.aload_n 0, 1) := dk_42 (dk_at dksX8_init_2 5 rfl rfl)
theorem dX8_init_54 : decode cX8_init 54 = .ok (.bipush 78, 2) := dk_16 78 (dk_at dksX8_init_2 6 rfl rfl)
theorem dX8_init_56 : decode cX8_init 56 = .ok (.newarray .int, 2) := dk_188_10 (dk_at dksX8_init_2 8 rfl rfl)
theorem dX8_init_58 : decode cX8_init 58 = .ok (.putfield 29, 3) := dk_181 0 29 (dk_at dksX8_init_2 10 rfl rfl)
theorem dX8_init_61 : decode cX8_init 61 = .ok (.aload_n 0, 1) := dk_42 (dk_at dksX8_init_2 13 rfl rfl)
theorem dX8_init_62 : decode cX8_init 62 = .ok (.bipush 78, 2) := dk_16 78 (dk_at dksX8_init_2 14 rfl rfl)
theorem dX8_init_64 : decode cX8_init 64 = .ok (.newarray .int, 2) := dk_188_10 (dk_at dksX8_init_2 16 rfl rfl)
theorem dX8_init_66 : decode cX8_init 66 = .ok (.putfield 32, 3) := dk_181 0 32 (dk_at dksX8_init_2 18 rfl rfl)
theorem dX8_init_69 : decode cX8_init 69 = .ok (.aload_n 0, 1) := dk_42 (dk_at dksX8_init_2 21 rfl rfl)
theorem dX8_init_70 : decode cX8_init 70 = .ok (.bipush 78, 2) := dk_16 78 (dk_at dksX8_init_2 22 rfl rfl)
theorem dX8_init_72 : decode cX8_init 72 = .ok (.newarray .int, 2) := dk_188_10 (dk_at dksX8_init_3 0 rfl rfl)
theorem dX8_init_74 : decode cX8_init 74 = .ok (.putfield 35, 3) := dk_181 0 35 (dk_at dksX8_init_3 2 rfl rfl)
theorem dX8_init_77 : decode cX8_init 77 = .ok (.aload_n 0, 1) := dk_42 (dk_at dksX8_init_3 5 rfl rfl)
theorem dX8_init_78 : decode cX8_init 78 = .ok (.bipush 12, 2) := dk_16 12 (dk_at dksX8_init_3 6 rfl rfl)
theorem dX8_init_80 : decode cX8_init 80 = .ok (.newarray .int, 2) := dk_188_10 (dk_at dksX8_init_3 8 rfl rfl)
theorem dX8_init_82 : decode cX8_init 82 = .ok (.putfield 38, 3) := dk_181 0 38 (dk_at dksX8_init_3 10 rfl rfl)
theorem dX8_init_85 : decode cX8_init 85 = .ok (.aload_n 0, 1) := dk_42 (dk_at dksX8_init_3 13 rfl rfl)
theorem dX8_init_86 : decode cX8_init 86 = .ok (.bipush 12, 2) := dk_16 12 (dk_at dksX8_init_3 14 rfl rfl)
theorem dX8_init_88 : decode cX8_init 88 = .ok (.newarray .int, 2) := dk_188_10 (dk_at dksX8_init_3 16 rfl rfl)
theorem dX8_init_90 : decode cX8_init 90 = .ok (.putfield 41, 3) := dk_181 0 41 (dk_at dksX8_init_3 18 rfl rfl)
theorem dX8_init_93 : decode cX8_init 93 = .ok (.aload_n 0, 1) := dk_42 (dk_at dksX8_init_3 21 rfl rfl)
theorem dX8_init_94 : decode cX8_init 94 = .ok (.sipush 6000, 3) := dk_17 23 112 (dk_at dksX8_init_4 0 rfl rfl)
theorem dX8_init_97 : decode cX8_init 97 = .ok (.newarray .int, 2) := dk_188_10 (dk_at dksX8_init_4 3 rfl rfl)
theorem dX8_init_99 : decode cX8_init 99 = .ok (.putfield 44, 3) := dk_181 0 44 (dk_at dksX8_init_4 5 rfl rfl)
theorem dX8_init_102 : decode cX8_init 102 = .ok (.aload_n 0, 1) := dk_42 (dk_at dksX8_init_4 8 rfl rfl)
theorem dX8_init_103 : decode cX8_init 103 = .ok (.bipush 7, 2) := dk_16 7 (dk_at dksX8_init_4 9 rfl rfl)
theorem dX8_init_105 : decode cX8_init 105 = .ok (.newarray .int, 2) := dk_188_10 (dk_at dksX8_init_4 11 rfl rfl)
theorem dX8_init_107 : decode cX8_init 107 = .ok (.putfield 47, 3) := dk_181 0 47 (dk_at dksX8_init_4 13 rfl rfl)
theorem dX8_init_110 : decode cX8_init 110 = .ok (.aload_n 0, 1) := dk_42 (dk_at dksX8_init_4 16 rfl rfl)
theorem dX8_init_111 : decode cX8_init 111 = .ok (.bipush 7, 2) := dk_16 7 (dk_at dksX8_init_4 17 rfl rfl)
theorem dX8_init_113 : decode cX8_init 113 = .ok (.newarray .boolean, 2) := dk_188_4 (dk_at dksX8_init_4 19 rfl rfl)
theorem dX8_init_115 : decode cX8_init 115 = .ok (.putfield 50, 3) := dk_181 0 50 (dk_at dksX8_init_4 21 rfl rfl)
theorem dX8_init_118 : decode cX8_init 118 = .ok (.aload_n 0, 1) := dk_42 (dk_at dksX8_init_5 0 rfl rfl)
theorem dX8_init_119 : decode cX8_init 119 = .ok (.bipush 7, 2) := dk_16 7 (dk_at dksX8_init_5 1 rfl rfl)
theorem dX8_init_121 : decode cX8_init 121 = .ok (.newarray .int, 2) := dk_188_10 (dk_at dksX8_init_5 3 rfl rfl)
theorem dX8_init_123 : decode cX8_init 123 = .ok (.putfield 54, 3) := dk_181 0 54 (dk_at dksX8_init_5 5 rfl rfl)
theorem dX8_init_126 : decode cX8_init 126 = .ok (.aload_n 0, 1) := dk_42 (dk_at dksX8_init_5 8 rfl rfl)
theorem dX8_init_127 : decode cX8_init 127 = .ok (.bipush 7, 2) := dk_16 7 (dk_at dksX8_init_5 9 rfl rfl)
theorem dX8_init_129 : decode cX8_init 129 = .ok (.newarray .int, 2) := dk_188_10 (dk_at dksX8_init_5 11 rfl rfl)
theorem dX8_init_131 : decode cX8_init 131 = .ok (.putfield 57, 3) := dk_181 0 57 (dk_at dksX8_init_5 13 rfl rfl)
theorem dX8_init_134 : decode cX8_init 134 = .ok (.aload_n 0, 1) := dk_42 (dk_at dksX8_init_5 16 rfl rfl)
theorem dX8_init_135 : decode cX8_init 135 = .ok (.bipush 7, 2) := dk_16 7 (dk_at dksX8_init_5 17 rfl rfl)
theorem dX8_init_137 : decode cX8_init 137 = .ok (.newarray .int, 2) := dk_188_10 (dk_at dksX8_init_5 19 rfl rfl)
theorem dX8_init_139 : decode cX8_init 139 = .ok (.putfield 60, 3) := dk_181 0 60 (dk_at dksX8_init_5 21 rfl rfl)
theorem dX8_init_142 : decode cX8_init 142 = .ok (.aload_n 0, 1) := dk_42 (dk_at dksX8_init_6 0 rfl rfl)
theorem dX8_init_143 : decode cX8_init 143 = .ok (.bipush 7, 2) := dk_16 7 (dk_at dksX8_init_6 1 rfl rfl)
theorem dX8_init_145 : decode cX8_init 145 = .ok (.newarray .int, 2) := dk_188_10 (dk_at dksX8_init_6 3 rfl rfl)
theorem dX8_init_147 : decode cX8_init 147 = .ok (.putfield 63, 3) := dk_181 0 63 (dk_at dksX8_init_6 5 rfl rfl)
theorem dX8_init_150 : decode cX8_init 150 = .ok (.aload_n 0, 1) := dk_42 (dk_at dksX8_init_6 8 rfl rfl)
theorem dX8_init_151 : decode cX8_init 151 = .ok (.bipush 7, 2) := dk_16 7 (dk_at dksX8_init_6 9 rfl rfl)
theorem dX8_init_153 : decode cX8_init 153 = .ok (.newarray .int, 2) := dk_188_10 (dk_at dksX8_init_6 11 rfl rfl)
theorem dX8_init_155 : decode cX8_init 155 = .ok (.putfield 66, 3) := dk_181 0 66 (dk_at dksX8_init_6 13 rfl rfl)
theorem dX8_init_158 : decode cX8_init 158 = .ok (.aload_n 0, 1) := dk_42 (dk_at dksX8_init_6 16 rfl rfl)
theorem dX8_init_159 : decode cX8_init 159 = .ok (.bipush 7, 2) := dk_16 7 (dk_at dksX8_init_6 17 rfl rfl)
theorem dX8_init_161 : decode cX8_init 161 = .ok (.newarray .int, 2) := dk_188_10 (dk_at dksX8_init_6 19 rfl rfl)
theorem dX8_init_163 : decode cX8_init 163 = .ok (.putfield 69, 3) := dk_181 0 69 (dk_at dksX8_init_6 21 rfl rfl)
theorem dX8_init_166 : decode cX8_init 166 = .ok (.aload_n 0, 1) := dk_42 (dk_at dksX8_init_7 0 rfl rfl)
theorem dX8_init_167 : decode cX8_init 167 = .ok (.bipush 7, 2) := dk_16 7 (dk_at dksX8_init_7 1 rfl rfl)
theorem dX8_init_169 : decode cX8_init 169 = .ok (.newarray .int, 2) := dk_188_10 (dk_at dksX8_init_7 3 rfl rfl)
theorem dX8_init_171 : decode cX8_init 171 = .ok (.putfield 72, 3) := dk_181 0 72 (dk_at dksX8_init_7 5 rfl rfl)
theorem dX8_init_174 : decode cX8_init 174 = .ok (.aload_n 0, 1) := dk_42 (dk_at dksX8_init_7 8 rfl rfl)
theorem dX8_init_175 : decode cX8_init 175 = .ok (.bipush 7, 2) := dk_16 7 (dk_at dksX8_init_7 9 rfl rfl)
theorem dX8_init_177 : decode cX8_init 177 = .ok (.newarray .int, 2) := dk_188_10 (dk_at dksX8_init_7 11 rfl rfl)
theorem dX8_init_179 : decode cX8_init 179 = .ok (.putfield 75, 3) := dk_181 0 75 (dk_at dksX8_init_7 13 rfl rfl)
theorem dX8_init_182 : decode cX8_init 182 = .ok (.aload_n 0, 1) := dk_42 (dk_at dksX8_init_7 16 rfl rfl)
theorem dX8_init_183 : decode cX8_init 183 = .ok (.bipush 7, 2) := dk_16 7 (dk_at dksX8_init_7 17 rfl rfl)
theorem dX8_init_185 : decode cX8_init 185 = .ok (.newarray .int, 2) := dk_188_10 (dk_at dksX8_init_7 19 rfl rfl)
theorem dX8_init_187 : decode cX8_init 187 = .ok (.putfield 78, 3) := dk_181 0 78 (dk_at dksX8_init_7 21 rfl rfl)
theorem dX8_init_190 : decode cX8_init 190 = .ok (.aload_n 0, 1) := dk_42 (dk_at dksX8_init_8 0 rfl rfl)
theorem dX8_init_191 : decode cX8_init 191 = .ok (.bipush 20, 2) := dk_16 20 (dk_at dksX8_init_8 1 rfl rfl)
theorem dX8_init_193 : decode cX8_init 193 = .ok (.newarray .int, 2) := dk_188_10 (dk_at dksX8_init_8 3 rfl rfl)
theorem dX8_init_195 : decode cX8_init 195 = .ok (.putfield 81, 3) := dk_181 0 81 (dk_at dksX8_init_8 5 rfl rfl)
theorem dX8_init_198 : decode cX8_init 198 = .ok (.aload_n 0, 1) := dk_42 (dk_at dksX8_init_8 8 rfl rfl)
theorem dX8_init_199 : decode cX8_init 199 = .ok (.bipush 80, 2) := dk_16 80 (dk_at dksX8_init_8 9 rfl rfl)
theorem dX8_init_201 : decode cX8_init 201 = .ok (.newarray .int, 2) := dk_188_10 (dk_at dksX8_init_8 11 rfl rfl)
theorem dX8_init_203 : decode cX8_init 203 = .ok (.putfield 84, 3) := dk_181 0 84 (dk_at dksX8_init_8 13 rfl rfl)
theorem dX8_init_206 : decode cX8_init 206 = .ok (.aload_n 0, 1) := dk_42 (dk_at dksX8_init_8 16 rfl rfl)
theorem dX8_init_207 : decode cX8_init 207 = .ok (.bipush 80, 2) := dk_16 80 (dk_at dksX8_init_8 17 rfl rfl)
theorem dX8_init_209 : decode cX8_init 209 = .ok (.newarray .int, 2) := dk_188_10 (dk_at dksX8_init_8 19 rfl rfl)
theorem dX8_init_211 : decode cX8_init 211 = .ok (.putfield 87, 3) := dk_181 0 87 (dk_at dksX8_init_8 21 rfl rfl)
theorem dX8_init_214 : decode cX8_init 214 = .ok (.aload_n 0, 1) := dk_42 (dk_at dksX8_init_9 0 rfl rfl)
theorem dX8_init_215 : decode cX8_init 215 = .ok (.sipush 320, 3) := dk_17 1 64 (dk_at dksX8_init_9 1 rfl rfl)
theorem dX8_init_218 : decode cX8_init 218 = .ok (.newarray .int, 2) := dk_188_10 (dk_at dksX8_init_9 4 rfl rfl)
theorem dX8_init_220 : decode cX8_init 220 = .ok (.putfield 90, 3) := dk_181 0 90 (dk_at dksX8_init_9 6 rfl rfl)
theorem dX8_init_223 : decode cX8_init 223 = .ok (.aload_n 0, 1) := dk_42 (dk_at dksX8_init_9 9 rfl rfl)
theorem dX8_init_224 : decode cX8_init 224 = .ok (.bipush 13, 2) := dk_16 13 (dk_at dksX8_init_9 10 rfl rfl)
theorem dX8_init_226 : decode cX8_init 226 = .ok (.newarray .int, 2) := dk_188_10 (dk_at dksX8_init_9 12 rfl rfl)
theorem dX8_init_228 : decode cX8_init 228 = .ok (.putfield 93, 3) := dk_181 0 93 (dk_at dksX8_init_9 14 rfl rfl)
theorem dX8_init_231 : decode cX8_init 231 = .ok (.aload_n 0, 1) := dk_42 (dk_at dksX8_init_9 17 rfl rfl)
theorem dX8_init_232 : decode cX8_init 232 = .ok (.sipush 1212, 3) := dk_17 4 188 (dk_at dksX8_init_9 18 rfl rfl)
theorem dX8_init_235 : decode cX8_init 235 = .ok (.newarray .int, 2) := dk_188_10 (dk_at dksX8_init_9 21 rfl rfl)
theorem dX8_init_237 : decode cX8_init 237 = .ok (.putfield 96, 3) := dk_181 0 96 (dk_at dksX8_init_10 0 rfl rfl)
theorem dX8_init_240 : decode cX8_init 240 = .ok (.aload_n 0, 1) := dk_42 (dk_at dksX8_init_10 3 rfl rfl)
theorem dX8_init_241 : decode cX8_init 241 = .ok (.bipush 64, 2) := dk_16 64 (dk_at dksX8_init_10 4 rfl rfl)
theorem dX8_init_243 : decode cX8_init 243 = .ok (.newarray .int, 2) := dk_188_10 (dk_at dksX8_init_10 6 rfl rfl)
theorem dX8_init_245 : decode cX8_init 245 = .ok (.putfield 99, 3) := dk_181 0 99 (dk_at dksX8_init_10 8 rfl rfl)
theorem dX8_init_248 : decode cX8_init 248 = .ok (.aload_n 0, 1) := dk_42 (dk_at dksX8_init_10 11 rfl rfl)
theorem dX8_init_249 : decode cX8_init 249 = .ok (.iconst 4, 1) := dk_7 (dk_at dksX8_init_10 12 rfl rfl)
theorem dX8_init_250 : decode cX8_init 250 = .ok (.newarray .boolean, 2) := dk_188_4 (dk_at dksX8_init_10 13 rfl rfl)
theorem dX8_init_252 : decode cX8_init 252 = .ok (.putfield 102, 3) := dk_181 0 102 (dk_at dksX8_init_10 15 rfl rfl)
theorem dX8_init_255 : decode cX8_init 255 = .ok (.aload_n 0, 1) := dk_42 (dk_at dksX8_init_10 18 rfl rfl)
theorem dX8_init_256 : decode cX8_init 256 = .ok (.iconst 0, 1) := dk_3 (dk_at dksX8_init_10 19 rfl rfl)
theorem dX8_init_257 : decode cX8_init 257 = .ok (.invokevirtual 105, 3) := dk_182 0 105 (dk_at dksX8_init_10 20 rfl rfl)
theorem dX8_init_260 : decode cX8_init 260 = .ok (.return_, 1) := dk_177 (dk_at dksX8_init_10 23 rfl rfl)
abbrev cX8_plain : ByteArray := prog_30_method_11_code
def yX8_plain : MethodName := ⟨RX8, "plain", "(I)V"⟩
def dkwX8_plain_5 : List UInt8 := [17, 3, 232, 27, 104, 79, 132, 2, 1, 167, 255, 218, 177]
abbrev dktX8_plain_5 : List UInt8 := dkwX8_plain_5 ++ []
def dkwX8_plain_4 : List UInt8 := [180, 0, 38, 5, 27, 104, 28, 96, 17, 3, 232, 27, 104, 79, 42, 180, 0, 41, 5, 27, 104, 28, 96]
abbrev dktX8_plain_4 : List UInt8 := dkwX8_plain_4 ++ dktX8_plain_5
def dkwX8_plain_3 : List UInt8 := [3, 79, 42, 180, 0, 13, 16, 7, 27, 104, 16, 6, 96, 3, 79, 3, 61, 28, 5, 162, 0, 39, 42]
abbrev dktX8_plain_3 : List UInt8 := dkwX8_plain_3 ++ dktX8_plain_4
def dkwX8_plain_2 : List UInt8 := [3, 79, 42, 180, 0, 13, 16, 7, 27, 104, 7, 96, 3, 79, 42, 180, 0, 13, 16, 7, 27, 104, 8, 96]
abbrev dktX8_plain_2 : List UInt8 := dkwX8_plain_2 ++ dktX8_plain_3
def dkwX8_plain_1 : List UInt8 := [79, 42, 180, 0, 13, 16, 7, 27, 104, 5, 96, 16, 6, 79, 42, 180, 0, 13, 16, 7, 27, 104, 6, 96]
abbrev dktX8_plain_1 : List UInt8 := dkwX8_plain_1 ++ dktX8_plain_2
def dkwX8_plain_0 : List UInt8 := [42, 180, 0, 13, 16, 7, 27, 104, 3, 96, 16, 6, 79, 42, 180, 0, 13, 16, 7, 27, 104, 4, 96, 7]
abbrev dktX8_plain_0 : List UInt8 := dkwX8_plain_0 ++ dktX8_plain_1
theorem dksX8_plain_0 : cX8_plain.data.toList.drop 0 = dktX8_plain_0 := by decide +kernel
theorem dksX8_plain_1 : cX8_plain.data.toList.drop 24 = dktX8_plain_1 := dk_seg dksX8_plain_0 24 rfl rfl
theorem dksX8_plain_2 : cX8_plain.data.toList.drop 48 = dktX8_plain_2 := dk_seg dksX8_plain_1 24 rfl rfl
theorem dksX8_plain_3 : cX8_plain.data.toList.drop 72 = dktX8_plain_3 := dk_seg dksX8_plain_2 24 rfl rfl
theorem dksX8_plain_4 : cX8_plain.data.toList.drop 95 = dktX8_plain_4 := dk_seg dksX8_plain_3 23 rfl rfl
theorem dksX8_plain_5 : cX8_plain.data.toList.drop 118 = dktX8_plain_5 := dk_seg dksX8_plain_4 23 rfl rfl
theorem dX8_plain_0 : decode cX8_plain 0 = .ok (.aload_n 0, 1) := dk_42 (dk_at dksX8_plain_0 0 rfl rfl)
theorem dX8_plain_1 : decode cX8_plain 1 = .ok (.getfield 13, 3) := dk_180 0 13 (dk_at dksX8_plain_0 1 rfl rfl)
theorem dX8_plain_4 : decode cX8_plain 4 = .ok (.bipush 7, 2) := dk_16 7 (dk_at dksX8_plain_0 4 rfl rfl)
theorem dX8_plain_6 : decode cX8_plain 6 = .ok (.iload_n 1, 1) := dk_27 (dk_at dksX8_plain_0 6 rfl rfl)
theorem dX8_plain_7 : decode cX8_plain 7 = .ok (.imul, 1) := dk_104 (dk_at dksX8_plain_0 7 rfl rfl)
theorem dX8_plain_8 : decode cX8_plain 8 = .ok (.iconst 0, 1) := dk_3 (dk_at dksX8_plain_0 8 rfl rfl)
theorem dX8_plain_9 : decode cX8_plain 9 = .ok (.iadd, 1) := dk_96 (dk_at dksX8_plain_0 9 rfl rfl)
theorem dX8_plain_10 : decode cX8_plain 10 = .ok (.bipush 6, 2) := dk_16 6 (dk_at dksX8_plain_0 10 rfl rfl)
theorem dX8_plain_12 : decode cX8_plain 12 = .ok (.iastore, 1) := dk_79 (dk_at dksX8_plain_0 12 rfl rfl)
theorem dX8_plain_13 : decode cX8_plain 13 = .ok (.aload_n 0, 1) := dk_42 (dk_at dksX8_plain_0 13 rfl rfl)
theorem dX8_plain_14 : decode cX8_plain 14 = .ok (.getfield 13, 3) := dk_180 0 13 (dk_at dksX8_plain_0 14 rfl rfl)
theorem dX8_plain_17 : decode cX8_plain 17 = .ok (.bipush 7, 2) := dk_16 7 (dk_at dksX8_plain_0 17 rfl rfl)
theorem dX8_plain_19 : decode cX8_plain 19 = .ok (.iload_n 1, 1) := dk_27 (dk_at dksX8_plain_0 19 rfl rfl)
theorem dX8_plain_20 : decode cX8_plain 20 = .ok (.imul, 1) := dk_104 (dk_at dksX8_plain_0 20 rfl rfl)
theorem dX8_plain_21 : decode cX8_plain 21 = .ok (.iconst 1, 1) := dk_4 (dk_at dksX8_plain_0 21 rfl rfl)
theorem dX8_plain_22 : decode cX8_plain 22 = .ok (.iadd, 1) := dk_96 (dk_at dksX8_plain_0 22 rfl rfl)
theorem dX8_plain_23 : decode cX8_plain 23 = .ok (.iconst 4, 1) := dk_7 (dk_at dksX8_plain_0 23 rfl rfl)
theorem dX8_plain_24 : decode cX8_plain 24 = .ok (.iastore, 1) := dk_79 (dk_at dksX8_plain_1 0 rfl rfl)
theorem dX8_plain_25 : decode cX8_plain 25 = .ok (.aload_n 0, 1) := dk_42 (dk_at dksX8_plain_1 1 rfl rfl)
theorem dX8_plain_26 : decode cX8_plain 26 = .ok (.getfield 13, 3) := dk_180 0 13 (dk_at dksX8_plain_1 2 rfl rfl)
theorem dX8_plain_29 : decode cX8_plain 29 = .ok (.bipush 7, 2) := dk_16 7 (dk_at dksX8_plain_1 5 rfl rfl)
theorem dX8_plain_31 : decode cX8_plain 31 = .ok (.iload_n 1, 1) := dk_27 (dk_at dksX8_plain_1 7 rfl rfl)
theorem dX8_plain_32 : decode cX8_plain 32 = .ok (.imul, 1) := dk_104 (dk_at dksX8_plain_1 8 rfl rfl)
theorem dX8_plain_33 : decode cX8_plain 33 = .ok (.iconst 2, 1) := dk_5 (dk_at dksX8_plain_1 9 rfl rfl)
theorem dX8_plain_34 : decode cX8_plain 34 = .ok (.iadd, 1) := dk_96 (dk_at dksX8_plain_1 10 rfl rfl)
theorem dX8_plain_35 : decode cX8_plain 35 = .ok (.bipush 6, 2) := dk_16 6 (dk_at dksX8_plain_1 11 rfl rfl)
theorem dX8_plain_37 : decode cX8_plain 37 = .ok (.iastore, 1) := dk_79 (dk_at dksX8_plain_1 13 rfl rfl)
theorem dX8_plain_38 : decode cX8_plain 38 = .ok (.aload_n 0, 1) := dk_42 (dk_at dksX8_plain_1 14 rfl rfl)
theorem dX8_plain_39 : decode cX8_plain 39 = .ok (.getfield 13, 3) := dk_180 0 13 (dk_at dksX8_plain_1 15 rfl rfl)
theorem dX8_plain_42 : decode cX8_plain 42 = .ok (.bipush 7, 2) := dk_16 7 (dk_at dksX8_plain_1 18 rfl rfl)
theorem dX8_plain_44 : decode cX8_plain 44 = .ok (.iload_n 1, 1) := dk_27 (dk_at dksX8_plain_1 20 rfl rfl)
theorem dX8_plain_45 : decode cX8_plain 45 = .ok (.imul, 1) := dk_104 (dk_at dksX8_plain_1 21 rfl rfl)
theorem dX8_plain_46 : decode cX8_plain 46 = .ok (.iconst 3, 1) := dk_6 (dk_at dksX8_plain_1 22 rfl rfl)
theorem dX8_plain_47 : decode cX8_plain 47 = .ok (.iadd, 1) := dk_96 (dk_at dksX8_plain_1 23 rfl rfl)
theorem dX8_plain_48 : decode cX8_plain 48 = .ok (.iconst 0, 1) := dk_3 (dk_at dksX8_plain_2 0 rfl rfl)
theorem dX8_plain_49 : decode cX8_plain 49 = .ok (.iastore, 1) := dk_79 (dk_at dksX8_plain_2 1 rfl rfl)
theorem dX8_plain_50 : decode cX8_plain 50 = .ok (.aload_n 0, 1) := dk_42 (dk_at dksX8_plain_2 2 rfl rfl)
theorem dX8_plain_51 : decode cX8_plain 51 = .ok (.getfield 13, 3) := dk_180 0 13 (dk_at dksX8_plain_2 3 rfl rfl)
theorem dX8_plain_54 : decode cX8_plain 54 = .ok (.bipush 7, 2) := dk_16 7 (dk_at dksX8_plain_2 6 rfl rfl)
theorem dX8_plain_56 : decode cX8_plain 56 = .ok (.iload_n 1, 1) := dk_27 (dk_at dksX8_plain_2 8 rfl rfl)
theorem dX8_plain_57 : decode cX8_plain 57 = .ok (.imul, 1) := dk_104 (dk_at dksX8_plain_2 9 rfl rfl)
theorem dX8_plain_58 : decode cX8_plain 58 = .ok (.iconst 4, 1) := dk_7 (dk_at dksX8_plain_2 10 rfl rfl)
theorem dX8_plain_59 : decode cX8_plain 59 = .ok (.iadd, 1) := dk_96 (dk_at dksX8_plain_2 11 rfl rfl)
theorem dX8_plain_60 : decode cX8_plain 60 = .ok (.iconst 0, 1) := dk_3 (dk_at dksX8_plain_2 12 rfl rfl)
theorem dX8_plain_61 : decode cX8_plain 61 = .ok (.iastore, 1) := dk_79 (dk_at dksX8_plain_2 13 rfl rfl)
theorem dX8_plain_62 : decode cX8_plain 62 = .ok (.aload_n 0, 1) := dk_42 (dk_at dksX8_plain_2 14 rfl rfl)
theorem dX8_plain_63 : decode cX8_plain 63 = .ok (.getfield 13, 3) := dk_180 0 13 (dk_at dksX8_plain_2 15 rfl rfl)
theorem dX8_plain_66 : decode cX8_plain 66 = .ok (.bipush 7, 2) := dk_16 7 (dk_at dksX8_plain_2 18 rfl rfl)
theorem dX8_plain_68 : decode cX8_plain 68 = .ok (.iload_n 1, 1) := dk_27 (dk_at dksX8_plain_2 20 rfl rfl)
theorem dX8_plain_69 : decode cX8_plain 69 = .ok (.imul, 1) := dk_104 (dk_at dksX8_plain_2 21 rfl rfl)
theorem dX8_plain_70 : decode cX8_plain 70 = .ok (.iconst 5, 1) := dk_8 (dk_at dksX8_plain_2 22 rfl rfl)
theorem dX8_plain_71 : decode cX8_plain 71 = .ok (.iadd, 1) := dk_96 (dk_at dksX8_plain_2 23 rfl rfl)
theorem dX8_plain_72 : decode cX8_plain 72 = .ok (.iconst 0, 1) := dk_3 (dk_at dksX8_plain_3 0 rfl rfl)
theorem dX8_plain_73 : decode cX8_plain 73 = .ok (.iastore, 1) := dk_79 (dk_at dksX8_plain_3 1 rfl rfl)
theorem dX8_plain_74 : decode cX8_plain 74 = .ok (.aload_n 0, 1) := dk_42 (dk_at dksX8_plain_3 2 rfl rfl)
theorem dX8_plain_75 : decode cX8_plain 75 = .ok (.getfield 13, 3) := dk_180 0 13 (dk_at dksX8_plain_3 3 rfl rfl)
theorem dX8_plain_78 : decode cX8_plain 78 = .ok (.bipush 7, 2) := dk_16 7 (dk_at dksX8_plain_3 6 rfl rfl)
theorem dX8_plain_80 : decode cX8_plain 80 = .ok (.iload_n 1, 1) := dk_27 (dk_at dksX8_plain_3 8 rfl rfl)
theorem dX8_plain_81 : decode cX8_plain 81 = .ok (.imul, 1) := dk_104 (dk_at dksX8_plain_3 9 rfl rfl)
theorem dX8_plain_82 : decode cX8_plain 82 = .ok (.bipush 6, 2) := dk_16 6 (dk_at dksX8_plain_3 10 rfl rfl)
theorem dX8_plain_84 : decode cX8_plain 84 = .ok (.iadd, 1) := dk_96 (dk_at dksX8_plain_3 12 rfl rfl)
theorem dX8_plain_85 : decode cX8_plain 85 = .ok (.iconst 0, 1) := dk_3 (dk_at dksX8_plain_3 13 rfl rfl)
theorem dX8_plain_86 : decode cX8_plain 86 = .ok (.iastore, 1) := dk_79 (dk_at dksX8_plain_3 14 rfl rfl)
theorem dX8_plain_87 : decode cX8_plain 87 = .ok (.iconst 0, 1) := dk_3 (dk_at dksX8_plain_3 15 rfl rfl)
theorem dX8_plain_88 : decode cX8_plain 88 = .ok (.istore_n 2, 1) := dk_61 (dk_at dksX8_plain_3 16 rfl rfl)
theorem dX8_plain_89 : decode cX8_plain 89 = .ok (.iload_n 2, 1) := dk_28 (dk_at dksX8_plain_3 17 rfl rfl)
theorem dX8_plain_90 : decode cX8_plain 90 = .ok (.iconst 2, 1) := dk_5 (dk_at dksX8_plain_3 18 rfl rfl)
theorem dX8_plain_91 : decode cX8_plain 91 = .ok (.if_icmp .ge 39, 3) := dk_162 0 39 (dk_at dksX8_plain_3 19 rfl rfl)
theorem dX8_plain_94 : decode cX8_plain 94 = .ok (.aload_n 0, 1) := dk_42 (dk_at dksX8_plain_3 22 rfl rfl)
theorem dX8_plain_95 : decode cX8_plain 95 = .ok (.getfield 38, 3) := dk_180 0 38 (dk_at dksX8_plain_4 0 rfl rfl)
theorem dX8_plain_98 : decode cX8_plain 98 = .ok (.iconst 2, 1) := dk_5 (dk_at dksX8_plain_4 3 rfl rfl)
theorem dX8_plain_99 : decode cX8_plain 99 = .ok (.iload_n 1, 1) := dk_27 (dk_at dksX8_plain_4 4 rfl rfl)
theorem dX8_plain_100 : decode cX8_plain 100 = .ok (.imul, 1) := dk_104 (dk_at dksX8_plain_4 5 rfl rfl)
theorem dX8_plain_101 : decode cX8_plain 101 = .ok (.iload_n 2, 1) := dk_28 (dk_at dksX8_plain_4 6 rfl rfl)
theorem dX8_plain_102 : decode cX8_plain 102 = .ok (.iadd, 1) := dk_96 (dk_at dksX8_plain_4 7 rfl rfl)
theorem dX8_plain_103 : decode cX8_plain 103 = .ok (.sipush 1000, 3) := dk_17 3 232 (dk_at dksX8_plain_4 8 rfl rfl)
theorem dX8_plain_106 : decode cX8_plain 106 = .ok (.iload_n 1, 1) := dk_27 (dk_at dksX8_plain_4 11 rfl rfl)
theorem dX8_plain_107 : decode cX8_plain 107 = .ok (.imul, 1) := dk_104 (dk_at dksX8_plain_4 12 rfl rfl)
theorem dX8_plain_108 : decode cX8_plain 108 = .ok (.iastore, 1) := dk_79 (dk_at dksX8_plain_4 13 rfl rfl)
theorem dX8_plain_109 : decode cX8_plain 109 = .ok (.aload_n 0, 1) := dk_42 (dk_at dksX8_plain_4 14 rfl rfl)
theorem dX8_plain_110 : decode cX8_plain 110 = .ok (.getfield 41, 3) := dk_180 0 41 (dk_at dksX8_plain_4 15 rfl rfl)
theorem dX8_plain_113 : decode cX8_plain 113 = .ok (.iconst 2, 1) := dk_5 (dk_at dksX8_plain_4 18 rfl rfl)
theorem dX8_plain_114 : decode cX8_plain 114 = .ok (.iload_n 1, 1) := dk_27 (dk_at dksX8_plain_4 19 rfl rfl)
theorem dX8_plain_115 : decode cX8_plain 115 = .ok (.imul, 1) := dk_104 (dk_at dksX8_plain_4 20 rfl rfl)
theorem dX8_plain_116 : decode cX8_plain 116 = .ok (.iload_n 2, 1) := dk_28 (dk_at dksX8_plain_4 21 rfl rfl)
theorem dX8_plain_117 : decode cX8_plain 117 = .ok (.iadd, 1) := dk_96 (dk_at dksX8_plain_4 22 rfl rfl)
theorem dX8_plain_118 : decode cX8_plain 118 = .ok (.sipush 1000, 3) := dk_17 3 232 (dk_at dksX8_plain_5 0 rfl rfl)
theorem dX8_plain_121 : decode cX8_plain 121 = .ok (.iload_n 1, 1) := dk_27 (dk_at dksX8_plain_5 3 rfl rfl)
theorem dX8_plain_122 : decode cX8_plain 122 = .ok (.imul, 1) := dk_104 (dk_at dksX8_plain_5 4 rfl rfl)
theorem dX8_plain_123 : decode cX8_plain 123 = .ok (.iastore, 1) := dk_79 (dk_at dksX8_plain_5 5 rfl rfl)
theorem dX8_plain_124 : decode cX8_plain 124 = .ok (.iinc 2 1, 3) := dk_132 2 1 (dk_at dksX8_plain_5 6 rfl rfl)
theorem dX8_plain_127 : decode cX8_plain 127 = .ok (.goto (-38), 3) := dk_167 255 218 (dk_at dksX8_plain_5 9 rfl rfl)
theorem dX8_plain_130 : decode cX8_plain 130 = .ok (.return_, 1) := dk_177 (dk_at dksX8_plain_5 12 rfl rfl)
abbrev cX8_thrown : ByteArray := prog_30_method_2_code
def yX8_thrown : MethodName := ⟨RX8, "thrown", "()I"⟩
theorem dX8_thrown_0 : decode cX8_thrown 0 = .ok (.aload_n 0, 1) := by decide +kernel
theorem dX8_thrown_1 : decode cX8_thrown 1 = .ok (.getfield 109, 3) := by decide +kernel
theorem dX8_thrown_4 : decode cX8_thrown 4 = .ok (.ireturn, 1) := by decide +kernel
abbrev cX8_feed : ByteArray := prog_30_method_5_code
def yX8_feed : MethodName := ⟨RX8, "feed", "(JJJ)I"⟩
def dkwX8_feed_5 : List UInt8 := [167, 255, 147, 42, 180, 0, 115, 172]
abbrev dktX8_feed_5 : List UInt8 := dkwX8_feed_5 ++ []
def dkwX8_feed_4 : List UInt8 := [42, 180, 0, 7, 42, 180, 0, 115, 21, 10, 79, 42, 89, 180, 0, 115, 4, 96, 181, 0, 115, 132, 7, 1]
abbrev dktX8_feed_4 : List UInt8 := dkwX8_feed_4 ++ dktX8_feed_5
def dkwX8_feed_3 : List UInt8 := [162, 0, 45, 21, 10, 16, 10, 159, 0, 17, 21, 10, 16, 32, 161, 0, 31, 21, 10, 16, 126, 163, 0, 24]
abbrev dktX8_feed_3 : List UInt8 := dkwX8_feed_3 ++ dktX8_feed_4
def dkwX8_feed_2 : List UInt8 := [21, 7, 16, 7, 126, 104, 100, 125, 20, 0, 113, 127, 136, 54, 10, 42, 180, 0, 115, 17, 3, 232]
abbrev dktX8_feed_2 : List UInt8 := dkwX8_feed_2 ++ dktX8_feed_3
def dkwX8_feed_1 : List UInt8 := [167, 0, 16, 21, 7, 16, 16, 162, 0, 7, 33, 167, 0, 5, 22, 5, 55, 8, 22, 8, 16, 56, 16, 8]
abbrev dktX8_feed_1 : List UInt8 := dkwX8_feed_1 ++ dktX8_feed_2
def dkwX8_feed_0 : List UInt8 := [42, 3, 181, 0, 109, 3, 54, 7, 21, 7, 16, 24, 162, 0, 108, 21, 7, 16, 8, 162, 0, 7, 31]
abbrev dktX8_feed_0 : List UInt8 := dkwX8_feed_0 ++ dktX8_feed_1
theorem dksX8_feed_0 : cX8_feed.data.toList.drop 0 = dktX8_feed_0 := by decide +kernel
theorem dksX8_feed_1 : cX8_feed.data.toList.drop 23 = dktX8_feed_1 := dk_seg dksX8_feed_0 23 rfl rfl
theorem dksX8_feed_2 : cX8_feed.data.toList.drop 47 = dktX8_feed_2 := dk_seg dksX8_feed_1 24 rfl rfl
theorem dksX8_feed_3 : cX8_feed.data.toList.drop 69 = dktX8_feed_3 := dk_seg dksX8_feed_2 22 rfl rfl
theorem dksX8_feed_4 : cX8_feed.data.toList.drop 93 = dktX8_feed_4 := dk_seg dksX8_feed_3 24 rfl rfl
theorem dksX8_feed_5 : cX8_feed.data.toList.drop 117 = dktX8_feed_5 := dk_seg dksX8_feed_4 24 rfl rfl
theorem dX8_feed_0 : decode cX8_feed 0 = .ok (.aload_n 0, 1) := dk_42 (dk_at dksX8_feed_0 0 rfl rfl)
theorem dX8_feed_1 : decode cX8_feed 1 = .ok (.iconst 0, 1) := dk_3 (dk_at dksX8_feed_0 1 rfl rfl)
theorem dX8_feed_2 : decode cX8_feed 2 = .ok (.putfield 109, 3) := dk_181 0 109 (dk_at dksX8_feed_0 2 rfl rfl)
theorem dX8_feed_5 : decode cX8_feed 5 = .ok (.iconst 0, 1) := dk_3 (dk_at dksX8_feed_0 5 rfl rfl)
theorem dX8_feed_6 : decode cX8_feed 6 = .ok (.istore 7, 2) := dk_54 7 (dk_at dksX8_feed_0 6 rfl rfl)
theorem dX8_feed_8 : decode cX8_feed 8 = .ok (.iload 7, 2) := dk_21 7 (dk_at dksX8_feed_0 8 rfl rfl)
theorem dX8_feed_10 : decode cX8_feed 10 = .ok (.bipush 24, 2) := dk_16 24 (dk_at dksX8_feed_0 10 rfl rfl)
theorem dX8_feed_12 : decode cX8_feed 12 = .ok (.if_icmp .ge 108, 3) := dk_162 0 108 (dk_at dksX8_feed_0 12 rfl rfl)
theorem dX8_feed_15 : decode cX8_feed 15 = .ok (.iload 7, 2) := dk_21 7 (dk_at dksX8_feed_0 15 rfl rfl)
theorem dX8_feed_17 : decode cX8_feed 17 = .ok (.bipush 8, 2) := dk_16 8 (dk_at dksX8_feed_0 17 rfl rfl)
theorem dX8_feed_19 : decode cX8_feed 19 = .ok (.if_icmp .ge 7, 3) := dk_162 0 7 (dk_at dksX8_feed_0 19 rfl rfl)
theorem dX8_feed_22 : decode cX8_feed 22 = .ok (.lload_n 1, 1) := dk_31 (dk_at dksX8_feed_0 22 rfl rfl)
theorem dX8_feed_23 : decode cX8_feed 23 = .ok (.goto 16, 3) := dk_167 0 16 (dk_at dksX8_feed_1 0 rfl rfl)
theorem dX8_feed_26 : decode cX8_feed 26 = .ok (.iload 7, 2) := dk_21 7 (dk_at dksX8_feed_1 3 rfl rfl)
theorem dX8_feed_28 : decode cX8_feed 28 = .ok (.bipush 16, 2) := dk_16 16 (dk_at dksX8_feed_1 5 rfl rfl)
theorem dX8_feed_30 : decode cX8_feed 30 = .ok (.if_icmp .ge 7, 3) := dk_162 0 7 (dk_at dksX8_feed_1 7 rfl rfl)
theorem dX8_feed_33 : decode cX8_feed 33 = .ok (.lload_n 3, 1) := dk_33 (dk_at dksX8_feed_1 10 rfl rfl)
theorem dX8_feed_34 : decode cX8_feed 34 = .ok (.goto 5, 3) := dk_167 0 5 (dk_at dksX8_feed_1 11 rfl rfl)
theorem dX8_feed_37 : decode cX8_feed 37 = .ok (.lload 5, 2) := dk_22 5 (dk_at dksX8_feed_1 14 rfl rfl)
theorem dX8_feed_39 : decode cX8_feed 39 = .ok (.lstore 8, 2) := dk_55 8 (dk_at dksX8_feed_1 16 rfl rfl)
theorem dX8_feed_41 : decode cX8_feed 41 = .ok (.lload 8, 2) := dk_22 8 (dk_at dksX8_feed_1 18 rfl rfl)
theorem dX8_feed_43 : decode cX8_feed 43 = .ok (.bipush 56, 2) := dk_16 56 (dk_at dksX8_feed_1 20 rfl rfl)
theorem dX8_feed_45 : decode cX8_feed 45 = .ok (.bipush 8, 2) := dk_16 8 (dk_at dksX8_feed_1 22 rfl rfl)
theorem dX8_feed_47 : decode cX8_feed 47 = .ok (.iload 7, 2) := dk_21 7 (dk_at dksX8_feed_2 0 rfl rfl)
theorem dX8_feed_49 : decode cX8_feed 49 = .ok (.bipush 7, 2) := dk_16 7 (dk_at dksX8_feed_2 2 rfl rfl)
theorem dX8_feed_51 : decode cX8_feed 51 = .ok (.iand, 1) := dk_126 (dk_at dksX8_feed_2 4 rfl rfl)
theorem dX8_feed_52 : decode cX8_feed 52 = .ok (.imul, 1) := dk_104 (dk_at dksX8_feed_2 5 rfl rfl)
theorem dX8_feed_53 : decode cX8_feed 53 = .ok (.isub, 1) := dk_100 (dk_at dksX8_feed_2 6 rfl rfl)
theorem dX8_feed_54 : decode cX8_feed 54 = .ok (.lushr, 1) := dk_125 (dk_at dksX8_feed_2 7 rfl rfl)
theorem dX8_feed_55 : decode cX8_feed 55 = .ok (.ldc2_w 113, 3) := dk_20 0 113 (dk_at dksX8_feed_2 8 rfl rfl)
theorem dX8_feed_58 : decode cX8_feed 58 = .ok (.land, 1) := dk_127 (dk_at dksX8_feed_2 11 rfl rfl)
theorem dX8_feed_59 : decode cX8_feed 59 = .ok (.l2i, 1) := dk_136 (dk_at dksX8_feed_2 12 rfl rfl)
theorem dX8_feed_60 : decode cX8_feed 60 = .ok (.istore 10, 2) := dk_54 10 (dk_at dksX8_feed_2 13 rfl rfl)
theorem dX8_feed_62 : decode cX8_feed 62 = .ok (.aload_n 0, 1) := dk_42 (dk_at dksX8_feed_2 15 rfl rfl)
theorem dX8_feed_63 : decode cX8_feed 63 = .ok (.getfield 115, 3) := dk_180 0 115 (dk_at dksX8_feed_2 16 rfl rfl)
theorem dX8_feed_66 : decode cX8_feed 66 = .ok (.sipush 1000, 3) := dk_17 3 232 (dk_at dksX8_feed_2 19 rfl rfl)
theorem dX8_feed_69 : decode cX8_feed 69 = .ok (.if_icmp .ge 45, 3) := dk_162 0 45 (dk_at dksX8_feed_3 0 rfl rfl)
theorem dX8_feed_72 : decode cX8_feed 72 = .ok (.iload 10, 2) := dk_21 10 (dk_at dksX8_feed_3 3 rfl rfl)
theorem dX8_feed_74 : decode cX8_feed 74 = .ok (.bipush 10, 2) := dk_16 10 (dk_at dksX8_feed_3 5 rfl rfl)
theorem dX8_feed_76 : decode cX8_feed 76 = .ok (.if_icmp .eq 17, 3) := dk_159 0 17 (dk_at dksX8_feed_3 7 rfl rfl)
theorem dX8_feed_79 : decode cX8_feed 79 = .ok (.iload 10, 2) := dk_21 10 (dk_at dksX8_feed_3 10 rfl rfl)
theorem dX8_feed_81 : decode cX8_feed 81 = .ok (.bipush 32, 2) := dk_16 32 (dk_at dksX8_feed_3 12 rfl rfl)
theorem dX8_feed_83 : decode cX8_feed 83 = .ok (.if_icmp .lt 31, 3) := dk_161 0 31 (dk_at dksX8_feed_3 14 rfl rfl)
theorem dX8_feed_86 : decode cX8_feed 86 = .ok (.iload 10, 2) := dk_21 10 (dk_at dksX8_feed_3 17 rfl rfl)
theorem dX8_feed_88 : decode cX8_feed 88 = .ok (.bipush 126, 2) := dk_16 126 (dk_at dksX8_feed_3 19 rfl rfl)
theorem dX8_feed_90 : decode cX8_feed 90 = .ok (.if_icmp .gt 24, 3) := dk_163 0 24 (dk_at dksX8_feed_3 21 rfl rfl)
theorem dX8_feed_93 : decode cX8_feed 93 = .ok (.aload_n 0, 1) := dk_42 (dk_at dksX8_feed_4 0 rfl rfl)
theorem dX8_feed_94 : decode cX8_feed 94 = .ok (.getfield 7, 3) := dk_180 0 7 (dk_at dksX8_feed_4 1 rfl rfl)
theorem dX8_feed_97 : decode cX8_feed 97 = .ok (.aload_n 0, 1) := dk_42 (dk_at dksX8_feed_4 4 rfl rfl)
theorem dX8_feed_98 : decode cX8_feed 98 = .ok (.getfield 115, 3) := dk_180 0 115 (dk_at dksX8_feed_4 5 rfl rfl)
theorem dX8_feed_101 : decode cX8_feed 101 = .ok (.iload 10, 2) := dk_21 10 (dk_at dksX8_feed_4 8 rfl rfl)
theorem dX8_feed_103 : decode cX8_feed 103 = .ok (.iastore, 1) := dk_79 (dk_at dksX8_feed_4 10 rfl rfl)
theorem dX8_feed_104 : decode cX8_feed 104 = .ok (.aload_n 0, 1) := dk_42 (dk_at dksX8_feed_4 11 rfl rfl)
theorem dX8_feed_105 : decode cX8_feed 105 = .ok (.dup, 1) := dk_89 (dk_at dksX8_feed_4 12 rfl rfl)
theorem dX8_feed_106 : decode cX8_feed 106 = .ok (.getfield 115, 3) := dk_180 0 115 (dk_at dksX8_feed_4 13 rfl rfl)
theorem dX8_feed_109 : decode cX8_feed 109 = .ok (.iconst 1, 1) := dk_4 (dk_at dksX8_feed_4 16 rfl rfl)
theorem dX8_feed_110 : decode cX8_feed 110 = .ok (.iadd, 1) := dk_96 (dk_at dksX8_feed_4 17 rfl rfl)
theorem dX8_feed_111 : decode cX8_feed 111 = .ok (.putfield 115, 3) := dk_181 0 115 (dk_at dksX8_feed_4 18 rfl rfl)
theorem dX8_feed_114 : decode cX8_feed 114 = .ok (.iinc 7 1, 3) := dk_132 7 1 (dk_at dksX8_feed_4 21 rfl rfl)
theorem dX8_feed_117 : decode cX8_feed 117 = .ok (.goto (-109), 3) := dk_167 255 147 (dk_at dksX8_feed_5 0 rfl rfl)
theorem dX8_feed_120 : decode cX8_feed 120 = .ok (.aload_n 0, 1) := dk_42 (dk_at dksX8_feed_5 3 rfl rfl)
theorem dX8_feed_121 : decode cX8_feed 121 = .ok (.getfield 115, 3) := dk_180 0 115 (dk_at dksX8_feed_5 4 rfl rfl)
theorem dX8_feed_124 : decode cX8_feed 124 = .ok (.ireturn, 1) := dk_172 (dk_at dksX8_feed_5 7 rfl rfl)
abbrev cX8_ridge : ByteArray := prog_30_method_35_code
def yX8_ridge : MethodName := ⟨RX8, "ridge", "()I"⟩
def dkwX8_ridge_4 : List UInt8 := [42, 180, 0, 29, 27, 46, 79, 132, 1, 1, 167, 255, 227, 3, 172]
abbrev dktX8_ridge_4 : List UInt8 := dkwX8_ridge_4 ++ []
def dkwX8_ridge_3 : List UInt8 := [167, 255, 231, 3, 60, 27, 42, 180, 0, 13, 16, 6, 46, 162, 0, 24, 42, 180, 0, 84, 16, 12, 27, 96]
abbrev dktX8_ridge_3 : List UInt8 := dkwX8_ridge_3 ++ dktX8_ridge_4
def dkwX8_ridge_2 : List UInt8 := [180, 0, 13, 8, 46, 162, 0, 21, 42, 180, 0, 84, 27, 42, 180, 0, 19, 27, 46, 79, 132, 1, 1]
abbrev dktX8_ridge_2 : List UInt8 := dkwX8_ridge_2 ++ dktX8_ridge_3
def dkwX8_ridge_1 : List UInt8 := [60, 27, 16, 80, 162, 0, 16, 42, 180, 0, 84, 27, 3, 79, 132, 1, 1, 167, 255, 240, 3, 60, 27, 42]
abbrev dktX8_ridge_1 : List UInt8 := dkwX8_ridge_1 ++ dktX8_ridge_2
def dkwX8_ridge_0 : List UInt8 := [42, 3, 181, 0, 109, 42, 182, 1, 34, 154, 0, 8, 42, 180, 0, 145, 172, 42, 4, 3, 182, 1, 37, 3]
abbrev dktX8_ridge_0 : List UInt8 := dkwX8_ridge_0 ++ dktX8_ridge_1
theorem dksX8_ridge_0 : cX8_ridge.data.toList.drop 0 = dktX8_ridge_0 := by decide +kernel
theorem dksX8_ridge_1 : cX8_ridge.data.toList.drop 24 = dktX8_ridge_1 := dk_seg dksX8_ridge_0 24 rfl rfl
theorem dksX8_ridge_2 : cX8_ridge.data.toList.drop 48 = dktX8_ridge_2 := dk_seg dksX8_ridge_1 24 rfl rfl
theorem dksX8_ridge_3 : cX8_ridge.data.toList.drop 71 = dktX8_ridge_3 := dk_seg dksX8_ridge_2 23 rfl rfl
theorem dksX8_ridge_4 : cX8_ridge.data.toList.drop 95 = dktX8_ridge_4 := dk_seg dksX8_ridge_3 24 rfl rfl
theorem dX8_ridge_0 : decode cX8_ridge 0 = .ok (.aload_n 0, 1) := dk_42 (dk_at dksX8_ridge_0 0 rfl rfl)
theorem dX8_ridge_1 : decode cX8_ridge 1 = .ok (.iconst 0, 1) := dk_3 (dk_at dksX8_ridge_0 1 rfl rfl)
theorem dX8_ridge_2 : decode cX8_ridge 2 = .ok (.putfield 109, 3) := dk_181 0 109 (dk_at dksX8_ridge_0 2 rfl rfl)
theorem dX8_ridge_5 : decode cX8_ridge 5 = .ok (.aload_n 0, 1) := dk_42 (dk_at dksX8_ridge_0 5 rfl rfl)
theorem dX8_ridge_6 : decode cX8_ridge 6 = .ok (.invokevirtual 290, 3) := dk_182 1 34 (dk_at dksX8_ridge_0 6 rfl rfl)
theorem dX8_ridge_9 : decode cX8_ridge 9 = .ok (.ifCond .ne 8, 3) := dk_154 0 8 (dk_at dksX8_ridge_0 9 rfl rfl)
theorem dX8_ridge_12 : decode cX8_ridge 12 = .ok (.aload_n 0, 1) := dk_42 (dk_at dksX8_ridge_0 12 rfl rfl)
theorem dX8_ridge_13 : decode cX8_ridge 13 = .ok (.getfield 145, 3) := dk_180 0 145 (dk_at dksX8_ridge_0 13 rfl rfl)
theorem dX8_ridge_16 : decode cX8_ridge 16 = .ok (.ireturn, 1) := dk_172 (dk_at dksX8_ridge_0 16 rfl rfl)
theorem dX8_ridge_17 : decode cX8_ridge 17 = .ok (.aload_n 0, 1) := dk_42 (dk_at dksX8_ridge_0 17 rfl rfl)
theorem dX8_ridge_18 : decode cX8_ridge 18 = .ok (.iconst 1, 1) := dk_4 (dk_at dksX8_ridge_0 18 rfl rfl)
theorem dX8_ridge_19 : decode cX8_ridge 19 = .ok (.iconst 0, 1) := dk_3 (dk_at dksX8_ridge_0 19 rfl rfl)
theorem dX8_ridge_20 : decode cX8_ridge 20 = .ok (.invokevirtual 293, 3) := dk_182 1 37 (dk_at dksX8_ridge_0 20 rfl rfl)
theorem dX8_ridge_23 : decode cX8_ridge 23 = .ok (.iconst 0, 1) := dk_3 (dk_at dksX8_ridge_0 23 rfl rfl)
theorem dX8_ridge_24 : decode cX8_ridge 24 = .ok (.istore_n 1, 1) := dk_60 (dk_at dksX8_ridge_1 0 rfl rfl)
theorem dX8_ridge_25 : decode cX8_ridge 25 = .ok (.iload_n 1, 1) := dk_27 (dk_at dksX8_ridge_1 1 rfl rfl)
theorem dX8_ridge_26 : decode cX8_ridge 26 = .ok (.bipush 80, 2) := dk_16 80 (dk_at dksX8_ridge_1 2 rfl rfl)
theorem dX8_ridge_28 : decode cX8_ridge 28 = .ok (.if_icmp .ge 16, 3) := dk_162 0 16 (dk_at dksX8_ridge_1 4 rfl rfl)
theorem dX8_ridge_31 : decode cX8_ridge 31 = .ok (.aload_n 0, 1) := dk_42 (dk_at dksX8_ridge_1 7 rfl rfl)
theorem dX8_ridge_32 : decode cX8_ridge 32 = .ok (.getfield 84, 3) := dk_180 0 84 (dk_at dksX8_ridge_1 8 rfl rfl)
theorem dX8_ridge_35 : decode cX8_ridge 35 = .ok (.iload_n 1, 1) := dk_27 (dk_at dksX8_ridge_1 11 rfl rfl)
theorem dX8_ridge_36 : decode cX8_ridge 36 = .ok (.iconst 0, 1) := dk_3 (dk_at dksX8_ridge_1 12 rfl rfl)
theorem dX8_ridge_37 : decode cX8_ridge 37 = .ok (.iastore, 1) := dk_79 (dk_at dksX8_ridge_1 13 rfl rfl)
theorem dX8_ridge_38 : decode cX8_ridge 38 = .ok (.iinc 1 1, 3) := dk_132 1 1 (dk_at dksX8_ridge_1 14 rfl rfl)
theorem dX8_ridge_41 : decode cX8_ridge 41 = .ok (.goto (-16), 3) := dk_167 255 240 (dk_at dksX8_ridge_1 17 rfl rfl)
theorem dX8_ridge_44 : decode cX8_ridge 44 = .ok (.iconst 0, 1) := dk_3 (dk_at dksX8_ridge_1 20 rfl rfl)
theorem dX8_ridge_45 : decode cX8_ridge 45 = .ok (.istore_n 1, 1) := dk_60 (dk_at dksX8_ridge_1 21 rfl rfl)
theorem dX8_ridge_46 : decode cX8_ridge 46 = .ok (.iload_n 1, 1) := dk_27 (dk_at dksX8_ridge_1 22 rfl rfl)
theorem dX8_ridge_47 : decode cX8_ridge 47 = .ok (.aload_n 0, 1) := dk_42 (dk_at dksX8_ridge_1 23 rfl rfl)
theorem dX8_ridge_48 : decode cX8_ridge 48 = .ok (.getfield 13, 3) := dk_180 0 13 (dk_at dksX8_ridge_2 0 rfl rfl)
theorem dX8_ridge_51 : decode cX8_ridge 51 = .ok (.iconst 5, 1) := dk_8 (dk_at dksX8_ridge_2 3 rfl rfl)
theorem dX8_ridge_52 : decode cX8_ridge 52 = .ok (.iaload, 1) := dk_46 (dk_at dksX8_ridge_2 4 rfl rfl)
theorem dX8_ridge_53 : decode cX8_ridge 53 = .ok (.if_icmp .ge 21, 3) := dk_162 0 21 (dk_at dksX8_ridge_2 5 rfl rfl)
theorem dX8_ridge_56 : decode cX8_ridge 56 = .ok (.aload_n 0, 1) := dk_42 (dk_at dksX8_ridge_2 8 rfl rfl)
theorem dX8_ridge_57 : decode cX8_ridge 57 = .ok (.getfield 84, 3) := dk_180 0 84 (dk_at dksX8_ridge_2 9 rfl rfl)
theorem dX8_ridge_60 : decode cX8_ridge 60 = .ok (.iload_n 1, 1) := dk_27 (dk_at dksX8_ridge_2 12 rfl rfl)
theorem dX8_ridge_61 : decode cX8_ridge 61 = .ok (.aload_n 0, 1) := dk_42 (dk_at dksX8_ridge_2 13 rfl rfl)
theorem dX8_ridge_62 : decode cX8_ridge 62 = .ok (.getfield 19, 3) := dk_180 0 19 (dk_at dksX8_ridge_2 14 rfl rfl)
theorem dX8_ridge_65 : decode cX8_ridge 65 = .ok (.iload_n 1, 1) := dk_27 (dk_at dksX8_ridge_2 17 rfl rfl)
theorem dX8_ridge_66 : decode cX8_ridge 66 = .ok (.iaload, 1) := dk_46 (dk_at dksX8_ridge_2 18 rfl rfl)
theorem dX8_ridge_67 : decode cX8_ridge 67 = .ok (.iastore, 1) := dk_79 (dk_at dksX8_ridge_2 19 rfl rfl)
theorem dX8_ridge_68 : decode cX8_ridge 68 = .ok (.iinc 1 1, 3) := dk_132 1 1 (dk_at dksX8_ridge_2 20 rfl rfl)
theorem dX8_ridge_71 : decode cX8_ridge 71 = .ok (.goto (-25), 3) := dk_167 255 231 (dk_at dksX8_ridge_3 0 rfl rfl)
theorem dX8_ridge_74 : decode cX8_ridge 74 = .ok (.iconst 0, 1) := dk_3 (dk_at dksX8_ridge_3 3 rfl rfl)
theorem dX8_ridge_75 : decode cX8_ridge 75 = .ok (.istore_n 1, 1) := dk_60 (dk_at dksX8_ridge_3 4 rfl rfl)
theorem dX8_ridge_76 : decode cX8_ridge 76 = .ok (.iload_n 1, 1) := dk_27 (dk_at dksX8_ridge_3 5 rfl rfl)
theorem dX8_ridge_77 : decode cX8_ridge 77 = .ok (.aload_n 0, 1) := dk_42 (dk_at dksX8_ridge_3 6 rfl rfl)
theorem dX8_ridge_78 : decode cX8_ridge 78 = .ok (.getfield 13, 3) := dk_180 0 13 (dk_at dksX8_ridge_3 7 rfl rfl)
theorem dX8_ridge_81 : decode cX8_ridge 81 = .ok (.bipush 6, 2) := dk_16 6 (dk_at dksX8_ridge_3 10 rfl rfl)
theorem dX8_ridge_83 : decode cX8_ridge 83 = .ok (.iaload, 1) := dk_46 (dk_at dksX8_ridge_3 12 rfl rfl)
theorem dX8_ridge_84 : decode cX8_ridge 84 = .ok (.if_icmp .ge 24, 3) := dk_162 0 24 (dk_at dksX8_ridge_3 13 rfl rfl)
theorem dX8_ridge_87 : decode cX8_ridge 87 = .ok (.aload_n 0, 1) := dk_42 (dk_at dksX8_ridge_3 16 rfl rfl)
theorem dX8_ridge_88 : decode cX8_ridge 88 = .ok (.getfield 84, 3) := dk_180 0 84 (dk_at dksX8_ridge_3 17 rfl rfl)
theorem dX8_ridge_91 : decode cX8_ridge 91 = .ok (.bipush 12, 2) := dk_16 12 (dk_at dksX8_ridge_3 20 rfl rfl)
theorem dX8_ridge_93 : decode cX8_ridge 93 = .ok (.iload_n 1, 1) := dk_27 (dk_at dksX8_ridge_3 22 rfl rfl)
theorem dX8_ridge_94 : decode cX8_ridge 94 = .ok (.iadd, 1) := dk_96 (dk_at dksX8_ridge_3 23 rfl rfl)
theorem dX8_ridge_95 : decode cX8_ridge 95 = .ok (.aload_n 0, 1) := dk_42 (dk_at dksX8_ridge_4 0 rfl rfl)
theorem dX8_ridge_96 : decode cX8_ridge 96 = .ok (.getfield 29, 3) := dk_180 0 29 (dk_at dksX8_ridge_4 1 rfl rfl)
theorem dX8_ridge_99 : decode cX8_ridge 99 = .ok (.iload_n 1, 1) := dk_27 (dk_at dksX8_ridge_4 4 rfl rfl)
theorem dX8_ridge_100 : decode cX8_ridge 100 = .ok (.iaload, 1) := dk_46 (dk_at dksX8_ridge_4 5 rfl rfl)
theorem dX8_ridge_101 : decode cX8_ridge 101 = .ok (.iastore, 1) := dk_79 (dk_at dksX8_ridge_4 6 rfl rfl)
theorem dX8_ridge_102 : decode cX8_ridge 102 = .ok (.iinc 1 1, 3) := dk_132 1 1 (dk_at dksX8_ridge_4 7 rfl rfl)
theorem dX8_ridge_105 : decode cX8_ridge 105 = .ok (.goto (-29), 3) := dk_167 255 227 (dk_at dksX8_ridge_4 10 rfl rfl)
theorem dX8_ridge_108 : decode cX8_ridge 108 = .ok (.iconst 0, 1) := dk_3 (dk_at dksX8_ridge_4 13 rfl rfl)
theorem dX8_ridge_109 : decode cX8_ridge 109 = .ok (.ireturn, 1) := dk_172 (dk_at dksX8_ridge_4 14 rfl rfl)
abbrev cX8_readsAll : ByteArray := prog_30_method_31_code
def yX8_readsAll : MethodName := ⟨RX8, "readsAll", "()Z"⟩
def dkwX8_readsAll_9 : List UInt8 := [167, 255, 87, 4, 172]
abbrev dktX8_readsAll_9 : List UInt8 := dkwX8_readsAll_9 ++ []
def dkwX8_readsAll_8 : List UInt8 := [153, 0, 10, 42, 182, 1, 27, 167, 0, 8, 42, 4, 182, 0, 177, 60, 27, 154, 0, 5, 3, 172]
abbrev dktX8_readsAll_8 : List UInt8 := dkwX8_readsAll_8 ++ dktX8_readsAll_9
def dkwX8_readsAll_7 : List UInt8 := [20, 0, 211, 182, 0, 169, 153, 0, 10, 42, 182, 1, 24, 167, 0, 25, 42, 20, 0, 217, 182, 0, 169]
abbrev dktX8_readsAll_7 : List UInt8 := dkwX8_readsAll_7 ++ dktX8_readsAll_8
def dkwX8_readsAll_6 : List UInt8 := [167, 0, 60, 42, 20, 0, 209, 182, 0, 169, 153, 0, 11, 42, 4, 182, 1, 21, 167, 0, 42, 42]
abbrev dktX8_readsAll_6 : List UInt8 := dkwX8_readsAll_6 ++ dktX8_readsAll_7
def dkwX8_readsAll_5 : List UInt8 := [16, 10, 182, 1, 18, 167, 0, 78, 42, 20, 0, 207, 182, 0, 169, 153, 0, 11, 42, 3, 182, 1, 21]
abbrev dktX8_readsAll_5 : List UInt8 := dkwX8_readsAll_5 ++ dktX8_readsAll_6
def dkwX8_readsAll_4 : List UInt8 := [42, 6, 3, 16, 99, 182, 1, 18, 167, 0, 99, 42, 20, 0, 205, 182, 0, 169, 153, 0, 14, 42, 7, 3]
abbrev dktX8_readsAll_4 : List UInt8 := dkwX8_readsAll_4 ++ dktX8_readsAll_5
def dkwX8_readsAll_3 : List UInt8 := [153, 0, 14, 42, 5, 4, 16, 12, 182, 1, 18, 167, 0, 120, 42, 20, 0, 203, 182, 0, 169, 153, 0, 14]
abbrev dktX8_readsAll_3 : List UInt8 := dkwX8_readsAll_3 ++ dktX8_readsAll_4
def dkwX8_readsAll_2 : List UInt8 := [42, 20, 0, 199, 182, 0, 169, 153, 0, 10, 42, 182, 1, 15, 167, 0, 141, 42, 20, 0, 201, 182, 0, 169]
abbrev dktX8_readsAll_2 : List UInt8 := dkwX8_readsAll_2 ++ dktX8_readsAll_3
def dkwX8_readsAll_1 : List UInt8 := [181, 0, 118, 42, 3, 181, 0, 115, 42, 3, 181, 0, 121, 42, 182, 0, 183, 42, 180, 0, 134, 153, 0, 168]
abbrev dktX8_readsAll_1 : List UInt8 := dkwX8_readsAll_1 ++ dktX8_readsAll_2
def dkwX8_readsAll_0 : List UInt8 := [42, 4, 182, 0, 105, 42, 3, 181, 0, 242, 42, 17, 3, 232, 181, 0, 148, 42, 42, 180, 0, 115]
abbrev dktX8_readsAll_0 : List UInt8 := dkwX8_readsAll_0 ++ dktX8_readsAll_1
theorem dksX8_readsAll_0 : cX8_readsAll.data.toList.drop 0 = dktX8_readsAll_0 := by decide +kernel
theorem dksX8_readsAll_1 : cX8_readsAll.data.toList.drop 22 = dktX8_readsAll_1 := dk_seg dksX8_readsAll_0 22 rfl rfl
theorem dksX8_readsAll_2 : cX8_readsAll.data.toList.drop 46 = dktX8_readsAll_2 := dk_seg dksX8_readsAll_1 24 rfl rfl
theorem dksX8_readsAll_3 : cX8_readsAll.data.toList.drop 70 = dktX8_readsAll_3 := dk_seg dksX8_readsAll_2 24 rfl rfl
theorem dksX8_readsAll_4 : cX8_readsAll.data.toList.drop 94 = dktX8_readsAll_4 := dk_seg dksX8_readsAll_3 24 rfl rfl
theorem dksX8_readsAll_5 : cX8_readsAll.data.toList.drop 118 = dktX8_readsAll_5 := dk_seg dksX8_readsAll_4 24 rfl rfl
theorem dksX8_readsAll_6 : cX8_readsAll.data.toList.drop 141 = dktX8_readsAll_6 := dk_seg dksX8_readsAll_5 23 rfl rfl
theorem dksX8_readsAll_7 : cX8_readsAll.data.toList.drop 163 = dktX8_readsAll_7 := dk_seg dksX8_readsAll_6 22 rfl rfl
theorem dksX8_readsAll_8 : cX8_readsAll.data.toList.drop 186 = dktX8_readsAll_8 := dk_seg dksX8_readsAll_7 23 rfl rfl
theorem dksX8_readsAll_9 : cX8_readsAll.data.toList.drop 208 = dktX8_readsAll_9 := dk_seg dksX8_readsAll_8 22 rfl rfl
theorem dX8_readsAll_0 : decode cX8_readsAll 0 = .ok (.aload_n 0, 1) := dk_42 (dk_at dksX8_readsAll_0 0 rfl rfl)
theorem dX8_readsAll_1 : decode cX8_readsAll 1 = .ok (.iconst 1, 1) := dk_4 (dk_at dksX8_readsAll_0 1 rfl rfl)
theorem dX8_readsAll_2 : decode cX8_readsAll 2 = .ok (.invokevirtual 105, 3) := dk_182 0 105 (dk_at dksX8_readsAll_0 2 rfl rfl)
theorem dX8_readsAll_5 : decode cX8_readsAll 5 = .ok (.aload_n 0, 1) := dk_42 (dk_at dksX8_readsAll_0 5 rfl rfl)
theorem dX8_readsAll_6 : decode cX8_readsAll 6 = .ok (.iconst 0, 1) := dk_3 (dk_at dksX8_readsAll_0 6 rfl rfl)
theorem dX8_readsAll_7 : decode cX8_readsAll 7 = .ok (.putfield 242, 3) := dk_181 0 242 (dk_at dksX8_readsAll_0 7 rfl rfl)
theorem dX8_readsAll_10 : decode cX8_readsAll 10 = .ok (.aload_n 0, 1) := dk_42 (dk_at dksX8_readsAll_0 10 rfl rfl)
theorem dX8_readsAll_11 : decode cX8_readsAll 11 = .ok (.sipush 1000, 3) := dk_17 3 232 (dk_at dksX8_readsAll_0 11 rfl rfl)
theorem dX8_readsAll_14 : decode cX8_readsAll 14 = .ok (.putfield 148, 3) := dk_181 0 148 (dk_at dksX8_readsAll_0 14 rfl rfl)
theorem dX8_readsAll_17 : decode cX8_readsAll 17 = .ok (.aload_n 0, 1) := dk_42 (dk_at dksX8_readsAll_0 17 rfl rfl)
theorem dX8_readsAll_18 : decode cX8_readsAll 18 = .ok (.aload_n 0, 1) := dk_42 (dk_at dksX8_readsAll_0 18 rfl rfl)
theorem dX8_readsAll_19 : decode cX8_readsAll 19 = .ok (.getfield 115, 3) := dk_180 0 115 (dk_at dksX8_readsAll_0 19 rfl rfl)
theorem dX8_readsAll_22 : decode cX8_readsAll 22 = .ok (.putfield 118, 3) := dk_181 0 118 (dk_at dksX8_readsAll_1 0 rfl rfl)
theorem dX8_readsAll_25 : decode cX8_readsAll 25 = .ok (.aload_n 0, 1) := dk_42 (dk_at dksX8_readsAll_1 3 rfl rfl)
theorem dX8_readsAll_26 : decode cX8_readsAll 26 = .ok (.iconst 0, 1) := dk_3 (dk_at dksX8_readsAll_1 4 rfl rfl)
theorem dX8_readsAll_27 : decode cX8_readsAll 27 = .ok (.putfield 115, 3) := dk_181 0 115 (dk_at dksX8_readsAll_1 5 rfl rfl)
theorem dX8_readsAll_30 : decode cX8_readsAll 30 = .ok (.aload_n 0, 1) := dk_42 (dk_at dksX8_readsAll_1 8 rfl rfl)
theorem dX8_readsAll_31 : decode cX8_readsAll 31 = .ok (.iconst 0, 1) := dk_3 (dk_at dksX8_readsAll_1 9 rfl rfl)
theorem dX8_readsAll_32 : decode cX8_readsAll 32 = .ok (.putfield 121, 3) := dk_181 0 121 (dk_at dksX8_readsAll_1 10 rfl rfl)
theorem dX8_readsAll_35 : decode cX8_readsAll 35 = .ok (.aload_n 0, 1) := dk_42 (dk_at dksX8_readsAll_1 13 rfl rfl)
theorem dX8_readsAll_36 : decode cX8_readsAll 36 = .ok (.invokevirtual 183, 3) := dk_182 0 183 (dk_at dksX8_readsAll_1 14 rfl rfl)
theorem dX8_readsAll_39 : decode cX8_readsAll 39 = .ok (.aload_n 0, 1) := dk_42 (dk_at dksX8_readsAll_1 17 rfl rfl)
theorem dX8_readsAll_40 : decode cX8_readsAll 40 = .ok (.getfield 134, 3) := dk_180 0 134 (dk_at dksX8_readsAll_1 18 rfl rfl)
theorem dX8_readsAll_43 : decode cX8_readsAll 43 = .ok (.ifCond .eq 168, 3) := dk_153 0 168 (dk_at dksX8_readsAll_1 21 rfl rfl)
theorem dX8_readsAll_46 : decode cX8_readsAll 46 = .ok (.aload_n 0, 1) := dk_42 (dk_at dksX8_readsAll_2 0 rfl rfl)
theorem dX8_readsAll_47 : decode cX8_readsAll 47 = .ok (.ldc2_w 199, 3) := dk_20 0 199 (dk_at dksX8_readsAll_2 1 rfl rfl)
theorem dX8_readsAll_50 : decode cX8_readsAll 50 = .ok (.invokevirtual 169, 3) := dk_182 0 169 (dk_at dksX8_readsAll_2 4 rfl rfl)
theorem dX8_readsAll_53 : decode cX8_readsAll 53 = .ok (.ifCond .eq 10, 3) := dk_153 0 10 (dk_at dksX8_readsAll_2 7 rfl rfl)
theorem dX8_readsAll_56 : decode cX8_readsAll 56 = .ok (.aload_n 0, 1) := dk_42 (dk_at dksX8_readsAll_2 10 rfl rfl)
theorem dX8_readsAll_57 : decode cX8_readsAll 57 = .ok (.invokevirtual 271, 3) := dk_182 1 15 (dk_at dksX8_readsAll_2 11 rfl rfl)
theorem dX8_readsAll_60 : decode cX8_readsAll 60 = .ok (.goto 141, 3) := dk_167 0 141 (dk_at dksX8_readsAll_2 14 rfl rfl)
theorem dX8_readsAll_63 : decode cX8_readsAll 63 = .ok (.aload_n 0, 1) := dk_42 (dk_at dksX8_readsAll_2 17 rfl rfl)
theorem dX8_readsAll_64 : decode cX8_readsAll 64 = .ok (.ldc2_w 201, 3) := dk_20 0 201 (dk_at dksX8_readsAll_2 18 rfl rfl)
theorem dX8_readsAll_67 : decode cX8_readsAll 67 = .ok (.invokevirtual 169, 3) := dk_182 0 169 (dk_at dksX8_readsAll_2 21 rfl rfl)
theorem dX8_readsAll_70 : decode cX8_readsAll 70 = .ok (.ifCond .eq 14, 3) := dk_153 0 14 (dk_at dksX8_readsAll_3 0 rfl rfl)
theorem dX8_readsAll_73 : decode cX8_readsAll 73 = .ok (.aload_n 0, 1) := dk_42 (dk_at dksX8_readsAll_3 3 rfl rfl)
theorem dX8_readsAll_74 : decode cX8_readsAll 74 = .ok (.iconst 2, 1) := dk_5 (dk_at dksX8_readsAll_3 4 rfl rfl)
theorem dX8_readsAll_75 : decode cX8_readsAll 75 = .ok (.iconst 1, 1) := dk_4 (dk_at dksX8_readsAll_3 5 rfl rfl)
theorem dX8_readsAll_76 : decode cX8_readsAll 76 = .ok (.bipush 12, 2) := dk_16 12 (dk_at dksX8_readsAll_3 6 rfl rfl)
theorem dX8_readsAll_78 : decode cX8_readsAll 78 = .ok (.invokevirtual 274, 3) := dk_182 1 18 (dk_at dksX8_readsAll_3 8 rfl rfl)
theorem dX8_readsAll_81 : decode cX8_readsAll 81 = .ok (.goto 120, 3) := dk_167 0 120 (dk_at dksX8_readsAll_3 11 rfl rfl)
theorem dX8_readsAll_84 : decode cX8_readsAll 84 = .ok (.aload_n 0, 1) := dk_42 (dk_at dksX8_readsAll_3 14 rfl rfl)
theorem dX8_readsAll_85 : decode cX8_readsAll 85 = .ok (.ldc2_w 203, 3) := dk_20 0 203 (dk_at dksX8_readsAll_3 15 rfl rfl)
theorem dX8_readsAll_88 : decode cX8_readsAll 88 = .ok (.invokevirtual 169, 3) := dk_182 0 169 (dk_at dksX8_readsAll_3 18 rfl rfl)
theorem dX8_readsAll_91 : decode cX8_readsAll 91 = .ok (.ifCond .eq 14, 3) := dk_153 0 14 (dk_at dksX8_readsAll_3 21 rfl rfl)
theorem dX8_readsAll_94 : decode cX8_readsAll 94 = .ok (.aload_n 0, 1) := dk_42 (dk_at dksX8_readsAll_4 0 rfl rfl)
theorem dX8_readsAll_95 : decode cX8_readsAll 95 = .ok (.iconst 3, 1) := dk_6 (dk_at dksX8_readsAll_4 1 rfl rfl)
theorem dX8_readsAll_96 : decode cX8_readsAll 96 = .ok (.iconst 0, 1) := dk_3 (dk_at dksX8_readsAll_4 2 rfl rfl)
theorem dX8_readsAll_97 : decode cX8_readsAll 97 = .ok (.bipush 99, 2) := dk_16 99 (dk_at dksX8_readsAll_4 3 rfl rfl)
theorem dX8_readsAll_99 : decode cX8_readsAll 99 = .ok (.invokevirtual 274, 3) := dk_182 1 18 (dk_at dksX8_readsAll_4 5 rfl rfl)
theorem dX8_readsAll_102 : decode cX8_readsAll 102 = .ok (.goto 99, 3) := dk_167 0 99 (dk_at dksX8_readsAll_4 8 rfl rfl)
theorem dX8_readsAll_105 : decode cX8_readsAll 105 = .ok (.aload_n 0, 1) := dk_42 (dk_at dksX8_readsAll_4 11 rfl rfl)
theorem dX8_readsAll_106 : decode cX8_readsAll 106 = .ok (.ldc2_w 205, 3) := dk_20 0 205 (dk_at dksX8_readsAll_4 12 rfl rfl)
theorem dX8_readsAll_109 : decode cX8_readsAll 109 = .ok (.invokevirtual 169, 3) := dk_182 0 169 (dk_at dksX8_readsAll_4 15 rfl rfl)
theorem dX8_readsAll_112 : decode cX8_readsAll 112 = .ok (.ifCond .eq 14, 3) := dk_153 0 14 (dk_at dksX8_readsAll_4 18 rfl rfl)
theorem dX8_readsAll_115 : decode cX8_readsAll 115 = .ok (.aload_n 0, 1) := dk_42 (dk_at dksX8_readsAll_4 21 rfl rfl)
theorem dX8_readsAll_116 : decode cX8_readsAll 116 = .ok (.iconst 4, 1) := dk_7 (dk_at dksX8_readsAll_4 22 rfl rfl)
theorem dX8_readsAll_117 : decode cX8_readsAll 117 = .ok (.iconst 0, 1) := dk_3 (dk_at dksX8_readsAll_4 23 rfl rfl)
theorem dX8_readsAll_118 : decode cX8_readsAll 118 = .ok (.bipush 10, 2) := dk_16 10 (dk_at dksX8_readsAll_5 0 rfl rfl)
theorem dX8_readsAll_120 : decode cX8_readsAll 120 = .ok (.invokevirtual 274, 3) := dk_182 1 18 (dk_at dksX8_readsAll_5 2 rfl rfl)
theorem dX8_readsAll_123 : decode cX8_readsAll 123 = .ok (.goto 78, 3) := dk_167 0 78 (dk_at dksX8_readsAll_5 5 rfl rfl)
theorem dX8_readsAll_126 : decode cX8_readsAll 126 = .ok (.aload_n 0, 1) := dk_42 (dk_at dksX8_readsAll_5 8 rfl rfl)
theorem dX8_readsAll_127 : decode cX8_readsAll 127 = .ok (.ldc2_w 207, 3) := dk_20 0 207 (dk_at dksX8_readsAll_5 9 rfl rfl)
theorem dX8_readsAll_130 : decode cX8_readsAll 130 = .ok (.invokevirtual 169, 3) := dk_182 0 169 (dk_at dksX8_readsAll_5 12 rfl rfl)
theorem dX8_readsAll_133 : decode cX8_readsAll 133 = .ok (.ifCond .eq 11, 3) := dk_153 0 11 (dk_at dksX8_readsAll_5 15 rfl rfl)
theorem dX8_readsAll_136 : decode cX8_readsAll 136 = .ok (.aload_n 0, 1) := dk_42 (dk_at dksX8_readsAll_5 18 rfl rfl)
theorem dX8_readsAll_137 : decode cX8_readsAll 137 = .ok (.iconst 0, 1) := dk_3 (dk_at dksX8_readsAll_5 19 rfl rfl)
theorem dX8_readsAll_138 : decode cX8_readsAll 138 = .ok (.invokevirtual 277, 3) := dk_182 1 21 (dk_at dksX8_readsAll_5 20 rfl rfl)
theorem dX8_readsAll_141 : decode cX8_readsAll 141 = .ok (.goto 60, 3) := dk_167 0 60 (dk_at dksX8_readsAll_6 0 rfl rfl)
theorem dX8_readsAll_144 : decode cX8_readsAll 144 = .ok (.aload_n 0, 1) := dk_42 (dk_at dksX8_readsAll_6 3 rfl rfl)
theorem dX8_readsAll_145 : decode cX8_readsAll 145 = .ok (.ldc2_w 209, 3) := dk_20 0 209 (dk_at dksX8_readsAll_6 4 rfl rfl)
theorem dX8_readsAll_148 : decode cX8_readsAll 148 = .ok (.invokevirtual 169, 3) := dk_182 0 169 (dk_at dksX8_readsAll_6 7 rfl rfl)
theorem dX8_readsAll_151 : decode cX8_readsAll 151 = .ok (.ifCond .eq 11, 3) := dk_153 0 11 (dk_at dksX8_readsAll_6 10 rfl rfl)
theorem dX8_readsAll_154 : decode cX8_readsAll 154 = .ok (.aload_n 0, 1) := dk_42 (dk_at dksX8_readsAll_6 13 rfl rfl)
theorem dX8_readsAll_155 : decode cX8_readsAll 155 = .ok (.iconst 1, 1) := dk_4 (dk_at dksX8_readsAll_6 14 rfl rfl)
theorem dX8_readsAll_156 : decode cX8_readsAll 156 = .ok (.invokevirtual 277, 3) := dk_182 1 21 (dk_at dksX8_readsAll_6 15 rfl rfl)
theorem dX8_readsAll_159 : decode cX8_readsAll 159 = .ok (.goto 42, 3) := dk_167 0 42 (dk_at dksX8_readsAll_6 18 rfl rfl)
theorem dX8_readsAll_162 : decode cX8_readsAll 162 = .ok (.aload_n 0, 1) := dk_42 (dk_at dksX8_readsAll_6 21 rfl rfl)
theorem dX8_readsAll_163 : decode cX8_readsAll 163 = .ok (.ldc2_w 211, 3) := dk_20 0 211 (dk_at dksX8_readsAll_7 0 rfl rfl)
theorem dX8_readsAll_166 : decode cX8_readsAll 166 = .ok (.invokevirtual 169, 3) := dk_182 0 169 (dk_at dksX8_readsAll_7 3 rfl rfl)
theorem dX8_readsAll_169 : decode cX8_readsAll 169 = .ok (.ifCond .eq 10, 3) := dk_153 0 10 (dk_at dksX8_readsAll_7 6 rfl rfl)
theorem dX8_readsAll_172 : decode cX8_readsAll 172 = .ok (.aload_n 0, 1) := dk_42 (dk_at dksX8_readsAll_7 9 rfl rfl)
theorem dX8_readsAll_173 : decode cX8_readsAll 173 = .ok (.invokevirtual 280, 3) := dk_182 1 24 (dk_at dksX8_readsAll_7 10 rfl rfl)
theorem dX8_readsAll_176 : decode cX8_readsAll 176 = .ok (.goto 25, 3) := dk_167 0 25 (dk_at dksX8_readsAll_7 13 rfl rfl)
theorem dX8_readsAll_179 : decode cX8_readsAll 179 = .ok (.aload_n 0, 1) := dk_42 (dk_at dksX8_readsAll_7 16 rfl rfl)
theorem dX8_readsAll_180 : decode cX8_readsAll 180 = .ok (.ldc2_w 217, 3) := dk_20 0 217 (dk_at dksX8_readsAll_7 17 rfl rfl)
theorem dX8_readsAll_183 : decode cX8_readsAll 183 = .ok (.invokevirtual 169, 3) := dk_182 0 169 (dk_at dksX8_readsAll_7 20 rfl rfl)
theorem dX8_readsAll_186 : decode cX8_readsAll 186 = .ok (.ifCond .eq 10, 3) := dk_153 0 10 (dk_at dksX8_readsAll_8 0 rfl rfl)
theorem dX8_readsAll_189 : decode cX8_readsAll 189 = .ok (.aload_n 0, 1) := dk_42 (dk_at dksX8_readsAll_8 3 rfl rfl)
theorem dX8_readsAll_190 : decode cX8_readsAll 190 = .ok (.invokevirtual 283, 3) := dk_182 1 27 (dk_at dksX8_readsAll_8 4 rfl rfl)
theorem dX8_readsAll_193 : decode cX8_readsAll 193 = .ok (.goto 8, 3) := dk_167 0 8 (dk_at dksX8_readsAll_8 7 rfl rfl)
theorem dX8_readsAll_196 : decode cX8_readsAll 196 = .ok (.aload_n 0, 1) := dk_42 (dk_at dksX8_readsAll_8 10 rfl rfl)
theorem dX8_readsAll_197 : decode cX8_readsAll 197 = .ok (.iconst 1, 1) := dk_4 (dk_at dksX8_readsAll_8 11 rfl rfl)
theorem dX8_readsAll_198 : decode cX8_readsAll 198 = .ok (.invokevirtual 177, 3) := dk_182 0 177 (dk_at dksX8_readsAll_8 12 rfl rfl)
theorem dX8_readsAll_201 : decode cX8_readsAll 201 = .ok (.istore_n 1, 1) := dk_60 (dk_at dksX8_readsAll_8 15 rfl rfl)
theorem dX8_readsAll_202 : decode cX8_readsAll 202 = .ok (.iload_n 1, 1) := dk_27 (dk_at dksX8_readsAll_8 16 rfl rfl)
theorem dX8_readsAll_203 : decode cX8_readsAll 203 = .ok (.ifCond .ne 5, 3) := dk_154 0 5 (dk_at dksX8_readsAll_8 17 rfl rfl)
theorem dX8_readsAll_206 : decode cX8_readsAll 206 = .ok (.iconst 0, 1) := dk_3 (dk_at dksX8_readsAll_8 20 rfl rfl)
theorem dX8_readsAll_207 : decode cX8_readsAll 207 = .ok (.ireturn, 1) := dk_172 (dk_at dksX8_readsAll_8 21 rfl rfl)
theorem dX8_readsAll_208 : decode cX8_readsAll 208 = .ok (.goto (-169), 3) := dk_167 255 87 (dk_at dksX8_readsAll_9 0 rfl rfl)
theorem dX8_readsAll_211 : decode cX8_readsAll 211 = .ok (.iconst 1, 1) := dk_4 (dk_at dksX8_readsAll_9 3 rfl rfl)
theorem dX8_readsAll_212 : decode cX8_readsAll 212 = .ok (.ireturn, 1) := dk_172 (dk_at dksX8_readsAll_9 4 rfl rfl)
abbrev cX8_nextToken : ByteArray := prog_30_method_7_code
def yX8_nextToken : MethodName := ⟨RX8, "nextToken", "()V"⟩
def dkwX8_nextToken_16 : List UInt8 := [167, 0, 4, 7, 181, 0, 134, 177]
abbrev dktX8_nextToken_16 : List UInt8 := dkwX8_nextToken_16 ++ []
def dkwX8_nextToken_15 : List UInt8 := [164, 0, 21, 27, 16, 45, 159, 0, 15, 27, 16, 59, 161, 0, 13, 27, 16, 61, 163, 0, 7, 6]
abbrev dktX8_nextToken_15 : List UInt8 := dkwX8_nextToken_15 ++ dktX8_nextToken_16
def dkwX8_nextToken_14 : List UInt8 := [181, 0, 134, 177, 42, 89, 180, 0, 121, 4, 96, 181, 0, 121, 42, 27, 16, 40, 161, 0, 9, 27, 16, 43]
abbrev dktX8_nextToken_14 : List UInt8 := dkwX8_nextToken_14 ++ dktX8_nextToken_15
def dkwX8_nextToken_13 : List UInt8 := [167, 255, 184, 42, 42, 180, 0, 121, 42, 180, 0, 124, 100, 7, 164, 0, 7, 7, 167, 0, 4, 5]
abbrev dktX8_nextToken_13 : List UInt8 := dkwX8_nextToken_13 ++ dktX8_nextToken_14
def dkwX8_nextToken_12 : List UInt8 := [180, 0, 121, 182, 0, 137, 96, 16, 48, 100, 181, 0, 131, 42, 89, 180, 0, 121, 4, 96, 181, 0, 121]
abbrev dktX8_nextToken_12 : List UInt8 := dkwX8_nextToken_12 ++ dktX8_nextToken_13
def dkwX8_nextToken_11 : List UInt8 := [42, 180, 0, 121, 42, 180, 0, 124, 100, 7, 162, 0, 26, 42, 42, 180, 0, 131, 16, 10, 104, 42, 42]
abbrev dktX8_nextToken_11 : List UInt8 := dkwX8_nextToken_11 ++ dktX8_nextToken_12
def dkwX8_nextToken_10 : List UInt8 := [180, 0, 121, 182, 0, 137, 16, 48, 161, 0, 65, 42, 42, 180, 0, 121, 182, 0, 137, 16, 57, 163, 0, 52]
abbrev dktX8_nextToken_10 : List UInt8 := dkwX8_nextToken_10 ++ dktX8_nextToken_11
def dkwX8_nextToken_9 : List UInt8 := [167, 0, 4, 4, 181, 0, 134, 177, 27, 16, 48, 161, 0, 107, 27, 16, 57, 163, 0, 101, 42, 42]
abbrev dktX8_nextToken_9 : List UInt8 := dkwX8_nextToken_9 ++ dktX8_nextToken_10
def dkwX8_nextToken_8 : List UInt8 := [181, 0, 121, 167, 255, 180, 42, 42, 180, 0, 121, 42, 180, 0, 124, 100, 16, 8, 164, 0, 7, 7]
abbrev dktX8_nextToken_8 : List UInt8 := dkwX8_nextToken_8 ++ dktX8_nextToken_9
def dkwX8_nextToken_7 : List UInt8 := [180, 0, 121, 182, 0, 137, 133, 97, 20, 0, 143, 101, 181, 0, 127, 42, 89, 180, 0, 121, 4, 96]
abbrev dktX8_nextToken_7 : List UInt8 := dkwX8_nextToken_7 ++ dktX8_nextToken_8
def dkwX8_nextToken_6 : List UInt8 := [180, 0, 121, 42, 180, 0, 124, 100, 16, 8, 162, 0, 29, 42, 42, 180, 0, 127, 20, 0, 141, 105, 42, 42]
abbrev dktX8_nextToken_6 : List UInt8 := dkwX8_nextToken_6 ++ dktX8_nextToken_7
def dkwX8_nextToken_5 : List UInt8 := [182, 0, 137, 16, 97, 161, 0, 69, 42, 42, 180, 0, 121, 182, 0, 137, 16, 122, 163, 0, 56, 42]
abbrev dktX8_nextToken_5 : List UInt8 := dkwX8_nextToken_5 ++ dktX8_nextToken_6
def dkwX8_nextToken_4 : List UInt8 := [180, 0, 121, 46, 60, 27, 16, 97, 161, 0, 112, 27, 16, 122, 163, 0, 106, 42, 42, 180, 0, 121]
abbrev dktX8_nextToken_4 : List UInt8 := dkwX8_nextToken_4 ++ dktX8_nextToken_5
def dkwX8_nextToken_3 : List UInt8 := [42, 180, 0, 121, 42, 180, 0, 118, 160, 0, 9, 42, 3, 181, 0, 134, 177, 42, 180, 0, 7, 42]
abbrev dktX8_nextToken_3 : List UInt8 := dkwX8_nextToken_3 ++ dktX8_nextToken_4
def dkwX8_nextToken_2 : List UInt8 := [181, 0, 121, 167, 255, 207, 42, 42, 180, 0, 121, 181, 0, 124, 42, 9, 181, 0, 127, 42, 3, 181, 0, 131]
abbrev dktX8_nextToken_2 : List UInt8 := dkwX8_nextToken_2 ++ dktX8_nextToken_3
def dkwX8_nextToken_1 : List UInt8 := [159, 0, 17, 42, 180, 0, 7, 42, 180, 0, 121, 46, 16, 10, 160, 0, 16, 42, 89, 180, 0, 121, 4, 96]
abbrev dktX8_nextToken_1 : List UInt8 := dkwX8_nextToken_1 ++ dktX8_nextToken_2
def dkwX8_nextToken_0 : List UInt8 := [42, 180, 0, 121, 42, 180, 0, 118, 162, 0, 44, 42, 180, 0, 7, 42, 180, 0, 121, 46, 16, 32]
abbrev dktX8_nextToken_0 : List UInt8 := dkwX8_nextToken_0 ++ dktX8_nextToken_1
theorem dksX8_nextToken_0 : cX8_nextToken.data.toList.drop 0 = dktX8_nextToken_0 := by decide +kernel
theorem dksX8_nextToken_1 : cX8_nextToken.data.toList.drop 22 = dktX8_nextToken_1 := dk_seg dksX8_nextToken_0 22 rfl rfl
theorem dksX8_nextToken_2 : cX8_nextToken.data.toList.drop 46 = dktX8_nextToken_2 := dk_seg dksX8_nextToken_1 24 rfl rfl
theorem dksX8_nextToken_3 : cX8_nextToken.data.toList.drop 70 = dktX8_nextToken_3 := dk_seg dksX8_nextToken_2 24 rfl rfl
theorem dksX8_nextToken_4 : cX8_nextToken.data.toList.drop 92 = dktX8_nextToken_4 := dk_seg dksX8_nextToken_3 22 rfl rfl
theorem dksX8_nextToken_5 : cX8_nextToken.data.toList.drop 114 = dktX8_nextToken_5 := dk_seg dksX8_nextToken_4 22 rfl rfl
theorem dksX8_nextToken_6 : cX8_nextToken.data.toList.drop 136 = dktX8_nextToken_6 := dk_seg dksX8_nextToken_5 22 rfl rfl
theorem dksX8_nextToken_7 : cX8_nextToken.data.toList.drop 160 = dktX8_nextToken_7 := dk_seg dksX8_nextToken_6 24 rfl rfl
theorem dksX8_nextToken_8 : cX8_nextToken.data.toList.drop 182 = dktX8_nextToken_8 := dk_seg dksX8_nextToken_7 22 rfl rfl
theorem dksX8_nextToken_9 : cX8_nextToken.data.toList.drop 204 = dktX8_nextToken_9 := dk_seg dksX8_nextToken_8 22 rfl rfl
theorem dksX8_nextToken_10 : cX8_nextToken.data.toList.drop 226 = dktX8_nextToken_10 := dk_seg dksX8_nextToken_9 22 rfl rfl
theorem dksX8_nextToken_11 : cX8_nextToken.data.toList.drop 250 = dktX8_nextToken_11 := dk_seg dksX8_nextToken_10 24 rfl rfl
theorem dksX8_nextToken_12 : cX8_nextToken.data.toList.drop 273 = dktX8_nextToken_12 := dk_seg dksX8_nextToken_11 23 rfl rfl
theorem dksX8_nextToken_13 : cX8_nextToken.data.toList.drop 296 = dktX8_nextToken_13 := dk_seg dksX8_nextToken_12 23 rfl rfl
theorem dksX8_nextToken_14 : cX8_nextToken.data.toList.drop 318 = dktX8_nextToken_14 := dk_seg dksX8_nextToken_13 22 rfl rfl
theorem dksX8_nextToken_15 : cX8_nextToken.data.toList.drop 342 = dktX8_nextToken_15 := dk_seg dksX8_nextToken_14 24 rfl rfl
theorem dksX8_nextToken_16 : cX8_nextToken.data.toList.drop 364 = dktX8_nextToken_16 := dk_seg dksX8_nextToken_15 22 rfl rfl
theorem dX8_nextToken_0 : decode cX8_nextToken 0 = .ok (.aload_n 0, 1) := dk_42 (dk_at dksX8_nextToken_0 0 rfl rfl)
theorem dX8_nextToken_1 : decode cX8_nextToken 1 = .ok (.getfield 121, 3) := dk_180 0 121 (dk_at dksX8_nextToken_0 1 rfl rfl)
theorem dX8_nextToken_4 : decode cX8_nextToken 4 = .ok (.aload_n 0, 1) := dk_42 (dk_at dksX8_nextToken_0 4 rfl rfl)
theorem dX8_nextToken_5 : decode cX8_nextToken 5 = .ok (.getfield 118, 3) := dk_180 0 118 (dk_at dksX8_nextToken_0 5 rfl rfl)
theorem dX8_nextToken_8 : decode cX8_nextToken 8 = .ok (.if_icmp .ge 44, 3) := dk_162 0 44 (dk_at dksX8_nextToken_0 8 rfl rfl)
theorem dX8_nextToken_11 : decode cX8_nextToken 11 = .ok (.aload_n 0, 1) := dk_42 (dk_at dksX8_nextToken_0 11 rfl rfl)
theorem dX8_nextToken_12 : decode cX8_nextToken 12 = .ok (.getfield 7, 3) := dk_180 0 7 (dk_at dksX8_nextToken_0 12 rfl rfl)
theorem dX8_nextToken_15 : decode cX8_nextToken 15 = .ok (.aload_n 0, 1) := dk_42 (dk_at dksX8_nextToken_0 15 rfl rfl)
theorem dX8_nextToken_16 : decode cX8_nextToken 16 = .ok (.getfield 121, 3) := dk_180 0 121 (dk_at dksX8_nextToken_0 16 rfl rfl)
theorem dX8_nextToken_19 : decode cX8_nextToken 19 = .ok (.iaload, 1) := dk_46 (dk_at dksX8_nextToken_0 19 rfl rfl)
theorem dX8_nextToken_20 : decode cX8_nextToken 20 = .ok (.bipush 32, 2) := dk_16 32 (dk_at dksX8_nextToken_0 20 rfl rfl)
theorem dX8_nextToken_22 : decode cX8_nextToken 22 = .ok (.if_icmp .eq 17, 3) := dk_159 0 17 (dk_at dksX8_nextToken_1 0 rfl rfl)
theorem dX8_nextToken_25 : decode cX8_nextToken 25 = .ok (.aload_n 0, 1) := dk_42 (dk_at dksX8_nextToken_1 3 rfl rfl)
theorem dX8_nextToken_26 : decode cX8_nextToken 26 = .ok (.getfield 7, 3) := dk_180 0 7 (dk_at dksX8_nextToken_1 4 rfl rfl)
theorem dX8_nextToken_29 : decode cX8_nextToken 29 = .ok (.aload_n 0, 1) := dk_42 (dk_at dksX8_nextToken_1 7 rfl rfl)
theorem dX8_nextToken_30 : decode cX8_nextToken 30 = .ok (.getfield 121, 3) := dk_180 0 121 (dk_at dksX8_nextToken_1 8 rfl rfl)
theorem dX8_nextToken_33 : decode cX8_nextToken 33 = .ok (.iaload, 1) := dk_46 (dk_at dksX8_nextToken_1 11 rfl rfl)
theorem dX8_nextToken_34 : decode cX8_nextToken 34 = .ok (.bipush 10, 2) := dk_16 10 (dk_at dksX8_nextToken_1 12 rfl rfl)
theorem dX8_nextToken_36 : decode cX8_nextToken 36 = .ok (.if_icmp .ne 16, 3) := dk_160 0 16 (dk_at dksX8_nextToken_1 14 rfl rfl)
theorem dX8_nextToken_39 : decode cX8_nextToken 39 = .ok (.aload_n 0, 1) := dk_42 (dk_at dksX8_nextToken_1 17 rfl rfl)
theorem dX8_nextToken_40 : decode cX8_nextToken 40 = .ok (.dup, 1) := dk_89 (dk_at dksX8_nextToken_1 18 rfl rfl)
theorem dX8_nextToken_41 : decode cX8_nextToken 41 = .ok (.getfield 121, 3) := dk_180 0 121 (dk_at dksX8_nextToken_1 19 rfl rfl)
theorem dX8_nextToken_44 : decode cX8_nextToken 44 = .ok (.iconst 1, 1) := dk_4 (dk_at dksX8_nextToken_1 22 rfl rfl)
theorem dX8_nextToken_45 : decode cX8_nextToken 45 = .ok (.iadd, 1) := dk_96 (dk_at dksX8_nextToken_1 23 rfl rfl)
theorem dX8_nextToken_46 : decode cX8_nextToken 46 = .ok (.putfield 121, 3) := dk_181 0 121 (dk_at dksX8_nextToken_2 0 rfl rfl)
theorem dX8_nextToken_49 : decode cX8_nextToken 49 = .ok (.goto (-49), 3) := dk_167 255 207 (dk_at dksX8_nextToken_2 3 rfl rfl)
theorem dX8_nextToken_52 : decode cX8_nextToken 52 = .ok (.aload_n 0, 1) := dk_42 (dk_at dksX8_nextToken_2 6 rfl rfl)
theorem dX8_nextToken_53 : decode cX8_nextToken 53 = .ok (.aload_n 0, 1) := dk_42 (dk_at dksX8_nextToken_2 7 rfl rfl)
theorem dX8_nextToken_54 : decode cX8_nextToken 54 = .ok (.getfield 121, 3) := dk_180 0 121 (dk_at dksX8_nextToken_2 8 rfl rfl)
theorem dX8_nextToken_57 : decode cX8_nextToken 57 = .ok (.putfield 124, 3) := dk_181 0 124 (dk_at dksX8_nextToken_2 11 rfl rfl)
theorem dX8_nextToken_60 : decode cX8_nextToken 60 = .ok (.aload_n 0, 1) := dk_42 (dk_at dksX8_nextToken_2 14 rfl rfl)
theorem dX8_nextToken_61 : decode cX8_nextToken 61 = .ok (.lconst 0, 1) := dk_9 (dk_at dksX8_nextToken_2 15 rfl rfl)
theorem dX8_nextToken_62 : decode cX8_nextToken 62 = .ok (.putfield 127, 3) := dk_181 0 127 (dk_at dksX8_nextToken_2 16 rfl rfl)
theorem dX8_nextToken_65 : decode cX8_nextToken 65 = .ok (.aload_n 0, 1) := dk_42 (dk_at dksX8_nextToken_2 19 rfl rfl)
theorem dX8_nextToken_66 : decode cX8_nextToken 66 = .ok (.iconst 0, 1) := dk_3 (dk_at dksX8_nextToken_2 20 rfl rfl)
theorem dX8_nextToken_67 : decode cX8_nextToken 67 = .ok (.putfield 131, 3) := dk_181 0 131 (dk_at dksX8_nextToken_2 21 rfl rfl)
theorem dX8_nextToken_70 : decode cX8_nextToken 70 = .ok (.aload_n 0, 1) := dk_42 (dk_at dksX8_nextToken_3 0 rfl rfl)
theorem dX8_nextToken_71 : decode cX8_nextToken 71 = .ok (.getfield 121, 3) := dk_180 0 121 (dk_at dksX8_nextToken_3 1 rfl rfl)
theorem dX8_nextToken_74 : decode cX8_nextToken 74 = .ok (.aload_n 0, 1) := dk_42 (dk_at dksX8_nextToken_3 4 rfl rfl)
theorem dX8_nextToken_75 : decode cX8_nextToken 75 = .ok (.getfield 118, 3) := dk_180 0 118 (dk_at dksX8_nextToken_3 5 rfl rfl)
theorem dX8_nextToken_78 : decode cX8_nextToken 78 = .ok (.if_icmp .ne 9, 3) := dk_160 0 9 (dk_at dksX8_nextToken_3 8 rfl rfl)
theorem dX8_nextToken_81 : decode cX8_nextToken 81 = .ok (.aload_n 0, 1) := dk_42 (dk_at dksX8_nextToken_3 11 rfl rfl)
theorem dX8_nextToken_82 : decode cX8_nextToken 82 = .ok (.iconst 0, 1) := dk_3 (dk_at dksX8_nextToken_3 12 rfl rfl)
theorem dX8_nextToken_83 : decode cX8_nextToken 83 = .ok (.putfield 134, 3) := dk_181 0 134 (dk_at dksX8_nextToken_3 13 rfl rfl)
theorem dX8_nextToken_86 : decode cX8_nextToken 86 = .ok (.return_, 1) := dk_177 (dk_at dksX8_nextToken_3 16 rfl rfl)
theorem dX8_nextToken_87 : decode cX8_nextToken 87 = .ok (.aload_n 0, 1) := dk_42 (dk_at dksX8_nextToken_3 17 rfl rfl)
theorem dX8_nextToken_88 : decode cX8_nextToken 88 = .ok (.getfield 7, 3) := dk_180 0 7 (dk_at dksX8_nextToken_3 18 rfl rfl)
theorem dX8_nextToken_91 : decode cX8_nextToken 91 = .ok (.aload_n 0, 1) := dk_42 (dk_at dksX8_nextToken_3 21 rfl rfl)
theorem dX8_nextToken_92 : decode cX8_nextToken 92 = .ok (.getfield 121, 3) := dk_180 0 121 (dk_at dksX8_nextToken_4 0 rfl rfl)
theorem dX8_nextToken_95 : decode cX8_nextToken 95 = .ok (.iaload, 1) := dk_46 (dk_at dksX8_nextToken_4 3 rfl rfl)
theorem dX8_nextToken_96 : decode cX8_nextToken 96 = .ok (.istore_n 1, 1) := dk_60 (dk_at dksX8_nextToken_4 4 rfl rfl)
theorem dX8_nextToken_97 : decode cX8_nextToken 97 = .ok (.iload_n 1, 1) := dk_27 (dk_at dksX8_nextToken_4 5 rfl rfl)
theorem dX8_nextToken_98 : decode cX8_nextToken 98 = .ok (.bipush 97, 2) := dk_16 97 (dk_at dksX8_nextToken_4 6 rfl rfl)
theorem dX8_nextToken_100 : decode cX8_nextToken 100 = .ok (.if_icmp .lt 112, 3) := dk_161 0 112 (dk_at dksX8_nextToken_4 8 rfl rfl)
theorem dX8_nextToken_103 : decode cX8_nextToken 103 = .ok (.iload_n 1, 1) := dk_27 (dk_at dksX8_nextToken_4 11 rfl rfl)
theorem dX8_nextToken_104 : decode cX8_nextToken 104 = .ok (.bipush 122, 2) := dk_16 122 (dk_at dksX8_nextToken_4 12 rfl rfl)
theorem dX8_nextToken_106 : decode cX8_nextToken 106 = .ok (.if_icmp .gt 106, 3) := dk_163 0 106 (dk_at dksX8_nextToken_4 14 rfl rfl)
theorem dX8_nextToken_109 : decode cX8_nextToken 109 = .ok (.aload_n 0, 1) := dk_42 (dk_at dksX8_nextToken_4 17 rfl rfl)
theorem dX8_nextToken_110 : decode cX8_nextToken 110 = .ok (.aload_n 0, 1) := dk_42 (dk_at dksX8_nextToken_4 18 rfl rfl)
theorem dX8_nextToken_111 : decode cX8_nextToken 111 = .ok (.getfield 121, 3) := dk_180 0 121 (dk_at dksX8_nextToken_4 19 rfl rfl)
theorem dX8_nextToken_114 : decode cX8_nextToken 114 = .ok (.invokevirtual 137, 3) := dk_182 0 137 (dk_at dksX8_nextToken_5 0 rfl rfl)
theorem dX8_nextToken_117 : decode cX8_nextToken 117 = .ok (.bipush 97, 2) := dk_16 97 (dk_at dksX8_nextToken_5 3 rfl rfl)
theorem dX8_nextToken_119 : decode cX8_nextToken 119 = .ok (.if_icmp .lt 69, 3) := dk_161 0 69 (dk_at dksX8_nextToken_5 5 rfl rfl)
theorem dX8_nextToken_122 : decode cX8_nextToken 122 = .ok (.aload_n 0, 1) := dk_42 (dk_at dksX8_nextToken_5 8 rfl rfl)
theorem dX8_nextToken_123 : decode cX8_nextToken 123 = .ok (.aload_n 0, 1) := dk_42 (dk_at dksX8_nextToken_5 9 rfl rfl)
theorem dX8_nextToken_124 : decode cX8_nextToken 124 = .ok (.getfield 121, 3) := dk_180 0 121 (dk_at dksX8_nextToken_5 10 rfl rfl)
theorem dX8_nextToken_127 : decode cX8_nextToken 127 = .ok (.invokevirtual 137, 3) := dk_182 0 137 (dk_at dksX8_nextToken_5 13 rfl rfl)
theorem dX8_nextToken_130 : decode cX8_nextToken 130 = .ok (.bipush 122, 2) := dk_16 122 (dk_at dksX8_nextToken_5 16 rfl rfl)
theorem dX8_nextToken_132 : decode cX8_nextToken 132 = .ok (.if_icmp .gt 56, 3) := dk_163 0 56 (dk_at dksX8_nextToken_5 18 rfl rfl)
theorem dX8_nextToken_135 : decode cX8_nextToken 135 = .ok (.aload_n 0, 1) := dk_42 (dk_at dksX8_nextToken_5 21 rfl rfl)
theorem dX8_nextToken_136 : decode cX8_nextToken 136 = .ok (.getfield 121, 3) := dk_180 0 121 (dk_at dksX8_nextToken_6 0 rfl rfl)
theorem dX8_nextToken_139 : decode cX8_nextToken 139 = .ok (.aload_n 0, 1) := dk_42 (dk_at dksX8_nextToken_6 3 rfl rfl)
theorem dX8_nextToken_140 : decode cX8_nextToken 140 = .ok (.getfield 124, 3) := dk_180 0 124 (dk_at dksX8_nextToken_6 4 rfl rfl)
theorem dX8_nextToken_143 : decode cX8_nextToken 143 = .ok (.isub, 1) := dk_100 (dk_at dksX8_nextToken_6 7 rfl rfl)
theorem dX8_nextToken_144 : decode cX8_nextToken 144 = .ok (.bipush 8, 2) := dk_16 8 (dk_at dksX8_nextToken_6 8 rfl rfl)
theorem dX8_nextToken_146 : decode cX8_nextToken 146 = .ok (.if_icmp .ge 29, 3) := dk_162 0 29 (dk_at dksX8_nextToken_6 10 rfl rfl)
theorem dX8_nextToken_149 : decode cX8_nextToken 149 = .ok (.aload_n 0, 1) := dk_42 (dk_at dksX8_nextToken_6 13 rfl rfl)
theorem dX8_nextToken_150 : decode cX8_nextToken 150 = .ok (.aload_n 0, 1) := dk_42 (dk_at dksX8_nextToken_6 14 rfl rfl)
theorem dX8_nextToken_151 : decode cX8_nextToken 151 = .ok (.getfield 127, 3) := dk_180 0 127 (dk_at dksX8_nextToken_6 15 rfl rfl)
theorem dX8_nextToken_154 : decode cX8_nextToken 154 = .ok (.ldc2_w 141, 3) := dk_20 0 141 (dk_at dksX8_nextToken_6 18 rfl rfl)
theorem dX8_nextToken_157 : decode cX8_nextToken 157 = .ok (.lmul, 1) := dk_105 (dk_at dksX8_nextToken_6 21 rfl rfl)
theorem dX8_nextToken_158 : decode cX8_nextToken 158 = .ok (.aload_n 0, 1) := dk_42 (dk_at dksX8_nextToken_6 22 rfl rfl)
theorem dX8_nextToken_159 : decode cX8_nextToken 159 = .ok (.aload_n 0, 1) := dk_42 (dk_at dksX8_nextToken_6 23 rfl rfl)
theorem dX8_nextToken_160 : decode cX8_nextToken 160 = .ok (.getfield 121, 3) := dk_180 0 121 (dk_at dksX8_nextToken_7 0 rfl rfl)
theorem dX8_nextToken_163 : decode cX8_nextToken 163 = .ok (.invokevirtual 137, 3) := dk_182 0 137 (dk_at dksX8_nextToken_7 3 rfl rfl)
theorem dX8_nextToken_166 : decode cX8_nextToken 166 = .ok (.i2l, 1) := dk_133 (dk_at dksX8_nextToken_7 6 rfl rfl)
theorem dX8_nextToken_167 : decode cX8_nextToken 167 = .ok (.ladd, 1) := dk_97 (dk_at dksX8_nextToken_7 7 rfl rfl)
theorem dX8_nextToken_168 : decode cX8_nextToken 168 = .ok (.ldc2_w 143, 3) := dk_20 0 143 (dk_at dksX8_nextToken_7 8 rfl rfl)
theorem dX8_nextToken_171 : decode cX8_nextToken 171 = .ok (.lsub, 1) := dk_101 (dk_at dksX8_nextToken_7 11 rfl rfl)
theorem dX8_nextToken_172 : decode cX8_nextToken 172 = .ok (.putfield 127, 3) := dk_181 0 127 (dk_at dksX8_nextToken_7 12 rfl rfl)
theorem dX8_nextToken_175 : decode cX8_nextToken 175 = .ok (.aload_n 0, 1) := dk_42 (dk_at dksX8_nextToken_7 15 rfl rfl)
theorem dX8_nextToken_176 : decode cX8_nextToken 176 = .ok (.dup, 1) := dk_89 (dk_at dksX8_nextToken_7 16 rfl rfl)
theorem dX8_nextToken_177 : decode cX8_nextToken 177 = .ok (.getfield 121, 3) := dk_180 0 121 (dk_at dksX8_nextToken_7 17 rfl rfl)
theorem dX8_nextToken_180 : decode cX8_nextToken 180 = .ok (.iconst 1, 1) := dk_4 (dk_at dksX8_nextToken_7 20 rfl rfl)
theorem dX8_nextToken_181 : decode cX8_nextToken 181 = .ok (.iadd, 1) := dk_96 (dk_at dksX8_nextToken_7 21 rfl rfl)
theorem dX8_nextToken_182 : decode cX8_nextToken 182 = .ok (.putfield 121, 3) := dk_181 0 121 (dk_at dksX8_nextToken_8 0 rfl rfl)
theorem dX8_nextToken_185 : decode cX8_nextToken 185 = .ok (.goto (-76), 3) := dk_167 255 180 (dk_at dksX8_nextToken_8 3 rfl rfl)
theorem dX8_nextToken_188 : decode cX8_nextToken 188 = .ok (.aload_n 0, 1) := dk_42 (dk_at dksX8_nextToken_8 6 rfl rfl)
theorem dX8_nextToken_189 : decode cX8_nextToken 189 = .ok (.aload_n 0, 1) := dk_42 (dk_at dksX8_nextToken_8 7 rfl rfl)
theorem dX8_nextToken_190 : decode cX8_nextToken 190 = .ok (.getfield 121, 3) := dk_180 0 121 (dk_at dksX8_nextToken_8 8 rfl rfl)
theorem dX8_nextToken_193 : decode cX8_nextToken 193 = .ok (.aload_n 0, 1) := dk_42 (dk_at dksX8_nextToken_8 11 rfl rfl)
theorem dX8_nextToken_194 : decode cX8_nextToken 194 = .ok (.getfield 124, 3) := dk_180 0 124 (dk_at dksX8_nextToken_8 12 rfl rfl)
theorem dX8_nextToken_197 : decode cX8_nextToken 197 = .ok (.isub, 1) := dk_100 (dk_at dksX8_nextToken_8 15 rfl rfl)
theorem dX8_nextToken_198 : decode cX8_nextToken 198 = .ok (.bipush 8, 2) := dk_16 8 (dk_at dksX8_nextToken_8 16 rfl rfl)
theorem dX8_nextToken_200 : decode cX8_nextToken 200 = .ok (.if_icmp .le 7, 3) := dk_164 0 7 (dk_at dksX8_nextToken_8 18 rfl rfl)
theorem dX8_nextToken_203 : decode cX8_nextToken 203 = .ok (.iconst 4, 1) := dk_7 (dk_at dksX8_nextToken_8 21 rfl rfl)
theorem dX8_nextToken_204 : decode cX8_nextToken 204 = .ok (.goto 4, 3) := dk_167 0 4 (dk_at dksX8_nextToken_9 0 rfl rfl)
theorem dX8_nextToken_207 : decode cX8_nextToken 207 = .ok (.iconst 1, 1) := dk_4 (dk_at dksX8_nextToken_9 3 rfl rfl)
theorem dX8_nextToken_208 : decode cX8_nextToken 208 = .ok (.putfield 134, 3) := dk_181 0 134 (dk_at dksX8_nextToken_9 4 rfl rfl)
theorem dX8_nextToken_211 : decode cX8_nextToken 211 = .ok (.return_, 1) := dk_177 (dk_at dksX8_nextToken_9 7 rfl rfl)
theorem dX8_nextToken_212 : decode cX8_nextToken 212 = .ok (.iload_n 1, 1) := dk_27 (dk_at dksX8_nextToken_9 8 rfl rfl)
theorem dX8_nextToken_213 : decode cX8_nextToken 213 = .ok (.bipush 48, 2) := dk_16 48 (dk_at dksX8_nextToken_9 9 rfl rfl)
theorem dX8_nextToken_215 : decode cX8_nextToken 215 = .ok (.if_icmp .lt 107, 3) := dk_161 0 107 (dk_at dksX8_nextToken_9 11 rfl rfl)
theorem dX8_nextToken_218 : decode cX8_nextToken 218 = .ok (.iload_n 1, 1) := dk_27 (dk_at dksX8_nextToken_9 14 rfl rfl)
theorem dX8_nextToken_219 : decode cX8_nextToken 219 = .ok (.bipush 57, 2) := dk_16 57 (dk_at dksX8_nextToken_9 15 rfl rfl)
theorem dX8_nextToken_221 : decode cX8_nextToken 221 = .ok (.if_icmp .gt 101, 3) := dk_163 0 101 (dk_at dksX8_nextToken_9 17 rfl rfl)
theorem dX8_nextToken_224 : decode cX8_nextToken 224 = .ok (.aload_n 0, 1) := dk_42 (dk_at dksX8_nextToken_9 20 rfl rfl)
theorem dX8_nextToken_225 : decode cX8_nextToken 225 = .ok (.aload_n 0, 1) := dk_42 (dk_at dksX8_nextToken_9 21 rfl rfl)
theorem dX8_nextToken_226 : decode cX8_nextToken 226 = .ok (.getfield 121, 3) := dk_180 0 121 (dk_at dksX8_nextToken_10 0 rfl rfl)
theorem dX8_nextToken_229 : decode cX8_nextToken 229 = .ok (.invokevirtual 137, 3) := dk_182 0 137 (dk_at dksX8_nextToken_10 3 rfl rfl)
theorem dX8_nextToken_232 : decode cX8_nextToken 232 = .ok (.bipush 48, 2) := dk_16 48 (dk_at dksX8_nextToken_10 6 rfl rfl)
theorem dX8_nextToken_234 : decode cX8_nextToken 234 = .ok (.if_icmp .lt 65, 3) := dk_161 0 65 (dk_at dksX8_nextToken_10 8 rfl rfl)
theorem dX8_nextToken_237 : decode cX8_nextToken 237 = .ok (.aload_n 0, 1) := dk_42 (dk_at dksX8_nextToken_10 11 rfl rfl)
theorem dX8_nextToken_238 : decode cX8_nextToken 238 = .ok (.aload_n 0, 1) := dk_42 (dk_at dksX8_nextToken_10 12 rfl rfl)
theorem dX8_nextToken_239 : decode cX8_nextToken 239 = .ok (.getfield 121, 3) := dk_180 0 121 (dk_at dksX8_nextToken_10 13 rfl rfl)
theorem dX8_nextToken_242 : decode cX8_nextToken 242 = .ok (.invokevirtual 137, 3) := dk_182 0 137 (dk_at dksX8_nextToken_10 16 rfl rfl)
theorem dX8_nextToken_245 : decode cX8_nextToken 245 = .ok (.bipush 57, 2) := dk_16 57 (dk_at dksX8_nextToken_10 19 rfl rfl)
theorem dX8_nextToken_247 : decode cX8_nextToken 247 = .ok (.if_icmp .gt 52, 3) := dk_163 0 52 (dk_at dksX8_nextToken_10 21 rfl rfl)
theorem dX8_nextToken_250 : decode cX8_nextToken 250 = .ok (.aload_n 0, 1) := dk_42 (dk_at dksX8_nextToken_11 0 rfl rfl)
theorem dX8_nextToken_251 : decode cX8_nextToken 251 = .ok (.getfield 121, 3) := dk_180 0 121 (dk_at dksX8_nextToken_11 1 rfl rfl)
theorem dX8_nextToken_254 : decode cX8_nextToken 254 = .ok (.aload_n 0, 1) := dk_42 (dk_at dksX8_nextToken_11 4 rfl rfl)
theorem dX8_nextToken_255 : decode cX8_nextToken 255 = .ok (.getfield 124, 3) := dk_180 0 124 (dk_at dksX8_nextToken_11 5 rfl rfl)
theorem dX8_nextToken_258 : decode cX8_nextToken 258 = .ok (.isub, 1) := dk_100 (dk_at dksX8_nextToken_11 8 rfl rfl)
theorem dX8_nextToken_259 : decode cX8_nextToken 259 = .ok (.iconst 4, 1) := dk_7 (dk_at dksX8_nextToken_11 9 rfl rfl)
theorem dX8_nextToken_260 : decode cX8_nextToken 260 = .ok (.if_icmp .ge 26, 3) := dk_162 0 26 (dk_at dksX8_nextToken_11 10 rfl rfl)
theorem dX8_nextToken_263 : decode cX8_nextToken 263 = .ok (.aload_n 0, 1) := dk_42 (dk_at dksX8_nextToken_11 13 rfl rfl)
theorem dX8_nextToken_264 : decode cX8_nextToken 264 = .ok (.aload_n 0, 1) := dk_42 (dk_at dksX8_nextToken_11 14 rfl rfl)
theorem dX8_nextToken_265 : decode cX8_nextToken 265 = .ok (.getfield 131, 3) := dk_180 0 131 (dk_at dksX8_nextToken_11 15 rfl rfl)
theorem dX8_nextToken_268 : decode cX8_nextToken 268 = .ok (.bipush 10, 2) := dk_16 10 (dk_at dksX8_nextToken_11 18 rfl rfl)
theorem dX8_nextToken_270 : decode cX8_nextToken 270 = .ok (.imul, 1) := dk_104 (dk_at dksX8_nextToken_11 20 rfl rfl)
theorem dX8_nextToken_271 : decode cX8_nextToken 271 = .ok (.aload_n 0, 1) := dk_42 (dk_at dksX8_nextToken_11 21 rfl rfl)
theorem dX8_nextToken_272 : decode cX8_nextToken 272 = .ok (.aload_n 0, 1) := dk_42 (dk_at dksX8_nextToken_11 22 rfl rfl)
theorem dX8_nextToken_273 : decode cX8_nextToken 273 = .ok (.getfield 121, 3) := dk_180 0 121 (dk_at dksX8_nextToken_12 0 rfl rfl)
theorem dX8_nextToken_276 : decode cX8_nextToken 276 = .ok (.invokevirtual 137, 3) := dk_182 0 137 (dk_at dksX8_nextToken_12 3 rfl rfl)
theorem dX8_nextToken_279 : decode cX8_nextToken 279 = .ok (.iadd, 1) := dk_96 (dk_at dksX8_nextToken_12 6 rfl rfl)
theorem dX8_nextToken_280 : decode cX8_nextToken 280 = .ok (.bipush 48, 2) := dk_16 48 (dk_at dksX8_nextToken_12 7 rfl rfl)
theorem dX8_nextToken_282 : decode cX8_nextToken 282 = .ok (.isub, 1) := dk_100 (dk_at dksX8_nextToken_12 9 rfl rfl)
theorem dX8_nextToken_283 : decode cX8_nextToken 283 = .ok (.putfield 131, 3) := dk_181 0 131 (dk_at dksX8_nextToken_12 10 rfl rfl)
theorem dX8_nextToken_286 : decode cX8_nextToken 286 = .ok (.aload_n 0, 1) := dk_42 (dk_at dksX8_nextToken_12 13 rfl rfl)
theorem dX8_nextToken_287 : decode cX8_nextToken 287 = .ok (.dup, 1) := dk_89 (dk_at dksX8_nextToken_12 14 rfl rfl)
theorem dX8_nextToken_288 : decode cX8_nextToken 288 = .ok (.getfield 121, 3) := dk_180 0 121 (dk_at dksX8_nextToken_12 15 rfl rfl)
theorem dX8_nextToken_291 : decode cX8_nextToken 291 = .ok (.iconst 1, 1) := dk_4 (dk_at dksX8_nextToken_12 18 rfl rfl)
theorem dX8_nextToken_292 : decode cX8_nextToken 292 = .ok (.iadd, 1) := dk_96 (dk_at dksX8_nextToken_12 19 rfl rfl)
theorem dX8_nextToken_293 : decode cX8_nextToken 293 = .ok (.putfield 121, 3) := dk_181 0 121 (dk_at dksX8_nextToken_12 20 rfl rfl)
theorem dX8_nextToken_296 : decode cX8_nextToken 296 = .ok (.goto (-72), 3) := dk_167 255 184 (dk_at dksX8_nextToken_13 0 rfl rfl)
theorem dX8_nextToken_299 : decode cX8_nextToken 299 = .ok (.aload_n 0, 1) := dk_42 (dk_at dksX8_nextToken_13 3 rfl rfl)
theorem dX8_nextToken_300 : decode cX8_nextToken 300 = .ok (.aload_n 0, 1) := dk_42 (dk_at dksX8_nextToken_13 4 rfl rfl)
theorem dX8_nextToken_301 : decode cX8_nextToken 301 = .ok (.getfield 121, 3) := dk_180 0 121 (dk_at dksX8_nextToken_13 5 rfl rfl)
theorem dX8_nextToken_304 : decode cX8_nextToken 304 = .ok (.aload_n 0, 1) := dk_42 (dk_at dksX8_nextToken_13 8 rfl rfl)
theorem dX8_nextToken_305 : decode cX8_nextToken 305 = .ok (.getfield 124, 3) := dk_180 0 124 (dk_at dksX8_nextToken_13 9 rfl rfl)
theorem dX8_nextToken_308 : decode cX8_nextToken 308 = .ok (.isub, 1) := dk_100 (dk_at dksX8_nextToken_13 12 rfl rfl)
theorem dX8_nextToken_309 : decode cX8_nextToken 309 = .ok (.iconst 4, 1) := dk_7 (dk_at dksX8_nextToken_13 13 rfl rfl)
theorem dX8_nextToken_310 : decode cX8_nextToken 310 = .ok (.if_icmp .le 7, 3) := dk_164 0 7 (dk_at dksX8_nextToken_13 14 rfl rfl)
theorem dX8_nextToken_313 : decode cX8_nextToken 313 = .ok (.iconst 4, 1) := dk_7 (dk_at dksX8_nextToken_13 17 rfl rfl)
theorem dX8_nextToken_314 : decode cX8_nextToken 314 = .ok (.goto 4, 3) := dk_167 0 4 (dk_at dksX8_nextToken_13 18 rfl rfl)
theorem dX8_nextToken_317 : decode cX8_nextToken 317 = .ok (.iconst 2, 1) := dk_5 (dk_at dksX8_nextToken_13 21 rfl rfl)
theorem dX8_nextToken_318 : decode cX8_nextToken 318 = .ok (.putfield 134, 3) := dk_181 0 134 (dk_at dksX8_nextToken_14 0 rfl rfl)
theorem dX8_nextToken_321 : decode cX8_nextToken 321 = .ok (.return_, 1) := dk_177 (dk_at dksX8_nextToken_14 3 rfl rfl)
theorem dX8_nextToken_322 : decode cX8_nextToken 322 = .ok (.aload_n 0, 1) := dk_42 (dk_at dksX8_nextToken_14 4 rfl rfl)
theorem dX8_nextToken_323 : decode cX8_nextToken 323 = .ok (.dup, 1) := dk_89 (dk_at dksX8_nextToken_14 5 rfl rfl)
theorem dX8_nextToken_324 : decode cX8_nextToken 324 = .ok (.getfield 121, 3) := dk_180 0 121 (dk_at dksX8_nextToken_14 6 rfl rfl)
theorem dX8_nextToken_327 : decode cX8_nextToken 327 = .ok (.iconst 1, 1) := dk_4 (dk_at dksX8_nextToken_14 9 rfl rfl)
theorem dX8_nextToken_328 : decode cX8_nextToken 328 = .ok (.iadd, 1) := dk_96 (dk_at dksX8_nextToken_14 10 rfl rfl)
theorem dX8_nextToken_329 : decode cX8_nextToken 329 = .ok (.putfield 121, 3) := dk_181 0 121 (dk_at dksX8_nextToken_14 11 rfl rfl)
theorem dX8_nextToken_332 : decode cX8_nextToken 332 = .ok (.aload_n 0, 1) := dk_42 (dk_at dksX8_nextToken_14 14 rfl rfl)
theorem dX8_nextToken_333 : decode cX8_nextToken 333 = .ok (.iload_n 1, 1) := dk_27 (dk_at dksX8_nextToken_14 15 rfl rfl)
theorem dX8_nextToken_334 : decode cX8_nextToken 334 = .ok (.bipush 40, 2) := dk_16 40 (dk_at dksX8_nextToken_14 16 rfl rfl)
theorem dX8_nextToken_336 : decode cX8_nextToken 336 = .ok (.if_icmp .lt 9, 3) := dk_161 0 9 (dk_at dksX8_nextToken_14 18 rfl rfl)
theorem dX8_nextToken_339 : decode cX8_nextToken 339 = .ok (.iload_n 1, 1) := dk_27 (dk_at dksX8_nextToken_14 21 rfl rfl)
theorem dX8_nextToken_340 : decode cX8_nextToken 340 = .ok (.bipush 43, 2) := dk_16 43 (dk_at dksX8_nextToken_14 22 rfl rfl)
theorem dX8_nextToken_342 : decode cX8_nextToken 342 = .ok (.if_icmp .le 21, 3) := dk_164 0 21 (dk_at dksX8_nextToken_15 0 rfl rfl)
theorem dX8_nextToken_345 : decode cX8_nextToken 345 = .ok (.iload_n 1, 1) := dk_27 (dk_at dksX8_nextToken_15 3 rfl rfl)
theorem dX8_nextToken_346 : decode cX8_nextToken 346 = .ok (.bipush 45, 2) := dk_16 45 (dk_at dksX8_nextToken_15 4 rfl rfl)
theorem dX8_nextToken_348 : decode cX8_nextToken 348 = .ok (.if_icmp .eq 15, 3) := dk_159 0 15 (dk_at dksX8_nextToken_15 6 rfl rfl)
theorem dX8_nextToken_351 : decode cX8_nextToken 351 = .ok (.iload_n 1, 1) := dk_27 (dk_at dksX8_nextToken_15 9 rfl rfl)
theorem dX8_nextToken_352 : decode cX8_nextToken 352 = .ok (.bipush 59, 2) := dk_16 59 (dk_at dksX8_nextToken_15 10 rfl rfl)
theorem dX8_nextToken_354 : decode cX8_nextToken 354 = .ok (.if_icmp .lt 13, 3) := dk_161 0 13 (dk_at dksX8_nextToken_15 12 rfl rfl)
theorem dX8_nextToken_357 : decode cX8_nextToken 357 = .ok (.iload_n 1, 1) := dk_27 (dk_at dksX8_nextToken_15 15 rfl rfl)
theorem dX8_nextToken_358 : decode cX8_nextToken 358 = .ok (.bipush 61, 2) := dk_16 61 (dk_at dksX8_nextToken_15 16 rfl rfl)
theorem dX8_nextToken_360 : decode cX8_nextToken 360 = .ok (.if_icmp .gt 7, 3) := dk_163 0 7 (dk_at dksX8_nextToken_15 18 rfl rfl)
theorem dX8_nextToken_363 : decode cX8_nextToken 363 = .ok (.iconst 3, 1) := dk_6 (dk_at dksX8_nextToken_15 21 rfl rfl)
theorem dX8_nextToken_364 : decode cX8_nextToken 364 = .ok (.goto 4, 3) := dk_167 0 4 (dk_at dksX8_nextToken_16 0 rfl rfl)
theorem dX8_nextToken_367 : decode cX8_nextToken 367 = .ok (.iconst 4, 1) := dk_7 (dk_at dksX8_nextToken_16 3 rfl rfl)
theorem dX8_nextToken_368 : decode cX8_nextToken 368 = .ok (.putfield 134, 3) := dk_181 0 134 (dk_at dksX8_nextToken_16 4 rfl rfl)
theorem dX8_nextToken_371 : decode cX8_nextToken 371 = .ok (.return_, 1) := dk_177 (dk_at dksX8_nextToken_16 7 rfl rfl)
abbrev cX8_signAt : ByteArray := prog_30_method_6_code
def yX8_signAt : MethodName := ⟨RX8, "signAt", "(I)I"⟩
def dkwX8_signAt_0 : List UInt8 := [27, 42, 180, 0, 118, 162, 0, 12, 42, 180, 0, 7, 27, 46, 167, 0, 4, 3, 172]
abbrev dktX8_signAt_0 : List UInt8 := dkwX8_signAt_0 ++ []
theorem dksX8_signAt_0 : cX8_signAt.data.toList.drop 0 = dktX8_signAt_0 := by decide +kernel
theorem dX8_signAt_0 : decode cX8_signAt 0 = .ok (.iload_n 1, 1) := dk_27 (dk_at dksX8_signAt_0 0 rfl rfl)
theorem dX8_signAt_1 : decode cX8_signAt 1 = .ok (.aload_n 0, 1) := dk_42 (dk_at dksX8_signAt_0 1 rfl rfl)
theorem dX8_signAt_2 : decode cX8_signAt 2 = .ok (.getfield 118, 3) := dk_180 0 118 (dk_at dksX8_signAt_0 2 rfl rfl)
theorem dX8_signAt_5 : decode cX8_signAt 5 = .ok (.if_icmp .ge 12, 3) := dk_162 0 12 (dk_at dksX8_signAt_0 5 rfl rfl)
theorem dX8_signAt_8 : decode cX8_signAt 8 = .ok (.aload_n 0, 1) := dk_42 (dk_at dksX8_signAt_0 8 rfl rfl)
theorem dX8_signAt_9 : decode cX8_signAt 9 = .ok (.getfield 7, 3) := dk_180 0 7 (dk_at dksX8_signAt_0 9 rfl rfl)
theorem dX8_signAt_12 : decode cX8_signAt 12 = .ok (.iload_n 1, 1) := dk_27 (dk_at dksX8_signAt_0 12 rfl rfl)
theorem dX8_signAt_13 : decode cX8_signAt 13 = .ok (.iaload, 1) := dk_46 (dk_at dksX8_signAt_0 13 rfl rfl)
theorem dX8_signAt_14 : decode cX8_signAt 14 = .ok (.goto 4, 3) := dk_167 0 4 (dk_at dksX8_signAt_0 14 rfl rfl)
theorem dX8_signAt_17 : decode cX8_signAt 17 = .ok (.iconst 0, 1) := dk_3 (dk_at dksX8_signAt_0 17 rfl rfl)
theorem dX8_signAt_18 : decode cX8_signAt 18 = .ok (.ireturn, 1) := dk_172 (dk_at dksX8_signAt_0 18 rfl rfl)
abbrev cX8_isWord : ByteArray := prog_30_method_8_code
def yX8_isWord : MethodName := ⟨RX8, "isWord", "(J)Z"⟩
def dkwX8_isWord_0 : List UInt8 := [42, 180, 0, 134, 4, 160, 0, 16, 42, 180, 0, 127, 31, 148, 154, 0, 7, 4, 167, 0, 4, 3, 172]
abbrev dktX8_isWord_0 : List UInt8 := dkwX8_isWord_0 ++ []
theorem dksX8_isWord_0 : cX8_isWord.data.toList.drop 0 = dktX8_isWord_0 := by decide +kernel
theorem dX8_isWord_0 : decode cX8_isWord 0 = .ok (.aload_n 0, 1) := dk_42 (dk_at dksX8_isWord_0 0 rfl rfl)
theorem dX8_isWord_1 : decode cX8_isWord 1 = .ok (.getfield 134, 3) := dk_180 0 134 (dk_at dksX8_isWord_0 1 rfl rfl)
theorem dX8_isWord_4 : decode cX8_isWord 4 = .ok (.iconst 1, 1) := dk_4 (dk_at dksX8_isWord_0 4 rfl rfl)
theorem dX8_isWord_5 : decode cX8_isWord 5 = .ok (.if_icmp .ne 16, 3) := dk_160 0 16 (dk_at dksX8_isWord_0 5 rfl rfl)
theorem dX8_isWord_8 : decode cX8_isWord 8 = .ok (.aload_n 0, 1) := dk_42 (dk_at dksX8_isWord_0 8 rfl rfl)
theorem dX8_isWord_9 : decode cX8_isWord 9 = .ok (.getfield 127, 3) := dk_180 0 127 (dk_at dksX8_isWord_0 9 rfl rfl)
theorem dX8_isWord_12 : decode cX8_isWord 12 = .ok (.lload_n 1, 1) := dk_31 (dk_at dksX8_isWord_0 12 rfl rfl)
theorem dX8_isWord_13 : decode cX8_isWord 13 = .ok (.lcmp, 1) := dk_148 (dk_at dksX8_isWord_0 13 rfl rfl)
theorem dX8_isWord_14 : decode cX8_isWord 14 = .ok (.ifCond .ne 7, 3) := dk_154 0 7 (dk_at dksX8_isWord_0 14 rfl rfl)
theorem dX8_isWord_17 : decode cX8_isWord 17 = .ok (.iconst 1, 1) := dk_4 (dk_at dksX8_isWord_0 17 rfl rfl)
theorem dX8_isWord_18 : decode cX8_isWord 18 = .ok (.goto 4, 3) := dk_167 0 4 (dk_at dksX8_isWord_0 18 rfl rfl)
theorem dX8_isWord_21 : decode cX8_isWord 21 = .ok (.iconst 0, 1) := dk_3 (dk_at dksX8_isWord_0 21 rfl rfl)
theorem dX8_isWord_22 : decode cX8_isWord 22 = .ok (.ireturn, 1) := dk_172 (dk_at dksX8_isWord_0 22 rfl rfl)
abbrev cX8_readsField : ByteArray := prog_30_method_25_code
def yX8_readsField : MethodName := ⟨RX8, "readsField", "()Z"⟩
def dkwX8_readsField_3 : List UInt8 := [180, 0, 239, 79, 42, 182, 0, 252, 172]
abbrev dktX8_readsField_3 : List UInt8 := dkwX8_readsField_3 ++ []
def dkwX8_readsField_2 : List UInt8 := [180, 0, 239, 79, 42, 4, 16, 8, 182, 0, 248, 154, 0, 5, 3, 172, 42, 180, 0, 13, 16, 8, 42]
abbrev dktX8_readsField_2 : List UInt8 := dkwX8_readsField_2 ++ dktX8_readsField_3
def dkwX8_readsField_1 : List UInt8 := [42, 182, 0, 183, 42, 4, 16, 8, 182, 0, 248, 154, 0, 5, 3, 172, 42, 180, 0, 13, 16, 7, 42]
abbrev dktX8_readsField_1 : List UInt8 := dkwX8_readsField_1 ++ dktX8_readsField_2
def dkwX8_readsField_0 : List UInt8 := [42, 3, 182, 0, 245, 154, 0, 13, 42, 180, 0, 13, 16, 13, 46, 158, 0, 9, 42, 6, 182, 0, 177, 172]
abbrev dktX8_readsField_0 : List UInt8 := dkwX8_readsField_0 ++ dktX8_readsField_1
theorem dksX8_readsField_0 : cX8_readsField.data.toList.drop 0 = dktX8_readsField_0 := by decide +kernel
theorem dksX8_readsField_1 : cX8_readsField.data.toList.drop 24 = dktX8_readsField_1 := dk_seg dksX8_readsField_0 24 rfl rfl
theorem dksX8_readsField_2 : cX8_readsField.data.toList.drop 47 = dktX8_readsField_2 := dk_seg dksX8_readsField_1 23 rfl rfl
theorem dksX8_readsField_3 : cX8_readsField.data.toList.drop 70 = dktX8_readsField_3 := dk_seg dksX8_readsField_2 23 rfl rfl
theorem dX8_readsField_0 : decode cX8_readsField 0 = .ok (.aload_n 0, 1) := dk_42 (dk_at dksX8_readsField_0 0 rfl rfl)
theorem dX8_readsField_1 : decode cX8_readsField 1 = .ok (.iconst 0, 1) := dk_3 (dk_at dksX8_readsField_0 1 rfl rfl)
theorem dX8_readsField_2 : decode cX8_readsField 2 = .ok (.invokevirtual 245, 3) := dk_182 0 245 (dk_at dksX8_readsField_0 2 rfl rfl)
theorem dX8_readsField_5 : decode cX8_readsField 5 = .ok (.ifCond .ne 13, 3) := dk_154 0 13 (dk_at dksX8_readsField_0 5 rfl rfl)
theorem dX8_readsField_8 : decode cX8_readsField 8 = .ok (.aload_n 0, 1) := dk_42 (dk_at dksX8_readsField_0 8 rfl rfl)
theorem dX8_readsField_9 : decode cX8_readsField 9 = .ok (.getfield 13, 3) := dk_180 0 13 (dk_at dksX8_readsField_0 9 rfl rfl)
theorem dX8_readsField_12 : decode cX8_readsField 12 = .ok (.bipush 13, 2) := dk_16 13 (dk_at dksX8_readsField_0 12 rfl rfl)
theorem dX8_readsField_14 : decode cX8_readsField 14 = .ok (.iaload, 1) := dk_46 (dk_at dksX8_readsField_0 14 rfl rfl)
theorem dX8_readsField_15 : decode cX8_readsField 15 = .ok (.ifCond .le 9, 3) := dk_158 0 9 (dk_at dksX8_readsField_0 15 rfl rfl)
theorem dX8_readsField_18 : decode cX8_readsField 18 = .ok (.aload_n 0, 1) := dk_42 (dk_at dksX8_readsField_0 18 rfl rfl)
theorem dX8_readsField_19 : decode cX8_readsField 19 = .ok (.iconst 3, 1) := dk_6 (dk_at dksX8_readsField_0 19 rfl rfl)
theorem dX8_readsField_20 : decode cX8_readsField 20 = .ok (.invokevirtual 177, 3) := dk_182 0 177 (dk_at dksX8_readsField_0 20 rfl rfl)
theorem dX8_readsField_23 : decode cX8_readsField 23 = .ok (.ireturn, 1) := dk_172 (dk_at dksX8_readsField_0 23 rfl rfl)
theorem dX8_readsField_24 : decode cX8_readsField 24 = .ok (.aload_n 0, 1) := dk_42 (dk_at dksX8_readsField_1 0 rfl rfl)
theorem dX8_readsField_25 : decode cX8_readsField 25 = .ok (.invokevirtual 183, 3) := dk_182 0 183 (dk_at dksX8_readsField_1 1 rfl rfl)
theorem dX8_readsField_28 : decode cX8_readsField 28 = .ok (.aload_n 0, 1) := dk_42 (dk_at dksX8_readsField_1 4 rfl rfl)
theorem dX8_readsField_29 : decode cX8_readsField 29 = .ok (.iconst 1, 1) := dk_4 (dk_at dksX8_readsField_1 5 rfl rfl)
theorem dX8_readsField_30 : decode cX8_readsField 30 = .ok (.bipush 8, 2) := dk_16 8 (dk_at dksX8_readsField_1 6 rfl rfl)
theorem dX8_readsField_32 : decode cX8_readsField 32 = .ok (.invokevirtual 248, 3) := dk_182 0 248 (dk_at dksX8_readsField_1 8 rfl rfl)
theorem dX8_readsField_35 : decode cX8_readsField 35 = .ok (.ifCond .ne 5, 3) := dk_154 0 5 (dk_at dksX8_readsField_1 11 rfl rfl)
theorem dX8_readsField_38 : decode cX8_readsField 38 = .ok (.iconst 0, 1) := dk_3 (dk_at dksX8_readsField_1 14 rfl rfl)
theorem dX8_readsField_39 : decode cX8_readsField 39 = .ok (.ireturn, 1) := dk_172 (dk_at dksX8_readsField_1 15 rfl rfl)
theorem dX8_readsField_40 : decode cX8_readsField 40 = .ok (.aload_n 0, 1) := dk_42 (dk_at dksX8_readsField_1 16 rfl rfl)
theorem dX8_readsField_41 : decode cX8_readsField 41 = .ok (.getfield 13, 3) := dk_180 0 13 (dk_at dksX8_readsField_1 17 rfl rfl)
theorem dX8_readsField_44 : decode cX8_readsField 44 = .ok (.bipush 7, 2) := dk_16 7 (dk_at dksX8_readsField_1 20 rfl rfl)
theorem dX8_readsField_46 : decode cX8_readsField 46 = .ok (.aload_n 0, 1) := dk_42 (dk_at dksX8_readsField_1 22 rfl rfl)
theorem dX8_readsField_47 : decode cX8_readsField 47 = .ok (.getfield 239, 3) := dk_180 0 239 (dk_at dksX8_readsField_2 0 rfl rfl)
theorem dX8_readsField_50 : decode cX8_readsField 50 = .ok (.iastore, 1) := dk_79 (dk_at dksX8_readsField_2 3 rfl rfl)
theorem dX8_readsField_51 : decode cX8_readsField 51 = .ok (.aload_n 0, 1) := dk_42 (dk_at dksX8_readsField_2 4 rfl rfl)
theorem dX8_readsField_52 : decode cX8_readsField 52 = .ok (.iconst 1, 1) := dk_4 (dk_at dksX8_readsField_2 5 rfl rfl)
theorem dX8_readsField_53 : decode cX8_readsField 53 = .ok (.bipush 8, 2) := dk_16 8 (dk_at dksX8_readsField_2 6 rfl rfl)
theorem dX8_readsField_55 : decode cX8_readsField 55 = .ok (.invokevirtual 248, 3) := dk_182 0 248 (dk_at dksX8_readsField_2 8 rfl rfl)
theorem dX8_readsField_58 : decode cX8_readsField 58 = .ok (.ifCond .ne 5, 3) := dk_154 0 5 (dk_at dksX8_readsField_2 11 rfl rfl)
theorem dX8_readsField_61 : decode cX8_readsField 61 = .ok (.iconst 0, 1) := dk_3 (dk_at dksX8_readsField_2 14 rfl rfl)
theorem dX8_readsField_62 : decode cX8_readsField 62 = .ok (.ireturn, 1) := dk_172 (dk_at dksX8_readsField_2 15 rfl rfl)
theorem dX8_readsField_63 : decode cX8_readsField 63 = .ok (.aload_n 0, 1) := dk_42 (dk_at dksX8_readsField_2 16 rfl rfl)
theorem dX8_readsField_64 : decode cX8_readsField 64 = .ok (.getfield 13, 3) := dk_180 0 13 (dk_at dksX8_readsField_2 17 rfl rfl)
theorem dX8_readsField_67 : decode cX8_readsField 67 = .ok (.bipush 8, 2) := dk_16 8 (dk_at dksX8_readsField_2 20 rfl rfl)
theorem dX8_readsField_69 : decode cX8_readsField 69 = .ok (.aload_n 0, 1) := dk_42 (dk_at dksX8_readsField_2 22 rfl rfl)
theorem dX8_readsField_70 : decode cX8_readsField 70 = .ok (.getfield 239, 3) := dk_180 0 239 (dk_at dksX8_readsField_3 0 rfl rfl)
theorem dX8_readsField_73 : decode cX8_readsField 73 = .ok (.iastore, 1) := dk_79 (dk_at dksX8_readsField_3 3 rfl rfl)
theorem dX8_readsField_74 : decode cX8_readsField 74 = .ok (.aload_n 0, 1) := dk_42 (dk_at dksX8_readsField_3 4 rfl rfl)
theorem dX8_readsField_75 : decode cX8_readsField 75 = .ok (.invokevirtual 252, 3) := dk_182 0 252 (dk_at dksX8_readsField_3 5 rfl rfl)
theorem dX8_readsField_78 : decode cX8_readsField 78 = .ok (.ireturn, 1) := dk_172 (dk_at dksX8_readsField_3 8 rfl rfl)
abbrev cX8_isTwice : ByteArray := prog_30_method_24_code
def yX8_isTwice : MethodName := ⟨RX8, "isTwice", "(I)Z"⟩
def dkwX8_isTwice_1 : List UInt8 := [181, 0, 242, 3, 172]
abbrev dktX8_isTwice_1 : List UInt8 := dkwX8_isTwice_1 ++ []
def dkwX8_isTwice_0 : List UInt8 := [42, 180, 0, 242, 27, 122, 4, 126, 4, 160, 0, 5, 4, 172, 42, 89, 180, 0, 242, 4, 27, 120, 128]
abbrev dktX8_isTwice_0 : List UInt8 := dkwX8_isTwice_0 ++ dktX8_isTwice_1
theorem dksX8_isTwice_0 : cX8_isTwice.data.toList.drop 0 = dktX8_isTwice_0 := by decide +kernel
theorem dksX8_isTwice_1 : cX8_isTwice.data.toList.drop 23 = dktX8_isTwice_1 := dk_seg dksX8_isTwice_0 23 rfl rfl
theorem dX8_isTwice_0 : decode cX8_isTwice 0 = .ok (.aload_n 0, 1) := dk_42 (dk_at dksX8_isTwice_0 0 rfl rfl)
theorem dX8_isTwice_1 : decode cX8_isTwice 1 = .ok (.getfield 242, 3) := dk_180 0 242 (dk_at dksX8_isTwice_0 1 rfl rfl)
theorem dX8_isTwice_4 : decode cX8_isTwice 4 = .ok (.iload_n 1, 1) := dk_27 (dk_at dksX8_isTwice_0 4 rfl rfl)
theorem dX8_isTwice_5 : decode cX8_isTwice 5 = .ok (.ishr, 1) := dk_122 (dk_at dksX8_isTwice_0 5 rfl rfl)
theorem dX8_isTwice_6 : decode cX8_isTwice 6 = .ok (.iconst 1, 1) := dk_4 (dk_at dksX8_isTwice_0 6 rfl rfl)
theorem dX8_isTwice_7 : decode cX8_isTwice 7 = .ok (.iand, 1) := dk_126 (dk_at dksX8_isTwice_0 7 rfl rfl)
theorem dX8_isTwice_8 : decode cX8_isTwice 8 = .ok (.iconst 1, 1) := dk_4 (dk_at dksX8_isTwice_0 8 rfl rfl)
theorem dX8_isTwice_9 : decode cX8_isTwice 9 = .ok (.if_icmp .ne 5, 3) := dk_160 0 5 (dk_at dksX8_isTwice_0 9 rfl rfl)
theorem dX8_isTwice_12 : decode cX8_isTwice 12 = .ok (.iconst 1, 1) := dk_4 (dk_at dksX8_isTwice_0 12 rfl rfl)
theorem dX8_isTwice_13 : decode cX8_isTwice 13 = .ok (.ireturn, 1) := dk_172 (dk_at dksX8_isTwice_0 13 rfl rfl)
theorem dX8_isTwice_14 : decode cX8_isTwice 14 = .ok (.aload_n 0, 1) := dk_42 (dk_at dksX8_isTwice_0 14 rfl rfl)
theorem dX8_isTwice_15 : decode cX8_isTwice 15 = .ok (.dup, 1) := dk_89 (dk_at dksX8_isTwice_0 15 rfl rfl)
theorem dX8_isTwice_16 : decode cX8_isTwice 16 = .ok (.getfield 242, 3) := dk_180 0 242 (dk_at dksX8_isTwice_0 16 rfl rfl)
theorem dX8_isTwice_19 : decode cX8_isTwice 19 = .ok (.iconst 1, 1) := dk_4 (dk_at dksX8_isTwice_0 19 rfl rfl)
theorem dX8_isTwice_20 : decode cX8_isTwice 20 = .ok (.iload_n 1, 1) := dk_27 (dk_at dksX8_isTwice_0 20 rfl rfl)
theorem dX8_isTwice_21 : decode cX8_isTwice 21 = .ok (.ishl, 1) := dk_120 (dk_at dksX8_isTwice_0 21 rfl rfl)
theorem dX8_isTwice_22 : decode cX8_isTwice 22 = .ok (.ior, 1) := dk_128 (dk_at dksX8_isTwice_0 22 rfl rfl)
theorem dX8_isTwice_23 : decode cX8_isTwice 23 = .ok (.putfield 242, 3) := dk_181 0 242 (dk_at dksX8_isTwice_1 0 rfl rfl)
theorem dX8_isTwice_26 : decode cX8_isTwice 26 = .ok (.iconst 0, 1) := dk_3 (dk_at dksX8_isTwice_1 3 rfl rfl)
theorem dX8_isTwice_27 : decode cX8_isTwice 27 = .ok (.ireturn, 1) := dk_172 (dk_at dksX8_isTwice_1 4 rfl rfl)
abbrev cX8_fails : ByteArray := prog_30_method_10_code
def yX8_fails : MethodName := ⟨RX8, "fails", "(I)Z"⟩
def dkwX8_fails_0 : List UInt8 := [42, 27, 16, 16, 42, 180, 0, 124, 104, 96, 181, 0, 145, 3, 172]
abbrev dktX8_fails_0 : List UInt8 := dkwX8_fails_0 ++ []
theorem dksX8_fails_0 : cX8_fails.data.toList.drop 0 = dktX8_fails_0 := by decide +kernel
theorem dX8_fails_0 : decode cX8_fails 0 = .ok (.aload_n 0, 1) := dk_42 (dk_at dksX8_fails_0 0 rfl rfl)
theorem dX8_fails_1 : decode cX8_fails 1 = .ok (.iload_n 1, 1) := dk_27 (dk_at dksX8_fails_0 1 rfl rfl)
theorem dX8_fails_2 : decode cX8_fails 2 = .ok (.bipush 16, 2) := dk_16 16 (dk_at dksX8_fails_0 2 rfl rfl)
theorem dX8_fails_4 : decode cX8_fails 4 = .ok (.aload_n 0, 1) := dk_42 (dk_at dksX8_fails_0 4 rfl rfl)
theorem dX8_fails_5 : decode cX8_fails 5 = .ok (.getfield 124, 3) := dk_180 0 124 (dk_at dksX8_fails_0 5 rfl rfl)
theorem dX8_fails_8 : decode cX8_fails 8 = .ok (.imul, 1) := dk_104 (dk_at dksX8_fails_0 8 rfl rfl)
theorem dX8_fails_9 : decode cX8_fails 9 = .ok (.iadd, 1) := dk_96 (dk_at dksX8_fails_0 9 rfl rfl)
theorem dX8_fails_10 : decode cX8_fails 10 = .ok (.putfield 145, 3) := dk_181 0 145 (dk_at dksX8_fails_0 10 rfl rfl)
theorem dX8_fails_13 : decode cX8_fails 13 = .ok (.iconst 0, 1) := dk_3 (dk_at dksX8_fails_0 13 rfl rfl)
theorem dX8_fails_14 : decode cX8_fails 14 = .ok (.ireturn, 1) := dk_172 (dk_at dksX8_fails_0 14 rfl rfl)
abbrev cX8_needsNumber : ByteArray := prog_30_method_21_code
def yX8_needsNumber : MethodName := ⟨RX8, "needsNumber", "(II)Z"⟩
def dkwX8_needsNumber_1 : List UInt8 := [154, 0, 9, 42, 7, 182, 0, 177, 172, 42, 42, 180, 0, 131, 181, 0, 239, 42, 182, 0, 183, 4, 172]
abbrev dktX8_needsNumber_1 : List UInt8 := dkwX8_needsNumber_1 ++ []
def dkwX8_needsNumber_0 : List UInt8 := [42, 180, 0, 134, 5, 159, 0, 9, 42, 4, 182, 0, 177, 172, 42, 180, 0, 131, 27, 28, 184, 0, 235]
abbrev dktX8_needsNumber_0 : List UInt8 := dkwX8_needsNumber_0 ++ dktX8_needsNumber_1
theorem dksX8_needsNumber_0 : cX8_needsNumber.data.toList.drop 0 = dktX8_needsNumber_0 := by decide +kernel
theorem dksX8_needsNumber_1 : cX8_needsNumber.data.toList.drop 23 = dktX8_needsNumber_1 := dk_seg dksX8_needsNumber_0 23 rfl rfl
theorem dX8_needsNumber_0 : decode cX8_needsNumber 0 = .ok (.aload_n 0, 1) := dk_42 (dk_at dksX8_needsNumber_0 0 rfl rfl)
theorem dX8_needsNumber_1 : decode cX8_needsNumber 1 = .ok (.getfield 134, 3) := dk_180 0 134 (dk_at dksX8_needsNumber_0 1 rfl rfl)
theorem dX8_needsNumber_4 : decode cX8_needsNumber 4 = .ok (.iconst 2, 1) := dk_5 (dk_at dksX8_needsNumber_0 4 rfl rfl)
theorem dX8_needsNumber_5 : decode cX8_needsNumber 5 = .ok (.if_icmp .eq 9, 3) := dk_159 0 9 (dk_at dksX8_needsNumber_0 5 rfl rfl)
theorem dX8_needsNumber_8 : decode cX8_needsNumber 8 = .ok (.aload_n 0, 1) := dk_42 (dk_at dksX8_needsNumber_0 8 rfl rfl)
theorem dX8_needsNumber_9 : decode cX8_needsNumber 9 = .ok (.iconst 1, 1) := dk_4 (dk_at dksX8_needsNumber_0 9 rfl rfl)
theorem dX8_needsNumber_10 : decode cX8_needsNumber 10 = .ok (.invokevirtual 177, 3) := dk_182 0 177 (dk_at dksX8_needsNumber_0 10 rfl rfl)
theorem dX8_needsNumber_13 : decode cX8_needsNumber 13 = .ok (.ireturn, 1) := dk_172 (dk_at dksX8_needsNumber_0 13 rfl rfl)
theorem dX8_needsNumber_14 : decode cX8_needsNumber 14 = .ok (.aload_n 0, 1) := dk_42 (dk_at dksX8_needsNumber_0 14 rfl rfl)
theorem dX8_needsNumber_15 : decode cX8_needsNumber 15 = .ok (.getfield 131, 3) := dk_180 0 131 (dk_at dksX8_needsNumber_0 15 rfl rfl)
theorem dX8_needsNumber_18 : decode cX8_needsNumber 18 = .ok (.iload_n 1, 1) := dk_27 (dk_at dksX8_needsNumber_0 18 rfl rfl)
theorem dX8_needsNumber_19 : decode cX8_needsNumber 19 = .ok (.iload_n 2, 1) := dk_28 (dk_at dksX8_needsNumber_0 19 rfl rfl)
theorem dX8_needsNumber_20 : decode cX8_needsNumber 20 = .ok (.invokestatic 235, 3) := dk_184 0 235 (dk_at dksX8_needsNumber_0 20 rfl rfl)
theorem dX8_needsNumber_23 : decode cX8_needsNumber 23 = .ok (.ifCond .ne 9, 3) := dk_154 0 9 (dk_at dksX8_needsNumber_1 0 rfl rfl)
theorem dX8_needsNumber_26 : decode cX8_needsNumber 26 = .ok (.aload_n 0, 1) := dk_42 (dk_at dksX8_needsNumber_1 3 rfl rfl)
theorem dX8_needsNumber_27 : decode cX8_needsNumber 27 = .ok (.iconst 4, 1) := dk_7 (dk_at dksX8_needsNumber_1 4 rfl rfl)
theorem dX8_needsNumber_28 : decode cX8_needsNumber 28 = .ok (.invokevirtual 177, 3) := dk_182 0 177 (dk_at dksX8_needsNumber_1 5 rfl rfl)
theorem dX8_needsNumber_31 : decode cX8_needsNumber 31 = .ok (.ireturn, 1) := dk_172 (dk_at dksX8_needsNumber_1 8 rfl rfl)
theorem dX8_needsNumber_32 : decode cX8_needsNumber 32 = .ok (.aload_n 0, 1) := dk_42 (dk_at dksX8_needsNumber_1 9 rfl rfl)
theorem dX8_needsNumber_33 : decode cX8_needsNumber 33 = .ok (.aload_n 0, 1) := dk_42 (dk_at dksX8_needsNumber_1 10 rfl rfl)
theorem dX8_needsNumber_34 : decode cX8_needsNumber 34 = .ok (.getfield 131, 3) := dk_180 0 131 (dk_at dksX8_needsNumber_1 11 rfl rfl)
theorem dX8_needsNumber_37 : decode cX8_needsNumber 37 = .ok (.putfield 239, 3) := dk_181 0 239 (dk_at dksX8_needsNumber_1 14 rfl rfl)
theorem dX8_needsNumber_40 : decode cX8_needsNumber 40 = .ok (.aload_n 0, 1) := dk_42 (dk_at dksX8_needsNumber_1 17 rfl rfl)
theorem dX8_needsNumber_41 : decode cX8_needsNumber 41 = .ok (.invokevirtual 183, 3) := dk_182 0 183 (dk_at dksX8_needsNumber_1 18 rfl rfl)
theorem dX8_needsNumber_44 : decode cX8_needsNumber 44 = .ok (.iconst 1, 1) := dk_4 (dk_at dksX8_needsNumber_1 21 rfl rfl)
theorem dX8_needsNumber_45 : decode cX8_needsNumber 45 = .ok (.ireturn, 1) := dk_172 (dk_at dksX8_needsNumber_1 22 rfl rfl)
abbrev cX8_within : ByteArray := prog_30_method_3_code
def yX8_within : MethodName := ⟨RX8, "within", "(III)Z"⟩
def dkwX8_within_0 : List UInt8 := [26, 27, 161, 0, 12, 26, 28, 163, 0, 7, 4, 167, 0, 4, 3, 172]
abbrev dktX8_within_0 : List UInt8 := dkwX8_within_0 ++ []
theorem dksX8_within_0 : cX8_within.data.toList.drop 0 = dktX8_within_0 := by decide +kernel
theorem dX8_within_0 : decode cX8_within 0 = .ok (.iload_n 0, 1) := dk_26 (dk_at dksX8_within_0 0 rfl rfl)
theorem dX8_within_1 : decode cX8_within 1 = .ok (.iload_n 1, 1) := dk_27 (dk_at dksX8_within_0 1 rfl rfl)
theorem dX8_within_2 : decode cX8_within 2 = .ok (.if_icmp .lt 12, 3) := dk_161 0 12 (dk_at dksX8_within_0 2 rfl rfl)
theorem dX8_within_5 : decode cX8_within 5 = .ok (.iload_n 0, 1) := dk_26 (dk_at dksX8_within_0 5 rfl rfl)
theorem dX8_within_6 : decode cX8_within 6 = .ok (.iload_n 2, 1) := dk_28 (dk_at dksX8_within_0 6 rfl rfl)
theorem dX8_within_7 : decode cX8_within 7 = .ok (.if_icmp .gt 7, 3) := dk_163 0 7 (dk_at dksX8_within_0 7 rfl rfl)
theorem dX8_within_10 : decode cX8_within 10 = .ok (.iconst 1, 1) := dk_4 (dk_at dksX8_within_0 10 rfl rfl)
theorem dX8_within_11 : decode cX8_within 11 = .ok (.goto 4, 3) := dk_167 0 4 (dk_at dksX8_within_0 11 rfl rfl)
theorem dX8_within_14 : decode cX8_within 14 = .ok (.iconst 0, 1) := dk_3 (dk_at dksX8_within_0 14 rfl rfl)
theorem dX8_within_15 : decode cX8_within 15 = .ok (.ireturn, 1) := dk_172 (dk_at dksX8_within_0 15 rfl rfl)
abbrev cX8_ends : ByteArray := prog_30_method_23_code
def yX8_ends : MethodName := ⟨RX8, "ends", "()Z"⟩
def dkwX8_ends_0 : List UInt8 := [42, 16, 59, 182, 0, 173, 154, 0, 9, 42, 4, 182, 0, 177, 172, 42, 182, 0, 183, 4, 172]
abbrev dktX8_ends_0 : List UInt8 := dkwX8_ends_0 ++ []
theorem dksX8_ends_0 : cX8_ends.data.toList.drop 0 = dktX8_ends_0 := by decide +kernel
theorem dX8_ends_0 : decode cX8_ends 0 = .ok (.aload_n 0, 1) := dk_42 (dk_at dksX8_ends_0 0 rfl rfl)
theorem dX8_ends_1 : decode cX8_ends 1 = .ok (.bipush 59, 2) := dk_16 59 (dk_at dksX8_ends_0 1 rfl rfl)
theorem dX8_ends_3 : decode cX8_ends 3 = .ok (.invokevirtual 173, 3) := dk_182 0 173 (dk_at dksX8_ends_0 3 rfl rfl)
theorem dX8_ends_6 : decode cX8_ends 6 = .ok (.ifCond .ne 9, 3) := dk_154 0 9 (dk_at dksX8_ends_0 6 rfl rfl)
theorem dX8_ends_9 : decode cX8_ends 9 = .ok (.aload_n 0, 1) := dk_42 (dk_at dksX8_ends_0 9 rfl rfl)
theorem dX8_ends_10 : decode cX8_ends 10 = .ok (.iconst 1, 1) := dk_4 (dk_at dksX8_ends_0 10 rfl rfl)
theorem dX8_ends_11 : decode cX8_ends 11 = .ok (.invokevirtual 177, 3) := dk_182 0 177 (dk_at dksX8_ends_0 11 rfl rfl)
theorem dX8_ends_14 : decode cX8_ends 14 = .ok (.ireturn, 1) := dk_172 (dk_at dksX8_ends_0 14 rfl rfl)
theorem dX8_ends_15 : decode cX8_ends 15 = .ok (.aload_n 0, 1) := dk_42 (dk_at dksX8_ends_0 15 rfl rfl)
theorem dX8_ends_16 : decode cX8_ends 16 = .ok (.invokevirtual 183, 3) := dk_182 0 183 (dk_at dksX8_ends_0 16 rfl rfl)
theorem dX8_ends_19 : decode cX8_ends 19 = .ok (.iconst 1, 1) := dk_4 (dk_at dksX8_ends_0 19 rfl rfl)
theorem dX8_ends_20 : decode cX8_ends 20 = .ok (.ireturn, 1) := dk_172 (dk_at dksX8_ends_0 20 rfl rfl)
abbrev cX8_isSign : ByteArray := prog_30_method_9_code
def yX8_isSign : MethodName := ⟨RX8, "isSign", "(I)Z"⟩
def dkwX8_isSign_1 : List UInt8 := [167, 0, 4, 3, 172]
abbrev dktX8_isSign_1 : List UInt8 := dkwX8_isSign_1 ++ []
def dkwX8_isSign_0 : List UInt8 := [42, 180, 0, 134, 6, 160, 0, 20, 42, 180, 0, 7, 42, 180, 0, 124, 46, 27, 160, 0, 7, 4]
abbrev dktX8_isSign_0 : List UInt8 := dkwX8_isSign_0 ++ dktX8_isSign_1
theorem dksX8_isSign_0 : cX8_isSign.data.toList.drop 0 = dktX8_isSign_0 := by decide +kernel
theorem dksX8_isSign_1 : cX8_isSign.data.toList.drop 22 = dktX8_isSign_1 := dk_seg dksX8_isSign_0 22 rfl rfl
theorem dX8_isSign_0 : decode cX8_isSign 0 = .ok (.aload_n 0, 1) := dk_42 (dk_at dksX8_isSign_0 0 rfl rfl)
theorem dX8_isSign_1 : decode cX8_isSign 1 = .ok (.getfield 134, 3) := dk_180 0 134 (dk_at dksX8_isSign_0 1 rfl rfl)
theorem dX8_isSign_4 : decode cX8_isSign 4 = .ok (.iconst 3, 1) := dk_6 (dk_at dksX8_isSign_0 4 rfl rfl)
theorem dX8_isSign_5 : decode cX8_isSign 5 = .ok (.if_icmp .ne 20, 3) := dk_160 0 20 (dk_at dksX8_isSign_0 5 rfl rfl)
theorem dX8_isSign_8 : decode cX8_isSign 8 = .ok (.aload_n 0, 1) := dk_42 (dk_at dksX8_isSign_0 8 rfl rfl)
theorem dX8_isSign_9 : decode cX8_isSign 9 = .ok (.getfield 7, 3) := dk_180 0 7 (dk_at dksX8_isSign_0 9 rfl rfl)
theorem dX8_isSign_12 : decode cX8_isSign 12 = .ok (.aload_n 0, 1) := dk_42 (dk_at dksX8_isSign_0 12 rfl rfl)
theorem dX8_isSign_13 : decode cX8_isSign 13 = .ok (.getfield 124, 3) := dk_180 0 124 (dk_at dksX8_isSign_0 13 rfl rfl)
theorem dX8_isSign_16 : decode cX8_isSign 16 = .ok (.iaload, 1) := dk_46 (dk_at dksX8_isSign_0 16 rfl rfl)
theorem dX8_isSign_17 : decode cX8_isSign 17 = .ok (.iload_n 1, 1) := dk_27 (dk_at dksX8_isSign_0 17 rfl rfl)
theorem dX8_isSign_18 : decode cX8_isSign 18 = .ok (.if_icmp .ne 7, 3) := dk_160 0 7 (dk_at dksX8_isSign_0 18 rfl rfl)
theorem dX8_isSign_21 : decode cX8_isSign 21 = .ok (.iconst 1, 1) := dk_4 (dk_at dksX8_isSign_0 21 rfl rfl)
theorem dX8_isSign_22 : decode cX8_isSign 22 = .ok (.goto 4, 3) := dk_167 0 4 (dk_at dksX8_isSign_1 0 rfl rfl)
theorem dX8_isSign_25 : decode cX8_isSign 25 = .ok (.iconst 0, 1) := dk_3 (dk_at dksX8_isSign_1 3 rfl rfl)
theorem dX8_isSign_26 : decode cX8_isSign 26 = .ok (.ireturn, 1) := dk_172 (dk_at dksX8_isSign_1 4 rfl rfl)
abbrev cX8_readsOne : ByteArray := prog_30_method_26_code
def yX8_readsOne : MethodName := ⟨RX8, "readsOne", "(III)Z"⟩
def dkwX8_readsOne_1 : List UInt8 := [154, 0, 5, 3, 172, 42, 180, 0, 13, 16, 7, 27, 96, 42, 180, 0, 239, 79, 42, 182, 0, 252, 172]
abbrev dktX8_readsOne_1 : List UInt8 := dkwX8_readsOne_1 ++ []
def dkwX8_readsOne_0 : List UInt8 := [42, 27, 182, 0, 245, 153, 0, 9, 42, 6, 182, 0, 177, 172, 42, 182, 0, 183, 42, 28, 29, 182, 0, 248]
abbrev dktX8_readsOne_0 : List UInt8 := dkwX8_readsOne_0 ++ dktX8_readsOne_1
theorem dksX8_readsOne_0 : cX8_readsOne.data.toList.drop 0 = dktX8_readsOne_0 := by decide +kernel
theorem dksX8_readsOne_1 : cX8_readsOne.data.toList.drop 24 = dktX8_readsOne_1 := dk_seg dksX8_readsOne_0 24 rfl rfl
theorem dX8_readsOne_0 : decode cX8_readsOne 0 = .ok (.aload_n 0, 1) := dk_42 (dk_at dksX8_readsOne_0 0 rfl rfl)
theorem dX8_readsOne_1 : decode cX8_readsOne 1 = .ok (.iload_n 1, 1) := dk_27 (dk_at dksX8_readsOne_0 1 rfl rfl)
theorem dX8_readsOne_2 : decode cX8_readsOne 2 = .ok (.invokevirtual 245, 3) := dk_182 0 245 (dk_at dksX8_readsOne_0 2 rfl rfl)
theorem dX8_readsOne_5 : decode cX8_readsOne 5 = .ok (.ifCond .eq 9, 3) := dk_153 0 9 (dk_at dksX8_readsOne_0 5 rfl rfl)
theorem dX8_readsOne_8 : decode cX8_readsOne 8 = .ok (.aload_n 0, 1) := dk_42 (dk_at dksX8_readsOne_0 8 rfl rfl)
theorem dX8_readsOne_9 : decode cX8_readsOne 9 = .ok (.iconst 3, 1) := dk_6 (dk_at dksX8_readsOne_0 9 rfl rfl)
theorem dX8_readsOne_10 : decode cX8_readsOne 10 = .ok (.invokevirtual 177, 3) := dk_182 0 177 (dk_at dksX8_readsOne_0 10 rfl rfl)
theorem dX8_readsOne_13 : decode cX8_readsOne 13 = .ok (.ireturn, 1) := dk_172 (dk_at dksX8_readsOne_0 13 rfl rfl)
theorem dX8_readsOne_14 : decode cX8_readsOne 14 = .ok (.aload_n 0, 1) := dk_42 (dk_at dksX8_readsOne_0 14 rfl rfl)
theorem dX8_readsOne_15 : decode cX8_readsOne 15 = .ok (.invokevirtual 183, 3) := dk_182 0 183 (dk_at dksX8_readsOne_0 15 rfl rfl)
theorem dX8_readsOne_18 : decode cX8_readsOne 18 = .ok (.aload_n 0, 1) := dk_42 (dk_at dksX8_readsOne_0 18 rfl rfl)
theorem dX8_readsOne_19 : decode cX8_readsOne 19 = .ok (.iload_n 2, 1) := dk_28 (dk_at dksX8_readsOne_0 19 rfl rfl)
theorem dX8_readsOne_20 : decode cX8_readsOne 20 = .ok (.iload_n 3, 1) := dk_29 (dk_at dksX8_readsOne_0 20 rfl rfl)
theorem dX8_readsOne_21 : decode cX8_readsOne 21 = .ok (.invokevirtual 248, 3) := dk_182 0 248 (dk_at dksX8_readsOne_0 21 rfl rfl)
theorem dX8_readsOne_24 : decode cX8_readsOne 24 = .ok (.ifCond .ne 5, 3) := dk_154 0 5 (dk_at dksX8_readsOne_1 0 rfl rfl)
theorem dX8_readsOne_27 : decode cX8_readsOne 27 = .ok (.iconst 0, 1) := dk_3 (dk_at dksX8_readsOne_1 3 rfl rfl)
theorem dX8_readsOne_28 : decode cX8_readsOne 28 = .ok (.ireturn, 1) := dk_172 (dk_at dksX8_readsOne_1 4 rfl rfl)
theorem dX8_readsOne_29 : decode cX8_readsOne 29 = .ok (.aload_n 0, 1) := dk_42 (dk_at dksX8_readsOne_1 5 rfl rfl)
theorem dX8_readsOne_30 : decode cX8_readsOne 30 = .ok (.getfield 13, 3) := dk_180 0 13 (dk_at dksX8_readsOne_1 6 rfl rfl)
theorem dX8_readsOne_33 : decode cX8_readsOne 33 = .ok (.bipush 7, 2) := dk_16 7 (dk_at dksX8_readsOne_1 9 rfl rfl)
theorem dX8_readsOne_35 : decode cX8_readsOne 35 = .ok (.iload_n 1, 1) := dk_27 (dk_at dksX8_readsOne_1 11 rfl rfl)
theorem dX8_readsOne_36 : decode cX8_readsOne 36 = .ok (.iadd, 1) := dk_96 (dk_at dksX8_readsOne_1 12 rfl rfl)
theorem dX8_readsOne_37 : decode cX8_readsOne 37 = .ok (.aload_n 0, 1) := dk_42 (dk_at dksX8_readsOne_1 13 rfl rfl)
theorem dX8_readsOne_38 : decode cX8_readsOne 38 = .ok (.getfield 239, 3) := dk_180 0 239 (dk_at dksX8_readsOne_1 14 rfl rfl)
theorem dX8_readsOne_41 : decode cX8_readsOne 41 = .ok (.iastore, 1) := dk_79 (dk_at dksX8_readsOne_1 17 rfl rfl)
theorem dX8_readsOne_42 : decode cX8_readsOne 42 = .ok (.aload_n 0, 1) := dk_42 (dk_at dksX8_readsOne_1 18 rfl rfl)
theorem dX8_readsOne_43 : decode cX8_readsOne 43 = .ok (.invokevirtual 252, 3) := dk_182 0 252 (dk_at dksX8_readsOne_1 19 rfl rfl)
theorem dX8_readsOne_46 : decode cX8_readsOne 46 = .ok (.ireturn, 1) := dk_172 (dk_at dksX8_readsOne_1 22 rfl rfl)
abbrev cX8_readsLaw : ByteArray := prog_30_method_27_code
def yX8_readsLaw : MethodName := ⟨RX8, "readsLaw", "(I)Z"⟩
def dkwX8_readsLaw_3 : List UInt8 := [180, 0, 148, 79, 4, 172]
abbrev dktX8_readsLaw_3 : List UInt8 := dkwX8_readsLaw_3 ++ []
def dkwX8_readsLaw_2 : List UInt8 := [27, 96, 42, 180, 0, 148, 79, 42, 182, 1, 0, 154, 0, 5, 3, 172, 42, 180, 0, 41, 5, 27, 96, 42]
abbrev dktX8_readsLaw_2 : List UInt8 := dkwX8_readsLaw_2 ++ dktX8_readsLaw_3
def dkwX8_readsLaw_1 : List UInt8 := [172, 42, 27, 4, 160, 0, 7, 4, 167, 0, 4, 3, 181, 0, 155, 42, 182, 0, 183, 42, 180, 0, 38, 5]
abbrev dktX8_readsLaw_1 : List UInt8 := dkwX8_readsLaw_1 ++ dktX8_readsLaw_2
def dkwX8_readsLaw_0 : List UInt8 := [42, 180, 0, 41, 5, 27, 96, 46, 42, 180, 0, 38, 5, 27, 96, 46, 164, 0, 9, 42, 6, 182, 0, 177]
abbrev dktX8_readsLaw_0 : List UInt8 := dkwX8_readsLaw_0 ++ dktX8_readsLaw_1
theorem dksX8_readsLaw_0 : cX8_readsLaw.data.toList.drop 0 = dktX8_readsLaw_0 := by decide +kernel
theorem dksX8_readsLaw_1 : cX8_readsLaw.data.toList.drop 24 = dktX8_readsLaw_1 := dk_seg dksX8_readsLaw_0 24 rfl rfl
theorem dksX8_readsLaw_2 : cX8_readsLaw.data.toList.drop 48 = dktX8_readsLaw_2 := dk_seg dksX8_readsLaw_1 24 rfl rfl
theorem dksX8_readsLaw_3 : cX8_readsLaw.data.toList.drop 72 = dktX8_readsLaw_3 := dk_seg dksX8_readsLaw_2 24 rfl rfl
theorem dX8_readsLaw_0 : decode cX8_readsLaw 0 = .ok (.aload_n 0, 1) := dk_42 (dk_at dksX8_readsLaw_0 0 rfl rfl)
theorem dX8_readsLaw_1 : decode cX8_readsLaw 1 = .ok (.getfield 41, 3) := dk_180 0 41 (dk_at dksX8_readsLaw_0 1 rfl rfl)
theorem dX8_readsLaw_4 : decode cX8_readsLaw 4 = .ok (.iconst 2, 1) := dk_5 (dk_at dksX8_readsLaw_0 4 rfl rfl)
theorem dX8_readsLaw_5 : decode cX8_readsLaw 5 = .ok (.iload_n 1, 1) := dk_27 (dk_at dksX8_readsLaw_0 5 rfl rfl)
theorem dX8_readsLaw_6 : decode cX8_readsLaw 6 = .ok (.iadd, 1) := dk_96 (dk_at dksX8_readsLaw_0 6 rfl rfl)
theorem dX8_readsLaw_7 : decode cX8_readsLaw 7 = .ok (.iaload, 1) := dk_46 (dk_at dksX8_readsLaw_0 7 rfl rfl)
theorem dX8_readsLaw_8 : decode cX8_readsLaw 8 = .ok (.aload_n 0, 1) := dk_42 (dk_at dksX8_readsLaw_0 8 rfl rfl)
theorem dX8_readsLaw_9 : decode cX8_readsLaw 9 = .ok (.getfield 38, 3) := dk_180 0 38 (dk_at dksX8_readsLaw_0 9 rfl rfl)
theorem dX8_readsLaw_12 : decode cX8_readsLaw 12 = .ok (.iconst 2, 1) := dk_5 (dk_at dksX8_readsLaw_0 12 rfl rfl)
theorem dX8_readsLaw_13 : decode cX8_readsLaw 13 = .ok (.iload_n 1, 1) := dk_27 (dk_at dksX8_readsLaw_0 13 rfl rfl)
theorem dX8_readsLaw_14 : decode cX8_readsLaw 14 = .ok (.iadd, 1) := dk_96 (dk_at dksX8_readsLaw_0 14 rfl rfl)
theorem dX8_readsLaw_15 : decode cX8_readsLaw 15 = .ok (.iaload, 1) := dk_46 (dk_at dksX8_readsLaw_0 15 rfl rfl)
theorem dX8_readsLaw_16 : decode cX8_readsLaw 16 = .ok (.if_icmp .le 9, 3) := dk_164 0 9 (dk_at dksX8_readsLaw_0 16 rfl rfl)
theorem dX8_readsLaw_19 : decode cX8_readsLaw 19 = .ok (.aload_n 0, 1) := dk_42 (dk_at dksX8_readsLaw_0 19 rfl rfl)
theorem dX8_readsLaw_20 : decode cX8_readsLaw 20 = .ok (.iconst 3, 1) := dk_6 (dk_at dksX8_readsLaw_0 20 rfl rfl)
theorem dX8_readsLaw_21 : decode cX8_readsLaw 21 = .ok (.invokevirtual 177, 3) := dk_182 0 177 (dk_at dksX8_readsLaw_0 21 rfl rfl)
theorem dX8_readsLaw_24 : decode cX8_readsLaw 24 = .ok (.ireturn, 1) := dk_172 (dk_at dksX8_readsLaw_1 0 rfl rfl)
theorem dX8_readsLaw_25 : decode cX8_readsLaw 25 = .ok (.aload_n 0, 1) := dk_42 (dk_at dksX8_readsLaw_1 1 rfl rfl)
theorem dX8_readsLaw_26 : decode cX8_readsLaw 26 = .ok (.iload_n 1, 1) := dk_27 (dk_at dksX8_readsLaw_1 2 rfl rfl)
theorem dX8_readsLaw_27 : decode cX8_readsLaw 27 = .ok (.iconst 1, 1) := dk_4 (dk_at dksX8_readsLaw_1 3 rfl rfl)
theorem dX8_readsLaw_28 : decode cX8_readsLaw 28 = .ok (.if_icmp .ne 7, 3) := dk_160 0 7 (dk_at dksX8_readsLaw_1 4 rfl rfl)
theorem dX8_readsLaw_31 : decode cX8_readsLaw 31 = .ok (.iconst 1, 1) := dk_4 (dk_at dksX8_readsLaw_1 7 rfl rfl)
theorem dX8_readsLaw_32 : decode cX8_readsLaw 32 = .ok (.goto 4, 3) := dk_167 0 4 (dk_at dksX8_readsLaw_1 8 rfl rfl)
theorem dX8_readsLaw_35 : decode cX8_readsLaw 35 = .ok (.iconst 0, 1) := dk_3 (dk_at dksX8_readsLaw_1 11 rfl rfl)
theorem dX8_readsLaw_36 : decode cX8_readsLaw 36 = .ok (.putfield 155, 3) := dk_181 0 155 (dk_at dksX8_readsLaw_1 12 rfl rfl)
theorem dX8_readsLaw_39 : decode cX8_readsLaw 39 = .ok (.aload_n 0, 1) := dk_42 (dk_at dksX8_readsLaw_1 15 rfl rfl)
theorem dX8_readsLaw_40 : decode cX8_readsLaw 40 = .ok (.invokevirtual 183, 3) := dk_182 0 183 (dk_at dksX8_readsLaw_1 16 rfl rfl)
theorem dX8_readsLaw_43 : decode cX8_readsLaw 43 = .ok (.aload_n 0, 1) := dk_42 (dk_at dksX8_readsLaw_1 19 rfl rfl)
theorem dX8_readsLaw_44 : decode cX8_readsLaw 44 = .ok (.getfield 38, 3) := dk_180 0 38 (dk_at dksX8_readsLaw_1 20 rfl rfl)
theorem dX8_readsLaw_47 : decode cX8_readsLaw 47 = .ok (.iconst 2, 1) := dk_5 (dk_at dksX8_readsLaw_1 23 rfl rfl)
theorem dX8_readsLaw_48 : decode cX8_readsLaw 48 = .ok (.iload_n 1, 1) := dk_27 (dk_at dksX8_readsLaw_2 0 rfl rfl)
theorem dX8_readsLaw_49 : decode cX8_readsLaw 49 = .ok (.iadd, 1) := dk_96 (dk_at dksX8_readsLaw_2 1 rfl rfl)
theorem dX8_readsLaw_50 : decode cX8_readsLaw 50 = .ok (.aload_n 0, 1) := dk_42 (dk_at dksX8_readsLaw_2 2 rfl rfl)
theorem dX8_readsLaw_51 : decode cX8_readsLaw 51 = .ok (.getfield 148, 3) := dk_180 0 148 (dk_at dksX8_readsLaw_2 3 rfl rfl)
theorem dX8_readsLaw_54 : decode cX8_readsLaw 54 = .ok (.iastore, 1) := dk_79 (dk_at dksX8_readsLaw_2 6 rfl rfl)
theorem dX8_readsLaw_55 : decode cX8_readsLaw 55 = .ok (.aload_n 0, 1) := dk_42 (dk_at dksX8_readsLaw_2 7 rfl rfl)
theorem dX8_readsLaw_56 : decode cX8_readsLaw 56 = .ok (.invokevirtual 256, 3) := dk_182 1 0 (dk_at dksX8_readsLaw_2 8 rfl rfl)
theorem dX8_readsLaw_59 : decode cX8_readsLaw 59 = .ok (.ifCond .ne 5, 3) := dk_154 0 5 (dk_at dksX8_readsLaw_2 11 rfl rfl)
theorem dX8_readsLaw_62 : decode cX8_readsLaw 62 = .ok (.iconst 0, 1) := dk_3 (dk_at dksX8_readsLaw_2 14 rfl rfl)
theorem dX8_readsLaw_63 : decode cX8_readsLaw 63 = .ok (.ireturn, 1) := dk_172 (dk_at dksX8_readsLaw_2 15 rfl rfl)
theorem dX8_readsLaw_64 : decode cX8_readsLaw 64 = .ok (.aload_n 0, 1) := dk_42 (dk_at dksX8_readsLaw_2 16 rfl rfl)
theorem dX8_readsLaw_65 : decode cX8_readsLaw 65 = .ok (.getfield 41, 3) := dk_180 0 41 (dk_at dksX8_readsLaw_2 17 rfl rfl)
theorem dX8_readsLaw_68 : decode cX8_readsLaw 68 = .ok (.iconst 2, 1) := dk_5 (dk_at dksX8_readsLaw_2 20 rfl rfl)
theorem dX8_readsLaw_69 : decode cX8_readsLaw 69 = .ok (.iload_n 1, 1) := dk_27 (dk_at dksX8_readsLaw_2 21 rfl rfl)
theorem dX8_readsLaw_70 : decode cX8_readsLaw 70 = .ok (.iadd, 1) := dk_96 (dk_at dksX8_readsLaw_2 22 rfl rfl)
theorem dX8_readsLaw_71 : decode cX8_readsLaw 71 = .ok (.aload_n 0, 1) := dk_42 (dk_at dksX8_readsLaw_2 23 rfl rfl)
theorem dX8_readsLaw_72 : decode cX8_readsLaw 72 = .ok (.getfield 148, 3) := dk_180 0 148 (dk_at dksX8_readsLaw_3 0 rfl rfl)
theorem dX8_readsLaw_75 : decode cX8_readsLaw 75 = .ok (.iastore, 1) := dk_79 (dk_at dksX8_readsLaw_3 3 rfl rfl)
theorem dX8_readsLaw_76 : decode cX8_readsLaw 76 = .ok (.iconst 1, 1) := dk_4 (dk_at dksX8_readsLaw_3 4 rfl rfl)
theorem dX8_readsLaw_77 : decode cX8_readsLaw 77 = .ok (.ireturn, 1) := dk_172 (dk_at dksX8_readsLaw_3 5 rfl rfl)
abbrev cX8_reads : ByteArray := prog_30_method_14_code
def yX8_reads : MethodName := ⟨RX8, "reads", "()Z"⟩
def dkwX8_reads_18 : List UInt8 := [182, 0, 177, 172, 42, 182, 0, 183, 167, 254, 95]
abbrev dktX8_reads_18 : List UInt8 := dkwX8_reads_18 ++ []
def dkwX8_reads_17 : List UInt8 := [167, 255, 239, 27, 154, 0, 18, 42, 16, 59, 182, 0, 173, 153, 0, 9, 42, 182, 0, 183, 4, 172, 42, 4]
abbrev dktX8_reads_17 : List UInt8 := dkwX8_reads_17 ++ dktX8_reads_18
def dkwX8_reads_16 : List UInt8 := [182, 0, 180, 132, 1, 255, 27, 158, 0, 44, 42, 180, 0, 47, 27, 46, 4, 160, 0, 34, 132, 1, 255]
abbrev dktX8_reads_16 : List UInt8 := dkwX8_reads_16 ++ dktX8_reads_17
def dkwX8_reads_15 : List UInt8 := [27, 3, 84, 4, 61, 167, 0, 70, 42, 16, 41, 182, 0, 173, 153, 0, 36, 27, 158, 0, 32, 42, 16, 29]
abbrev dktX8_reads_15 : List UInt8 := dkwX8_reads_15 ++ dktX8_reads_16
def dkwX8_reads_14 : List UInt8 := [42, 20, 0, 186, 182, 0, 169, 153, 0, 8, 16, 26, 167, 0, 5, 16, 27, 182, 0, 180, 42, 180, 0, 50]
abbrev dktX8_reads_14 : List UInt8 := dkwX8_reads_14 ++ dktX8_reads_15
def dkwX8_reads_13 : List UInt8 := [167, 0, 123, 42, 20, 0, 186, 182, 0, 169, 154, 0, 13, 42, 20, 0, 188, 182, 0, 169, 153, 0, 36, 42]
abbrev dktX8_reads_13 : List UInt8 := dkwX8_reads_13 ++ dktX8_reads_14
def dkwX8_reads_12 : List UInt8 := [153, 0, 8, 16, 24, 167, 0, 5, 16, 25, 182, 0, 180, 42, 180, 0, 50, 27, 4, 84, 4, 61]
abbrev dktX8_reads_12 : List UInt8 := dkwX8_reads_12 ++ dktX8_reads_13
def dkwX8_reads_11 : List UInt8 := [16, 61, 182, 0, 173, 153, 0, 44, 42, 180, 0, 50, 27, 51, 154, 0, 35, 42, 42, 16, 60, 182, 0, 173]
abbrev dktX8_reads_11 : List UInt8 := dkwX8_reads_11 ++ dktX8_reads_12
def dkwX8_reads_10 : List UInt8 := [167, 0, 5, 16, 22, 182, 0, 180, 4, 61, 167, 0, 182, 42, 16, 60, 182, 0, 173, 154, 0, 12, 42]
abbrev dktX8_reads_10 : List UInt8 := dkwX8_reads_10 ++ dktX8_reads_11
def dkwX8_reads_9 : List UInt8 := [16, 43, 182, 0, 173, 153, 0, 8, 16, 20, 167, 0, 19, 42, 16, 45, 182, 0, 173, 153, 0, 8, 16, 21]
abbrev dktX8_reads_9 : List UInt8 := dkwX8_reads_9 ++ dktX8_reads_10
def dkwX8_reads_8 : List UInt8 := [154, 0, 21, 42, 16, 45, 182, 0, 173, 154, 0, 12, 42, 16, 42, 182, 0, 173, 153, 0, 42, 42, 42]
abbrev dktX8_reads_8 : List UInt8 := dkwX8_reads_8 ++ dktX8_reads_9
def dkwX8_reads_7 : List UInt8 := [160, 0, 9, 132, 1, 255, 167, 255, 239, 42, 182, 0, 183, 167, 255, 91, 42, 16, 43, 182, 0, 173]
abbrev dktX8_reads_7 : List UInt8 := dkwX8_reads_7 ++ dktX8_reads_8
def dkwX8_reads_6 : List UInt8 := [16, 100, 42, 180, 0, 131, 96, 182, 0, 180, 3, 61, 27, 158, 0, 19, 42, 180, 0, 47, 27, 46, 4]
abbrev dktX8_reads_6 : List UInt8 := dkwX8_reads_6 ++ dktX8_reads_7
def dkwX8_reads_5 : List UInt8 := [167, 0, 4, 5, 79, 42, 180, 0, 50, 27, 3, 84, 167, 0, 44, 42, 29, 158, 0, 7, 29, 167, 0, 10]
abbrev dktX8_reads_5 : List UInt8 := dkwX8_reads_5 ++ dktX8_reads_6
def dkwX8_reads_4 : List UInt8 := [167, 0, 5, 16, 28, 182, 0, 180, 132, 1, 1, 42, 180, 0, 47, 27, 21, 4, 153, 0, 7, 4]
abbrev dktX8_reads_4 : List UInt8 := dkwX8_reads_4 ++ dktX8_reads_5
def dkwX8_reads_3 : List UInt8 := [182, 0, 177, 172, 21, 4, 154, 0, 8, 21, 5, 153, 0, 48, 42, 21, 4, 153, 0, 8, 16, 30]
abbrev dktX8_reads_3 : List UInt8 := dkwX8_reads_3 ++ dktX8_reads_4
def dkwX8_reads_2 : List UInt8 := [154, 0, 17, 42, 180, 0, 134, 5, 159, 0, 9, 42, 4, 182, 0, 177, 172, 27, 8, 160, 0, 9, 42, 8]
abbrev dktX8_reads_2 : List UInt8 := dkwX8_reads_2 ++ dktX8_reads_3
def dkwX8_reads_1 : List UInt8 := [182, 0, 169, 54, 4, 42, 16, 40, 182, 0, 173, 54, 5, 29, 154, 0, 27, 21, 4, 154, 0, 22, 21, 5]
abbrev dktX8_reads_1 : List UInt8 := dkwX8_reads_1 ++ dktX8_reads_2
def dkwX8_reads_0 : List UInt8 := [3, 60, 4, 61, 42, 180, 0, 50, 3, 3, 84, 28, 153, 0, 167, 42, 182, 0, 163, 62, 42, 20, 0, 167]
abbrev dktX8_reads_0 : List UInt8 := dkwX8_reads_0 ++ dktX8_reads_1
theorem dksX8_reads_0 : cX8_reads.data.toList.drop 0 = dktX8_reads_0 := by decide +kernel
theorem dksX8_reads_1 : cX8_reads.data.toList.drop 24 = dktX8_reads_1 := dk_seg dksX8_reads_0 24 rfl rfl
theorem dksX8_reads_2 : cX8_reads.data.toList.drop 48 = dktX8_reads_2 := dk_seg dksX8_reads_1 24 rfl rfl
theorem dksX8_reads_3 : cX8_reads.data.toList.drop 72 = dktX8_reads_3 := dk_seg dksX8_reads_2 24 rfl rfl
theorem dksX8_reads_4 : cX8_reads.data.toList.drop 94 = dktX8_reads_4 := dk_seg dksX8_reads_3 22 rfl rfl
theorem dksX8_reads_5 : cX8_reads.data.toList.drop 116 = dktX8_reads_5 := dk_seg dksX8_reads_4 22 rfl rfl
theorem dksX8_reads_6 : cX8_reads.data.toList.drop 140 = dktX8_reads_6 := dk_seg dksX8_reads_5 24 rfl rfl
theorem dksX8_reads_7 : cX8_reads.data.toList.drop 163 = dktX8_reads_7 := dk_seg dksX8_reads_6 23 rfl rfl
theorem dksX8_reads_8 : cX8_reads.data.toList.drop 185 = dktX8_reads_8 := dk_seg dksX8_reads_7 22 rfl rfl
theorem dksX8_reads_9 : cX8_reads.data.toList.drop 208 = dktX8_reads_9 := dk_seg dksX8_reads_8 23 rfl rfl
theorem dksX8_reads_10 : cX8_reads.data.toList.drop 232 = dktX8_reads_10 := dk_seg dksX8_reads_9 24 rfl rfl
theorem dksX8_reads_11 : cX8_reads.data.toList.drop 255 = dktX8_reads_11 := dk_seg dksX8_reads_10 23 rfl rfl
theorem dksX8_reads_12 : cX8_reads.data.toList.drop 279 = dktX8_reads_12 := dk_seg dksX8_reads_11 24 rfl rfl
theorem dksX8_reads_13 : cX8_reads.data.toList.drop 301 = dktX8_reads_13 := dk_seg dksX8_reads_12 22 rfl rfl
theorem dksX8_reads_14 : cX8_reads.data.toList.drop 325 = dktX8_reads_14 := dk_seg dksX8_reads_13 24 rfl rfl
theorem dksX8_reads_15 : cX8_reads.data.toList.drop 349 = dktX8_reads_15 := dk_seg dksX8_reads_14 24 rfl rfl
theorem dksX8_reads_16 : cX8_reads.data.toList.drop 373 = dktX8_reads_16 := dk_seg dksX8_reads_15 24 rfl rfl
theorem dksX8_reads_17 : cX8_reads.data.toList.drop 396 = dktX8_reads_17 := dk_seg dksX8_reads_16 23 rfl rfl
theorem dksX8_reads_18 : cX8_reads.data.toList.drop 420 = dktX8_reads_18 := dk_seg dksX8_reads_17 24 rfl rfl
theorem dX8_reads_0 : decode cX8_reads 0 = .ok (.iconst 0, 1) := dk_3 (dk_at dksX8_reads_0 0 rfl rfl)
theorem dX8_reads_1 : decode cX8_reads 1 = .ok (.istore_n 1, 1) := dk_60 (dk_at dksX8_reads_0 1 rfl rfl)
theorem dX8_reads_2 : decode cX8_reads 2 = .ok (.iconst 1, 1) := dk_4 (dk_at dksX8_reads_0 2 rfl rfl)
theorem dX8_reads_3 : decode cX8_reads 3 = .ok (.istore_n 2, 1) := dk_61 (dk_at dksX8_reads_0 3 rfl rfl)
theorem dX8_reads_4 : decode cX8_reads 4 = .ok (.aload_n 0, 1) := dk_42 (dk_at dksX8_reads_0 4 rfl rfl)
theorem dX8_reads_5 : decode cX8_reads 5 = .ok (.getfield 50, 3) := dk_180 0 50 (dk_at dksX8_reads_0 5 rfl rfl)
theorem dX8_reads_8 : decode cX8_reads 8 = .ok (.iconst 0, 1) := dk_3 (dk_at dksX8_reads_0 8 rfl rfl)
theorem dX8_reads_9 : decode cX8_reads 9 = .ok (.iconst 0, 1) := dk_3 (dk_at dksX8_reads_0 9 rfl rfl)
theorem dX8_reads_10 : decode cX8_reads 10 = .ok (.bastore, 1) := dk_84 (dk_at dksX8_reads_0 10 rfl rfl)
theorem dX8_reads_11 : decode cX8_reads 11 = .ok (.iload_n 2, 1) := dk_28 (dk_at dksX8_reads_0 11 rfl rfl)
theorem dX8_reads_12 : decode cX8_reads 12 = .ok (.ifCond .eq 167, 3) := dk_153 0 167 (dk_at dksX8_reads_0 12 rfl rfl)
theorem dX8_reads_15 : decode cX8_reads 15 = .ok (.aload_n 0, 1) := dk_42 (dk_at dksX8_reads_0 15 rfl rfl)
theorem dX8_reads_16 : decode cX8_reads 16 = .ok (.invokevirtual 163, 3) := dk_182 0 163 (dk_at dksX8_reads_0 16 rfl rfl)
theorem dX8_reads_19 : decode cX8_reads 19 = .ok (.istore_n 3, 1) := dk_62 (dk_at dksX8_reads_0 19 rfl rfl)
theorem dX8_reads_20 : decode cX8_reads 20 = .ok (.aload_n 0, 1) := dk_42 (dk_at dksX8_reads_0 20 rfl rfl)
theorem dX8_reads_21 : decode cX8_reads 21 = .ok (.ldc2_w 167, 3) := dk_20 0 167 (dk_at dksX8_reads_0 21 rfl rfl)
theorem dX8_reads_24 : decode cX8_reads 24 = .ok (.invokevirtual 169, 3) := dk_182 0 169 (dk_at dksX8_reads_1 0 rfl rfl)
theorem dX8_reads_27 : decode cX8_reads 27 = .ok (.istore 4, 2) := dk_54 4 (dk_at dksX8_reads_1 3 rfl rfl)
theorem dX8_reads_29 : decode cX8_reads 29 = .ok (.aload_n 0, 1) := dk_42 (dk_at dksX8_reads_1 5 rfl rfl)
theorem dX8_reads_30 : decode cX8_reads 30 = .ok (.bipush 40, 2) := dk_16 40 (dk_at dksX8_reads_1 6 rfl rfl)
theorem dX8_reads_32 : decode cX8_reads 32 = .ok (.invokevirtual 173, 3) := dk_182 0 173 (dk_at dksX8_reads_1 8 rfl rfl)
theorem dX8_reads_35 : decode cX8_reads 35 = .ok (.istore 5, 2) := dk_54 5 (dk_at dksX8_reads_1 11 rfl rfl)
theorem dX8_reads_37 : decode cX8_reads 37 = .ok (.iload_n 3, 1) := dk_29 (dk_at dksX8_reads_1 13 rfl rfl)
theorem dX8_reads_38 : decode cX8_reads 38 = .ok (.ifCond .ne 27, 3) := dk_154 0 27 (dk_at dksX8_reads_1 14 rfl rfl)
theorem dX8_reads_41 : decode cX8_reads 41 = .ok (.iload 4, 2) := dk_21 4 (dk_at dksX8_reads_1 17 rfl rfl)
theorem dX8_reads_43 : decode cX8_reads 43 = .ok (.ifCond .ne 22, 3) := dk_154 0 22 (dk_at dksX8_reads_1 19 rfl rfl)
theorem dX8_reads_46 : decode cX8_reads 46 = .ok (.iload 5, 2) := dk_21 5 (dk_at dksX8_reads_1 22 rfl rfl)
theorem dX8_reads_48 : decode cX8_reads 48 = .ok (.ifCond .ne 17, 3) := dk_154 0 17 (dk_at dksX8_reads_2 0 rfl rfl)
theorem dX8_reads_51 : decode cX8_reads 51 = .ok (.aload_n 0, 1) := dk_42 (dk_at dksX8_reads_2 3 rfl rfl)
theorem dX8_reads_52 : decode cX8_reads 52 = .ok (.getfield 134, 3) := dk_180 0 134 (dk_at dksX8_reads_2 4 rfl rfl)
theorem dX8_reads_55 : decode cX8_reads 55 = .ok (.iconst 2, 1) := dk_5 (dk_at dksX8_reads_2 7 rfl rfl)
theorem dX8_reads_56 : decode cX8_reads 56 = .ok (.if_icmp .eq 9, 3) := dk_159 0 9 (dk_at dksX8_reads_2 8 rfl rfl)
theorem dX8_reads_59 : decode cX8_reads 59 = .ok (.aload_n 0, 1) := dk_42 (dk_at dksX8_reads_2 11 rfl rfl)
theorem dX8_reads_60 : decode cX8_reads 60 = .ok (.iconst 1, 1) := dk_4 (dk_at dksX8_reads_2 12 rfl rfl)
theorem dX8_reads_61 : decode cX8_reads 61 = .ok (.invokevirtual 177, 3) := dk_182 0 177 (dk_at dksX8_reads_2 13 rfl rfl)
theorem dX8_reads_64 : decode cX8_reads 64 = .ok (.ireturn, 1) := dk_172 (dk_at dksX8_reads_2 16 rfl rfl)
theorem dX8_reads_65 : decode cX8_reads 65 = .ok (.iload_n 1, 1) := dk_27 (dk_at dksX8_reads_2 17 rfl rfl)
theorem dX8_reads_66 : decode cX8_reads 66 = .ok (.iconst 5, 1) := dk_8 (dk_at dksX8_reads_2 18 rfl rfl)
theorem dX8_reads_67 : decode cX8_reads 67 = .ok (.if_icmp .ne 9, 3) := dk_160 0 9 (dk_at dksX8_reads_2 19 rfl rfl)
theorem dX8_reads_70 : decode cX8_reads 70 = .ok (.aload_n 0, 1) := dk_42 (dk_at dksX8_reads_2 22 rfl rfl)
theorem dX8_reads_71 : decode cX8_reads 71 = .ok (.iconst 5, 1) := dk_8 (dk_at dksX8_reads_2 23 rfl rfl)
theorem dX8_reads_72 : decode cX8_reads 72 = .ok (.invokevirtual 177, 3) := dk_182 0 177 (dk_at dksX8_reads_3 0 rfl rfl)
theorem dX8_reads_75 : decode cX8_reads 75 = .ok (.ireturn, 1) := dk_172 (dk_at dksX8_reads_3 3 rfl rfl)
theorem dX8_reads_76 : decode cX8_reads 76 = .ok (.iload 4, 2) := dk_21 4 (dk_at dksX8_reads_3 4 rfl rfl)
theorem dX8_reads_78 : decode cX8_reads 78 = .ok (.ifCond .ne 8, 3) := dk_154 0 8 (dk_at dksX8_reads_3 6 rfl rfl)
theorem dX8_reads_81 : decode cX8_reads 81 = .ok (.iload 5, 2) := dk_21 5 (dk_at dksX8_reads_3 9 rfl rfl)
theorem dX8_reads_83 : decode cX8_reads 83 = .ok (.ifCond .eq 48, 3) := dk_153 0 48 (dk_at dksX8_reads_3 11 rfl rfl)
theorem dX8_reads_86 : decode cX8_reads 86 = .ok (.aload_n 0, 1) := dk_42 (dk_at dksX8_reads_3 14 rfl rfl)
theorem dX8_reads_87 : decode cX8_reads 87 = .ok (.iload 4, 2) := dk_21 4 (dk_at dksX8_reads_3 15 rfl rfl)
theorem dX8_reads_89 : decode cX8_reads 89 = .ok (.ifCond .eq 8, 3) := dk_153 0 8 (dk_at dksX8_reads_3 17 rfl rfl)
theorem dX8_reads_92 : decode cX8_reads 92 = .ok (.bipush 30, 2) := dk_16 30 (dk_at dksX8_reads_3 20 rfl rfl)
theorem dX8_reads_94 : decode cX8_reads 94 = .ok (.goto 5, 3) := dk_167 0 5 (dk_at dksX8_reads_4 0 rfl rfl)
theorem dX8_reads_97 : decode cX8_reads 97 = .ok (.bipush 28, 2) := dk_16 28 (dk_at dksX8_reads_4 3 rfl rfl)
theorem dX8_reads_99 : decode cX8_reads 99 = .ok (.invokevirtual 180, 3) := dk_182 0 180 (dk_at dksX8_reads_4 5 rfl rfl)
theorem dX8_reads_102 : decode cX8_reads 102 = .ok (.iinc 1 1, 3) := dk_132 1 1 (dk_at dksX8_reads_4 8 rfl rfl)
theorem dX8_reads_105 : decode cX8_reads 105 = .ok (.aload_n 0, 1) := dk_42 (dk_at dksX8_reads_4 11 rfl rfl)
theorem dX8_reads_106 : decode cX8_reads 106 = .ok (.getfield 47, 3) := dk_180 0 47 (dk_at dksX8_reads_4 12 rfl rfl)
theorem dX8_reads_109 : decode cX8_reads 109 = .ok (.iload_n 1, 1) := dk_27 (dk_at dksX8_reads_4 15 rfl rfl)
theorem dX8_reads_110 : decode cX8_reads 110 = .ok (.iload 4, 2) := dk_21 4 (dk_at dksX8_reads_4 16 rfl rfl)
theorem dX8_reads_112 : decode cX8_reads 112 = .ok (.ifCond .eq 7, 3) := dk_153 0 7 (dk_at dksX8_reads_4 18 rfl rfl)
theorem dX8_reads_115 : decode cX8_reads 115 = .ok (.iconst 1, 1) := dk_4 (dk_at dksX8_reads_4 21 rfl rfl)
theorem dX8_reads_116 : decode cX8_reads 116 = .ok (.goto 4, 3) := dk_167 0 4 (dk_at dksX8_reads_5 0 rfl rfl)
theorem dX8_reads_119 : decode cX8_reads 119 = .ok (.iconst 2, 1) := dk_5 (dk_at dksX8_reads_5 3 rfl rfl)
theorem dX8_reads_120 : decode cX8_reads 120 = .ok (.iastore, 1) := dk_79 (dk_at dksX8_reads_5 4 rfl rfl)
theorem dX8_reads_121 : decode cX8_reads 121 = .ok (.aload_n 0, 1) := dk_42 (dk_at dksX8_reads_5 5 rfl rfl)
theorem dX8_reads_122 : decode cX8_reads 122 = .ok (.getfield 50, 3) := dk_180 0 50 (dk_at dksX8_reads_5 6 rfl rfl)
theorem dX8_reads_125 : decode cX8_reads 125 = .ok (.iload_n 1, 1) := dk_27 (dk_at dksX8_reads_5 9 rfl rfl)
theorem dX8_reads_126 : decode cX8_reads 126 = .ok (.iconst 0, 1) := dk_3 (dk_at dksX8_reads_5 10 rfl rfl)
theorem dX8_reads_127 : decode cX8_reads 127 = .ok (.bastore, 1) := dk_84 (dk_at dksX8_reads_5 11 rfl rfl)
theorem dX8_reads_128 : decode cX8_reads 128 = .ok (.goto 44, 3) := dk_167 0 44 (dk_at dksX8_reads_5 12 rfl rfl)
theorem dX8_reads_131 : decode cX8_reads 131 = .ok (.aload_n 0, 1) := dk_42 (dk_at dksX8_reads_5 15 rfl rfl)
theorem dX8_reads_132 : decode cX8_reads 132 = .ok (.iload_n 3, 1) := dk_29 (dk_at dksX8_reads_5 16 rfl rfl)
theorem dX8_reads_133 : decode cX8_reads 133 = .ok (.ifCond .le 7, 3) := dk_158 0 7 (dk_at dksX8_reads_5 17 rfl rfl)
theorem dX8_reads_136 : decode cX8_reads 136 = .ok (.iload_n 3, 1) := dk_29 (dk_at dksX8_reads_5 20 rfl rfl)
theorem dX8_reads_137 : decode cX8_reads 137 = .ok (.goto 10, 3) := dk_167 0 10 (dk_at dksX8_reads_5 21 rfl rfl)
theorem dX8_reads_140 : decode cX8_reads 140 = .ok (.bipush 100, 2) := dk_16 100 (dk_at dksX8_reads_6 0 rfl rfl)
theorem dX8_reads_142 : decode cX8_reads 142 = .ok (.aload_n 0, 1) := dk_42 (dk_at dksX8_reads_6 2 rfl rfl)
theorem dX8_reads_143 : decode cX8_reads 143 = .ok (.getfield 131, 3) := dk_180 0 131 (dk_at dksX8_reads_6 3 rfl rfl)
theorem dX8_reads_146 : decode cX8_reads 146 = .ok (.iadd, 1) := dk_96 (dk_at dksX8_reads_6 6 rfl rfl)
theorem dX8_reads_147 : decode cX8_reads 147 = .ok (.invokevirtual 180, 3) := dk_182 0 180 (dk_at dksX8_reads_6 7 rfl rfl)
theorem dX8_reads_150 : decode cX8_reads 150 = .ok (.iconst 0, 1) := dk_3 (dk_at dksX8_reads_6 10 rfl rfl)
theorem dX8_reads_151 : decode cX8_reads 151 = .ok (.istore_n 2, 1) := dk_61 (dk_at dksX8_reads_6 11 rfl rfl)
theorem dX8_reads_152 : decode cX8_reads 152 = .ok (.iload_n 1, 1) := dk_27 (dk_at dksX8_reads_6 12 rfl rfl)
theorem dX8_reads_153 : decode cX8_reads 153 = .ok (.ifCond .le 19, 3) := dk_158 0 19 (dk_at dksX8_reads_6 13 rfl rfl)
theorem dX8_reads_156 : decode cX8_reads 156 = .ok (.aload_n 0, 1) := dk_42 (dk_at dksX8_reads_6 16 rfl rfl)
theorem dX8_reads_157 : decode cX8_reads 157 = .ok (.getfield 47, 3) := dk_180 0 47 (dk_at dksX8_reads_6 17 rfl rfl)
theorem dX8_reads_160 : decode cX8_reads 160 = .ok (.iload_n 1, 1) := dk_27 (dk_at dksX8_reads_6 20 rfl rfl)
theorem dX8_reads_161 : decode cX8_reads 161 = .ok (.iaload, 1) := dk_46 (dk_at dksX8_reads_6 21 rfl rfl)
theorem dX8_reads_162 : decode cX8_reads 162 = .ok (.iconst 1, 1) := dk_4 (dk_at dksX8_reads_6 22 rfl rfl)
theorem dX8_reads_163 : decode cX8_reads 163 = .ok (.if_icmp .ne 9, 3) := dk_160 0 9 (dk_at dksX8_reads_7 0 rfl rfl)
theorem dX8_reads_166 : decode cX8_reads 166 = .ok (.iinc 1 (-1), 3) := dk_132 1 255 (dk_at dksX8_reads_7 3 rfl rfl)
theorem dX8_reads_169 : decode cX8_reads 169 = .ok (.goto (-17), 3) := dk_167 255 239 (dk_at dksX8_reads_7 6 rfl rfl)
theorem dX8_reads_172 : decode cX8_reads 172 = .ok (.aload_n 0, 1) := dk_42 (dk_at dksX8_reads_7 9 rfl rfl)
theorem dX8_reads_173 : decode cX8_reads 173 = .ok (.invokevirtual 183, 3) := dk_182 0 183 (dk_at dksX8_reads_7 10 rfl rfl)
theorem dX8_reads_176 : decode cX8_reads 176 = .ok (.goto (-165), 3) := dk_167 255 91 (dk_at dksX8_reads_7 13 rfl rfl)
theorem dX8_reads_179 : decode cX8_reads 179 = .ok (.aload_n 0, 1) := dk_42 (dk_at dksX8_reads_7 16 rfl rfl)
theorem dX8_reads_180 : decode cX8_reads 180 = .ok (.bipush 43, 2) := dk_16 43 (dk_at dksX8_reads_7 17 rfl rfl)
theorem dX8_reads_182 : decode cX8_reads 182 = .ok (.invokevirtual 173, 3) := dk_182 0 173 (dk_at dksX8_reads_7 19 rfl rfl)
theorem dX8_reads_185 : decode cX8_reads 185 = .ok (.ifCond .ne 21, 3) := dk_154 0 21 (dk_at dksX8_reads_8 0 rfl rfl)
theorem dX8_reads_188 : decode cX8_reads 188 = .ok (.aload_n 0, 1) := dk_42 (dk_at dksX8_reads_8 3 rfl rfl)
theorem dX8_reads_189 : decode cX8_reads 189 = .ok (.bipush 45, 2) := dk_16 45 (dk_at dksX8_reads_8 4 rfl rfl)
theorem dX8_reads_191 : decode cX8_reads 191 = .ok (.invokevirtual 173, 3) := dk_182 0 173 (dk_at dksX8_reads_8 6 rfl rfl)
theorem dX8_reads_194 : decode cX8_reads 194 = .ok (.ifCond .ne 12, 3) := dk_154 0 12 (dk_at dksX8_reads_8 9 rfl rfl)
theorem dX8_reads_197 : decode cX8_reads 197 = .ok (.aload_n 0, 1) := dk_42 (dk_at dksX8_reads_8 12 rfl rfl)
theorem dX8_reads_198 : decode cX8_reads 198 = .ok (.bipush 42, 2) := dk_16 42 (dk_at dksX8_reads_8 13 rfl rfl)
theorem dX8_reads_200 : decode cX8_reads 200 = .ok (.invokevirtual 173, 3) := dk_182 0 173 (dk_at dksX8_reads_8 15 rfl rfl)
theorem dX8_reads_203 : decode cX8_reads 203 = .ok (.ifCond .eq 42, 3) := dk_153 0 42 (dk_at dksX8_reads_8 18 rfl rfl)
theorem dX8_reads_206 : decode cX8_reads 206 = .ok (.aload_n 0, 1) := dk_42 (dk_at dksX8_reads_8 21 rfl rfl)
theorem dX8_reads_207 : decode cX8_reads 207 = .ok (.aload_n 0, 1) := dk_42 (dk_at dksX8_reads_8 22 rfl rfl)
theorem dX8_reads_208 : decode cX8_reads 208 = .ok (.bipush 43, 2) := dk_16 43 (dk_at dksX8_reads_9 0 rfl rfl)
theorem dX8_reads_210 : decode cX8_reads 210 = .ok (.invokevirtual 173, 3) := dk_182 0 173 (dk_at dksX8_reads_9 2 rfl rfl)
theorem dX8_reads_213 : decode cX8_reads 213 = .ok (.ifCond .eq 8, 3) := dk_153 0 8 (dk_at dksX8_reads_9 5 rfl rfl)
theorem dX8_reads_216 : decode cX8_reads 216 = .ok (.bipush 20, 2) := dk_16 20 (dk_at dksX8_reads_9 8 rfl rfl)
theorem dX8_reads_218 : decode cX8_reads 218 = .ok (.goto 19, 3) := dk_167 0 19 (dk_at dksX8_reads_9 10 rfl rfl)
theorem dX8_reads_221 : decode cX8_reads 221 = .ok (.aload_n 0, 1) := dk_42 (dk_at dksX8_reads_9 13 rfl rfl)
theorem dX8_reads_222 : decode cX8_reads 222 = .ok (.bipush 45, 2) := dk_16 45 (dk_at dksX8_reads_9 14 rfl rfl)
theorem dX8_reads_224 : decode cX8_reads 224 = .ok (.invokevirtual 173, 3) := dk_182 0 173 (dk_at dksX8_reads_9 16 rfl rfl)
theorem dX8_reads_227 : decode cX8_reads 227 = .ok (.ifCond .eq 8, 3) := dk_153 0 8 (dk_at dksX8_reads_9 19 rfl rfl)
theorem dX8_reads_230 : decode cX8_reads 230 = .ok (.bipush 21, 2) := dk_16 21 (dk_at dksX8_reads_9 22 rfl rfl)
theorem dX8_reads_232 : decode cX8_reads 232 = .ok (.goto 5, 3) := dk_167 0 5 (dk_at dksX8_reads_10 0 rfl rfl)
theorem dX8_reads_235 : decode cX8_reads 235 = .ok (.bipush 22, 2) := dk_16 22 (dk_at dksX8_reads_10 3 rfl rfl)
theorem dX8_reads_237 : decode cX8_reads 237 = .ok (.invokevirtual 180, 3) := dk_182 0 180 (dk_at dksX8_reads_10 5 rfl rfl)
theorem dX8_reads_240 : decode cX8_reads 240 = .ok (.iconst 1, 1) := dk_4 (dk_at dksX8_reads_10 8 rfl rfl)
theorem dX8_reads_241 : decode cX8_reads 241 = .ok (.istore_n 2, 1) := dk_61 (dk_at dksX8_reads_10 9 rfl rfl)
theorem dX8_reads_242 : decode cX8_reads 242 = .ok (.goto 182, 3) := dk_167 0 182 (dk_at dksX8_reads_10 10 rfl rfl)
theorem dX8_reads_245 : decode cX8_reads 245 = .ok (.aload_n 0, 1) := dk_42 (dk_at dksX8_reads_10 13 rfl rfl)
theorem dX8_reads_246 : decode cX8_reads 246 = .ok (.bipush 60, 2) := dk_16 60 (dk_at dksX8_reads_10 14 rfl rfl)
theorem dX8_reads_248 : decode cX8_reads 248 = .ok (.invokevirtual 173, 3) := dk_182 0 173 (dk_at dksX8_reads_10 16 rfl rfl)
theorem dX8_reads_251 : decode cX8_reads 251 = .ok (.ifCond .ne 12, 3) := dk_154 0 12 (dk_at dksX8_reads_10 19 rfl rfl)
theorem dX8_reads_254 : decode cX8_reads 254 = .ok (.aload_n 0, 1) := dk_42 (dk_at dksX8_reads_10 22 rfl rfl)
theorem dX8_reads_255 : decode cX8_reads 255 = .ok (.bipush 61, 2) := dk_16 61 (dk_at dksX8_reads_11 0 rfl rfl)
theorem dX8_reads_257 : decode cX8_reads 257 = .ok (.invokevirtual 173, 3) := dk_182 0 173 (dk_at dksX8_reads_11 2 rfl rfl)
theorem dX8_reads_260 : decode cX8_reads 260 = .ok (.ifCond .eq 44, 3) := dk_153 0 44 (dk_at dksX8_reads_11 5 rfl rfl)
theorem dX8_reads_263 : decode cX8_reads 263 = .ok (.aload_n 0, 1) := dk_42 (dk_at dksX8_reads_11 8 rfl rfl)
theorem dX8_reads_264 : decode cX8_reads 264 = .ok (.getfield 50, 3) := dk_180 0 50 (dk_at dksX8_reads_11 9 rfl rfl)
theorem dX8_reads_267 : decode cX8_reads 267 = .ok (.iload_n 1, 1) := dk_27 (dk_at dksX8_reads_11 12 rfl rfl)
theorem dX8_reads_268 : decode cX8_reads 268 = .ok (.baload, 1) := dk_51 (dk_at dksX8_reads_11 13 rfl rfl)
theorem dX8_reads_269 : decode cX8_reads 269 = .ok (.ifCond .ne 35, 3) := dk_154 0 35 (dk_at dksX8_reads_11 14 rfl rfl)
theorem dX8_reads_272 : decode cX8_reads 272 = .ok (.aload_n 0, 1) := dk_42 (dk_at dksX8_reads_11 17 rfl rfl)
theorem dX8_reads_273 : decode cX8_reads 273 = .ok (.aload_n 0, 1) := dk_42 (dk_at dksX8_reads_11 18 rfl rfl)
theorem dX8_reads_274 : decode cX8_reads 274 = .ok (.bipush 60, 2) := dk_16 60 (dk_at dksX8_reads_11 19 rfl rfl)
theorem dX8_reads_276 : decode cX8_reads 276 = .ok (.invokevirtual 173, 3) := dk_182 0 173 (dk_at dksX8_reads_11 21 rfl rfl)
theorem dX8_reads_279 : decode cX8_reads 279 = .ok (.ifCond .eq 8, 3) := dk_153 0 8 (dk_at dksX8_reads_12 0 rfl rfl)
theorem dX8_reads_282 : decode cX8_reads 282 = .ok (.bipush 24, 2) := dk_16 24 (dk_at dksX8_reads_12 3 rfl rfl)
theorem dX8_reads_284 : decode cX8_reads 284 = .ok (.goto 5, 3) := dk_167 0 5 (dk_at dksX8_reads_12 5 rfl rfl)
theorem dX8_reads_287 : decode cX8_reads 287 = .ok (.bipush 25, 2) := dk_16 25 (dk_at dksX8_reads_12 8 rfl rfl)
theorem dX8_reads_289 : decode cX8_reads 289 = .ok (.invokevirtual 180, 3) := dk_182 0 180 (dk_at dksX8_reads_12 10 rfl rfl)
theorem dX8_reads_292 : decode cX8_reads 292 = .ok (.aload_n 0, 1) := dk_42 (dk_at dksX8_reads_12 13 rfl rfl)
theorem dX8_reads_293 : decode cX8_reads 293 = .ok (.getfield 50, 3) := dk_180 0 50 (dk_at dksX8_reads_12 14 rfl rfl)
theorem dX8_reads_296 : decode cX8_reads 296 = .ok (.iload_n 1, 1) := dk_27 (dk_at dksX8_reads_12 17 rfl rfl)
theorem dX8_reads_297 : decode cX8_reads 297 = .ok (.iconst 1, 1) := dk_4 (dk_at dksX8_reads_12 18 rfl rfl)
theorem dX8_reads_298 : decode cX8_reads 298 = .ok (.bastore, 1) := dk_84 (dk_at dksX8_reads_12 19 rfl rfl)
theorem dX8_reads_299 : decode cX8_reads 299 = .ok (.iconst 1, 1) := dk_4 (dk_at dksX8_reads_12 20 rfl rfl)
theorem dX8_reads_300 : decode cX8_reads 300 = .ok (.istore_n 2, 1) := dk_61 (dk_at dksX8_reads_12 21 rfl rfl)
theorem dX8_reads_301 : decode cX8_reads 301 = .ok (.goto 123, 3) := dk_167 0 123 (dk_at dksX8_reads_13 0 rfl rfl)
theorem dX8_reads_304 : decode cX8_reads 304 = .ok (.aload_n 0, 1) := dk_42 (dk_at dksX8_reads_13 3 rfl rfl)
theorem dX8_reads_305 : decode cX8_reads 305 = .ok (.ldc2_w 186, 3) := dk_20 0 186 (dk_at dksX8_reads_13 4 rfl rfl)
theorem dX8_reads_308 : decode cX8_reads 308 = .ok (.invokevirtual 169, 3) := dk_182 0 169 (dk_at dksX8_reads_13 7 rfl rfl)
theorem dX8_reads_311 : decode cX8_reads 311 = .ok (.ifCond .ne 13, 3) := dk_154 0 13 (dk_at dksX8_reads_13 10 rfl rfl)
theorem dX8_reads_314 : decode cX8_reads 314 = .ok (.aload_n 0, 1) := dk_42 (dk_at dksX8_reads_13 13 rfl rfl)
theorem dX8_reads_315 : decode cX8_reads 315 = .ok (.ldc2_w 188, 3) := dk_20 0 188 (dk_at dksX8_reads_13 14 rfl rfl)
theorem dX8_reads_318 : decode cX8_reads 318 = .ok (.invokevirtual 169, 3) := dk_182 0 169 (dk_at dksX8_reads_13 17 rfl rfl)
theorem dX8_reads_321 : decode cX8_reads 321 = .ok (.ifCond .eq 36, 3) := dk_153 0 36 (dk_at dksX8_reads_13 20 rfl rfl)
theorem dX8_reads_324 : decode cX8_reads 324 = .ok (.aload_n 0, 1) := dk_42 (dk_at dksX8_reads_13 23 rfl rfl)
theorem dX8_reads_325 : decode cX8_reads 325 = .ok (.aload_n 0, 1) := dk_42 (dk_at dksX8_reads_14 0 rfl rfl)
theorem dX8_reads_326 : decode cX8_reads 326 = .ok (.ldc2_w 186, 3) := dk_20 0 186 (dk_at dksX8_reads_14 1 rfl rfl)
theorem dX8_reads_329 : decode cX8_reads 329 = .ok (.invokevirtual 169, 3) := dk_182 0 169 (dk_at dksX8_reads_14 4 rfl rfl)
theorem dX8_reads_332 : decode cX8_reads 332 = .ok (.ifCond .eq 8, 3) := dk_153 0 8 (dk_at dksX8_reads_14 7 rfl rfl)
theorem dX8_reads_335 : decode cX8_reads 335 = .ok (.bipush 26, 2) := dk_16 26 (dk_at dksX8_reads_14 10 rfl rfl)
theorem dX8_reads_337 : decode cX8_reads 337 = .ok (.goto 5, 3) := dk_167 0 5 (dk_at dksX8_reads_14 12 rfl rfl)
theorem dX8_reads_340 : decode cX8_reads 340 = .ok (.bipush 27, 2) := dk_16 27 (dk_at dksX8_reads_14 15 rfl rfl)
theorem dX8_reads_342 : decode cX8_reads 342 = .ok (.invokevirtual 180, 3) := dk_182 0 180 (dk_at dksX8_reads_14 17 rfl rfl)
theorem dX8_reads_345 : decode cX8_reads 345 = .ok (.aload_n 0, 1) := dk_42 (dk_at dksX8_reads_14 20 rfl rfl)
theorem dX8_reads_346 : decode cX8_reads 346 = .ok (.getfield 50, 3) := dk_180 0 50 (dk_at dksX8_reads_14 21 rfl rfl)
theorem dX8_reads_349 : decode cX8_reads 349 = .ok (.iload_n 1, 1) := dk_27 (dk_at dksX8_reads_15 0 rfl rfl)
theorem dX8_reads_350 : decode cX8_reads 350 = .ok (.iconst 0, 1) := dk_3 (dk_at dksX8_reads_15 1 rfl rfl)
theorem dX8_reads_351 : decode cX8_reads 351 = .ok (.bastore, 1) := dk_84 (dk_at dksX8_reads_15 2 rfl rfl)
theorem dX8_reads_352 : decode cX8_reads 352 = .ok (.iconst 1, 1) := dk_4 (dk_at dksX8_reads_15 3 rfl rfl)
theorem dX8_reads_353 : decode cX8_reads 353 = .ok (.istore_n 2, 1) := dk_61 (dk_at dksX8_reads_15 4 rfl rfl)
theorem dX8_reads_354 : decode cX8_reads 354 = .ok (.goto 70, 3) := dk_167 0 70 (dk_at dksX8_reads_15 5 rfl rfl)
theorem dX8_reads_357 : decode cX8_reads 357 = .ok (.aload_n 0, 1) := dk_42 (dk_at dksX8_reads_15 8 rfl rfl)
theorem dX8_reads_358 : decode cX8_reads 358 = .ok (.bipush 41, 2) := dk_16 41 (dk_at dksX8_reads_15 9 rfl rfl)
theorem dX8_reads_360 : decode cX8_reads 360 = .ok (.invokevirtual 173, 3) := dk_182 0 173 (dk_at dksX8_reads_15 11 rfl rfl)
theorem dX8_reads_363 : decode cX8_reads 363 = .ok (.ifCond .eq 36, 3) := dk_153 0 36 (dk_at dksX8_reads_15 14 rfl rfl)
theorem dX8_reads_366 : decode cX8_reads 366 = .ok (.iload_n 1, 1) := dk_27 (dk_at dksX8_reads_15 17 rfl rfl)
theorem dX8_reads_367 : decode cX8_reads 367 = .ok (.ifCond .le 32, 3) := dk_158 0 32 (dk_at dksX8_reads_15 18 rfl rfl)
theorem dX8_reads_370 : decode cX8_reads 370 = .ok (.aload_n 0, 1) := dk_42 (dk_at dksX8_reads_15 21 rfl rfl)
theorem dX8_reads_371 : decode cX8_reads 371 = .ok (.bipush 29, 2) := dk_16 29 (dk_at dksX8_reads_15 22 rfl rfl)
theorem dX8_reads_373 : decode cX8_reads 373 = .ok (.invokevirtual 180, 3) := dk_182 0 180 (dk_at dksX8_reads_16 0 rfl rfl)
theorem dX8_reads_376 : decode cX8_reads 376 = .ok (.iinc 1 (-1), 3) := dk_132 1 255 (dk_at dksX8_reads_16 3 rfl rfl)
theorem dX8_reads_379 : decode cX8_reads 379 = .ok (.iload_n 1, 1) := dk_27 (dk_at dksX8_reads_16 6 rfl rfl)
theorem dX8_reads_380 : decode cX8_reads 380 = .ok (.ifCond .le 44, 3) := dk_158 0 44 (dk_at dksX8_reads_16 7 rfl rfl)
theorem dX8_reads_383 : decode cX8_reads 383 = .ok (.aload_n 0, 1) := dk_42 (dk_at dksX8_reads_16 10 rfl rfl)
theorem dX8_reads_384 : decode cX8_reads 384 = .ok (.getfield 47, 3) := dk_180 0 47 (dk_at dksX8_reads_16 11 rfl rfl)
theorem dX8_reads_387 : decode cX8_reads 387 = .ok (.iload_n 1, 1) := dk_27 (dk_at dksX8_reads_16 14 rfl rfl)
theorem dX8_reads_388 : decode cX8_reads 388 = .ok (.iaload, 1) := dk_46 (dk_at dksX8_reads_16 15 rfl rfl)
theorem dX8_reads_389 : decode cX8_reads 389 = .ok (.iconst 1, 1) := dk_4 (dk_at dksX8_reads_16 16 rfl rfl)
theorem dX8_reads_390 : decode cX8_reads 390 = .ok (.if_icmp .ne 34, 3) := dk_160 0 34 (dk_at dksX8_reads_16 17 rfl rfl)
theorem dX8_reads_393 : decode cX8_reads 393 = .ok (.iinc 1 (-1), 3) := dk_132 1 255 (dk_at dksX8_reads_16 20 rfl rfl)
theorem dX8_reads_396 : decode cX8_reads 396 = .ok (.goto (-17), 3) := dk_167 255 239 (dk_at dksX8_reads_17 0 rfl rfl)
theorem dX8_reads_399 : decode cX8_reads 399 = .ok (.iload_n 1, 1) := dk_27 (dk_at dksX8_reads_17 3 rfl rfl)
theorem dX8_reads_400 : decode cX8_reads 400 = .ok (.ifCond .ne 18, 3) := dk_154 0 18 (dk_at dksX8_reads_17 4 rfl rfl)
theorem dX8_reads_403 : decode cX8_reads 403 = .ok (.aload_n 0, 1) := dk_42 (dk_at dksX8_reads_17 7 rfl rfl)
theorem dX8_reads_404 : decode cX8_reads 404 = .ok (.bipush 59, 2) := dk_16 59 (dk_at dksX8_reads_17 8 rfl rfl)
theorem dX8_reads_406 : decode cX8_reads 406 = .ok (.invokevirtual 173, 3) := dk_182 0 173 (dk_at dksX8_reads_17 10 rfl rfl)
theorem dX8_reads_409 : decode cX8_reads 409 = .ok (.ifCond .eq 9, 3) := dk_153 0 9 (dk_at dksX8_reads_17 13 rfl rfl)
theorem dX8_reads_412 : decode cX8_reads 412 = .ok (.aload_n 0, 1) := dk_42 (dk_at dksX8_reads_17 16 rfl rfl)
theorem dX8_reads_413 : decode cX8_reads 413 = .ok (.invokevirtual 183, 3) := dk_182 0 183 (dk_at dksX8_reads_17 17 rfl rfl)
theorem dX8_reads_416 : decode cX8_reads 416 = .ok (.iconst 1, 1) := dk_4 (dk_at dksX8_reads_17 20 rfl rfl)
theorem dX8_reads_417 : decode cX8_reads 417 = .ok (.ireturn, 1) := dk_172 (dk_at dksX8_reads_17 21 rfl rfl)
theorem dX8_reads_418 : decode cX8_reads 418 = .ok (.aload_n 0, 1) := dk_42 (dk_at dksX8_reads_17 22 rfl rfl)
theorem dX8_reads_419 : decode cX8_reads 419 = .ok (.iconst 1, 1) := dk_4 (dk_at dksX8_reads_17 23 rfl rfl)
theorem dX8_reads_420 : decode cX8_reads 420 = .ok (.invokevirtual 177, 3) := dk_182 0 177 (dk_at dksX8_reads_18 0 rfl rfl)
theorem dX8_reads_423 : decode cX8_reads 423 = .ok (.ireturn, 1) := dk_172 (dk_at dksX8_reads_18 3 rfl rfl)
theorem dX8_reads_424 : decode cX8_reads 424 = .ok (.aload_n 0, 1) := dk_42 (dk_at dksX8_reads_18 4 rfl rfl)
theorem dX8_reads_425 : decode cX8_reads 425 = .ok (.invokevirtual 183, 3) := dk_182 0 183 (dk_at dksX8_reads_18 5 rfl rfl)
theorem dX8_reads_428 : decode cX8_reads 428 = .ok (.goto (-417), 3) := dk_167 254 95 (dk_at dksX8_reads_18 8 rfl rfl)
abbrev cX8_fact : ByteArray := prog_30_method_13_code
def yX8_fact : MethodName := ⟨RX8, "fact", "()I"⟩
def dkwX8_fact_3 : List UInt8 := [167, 0, 4, 3, 172]
abbrev dktX8_fact_3 : List UInt8 := dkwX8_fact_3 ++ []
def dkwX8_fact_2 : List UInt8 := [180, 0, 127, 20, 0, 159, 148, 154, 0, 5, 6, 172, 42, 180, 0, 127, 20, 0, 161, 148, 154, 0, 7, 7]
abbrev dktX8_fact_2 : List UInt8 := dkwX8_fact_2 ++ dktX8_fact_3
def dkwX8_fact_1 : List UInt8 := [180, 0, 127, 20, 0, 153, 148, 154, 0, 5, 5, 172, 42, 180, 0, 155, 154, 0, 5, 3, 172, 42]
abbrev dktX8_fact_1 : List UInt8 := dkwX8_fact_1 ++ dktX8_fact_2
def dkwX8_fact_0 : List UInt8 := [42, 180, 0, 134, 4, 159, 0, 5, 3, 172, 42, 180, 0, 127, 20, 0, 151, 148, 154, 0, 5, 4, 172, 42]
abbrev dktX8_fact_0 : List UInt8 := dkwX8_fact_0 ++ dktX8_fact_1
theorem dksX8_fact_0 : cX8_fact.data.toList.drop 0 = dktX8_fact_0 := by decide +kernel
theorem dksX8_fact_1 : cX8_fact.data.toList.drop 24 = dktX8_fact_1 := dk_seg dksX8_fact_0 24 rfl rfl
theorem dksX8_fact_2 : cX8_fact.data.toList.drop 46 = dktX8_fact_2 := dk_seg dksX8_fact_1 22 rfl rfl
theorem dksX8_fact_3 : cX8_fact.data.toList.drop 70 = dktX8_fact_3 := dk_seg dksX8_fact_2 24 rfl rfl
theorem dX8_fact_0 : decode cX8_fact 0 = .ok (.aload_n 0, 1) := dk_42 (dk_at dksX8_fact_0 0 rfl rfl)
theorem dX8_fact_1 : decode cX8_fact 1 = .ok (.getfield 134, 3) := dk_180 0 134 (dk_at dksX8_fact_0 1 rfl rfl)
theorem dX8_fact_4 : decode cX8_fact 4 = .ok (.iconst 1, 1) := dk_4 (dk_at dksX8_fact_0 4 rfl rfl)
theorem dX8_fact_5 : decode cX8_fact 5 = .ok (.if_icmp .eq 5, 3) := dk_159 0 5 (dk_at dksX8_fact_0 5 rfl rfl)
theorem dX8_fact_8 : decode cX8_fact 8 = .ok (.iconst 0, 1) := dk_3 (dk_at dksX8_fact_0 8 rfl rfl)
theorem dX8_fact_9 : decode cX8_fact 9 = .ok (.ireturn, 1) := dk_172 (dk_at dksX8_fact_0 9 rfl rfl)
theorem dX8_fact_10 : decode cX8_fact 10 = .ok (.aload_n 0, 1) := dk_42 (dk_at dksX8_fact_0 10 rfl rfl)
theorem dX8_fact_11 : decode cX8_fact 11 = .ok (.getfield 127, 3) := dk_180 0 127 (dk_at dksX8_fact_0 11 rfl rfl)
theorem dX8_fact_14 : decode cX8_fact 14 = .ok (.ldc2_w 151, 3) := dk_20 0 151 (dk_at dksX8_fact_0 14 rfl rfl)
theorem dX8_fact_17 : decode cX8_fact 17 = .ok (.lcmp, 1) := dk_148 (dk_at dksX8_fact_0 17 rfl rfl)
theorem dX8_fact_18 : decode cX8_fact 18 = .ok (.ifCond .ne 5, 3) := dk_154 0 5 (dk_at dksX8_fact_0 18 rfl rfl)
theorem dX8_fact_21 : decode cX8_fact 21 = .ok (.iconst 1, 1) := dk_4 (dk_at dksX8_fact_0 21 rfl rfl)
theorem dX8_fact_22 : decode cX8_fact 22 = .ok (.ireturn, 1) := dk_172 (dk_at dksX8_fact_0 22 rfl rfl)
theorem dX8_fact_23 : decode cX8_fact 23 = .ok (.aload_n 0, 1) := dk_42 (dk_at dksX8_fact_0 23 rfl rfl)
theorem dX8_fact_24 : decode cX8_fact 24 = .ok (.getfield 127, 3) := dk_180 0 127 (dk_at dksX8_fact_1 0 rfl rfl)
theorem dX8_fact_27 : decode cX8_fact 27 = .ok (.ldc2_w 153, 3) := dk_20 0 153 (dk_at dksX8_fact_1 3 rfl rfl)
theorem dX8_fact_30 : decode cX8_fact 30 = .ok (.lcmp, 1) := dk_148 (dk_at dksX8_fact_1 6 rfl rfl)
theorem dX8_fact_31 : decode cX8_fact 31 = .ok (.ifCond .ne 5, 3) := dk_154 0 5 (dk_at dksX8_fact_1 7 rfl rfl)
theorem dX8_fact_34 : decode cX8_fact 34 = .ok (.iconst 2, 1) := dk_5 (dk_at dksX8_fact_1 10 rfl rfl)
theorem dX8_fact_35 : decode cX8_fact 35 = .ok (.ireturn, 1) := dk_172 (dk_at dksX8_fact_1 11 rfl rfl)
theorem dX8_fact_36 : decode cX8_fact 36 = .ok (.aload_n 0, 1) := dk_42 (dk_at dksX8_fact_1 12 rfl rfl)
theorem dX8_fact_37 : decode cX8_fact 37 = .ok (.getfield 155, 3) := dk_180 0 155 (dk_at dksX8_fact_1 13 rfl rfl)
theorem dX8_fact_40 : decode cX8_fact 40 = .ok (.ifCond .ne 5, 3) := dk_154 0 5 (dk_at dksX8_fact_1 16 rfl rfl)
theorem dX8_fact_43 : decode cX8_fact 43 = .ok (.iconst 0, 1) := dk_3 (dk_at dksX8_fact_1 19 rfl rfl)
theorem dX8_fact_44 : decode cX8_fact 44 = .ok (.ireturn, 1) := dk_172 (dk_at dksX8_fact_1 20 rfl rfl)
theorem dX8_fact_45 : decode cX8_fact 45 = .ok (.aload_n 0, 1) := dk_42 (dk_at dksX8_fact_1 21 rfl rfl)
theorem dX8_fact_46 : decode cX8_fact 46 = .ok (.getfield 127, 3) := dk_180 0 127 (dk_at dksX8_fact_2 0 rfl rfl)
theorem dX8_fact_49 : decode cX8_fact 49 = .ok (.ldc2_w 159, 3) := dk_20 0 159 (dk_at dksX8_fact_2 3 rfl rfl)
theorem dX8_fact_52 : decode cX8_fact 52 = .ok (.lcmp, 1) := dk_148 (dk_at dksX8_fact_2 6 rfl rfl)
theorem dX8_fact_53 : decode cX8_fact 53 = .ok (.ifCond .ne 5, 3) := dk_154 0 5 (dk_at dksX8_fact_2 7 rfl rfl)
theorem dX8_fact_56 : decode cX8_fact 56 = .ok (.iconst 3, 1) := dk_6 (dk_at dksX8_fact_2 10 rfl rfl)
theorem dX8_fact_57 : decode cX8_fact 57 = .ok (.ireturn, 1) := dk_172 (dk_at dksX8_fact_2 11 rfl rfl)
theorem dX8_fact_58 : decode cX8_fact 58 = .ok (.aload_n 0, 1) := dk_42 (dk_at dksX8_fact_2 12 rfl rfl)
theorem dX8_fact_59 : decode cX8_fact 59 = .ok (.getfield 127, 3) := dk_180 0 127 (dk_at dksX8_fact_2 13 rfl rfl)
theorem dX8_fact_62 : decode cX8_fact 62 = .ok (.ldc2_w 161, 3) := dk_20 0 161 (dk_at dksX8_fact_2 16 rfl rfl)
theorem dX8_fact_65 : decode cX8_fact 65 = .ok (.lcmp, 1) := dk_148 (dk_at dksX8_fact_2 19 rfl rfl)
theorem dX8_fact_66 : decode cX8_fact 66 = .ok (.ifCond .ne 7, 3) := dk_154 0 7 (dk_at dksX8_fact_2 20 rfl rfl)
theorem dX8_fact_69 : decode cX8_fact 69 = .ok (.iconst 4, 1) := dk_7 (dk_at dksX8_fact_2 23 rfl rfl)
theorem dX8_fact_70 : decode cX8_fact 70 = .ok (.goto 4, 3) := dk_167 0 4 (dk_at dksX8_fact_3 0 rfl rfl)
theorem dX8_fact_73 : decode cX8_fact 73 = .ok (.iconst 0, 1) := dk_3 (dk_at dksX8_fact_3 3 rfl rfl)
theorem dX8_fact_74 : decode cX8_fact 74 = .ok (.ireturn, 1) := dk_172 (dk_at dksX8_fact_3 4 rfl rfl)
abbrev cX8_puts : ByteArray := prog_30_method_12_code
def yX8_puts : MethodName := ⟨RX8, "puts", "(I)V"⟩
def dkwX8_puts_0 : List UInt8 := [42, 180, 0, 44, 42, 180, 0, 148, 27, 79, 42, 89, 180, 0, 148, 4, 96, 181, 0, 148, 177]
abbrev dktX8_puts_0 : List UInt8 := dkwX8_puts_0 ++ []
theorem dksX8_puts_0 : cX8_puts.data.toList.drop 0 = dktX8_puts_0 := by decide +kernel
theorem dX8_puts_0 : decode cX8_puts 0 = .ok (.aload_n 0, 1) := dk_42 (dk_at dksX8_puts_0 0 rfl rfl)
theorem dX8_puts_1 : decode cX8_puts 1 = .ok (.getfield 44, 3) := dk_180 0 44 (dk_at dksX8_puts_0 1 rfl rfl)
theorem dX8_puts_4 : decode cX8_puts 4 = .ok (.aload_n 0, 1) := dk_42 (dk_at dksX8_puts_0 4 rfl rfl)
theorem dX8_puts_5 : decode cX8_puts 5 = .ok (.getfield 148, 3) := dk_180 0 148 (dk_at dksX8_puts_0 5 rfl rfl)
theorem dX8_puts_8 : decode cX8_puts 8 = .ok (.iload_n 1, 1) := dk_27 (dk_at dksX8_puts_0 8 rfl rfl)
theorem dX8_puts_9 : decode cX8_puts 9 = .ok (.iastore, 1) := dk_79 (dk_at dksX8_puts_0 9 rfl rfl)
theorem dX8_puts_10 : decode cX8_puts 10 = .ok (.aload_n 0, 1) := dk_42 (dk_at dksX8_puts_0 10 rfl rfl)
theorem dX8_puts_11 : decode cX8_puts 11 = .ok (.dup, 1) := dk_89 (dk_at dksX8_puts_0 11 rfl rfl)
theorem dX8_puts_12 : decode cX8_puts 12 = .ok (.getfield 148, 3) := dk_180 0 148 (dk_at dksX8_puts_0 12 rfl rfl)
theorem dX8_puts_15 : decode cX8_puts 15 = .ok (.iconst 1, 1) := dk_4 (dk_at dksX8_puts_0 15 rfl rfl)
theorem dX8_puts_16 : decode cX8_puts 16 = .ok (.iadd, 1) := dk_96 (dk_at dksX8_puts_0 16 rfl rfl)
theorem dX8_puts_17 : decode cX8_puts 17 = .ok (.putfield 148, 3) := dk_181 0 148 (dk_at dksX8_puts_0 17 rfl rfl)
theorem dX8_puts_20 : decode cX8_puts 20 = .ok (.return_, 1) := dk_177 (dk_at dksX8_puts_0 20 rfl rfl)
abbrev cX8_readsVillage : ByteArray := prog_30_method_28_code
def yX8_readsVillage : MethodName := ⟨RX8, "readsVillage", "()Z"⟩
def dkwX8_readsVillage_6 : List UInt8 := [180, 0, 13, 16, 12, 92, 46, 4, 96, 79, 42, 182, 0, 252, 172]
abbrev dktX8_readsVillage_6 : List UInt8 := dkwX8_readsVillage_6 ++ []
def dkwX8_readsVillage_5 : List UInt8 := [182, 0, 248, 154, 0, 5, 3, 172, 42, 180, 0, 19, 16, 6, 27, 96, 42, 180, 0, 239, 79, 42]
abbrev dktX8_readsVillage_5 : List UInt8 := dkwX8_readsVillage_5 ++ dktX8_readsVillage_6
def dkwX8_readsVillage_4 : List UInt8 := [16, 6, 27, 96, 42, 180, 0, 239, 79, 42, 20, 0, 215, 182, 1, 9, 153, 0, 14, 42, 3, 17, 39, 15]
abbrev dktX8_readsVillage_4 : List UInt8 := dkwX8_readsVillage_4 ++ dktX8_readsVillage_5
def dkwX8_readsVillage_3 : List UInt8 := [182, 1, 9, 153, 0, 14, 42, 3, 17, 3, 231, 182, 0, 248, 154, 0, 5, 3, 172, 42, 180, 0, 16]
abbrev dktX8_readsVillage_3 : List UInt8 := dkwX8_readsVillage_3 ++ dktX8_readsVillage_4
def dkwX8_readsVillage_2 : List UInt8 := [182, 0, 177, 172, 42, 180, 0, 22, 27, 42, 180, 0, 127, 80, 42, 182, 0, 183, 42, 20, 0, 213]
abbrev dktX8_readsVillage_2 : List UInt8 := dkwX8_readsVillage_2 ++ dktX8_readsVillage_3
def dkwX8_readsVillage_1 : List UInt8 := [42, 182, 1, 3, 153, 0, 9, 42, 4, 182, 0, 177, 172, 42, 182, 1, 6, 155, 0, 9, 42, 6]
abbrev dktX8_readsVillage_1 : List UInt8 := dkwX8_readsVillage_1 ++ dktX8_readsVillage_2
def dkwX8_readsVillage_0 : List UInt8 := [42, 180, 0, 13, 16, 12, 46, 60, 27, 16, 6, 160, 0, 9, 42, 8, 182, 0, 177, 172, 42, 182, 0, 183]
abbrev dktX8_readsVillage_0 : List UInt8 := dkwX8_readsVillage_0 ++ dktX8_readsVillage_1
theorem dksX8_readsVillage_0 : cX8_readsVillage.data.toList.drop 0 = dktX8_readsVillage_0 := by decide +kernel
theorem dksX8_readsVillage_1 : cX8_readsVillage.data.toList.drop 24 = dktX8_readsVillage_1 := dk_seg dksX8_readsVillage_0 24 rfl rfl
theorem dksX8_readsVillage_2 : cX8_readsVillage.data.toList.drop 46 = dktX8_readsVillage_2 := dk_seg dksX8_readsVillage_1 22 rfl rfl
theorem dksX8_readsVillage_3 : cX8_readsVillage.data.toList.drop 68 = dktX8_readsVillage_3 := dk_seg dksX8_readsVillage_2 22 rfl rfl
theorem dksX8_readsVillage_4 : cX8_readsVillage.data.toList.drop 91 = dktX8_readsVillage_4 := dk_seg dksX8_readsVillage_3 23 rfl rfl
theorem dksX8_readsVillage_5 : cX8_readsVillage.data.toList.drop 115 = dktX8_readsVillage_5 := dk_seg dksX8_readsVillage_4 24 rfl rfl
theorem dksX8_readsVillage_6 : cX8_readsVillage.data.toList.drop 137 = dktX8_readsVillage_6 := dk_seg dksX8_readsVillage_5 22 rfl rfl
theorem dX8_readsVillage_0 : decode cX8_readsVillage 0 = .ok (.aload_n 0, 1) := dk_42 (dk_at dksX8_readsVillage_0 0 rfl rfl)
theorem dX8_readsVillage_1 : decode cX8_readsVillage 1 = .ok (.getfield 13, 3) := dk_180 0 13 (dk_at dksX8_readsVillage_0 1 rfl rfl)
theorem dX8_readsVillage_4 : decode cX8_readsVillage 4 = .ok (.bipush 12, 2) := dk_16 12 (dk_at dksX8_readsVillage_0 4 rfl rfl)
theorem dX8_readsVillage_6 : decode cX8_readsVillage 6 = .ok (.iaload, 1) := dk_46 (dk_at dksX8_readsVillage_0 6 rfl rfl)
theorem dX8_readsVillage_7 : decode cX8_readsVillage 7 = .ok (.istore_n 1, 1) := dk_60 (dk_at dksX8_readsVillage_0 7 rfl rfl)
theorem dX8_readsVillage_8 : decode cX8_readsVillage 8 = .ok (.iload_n 1, 1) := dk_27 (dk_at dksX8_readsVillage_0 8 rfl rfl)
theorem dX8_readsVillage_9 : decode cX8_readsVillage 9 = .ok (.bipush 6, 2) := dk_16 6 (dk_at dksX8_readsVillage_0 9 rfl rfl)
theorem dX8_readsVillage_11 : decode cX8_readsVillage 11 = .ok (.if_icmp .ne 9, 3) := dk_160 0 9 (dk_at dksX8_readsVillage_0 11 rfl rfl)
theorem dX8_readsVillage_14 : decode cX8_readsVillage 14 = .ok (.aload_n 0, 1) := dk_42 (dk_at dksX8_readsVillage_0 14 rfl rfl)
theorem dX8_readsVillage_15 : decode cX8_readsVillage 15 = .ok (.iconst 5, 1) := dk_8 (dk_at dksX8_readsVillage_0 15 rfl rfl)
theorem dX8_readsVillage_16 : decode cX8_readsVillage 16 = .ok (.invokevirtual 177, 3) := dk_182 0 177 (dk_at dksX8_readsVillage_0 16 rfl rfl)
theorem dX8_readsVillage_19 : decode cX8_readsVillage 19 = .ok (.ireturn, 1) := dk_172 (dk_at dksX8_readsVillage_0 19 rfl rfl)
theorem dX8_readsVillage_20 : decode cX8_readsVillage 20 = .ok (.aload_n 0, 1) := dk_42 (dk_at dksX8_readsVillage_0 20 rfl rfl)
theorem dX8_readsVillage_21 : decode cX8_readsVillage 21 = .ok (.invokevirtual 183, 3) := dk_182 0 183 (dk_at dksX8_readsVillage_0 21 rfl rfl)
theorem dX8_readsVillage_24 : decode cX8_readsVillage 24 = .ok (.aload_n 0, 1) := dk_42 (dk_at dksX8_readsVillage_1 0 rfl rfl)
theorem dX8_readsVillage_25 : decode cX8_readsVillage 25 = .ok (.invokevirtual 259, 3) := dk_182 1 3 (dk_at dksX8_readsVillage_1 1 rfl rfl)
theorem dX8_readsVillage_28 : decode cX8_readsVillage 28 = .ok (.ifCond .eq 9, 3) := dk_153 0 9 (dk_at dksX8_readsVillage_1 4 rfl rfl)
theorem dX8_readsVillage_31 : decode cX8_readsVillage 31 = .ok (.aload_n 0, 1) := dk_42 (dk_at dksX8_readsVillage_1 7 rfl rfl)
theorem dX8_readsVillage_32 : decode cX8_readsVillage 32 = .ok (.iconst 1, 1) := dk_4 (dk_at dksX8_readsVillage_1 8 rfl rfl)
theorem dX8_readsVillage_33 : decode cX8_readsVillage 33 = .ok (.invokevirtual 177, 3) := dk_182 0 177 (dk_at dksX8_readsVillage_1 9 rfl rfl)
theorem dX8_readsVillage_36 : decode cX8_readsVillage 36 = .ok (.ireturn, 1) := dk_172 (dk_at dksX8_readsVillage_1 12 rfl rfl)
theorem dX8_readsVillage_37 : decode cX8_readsVillage 37 = .ok (.aload_n 0, 1) := dk_42 (dk_at dksX8_readsVillage_1 13 rfl rfl)
theorem dX8_readsVillage_38 : decode cX8_readsVillage 38 = .ok (.invokevirtual 262, 3) := dk_182 1 6 (dk_at dksX8_readsVillage_1 14 rfl rfl)
theorem dX8_readsVillage_41 : decode cX8_readsVillage 41 = .ok (.ifCond .lt 9, 3) := dk_155 0 9 (dk_at dksX8_readsVillage_1 17 rfl rfl)
theorem dX8_readsVillage_44 : decode cX8_readsVillage 44 = .ok (.aload_n 0, 1) := dk_42 (dk_at dksX8_readsVillage_1 20 rfl rfl)
theorem dX8_readsVillage_45 : decode cX8_readsVillage 45 = .ok (.iconst 3, 1) := dk_6 (dk_at dksX8_readsVillage_1 21 rfl rfl)
theorem dX8_readsVillage_46 : decode cX8_readsVillage 46 = .ok (.invokevirtual 177, 3) := dk_182 0 177 (dk_at dksX8_readsVillage_2 0 rfl rfl)
theorem dX8_readsVillage_49 : decode cX8_readsVillage 49 = .ok (.ireturn, 1) := dk_172 (dk_at dksX8_readsVillage_2 3 rfl rfl)
theorem dX8_readsVillage_50 : decode cX8_readsVillage 50 = .ok (.aload_n 0, 1) := dk_42 (dk_at dksX8_readsVillage_2 4 rfl rfl)
theorem dX8_readsVillage_51 : decode cX8_readsVillage 51 = .ok (.getfield 22, 3) := dk_180 0 22 (dk_at dksX8_readsVillage_2 5 rfl rfl)
theorem dX8_readsVillage_54 : decode cX8_readsVillage 54 = .ok (.iload_n 1, 1) := dk_27 (dk_at dksX8_readsVillage_2 8 rfl rfl)
theorem dX8_readsVillage_55 : decode cX8_readsVillage 55 = .ok (.aload_n 0, 1) := dk_42 (dk_at dksX8_readsVillage_2 9 rfl rfl)
theorem dX8_readsVillage_56 : decode cX8_readsVillage 56 = .ok (.getfield 127, 3) := dk_180 0 127 (dk_at dksX8_readsVillage_2 10 rfl rfl)
theorem dX8_readsVillage_59 : decode cX8_readsVillage 59 = .ok (.lastore, 1) := dk_80 (dk_at dksX8_readsVillage_2 13 rfl rfl)
theorem dX8_readsVillage_60 : decode cX8_readsVillage 60 = .ok (.aload_n 0, 1) := dk_42 (dk_at dksX8_readsVillage_2 14 rfl rfl)
theorem dX8_readsVillage_61 : decode cX8_readsVillage 61 = .ok (.invokevirtual 183, 3) := dk_182 0 183 (dk_at dksX8_readsVillage_2 15 rfl rfl)
theorem dX8_readsVillage_64 : decode cX8_readsVillage 64 = .ok (.aload_n 0, 1) := dk_42 (dk_at dksX8_readsVillage_2 18 rfl rfl)
theorem dX8_readsVillage_65 : decode cX8_readsVillage 65 = .ok (.ldc2_w 213, 3) := dk_20 0 213 (dk_at dksX8_readsVillage_2 19 rfl rfl)
theorem dX8_readsVillage_68 : decode cX8_readsVillage 68 = .ok (.invokevirtual 265, 3) := dk_182 1 9 (dk_at dksX8_readsVillage_3 0 rfl rfl)
theorem dX8_readsVillage_71 : decode cX8_readsVillage 71 = .ok (.ifCond .eq 14, 3) := dk_153 0 14 (dk_at dksX8_readsVillage_3 3 rfl rfl)
theorem dX8_readsVillage_74 : decode cX8_readsVillage 74 = .ok (.aload_n 0, 1) := dk_42 (dk_at dksX8_readsVillage_3 6 rfl rfl)
theorem dX8_readsVillage_75 : decode cX8_readsVillage 75 = .ok (.iconst 0, 1) := dk_3 (dk_at dksX8_readsVillage_3 7 rfl rfl)
theorem dX8_readsVillage_76 : decode cX8_readsVillage 76 = .ok (.sipush 999, 3) := dk_17 3 231 (dk_at dksX8_readsVillage_3 8 rfl rfl)
theorem dX8_readsVillage_79 : decode cX8_readsVillage 79 = .ok (.invokevirtual 248, 3) := dk_182 0 248 (dk_at dksX8_readsVillage_3 11 rfl rfl)
theorem dX8_readsVillage_82 : decode cX8_readsVillage 82 = .ok (.ifCond .ne 5, 3) := dk_154 0 5 (dk_at dksX8_readsVillage_3 14 rfl rfl)
theorem dX8_readsVillage_85 : decode cX8_readsVillage 85 = .ok (.iconst 0, 1) := dk_3 (dk_at dksX8_readsVillage_3 17 rfl rfl)
theorem dX8_readsVillage_86 : decode cX8_readsVillage 86 = .ok (.ireturn, 1) := dk_172 (dk_at dksX8_readsVillage_3 18 rfl rfl)
theorem dX8_readsVillage_87 : decode cX8_readsVillage 87 = .ok (.aload_n 0, 1) := dk_42 (dk_at dksX8_readsVillage_3 19 rfl rfl)
theorem dX8_readsVillage_88 : decode cX8_readsVillage 88 = .ok (.getfield 16, 3) := dk_180 0 16 (dk_at dksX8_readsVillage_3 20 rfl rfl)
theorem dX8_readsVillage_91 : decode cX8_readsVillage 91 = .ok (.bipush 6, 2) := dk_16 6 (dk_at dksX8_readsVillage_4 0 rfl rfl)
theorem dX8_readsVillage_93 : decode cX8_readsVillage 93 = .ok (.iload_n 1, 1) := dk_27 (dk_at dksX8_readsVillage_4 2 rfl rfl)
theorem dX8_readsVillage_94 : decode cX8_readsVillage 94 = .ok (.iadd, 1) := dk_96 (dk_at dksX8_readsVillage_4 3 rfl rfl)
theorem dX8_readsVillage_95 : decode cX8_readsVillage 95 = .ok (.aload_n 0, 1) := dk_42 (dk_at dksX8_readsVillage_4 4 rfl rfl)
theorem dX8_readsVillage_96 : decode cX8_readsVillage 96 = .ok (.getfield 239, 3) := dk_180 0 239 (dk_at dksX8_readsVillage_4 5 rfl rfl)
theorem dX8_readsVillage_99 : decode cX8_readsVillage 99 = .ok (.iastore, 1) := dk_79 (dk_at dksX8_readsVillage_4 8 rfl rfl)
theorem dX8_readsVillage_100 : decode cX8_readsVillage 100 = .ok (.aload_n 0, 1) := dk_42 (dk_at dksX8_readsVillage_4 9 rfl rfl)
theorem dX8_readsVillage_101 : decode cX8_readsVillage 101 = .ok (.ldc2_w 215, 3) := dk_20 0 215 (dk_at dksX8_readsVillage_4 10 rfl rfl)
theorem dX8_readsVillage_104 : decode cX8_readsVillage 104 = .ok (.invokevirtual 265, 3) := dk_182 1 9 (dk_at dksX8_readsVillage_4 13 rfl rfl)
theorem dX8_readsVillage_107 : decode cX8_readsVillage 107 = .ok (.ifCond .eq 14, 3) := dk_153 0 14 (dk_at dksX8_readsVillage_4 16 rfl rfl)
theorem dX8_readsVillage_110 : decode cX8_readsVillage 110 = .ok (.aload_n 0, 1) := dk_42 (dk_at dksX8_readsVillage_4 19 rfl rfl)
theorem dX8_readsVillage_111 : decode cX8_readsVillage 111 = .ok (.iconst 0, 1) := dk_3 (dk_at dksX8_readsVillage_4 20 rfl rfl)
theorem dX8_readsVillage_112 : decode cX8_readsVillage 112 = .ok (.sipush 9999, 3) := dk_17 39 15 (dk_at dksX8_readsVillage_4 21 rfl rfl)
theorem dX8_readsVillage_115 : decode cX8_readsVillage 115 = .ok (.invokevirtual 248, 3) := dk_182 0 248 (dk_at dksX8_readsVillage_5 0 rfl rfl)
theorem dX8_readsVillage_118 : decode cX8_readsVillage 118 = .ok (.ifCond .ne 5, 3) := dk_154 0 5 (dk_at dksX8_readsVillage_5 3 rfl rfl)
theorem dX8_readsVillage_121 : decode cX8_readsVillage 121 = .ok (.iconst 0, 1) := dk_3 (dk_at dksX8_readsVillage_5 6 rfl rfl)
theorem dX8_readsVillage_122 : decode cX8_readsVillage 122 = .ok (.ireturn, 1) := dk_172 (dk_at dksX8_readsVillage_5 7 rfl rfl)
theorem dX8_readsVillage_123 : decode cX8_readsVillage 123 = .ok (.aload_n 0, 1) := dk_42 (dk_at dksX8_readsVillage_5 8 rfl rfl)
theorem dX8_readsVillage_124 : decode cX8_readsVillage 124 = .ok (.getfield 19, 3) := dk_180 0 19 (dk_at dksX8_readsVillage_5 9 rfl rfl)
theorem dX8_readsVillage_127 : decode cX8_readsVillage 127 = .ok (.bipush 6, 2) := dk_16 6 (dk_at dksX8_readsVillage_5 12 rfl rfl)
theorem dX8_readsVillage_129 : decode cX8_readsVillage 129 = .ok (.iload_n 1, 1) := dk_27 (dk_at dksX8_readsVillage_5 14 rfl rfl)
theorem dX8_readsVillage_130 : decode cX8_readsVillage 130 = .ok (.iadd, 1) := dk_96 (dk_at dksX8_readsVillage_5 15 rfl rfl)
theorem dX8_readsVillage_131 : decode cX8_readsVillage 131 = .ok (.aload_n 0, 1) := dk_42 (dk_at dksX8_readsVillage_5 16 rfl rfl)
theorem dX8_readsVillage_132 : decode cX8_readsVillage 132 = .ok (.getfield 239, 3) := dk_180 0 239 (dk_at dksX8_readsVillage_5 17 rfl rfl)
theorem dX8_readsVillage_135 : decode cX8_readsVillage 135 = .ok (.iastore, 1) := dk_79 (dk_at dksX8_readsVillage_5 20 rfl rfl)
theorem dX8_readsVillage_136 : decode cX8_readsVillage 136 = .ok (.aload_n 0, 1) := dk_42 (dk_at dksX8_readsVillage_5 21 rfl rfl)
theorem dX8_readsVillage_137 : decode cX8_readsVillage 137 = .ok (.getfield 13, 3) := dk_180 0 13 (dk_at dksX8_readsVillage_6 0 rfl rfl)
theorem dX8_readsVillage_140 : decode cX8_readsVillage 140 = .ok (.bipush 12, 2) := dk_16 12 (dk_at dksX8_readsVillage_6 3 rfl rfl)
theorem dX8_readsVillage_142 : decode cX8_readsVillage 142 = .ok (.dup2, 1) := dk_92 (dk_at dksX8_readsVillage_6 5 rfl rfl)
theorem dX8_readsVillage_143 : decode cX8_readsVillage 143 = .ok (.iaload, 1) := dk_46 (dk_at dksX8_readsVillage_6 6 rfl rfl)
theorem dX8_readsVillage_144 : decode cX8_readsVillage 144 = .ok (.iconst 1, 1) := dk_4 (dk_at dksX8_readsVillage_6 7 rfl rfl)
theorem dX8_readsVillage_145 : decode cX8_readsVillage 145 = .ok (.iadd, 1) := dk_96 (dk_at dksX8_readsVillage_6 8 rfl rfl)
theorem dX8_readsVillage_146 : decode cX8_readsVillage 146 = .ok (.iastore, 1) := dk_79 (dk_at dksX8_readsVillage_6 9 rfl rfl)
theorem dX8_readsVillage_147 : decode cX8_readsVillage 147 = .ok (.aload_n 0, 1) := dk_42 (dk_at dksX8_readsVillage_6 10 rfl rfl)
theorem dX8_readsVillage_148 : decode cX8_readsVillage 148 = .ok (.invokevirtual 252, 3) := dk_182 0 252 (dk_at dksX8_readsVillage_6 11 rfl rfl)
theorem dX8_readsVillage_151 : decode cX8_readsVillage 151 = .ok (.ireturn, 1) := dk_172 (dk_at dksX8_readsVillage_6 14 rfl rfl)
abbrev cX8_isKept : ByteArray := prog_30_method_19_code
def yX8_isKept : MethodName := ⟨RX8, "isKept", "()Z"⟩
def dkwX8_isKept_11 : List UInt8 := [167, 0, 4, 3, 172]
abbrev dktX8_isKept_11 : List UInt8 := dkwX8_isKept_11 ++ []
def dkwX8_isKept_10 : List UInt8 := [180, 0, 127, 20, 0, 186, 148, 153, 0, 14, 42, 180, 0, 127, 20, 0, 188, 148, 154, 0, 7, 4]
abbrev dktX8_isKept_10 : List UInt8 := dkwX8_isKept_10 ++ dktX8_isKept_11
def dkwX8_isKept_9 : List UInt8 := [180, 0, 127, 20, 0, 233, 148, 153, 0, 36, 42, 180, 0, 127, 20, 0, 167, 148, 153, 0, 25, 42]
abbrev dktX8_isKept_9 : List UInt8 := dkwX8_isKept_9 ++ dktX8_isKept_10
def dkwX8_isKept_8 : List UInt8 := [180, 0, 127, 20, 0, 229, 148, 153, 0, 58, 42, 180, 0, 127, 20, 0, 231, 148, 153, 0, 47, 42]
abbrev dktX8_isKept_8 : List UInt8 := dkwX8_isKept_8 ++ dktX8_isKept_9
def dkwX8_isKept_7 : List UInt8 := [180, 0, 127, 20, 0, 225, 148, 153, 0, 80, 42, 180, 0, 127, 20, 0, 227, 148, 153, 0, 69, 42]
abbrev dktX8_isKept_7 : List UInt8 := dkwX8_isKept_7 ++ dktX8_isKept_8
def dkwX8_isKept_6 : List UInt8 := [180, 0, 127, 20, 0, 221, 148, 153, 0, 102, 42, 180, 0, 127, 20, 0, 223, 148, 153, 0, 91, 42]
abbrev dktX8_isKept_6 : List UInt8 := dkwX8_isKept_6 ++ dktX8_isKept_7
def dkwX8_isKept_5 : List UInt8 := [180, 0, 127, 20, 0, 217, 148, 153, 0, 124, 42, 180, 0, 127, 20, 0, 219, 148, 153, 0, 113, 42]
abbrev dktX8_isKept_5 : List UInt8 := dkwX8_isKept_5 ++ dktX8_isKept_6
def dkwX8_isKept_4 : List UInt8 := [180, 0, 127, 20, 0, 213, 148, 153, 0, 146, 42, 180, 0, 127, 20, 0, 215, 148, 153, 0, 135, 42]
abbrev dktX8_isKept_4 : List UInt8 := dkwX8_isKept_4 ++ dktX8_isKept_5
def dkwX8_isKept_3 : List UInt8 := [180, 0, 127, 20, 0, 209, 148, 153, 0, 168, 42, 180, 0, 127, 20, 0, 211, 148, 153, 0, 157, 42]
abbrev dktX8_isKept_3 : List UInt8 := dkwX8_isKept_3 ++ dktX8_isKept_4
def dkwX8_isKept_2 : List UInt8 := [180, 0, 127, 20, 0, 205, 148, 153, 0, 190, 42, 180, 0, 127, 20, 0, 207, 148, 153, 0, 179, 42]
abbrev dktX8_isKept_2 : List UInt8 := dkwX8_isKept_2 ++ dktX8_isKept_3
def dkwX8_isKept_1 : List UInt8 := [180, 0, 127, 20, 0, 201, 148, 153, 0, 212, 42, 180, 0, 127, 20, 0, 203, 148, 153, 0, 201, 42]
abbrev dktX8_isKept_1 : List UInt8 := dkwX8_isKept_1 ++ dktX8_isKept_2
def dkwX8_isKept_0 : List UInt8 := [42, 180, 0, 134, 4, 159, 0, 5, 4, 172, 42, 180, 0, 127, 20, 0, 199, 148, 153, 0, 223, 42]
abbrev dktX8_isKept_0 : List UInt8 := dkwX8_isKept_0 ++ dktX8_isKept_1
theorem dksX8_isKept_0 : cX8_isKept.data.toList.drop 0 = dktX8_isKept_0 := by decide +kernel
theorem dksX8_isKept_1 : cX8_isKept.data.toList.drop 22 = dktX8_isKept_1 := dk_seg dksX8_isKept_0 22 rfl rfl
theorem dksX8_isKept_2 : cX8_isKept.data.toList.drop 44 = dktX8_isKept_2 := dk_seg dksX8_isKept_1 22 rfl rfl
theorem dksX8_isKept_3 : cX8_isKept.data.toList.drop 66 = dktX8_isKept_3 := dk_seg dksX8_isKept_2 22 rfl rfl
theorem dksX8_isKept_4 : cX8_isKept.data.toList.drop 88 = dktX8_isKept_4 := dk_seg dksX8_isKept_3 22 rfl rfl
theorem dksX8_isKept_5 : cX8_isKept.data.toList.drop 110 = dktX8_isKept_5 := dk_seg dksX8_isKept_4 22 rfl rfl
theorem dksX8_isKept_6 : cX8_isKept.data.toList.drop 132 = dktX8_isKept_6 := dk_seg dksX8_isKept_5 22 rfl rfl
theorem dksX8_isKept_7 : cX8_isKept.data.toList.drop 154 = dktX8_isKept_7 := dk_seg dksX8_isKept_6 22 rfl rfl
theorem dksX8_isKept_8 : cX8_isKept.data.toList.drop 176 = dktX8_isKept_8 := dk_seg dksX8_isKept_7 22 rfl rfl
theorem dksX8_isKept_9 : cX8_isKept.data.toList.drop 198 = dktX8_isKept_9 := dk_seg dksX8_isKept_8 22 rfl rfl
theorem dksX8_isKept_10 : cX8_isKept.data.toList.drop 220 = dktX8_isKept_10 := dk_seg dksX8_isKept_9 22 rfl rfl
theorem dksX8_isKept_11 : cX8_isKept.data.toList.drop 242 = dktX8_isKept_11 := dk_seg dksX8_isKept_10 22 rfl rfl
theorem dX8_isKept_0 : decode cX8_isKept 0 = .ok (.aload_n 0, 1) := dk_42 (dk_at dksX8_isKept_0 0 rfl rfl)
theorem dX8_isKept_1 : decode cX8_isKept 1 = .ok (.getfield 134, 3) := dk_180 0 134 (dk_at dksX8_isKept_0 1 rfl rfl)
theorem dX8_isKept_4 : decode cX8_isKept 4 = .ok (.iconst 1, 1) := dk_4 (dk_at dksX8_isKept_0 4 rfl rfl)
theorem dX8_isKept_5 : decode cX8_isKept 5 = .ok (.if_icmp .eq 5, 3) := dk_159 0 5 (dk_at dksX8_isKept_0 5 rfl rfl)
theorem dX8_isKept_8 : decode cX8_isKept 8 = .ok (.iconst 1, 1) := dk_4 (dk_at dksX8_isKept_0 8 rfl rfl)
theorem dX8_isKept_9 : decode cX8_isKept 9 = .ok (.ireturn, 1) := dk_172 (dk_at dksX8_isKept_0 9 rfl rfl)
theorem dX8_isKept_10 : decode cX8_isKept 10 = .ok (.aload_n 0, 1) := dk_42 (dk_at dksX8_isKept_0 10 rfl rfl)
theorem dX8_isKept_11 : decode cX8_isKept 11 = .ok (.getfield 127, 3) := dk_180 0 127 (dk_at dksX8_isKept_0 11 rfl rfl)
theorem dX8_isKept_14 : decode cX8_isKept 14 = .ok (.ldc2_w 199, 3) := dk_20 0 199 (dk_at dksX8_isKept_0 14 rfl rfl)
theorem dX8_isKept_17 : decode cX8_isKept 17 = .ok (.lcmp, 1) := dk_148 (dk_at dksX8_isKept_0 17 rfl rfl)
theorem dX8_isKept_18 : decode cX8_isKept 18 = .ok (.ifCond .eq 223, 3) := dk_153 0 223 (dk_at dksX8_isKept_0 18 rfl rfl)
theorem dX8_isKept_21 : decode cX8_isKept 21 = .ok (.aload_n 0, 1) := dk_42 (dk_at dksX8_isKept_0 21 rfl rfl)
theorem dX8_isKept_22 : decode cX8_isKept 22 = .ok (.getfield 127, 3) := dk_180 0 127 (dk_at dksX8_isKept_1 0 rfl rfl)
theorem dX8_isKept_25 : decode cX8_isKept 25 = .ok (.ldc2_w 201, 3) := dk_20 0 201 (dk_at dksX8_isKept_1 3 rfl rfl)
theorem dX8_isKept_28 : decode cX8_isKept 28 = .ok (.lcmp, 1) := dk_148 (dk_at dksX8_isKept_1 6 rfl rfl)
theorem dX8_isKept_29 : decode cX8_isKept 29 = .ok (.ifCond .eq 212, 3) := dk_153 0 212 (dk_at dksX8_isKept_1 7 rfl rfl)
theorem dX8_isKept_32 : decode cX8_isKept 32 = .ok (.aload_n 0, 1) := dk_42 (dk_at dksX8_isKept_1 10 rfl rfl)
theorem dX8_isKept_33 : decode cX8_isKept 33 = .ok (.getfield 127, 3) := dk_180 0 127 (dk_at dksX8_isKept_1 11 rfl rfl)
theorem dX8_isKept_36 : decode cX8_isKept 36 = .ok (.ldc2_w 203, 3) := dk_20 0 203 (dk_at dksX8_isKept_1 14 rfl rfl)
theorem dX8_isKept_39 : decode cX8_isKept 39 = .ok (.lcmp, 1) := dk_148 (dk_at dksX8_isKept_1 17 rfl rfl)
theorem dX8_isKept_40 : decode cX8_isKept 40 = .ok (.ifCond .eq 201, 3) := dk_153 0 201 (dk_at dksX8_isKept_1 18 rfl rfl)
theorem dX8_isKept_43 : decode cX8_isKept 43 = .ok (.aload_n 0, 1) := dk_42 (dk_at dksX8_isKept_1 21 rfl rfl)
theorem dX8_isKept_44 : decode cX8_isKept 44 = .ok (.getfield 127, 3) := dk_180 0 127 (dk_at dksX8_isKept_2 0 rfl rfl)
theorem dX8_isKept_47 : decode cX8_isKept 47 = .ok (.ldc2_w 205, 3) := dk_20 0 205 (dk_at dksX8_isKept_2 3 rfl rfl)
theorem dX8_isKept_50 : decode cX8_isKept 50 = .ok (.lcmp, 1) := dk_148 (dk_at dksX8_isKept_2 6 rfl rfl)
theorem dX8_isKept_51 : decode cX8_isKept 51 = .ok (.ifCond .eq 190, 3) := dk_153 0 190 (dk_at dksX8_isKept_2 7 rfl rfl)
theorem dX8_isKept_54 : decode cX8_isKept 54 = .ok (.aload_n 0, 1) := dk_42 (dk_at dksX8_isKept_2 10 rfl rfl)
theorem dX8_isKept_55 : decode cX8_isKept 55 = .ok (.getfield 127, 3) := dk_180 0 127 (dk_at dksX8_isKept_2 11 rfl rfl)
theorem dX8_isKept_58 : decode cX8_isKept 58 = .ok (.ldc2_w 207, 3) := dk_20 0 207 (dk_at dksX8_isKept_2 14 rfl rfl)
theorem dX8_isKept_61 : decode cX8_isKept 61 = .ok (.lcmp, 1) := dk_148 (dk_at dksX8_isKept_2 17 rfl rfl)
theorem dX8_isKept_62 : decode cX8_isKept 62 = .ok (.ifCond .eq 179, 3) := dk_153 0 179 (dk_at dksX8_isKept_2 18 rfl rfl)
theorem dX8_isKept_65 : decode cX8_isKept 65 = .ok (.aload_n 0, 1) := dk_42 (dk_at dksX8_isKept_2 21 rfl rfl)
theorem dX8_isKept_66 : decode cX8_isKept 66 = .ok (.getfield 127, 3) := dk_180 0 127 (dk_at dksX8_isKept_3 0 rfl rfl)
theorem dX8_isKept_69 : decode cX8_isKept 69 = .ok (.ldc2_w 209, 3) := dk_20 0 209 (dk_at dksX8_isKept_3 3 rfl rfl)
theorem dX8_isKept_72 : decode cX8_isKept 72 = .ok (.lcmp, 1) := dk_148 (dk_at dksX8_isKept_3 6 rfl rfl)
theorem dX8_isKept_73 : decode cX8_isKept 73 = .ok (.ifCond .eq 168, 3) := dk_153 0 168 (dk_at dksX8_isKept_3 7 rfl rfl)
theorem dX8_isKept_76 : decode cX8_isKept 76 = .ok (.aload_n 0, 1) := dk_42 (dk_at dksX8_isKept_3 10 rfl rfl)
theorem dX8_isKept_77 : decode cX8_isKept 77 = .ok (.getfield 127, 3) := dk_180 0 127 (dk_at dksX8_isKept_3 11 rfl rfl)
theorem dX8_isKept_80 : decode cX8_isKept 80 = .ok (.ldc2_w 211, 3) := dk_20 0 211 (dk_at dksX8_isKept_3 14 rfl rfl)
theorem dX8_isKept_83 : decode cX8_isKept 83 = .ok (.lcmp, 1) := dk_148 (dk_at dksX8_isKept_3 17 rfl rfl)
theorem dX8_isKept_84 : decode cX8_isKept 84 = .ok (.ifCond .eq 157, 3) := dk_153 0 157 (dk_at dksX8_isKept_3 18 rfl rfl)
theorem dX8_isKept_87 : decode cX8_isKept 87 = .ok (.aload_n 0, 1) := dk_42 (dk_at dksX8_isKept_3 21 rfl rfl)
theorem dX8_isKept_88 : decode cX8_isKept 88 = .ok (.getfield 127, 3) := dk_180 0 127 (dk_at dksX8_isKept_4 0 rfl rfl)
theorem dX8_isKept_91 : decode cX8_isKept 91 = .ok (.ldc2_w 213, 3) := dk_20 0 213 (dk_at dksX8_isKept_4 3 rfl rfl)
theorem dX8_isKept_94 : decode cX8_isKept 94 = .ok (.lcmp, 1) := dk_148 (dk_at dksX8_isKept_4 6 rfl rfl)
theorem dX8_isKept_95 : decode cX8_isKept 95 = .ok (.ifCond .eq 146, 3) := dk_153 0 146 (dk_at dksX8_isKept_4 7 rfl rfl)
theorem dX8_isKept_98 : decode cX8_isKept 98 = .ok (.aload_n 0, 1) := dk_42 (dk_at dksX8_isKept_4 10 rfl rfl)
theorem dX8_isKept_99 : decode cX8_isKept 99 = .ok (.getfield 127, 3) := dk_180 0 127 (dk_at dksX8_isKept_4 11 rfl rfl)
theorem dX8_isKept_102 : decode cX8_isKept 102 = .ok (.ldc2_w 215, 3) := dk_20 0 215 (dk_at dksX8_isKept_4 14 rfl rfl)
theorem dX8_isKept_105 : decode cX8_isKept 105 = .ok (.lcmp, 1) := dk_148 (dk_at dksX8_isKept_4 17 rfl rfl)
theorem dX8_isKept_106 : decode cX8_isKept 106 = .ok (.ifCond .eq 135, 3) := dk_153 0 135 (dk_at dksX8_isKept_4 18 rfl rfl)
theorem dX8_isKept_109 : decode cX8_isKept 109 = .ok (.aload_n 0, 1) := dk_42 (dk_at dksX8_isKept_4 21 rfl rfl)
theorem dX8_isKept_110 : decode cX8_isKept 110 = .ok (.getfield 127, 3) := dk_180 0 127 (dk_at dksX8_isKept_5 0 rfl rfl)
theorem dX8_isKept_113 : decode cX8_isKept 113 = .ok (.ldc2_w 217, 3) := dk_20 0 217 (dk_at dksX8_isKept_5 3 rfl rfl)
theorem dX8_isKept_116 : decode cX8_isKept 116 = .ok (.lcmp, 1) := dk_148 (dk_at dksX8_isKept_5 6 rfl rfl)
theorem dX8_isKept_117 : decode cX8_isKept 117 = .ok (.ifCond .eq 124, 3) := dk_153 0 124 (dk_at dksX8_isKept_5 7 rfl rfl)
theorem dX8_isKept_120 : decode cX8_isKept 120 = .ok (.aload_n 0, 1) := dk_42 (dk_at dksX8_isKept_5 10 rfl rfl)
theorem dX8_isKept_121 : decode cX8_isKept 121 = .ok (.getfield 127, 3) := dk_180 0 127 (dk_at dksX8_isKept_5 11 rfl rfl)
theorem dX8_isKept_124 : decode cX8_isKept 124 = .ok (.ldc2_w 219, 3) := dk_20 0 219 (dk_at dksX8_isKept_5 14 rfl rfl)
theorem dX8_isKept_127 : decode cX8_isKept 127 = .ok (.lcmp, 1) := dk_148 (dk_at dksX8_isKept_5 17 rfl rfl)
theorem dX8_isKept_128 : decode cX8_isKept 128 = .ok (.ifCond .eq 113, 3) := dk_153 0 113 (dk_at dksX8_isKept_5 18 rfl rfl)
theorem dX8_isKept_131 : decode cX8_isKept 131 = .ok (.aload_n 0, 1) := dk_42 (dk_at dksX8_isKept_5 21 rfl rfl)
theorem dX8_isKept_132 : decode cX8_isKept 132 = .ok (.getfield 127, 3) := dk_180 0 127 (dk_at dksX8_isKept_6 0 rfl rfl)
theorem dX8_isKept_135 : decode cX8_isKept 135 = .ok (.ldc2_w 221, 3) := dk_20 0 221 (dk_at dksX8_isKept_6 3 rfl rfl)
theorem dX8_isKept_138 : decode cX8_isKept 138 = .ok (.lcmp, 1) := dk_148 (dk_at dksX8_isKept_6 6 rfl rfl)
theorem dX8_isKept_139 : decode cX8_isKept 139 = .ok (.ifCond .eq 102, 3) := dk_153 0 102 (dk_at dksX8_isKept_6 7 rfl rfl)
theorem dX8_isKept_142 : decode cX8_isKept 142 = .ok (.aload_n 0, 1) := dk_42 (dk_at dksX8_isKept_6 10 rfl rfl)
theorem dX8_isKept_143 : decode cX8_isKept 143 = .ok (.getfield 127, 3) := dk_180 0 127 (dk_at dksX8_isKept_6 11 rfl rfl)
theorem dX8_isKept_146 : decode cX8_isKept 146 = .ok (.ldc2_w 223, 3) := dk_20 0 223 (dk_at dksX8_isKept_6 14 rfl rfl)
theorem dX8_isKept_149 : decode cX8_isKept 149 = .ok (.lcmp, 1) := dk_148 (dk_at dksX8_isKept_6 17 rfl rfl)
theorem dX8_isKept_150 : decode cX8_isKept 150 = .ok (.ifCond .eq 91, 3) := dk_153 0 91 (dk_at dksX8_isKept_6 18 rfl rfl)
theorem dX8_isKept_153 : decode cX8_isKept 153 = .ok (.aload_n 0, 1) := dk_42 (dk_at dksX8_isKept_6 21 rfl rfl)
theorem dX8_isKept_154 : decode cX8_isKept 154 = .ok (.getfield 127, 3) := dk_180 0 127 (dk_at dksX8_isKept_7 0 rfl rfl)
theorem dX8_isKept_157 : decode cX8_isKept 157 = .ok (.ldc2_w 225, 3) := dk_20 0 225 (dk_at dksX8_isKept_7 3 rfl rfl)
theorem dX8_isKept_160 : decode cX8_isKept 160 = .ok (.lcmp, 1) := dk_148 (dk_at dksX8_isKept_7 6 rfl rfl)
theorem dX8_isKept_161 : decode cX8_isKept 161 = .ok (.ifCond .eq 80, 3) := dk_153 0 80 (dk_at dksX8_isKept_7 7 rfl rfl)
theorem dX8_isKept_164 : decode cX8_isKept 164 = .ok (.aload_n 0, 1) := dk_42 (dk_at dksX8_isKept_7 10 rfl rfl)
theorem dX8_isKept_165 : decode cX8_isKept 165 = .ok (.getfield 127, 3) := dk_180 0 127 (dk_at dksX8_isKept_7 11 rfl rfl)
theorem dX8_isKept_168 : decode cX8_isKept 168 = .ok (.ldc2_w 227, 3) := dk_20 0 227 (dk_at dksX8_isKept_7 14 rfl rfl)
theorem dX8_isKept_171 : decode cX8_isKept 171 = .ok (.lcmp, 1) := dk_148 (dk_at dksX8_isKept_7 17 rfl rfl)
theorem dX8_isKept_172 : decode cX8_isKept 172 = .ok (.ifCond .eq 69, 3) := dk_153 0 69 (dk_at dksX8_isKept_7 18 rfl rfl)
theorem dX8_isKept_175 : decode cX8_isKept 175 = .ok (.aload_n 0, 1) := dk_42 (dk_at dksX8_isKept_7 21 rfl rfl)
theorem dX8_isKept_176 : decode cX8_isKept 176 = .ok (.getfield 127, 3) := dk_180 0 127 (dk_at dksX8_isKept_8 0 rfl rfl)
theorem dX8_isKept_179 : decode cX8_isKept 179 = .ok (.ldc2_w 229, 3) := dk_20 0 229 (dk_at dksX8_isKept_8 3 rfl rfl)
theorem dX8_isKept_182 : decode cX8_isKept 182 = .ok (.lcmp, 1) := dk_148 (dk_at dksX8_isKept_8 6 rfl rfl)
theorem dX8_isKept_183 : decode cX8_isKept 183 = .ok (.ifCond .eq 58, 3) := dk_153 0 58 (dk_at dksX8_isKept_8 7 rfl rfl)
theorem dX8_isKept_186 : decode cX8_isKept 186 = .ok (.aload_n 0, 1) := dk_42 (dk_at dksX8_isKept_8 10 rfl rfl)
theorem dX8_isKept_187 : decode cX8_isKept 187 = .ok (.getfield 127, 3) := dk_180 0 127 (dk_at dksX8_isKept_8 11 rfl rfl)
theorem dX8_isKept_190 : decode cX8_isKept 190 = .ok (.ldc2_w 231, 3) := dk_20 0 231 (dk_at dksX8_isKept_8 14 rfl rfl)
theorem dX8_isKept_193 : decode cX8_isKept 193 = .ok (.lcmp, 1) := dk_148 (dk_at dksX8_isKept_8 17 rfl rfl)
theorem dX8_isKept_194 : decode cX8_isKept 194 = .ok (.ifCond .eq 47, 3) := dk_153 0 47 (dk_at dksX8_isKept_8 18 rfl rfl)
theorem dX8_isKept_197 : decode cX8_isKept 197 = .ok (.aload_n 0, 1) := dk_42 (dk_at dksX8_isKept_8 21 rfl rfl)
theorem dX8_isKept_198 : decode cX8_isKept 198 = .ok (.getfield 127, 3) := dk_180 0 127 (dk_at dksX8_isKept_9 0 rfl rfl)
theorem dX8_isKept_201 : decode cX8_isKept 201 = .ok (.ldc2_w 233, 3) := dk_20 0 233 (dk_at dksX8_isKept_9 3 rfl rfl)
theorem dX8_isKept_204 : decode cX8_isKept 204 = .ok (.lcmp, 1) := dk_148 (dk_at dksX8_isKept_9 6 rfl rfl)
theorem dX8_isKept_205 : decode cX8_isKept 205 = .ok (.ifCond .eq 36, 3) := dk_153 0 36 (dk_at dksX8_isKept_9 7 rfl rfl)
theorem dX8_isKept_208 : decode cX8_isKept 208 = .ok (.aload_n 0, 1) := dk_42 (dk_at dksX8_isKept_9 10 rfl rfl)
theorem dX8_isKept_209 : decode cX8_isKept 209 = .ok (.getfield 127, 3) := dk_180 0 127 (dk_at dksX8_isKept_9 11 rfl rfl)
theorem dX8_isKept_212 : decode cX8_isKept 212 = .ok (.ldc2_w 167, 3) := dk_20 0 167 (dk_at dksX8_isKept_9 14 rfl rfl)
theorem dX8_isKept_215 : decode cX8_isKept 215 = .ok (.lcmp, 1) := dk_148 (dk_at dksX8_isKept_9 17 rfl rfl)
theorem dX8_isKept_216 : decode cX8_isKept 216 = .ok (.ifCond .eq 25, 3) := dk_153 0 25 (dk_at dksX8_isKept_9 18 rfl rfl)
theorem dX8_isKept_219 : decode cX8_isKept 219 = .ok (.aload_n 0, 1) := dk_42 (dk_at dksX8_isKept_9 21 rfl rfl)
theorem dX8_isKept_220 : decode cX8_isKept 220 = .ok (.getfield 127, 3) := dk_180 0 127 (dk_at dksX8_isKept_10 0 rfl rfl)
theorem dX8_isKept_223 : decode cX8_isKept 223 = .ok (.ldc2_w 186, 3) := dk_20 0 186 (dk_at dksX8_isKept_10 3 rfl rfl)
theorem dX8_isKept_226 : decode cX8_isKept 226 = .ok (.lcmp, 1) := dk_148 (dk_at dksX8_isKept_10 6 rfl rfl)
theorem dX8_isKept_227 : decode cX8_isKept 227 = .ok (.ifCond .eq 14, 3) := dk_153 0 14 (dk_at dksX8_isKept_10 7 rfl rfl)
theorem dX8_isKept_230 : decode cX8_isKept 230 = .ok (.aload_n 0, 1) := dk_42 (dk_at dksX8_isKept_10 10 rfl rfl)
theorem dX8_isKept_231 : decode cX8_isKept 231 = .ok (.getfield 127, 3) := dk_180 0 127 (dk_at dksX8_isKept_10 11 rfl rfl)
theorem dX8_isKept_234 : decode cX8_isKept 234 = .ok (.ldc2_w 188, 3) := dk_20 0 188 (dk_at dksX8_isKept_10 14 rfl rfl)
theorem dX8_isKept_237 : decode cX8_isKept 237 = .ok (.lcmp, 1) := dk_148 (dk_at dksX8_isKept_10 17 rfl rfl)
theorem dX8_isKept_238 : decode cX8_isKept 238 = .ok (.ifCond .ne 7, 3) := dk_154 0 7 (dk_at dksX8_isKept_10 18 rfl rfl)
theorem dX8_isKept_241 : decode cX8_isKept 241 = .ok (.iconst 1, 1) := dk_4 (dk_at dksX8_isKept_10 21 rfl rfl)
theorem dX8_isKept_242 : decode cX8_isKept 242 = .ok (.goto 4, 3) := dk_167 0 4 (dk_at dksX8_isKept_11 0 rfl rfl)
theorem dX8_isKept_245 : decode cX8_isKept 245 = .ok (.iconst 0, 1) := dk_3 (dk_at dksX8_isKept_11 3 rfl rfl)
theorem dX8_isKept_246 : decode cX8_isKept 246 = .ok (.ireturn, 1) := dk_172 (dk_at dksX8_isKept_11 4 rfl rfl)
abbrev cX8_villageNamed : ByteArray := prog_30_method_20_code
def yX8_villageNamed : MethodName := ⟨RX8, "villageNamed", "()I"⟩
def dkwX8_villageNamed_1 : List UInt8 := [154, 0, 5, 27, 172, 132, 1, 1, 167, 255, 226, 2, 172]
abbrev dktX8_villageNamed_1 : List UInt8 := dkwX8_villageNamed_1 ++ []
def dkwX8_villageNamed_0 : List UInt8 := [3, 60, 27, 42, 180, 0, 13, 16, 12, 46, 162, 0, 25, 42, 180, 0, 22, 27, 47, 42, 180, 0, 127, 148]
abbrev dktX8_villageNamed_0 : List UInt8 := dkwX8_villageNamed_0 ++ dktX8_villageNamed_1
theorem dksX8_villageNamed_0 : cX8_villageNamed.data.toList.drop 0 = dktX8_villageNamed_0 := by decide +kernel
theorem dksX8_villageNamed_1 : cX8_villageNamed.data.toList.drop 24 = dktX8_villageNamed_1 := dk_seg dksX8_villageNamed_0 24 rfl rfl
theorem dX8_villageNamed_0 : decode cX8_villageNamed 0 = .ok (.iconst 0, 1) := dk_3 (dk_at dksX8_villageNamed_0 0 rfl rfl)
theorem dX8_villageNamed_1 : decode cX8_villageNamed 1 = .ok (.istore_n 1, 1) := dk_60 (dk_at dksX8_villageNamed_0 1 rfl rfl)
theorem dX8_villageNamed_2 : decode cX8_villageNamed 2 = .ok (.iload_n 1, 1) := dk_27 (dk_at dksX8_villageNamed_0 2 rfl rfl)
theorem dX8_villageNamed_3 : decode cX8_villageNamed 3 = .ok (.aload_n 0, 1) := dk_42 (dk_at dksX8_villageNamed_0 3 rfl rfl)
theorem dX8_villageNamed_4 : decode cX8_villageNamed 4 = .ok (.getfield 13, 3) := dk_180 0 13 (dk_at dksX8_villageNamed_0 4 rfl rfl)
theorem dX8_villageNamed_7 : decode cX8_villageNamed 7 = .ok (.bipush 12, 2) := dk_16 12 (dk_at dksX8_villageNamed_0 7 rfl rfl)
theorem dX8_villageNamed_9 : decode cX8_villageNamed 9 = .ok (.iaload, 1) := dk_46 (dk_at dksX8_villageNamed_0 9 rfl rfl)
theorem dX8_villageNamed_10 : decode cX8_villageNamed 10 = .ok (.if_icmp .ge 25, 3) := dk_162 0 25 (dk_at dksX8_villageNamed_0 10 rfl rfl)
theorem dX8_villageNamed_13 : decode cX8_villageNamed 13 = .ok (.aload_n 0, 1) := dk_42 (dk_at dksX8_villageNamed_0 13 rfl rfl)
theorem dX8_villageNamed_14 : decode cX8_villageNamed 14 = .ok (.getfield 22, 3) := dk_180 0 22 (dk_at dksX8_villageNamed_0 14 rfl rfl)
theorem dX8_villageNamed_17 : decode cX8_villageNamed 17 = .ok (.iload_n 1, 1) := dk_27 (dk_at dksX8_villageNamed_0 17 rfl rfl)
theorem dX8_villageNamed_18 : decode cX8_villageNamed 18 = .ok (.laload, 1) := dk_47 (dk_at dksX8_villageNamed_0 18 rfl rfl)
theorem dX8_villageNamed_19 : decode cX8_villageNamed 19 = .ok (.aload_n 0, 1) := dk_42 (dk_at dksX8_villageNamed_0 19 rfl rfl)
theorem dX8_villageNamed_20 : decode cX8_villageNamed 20 = .ok (.getfield 127, 3) := dk_180 0 127 (dk_at dksX8_villageNamed_0 20 rfl rfl)
theorem dX8_villageNamed_23 : decode cX8_villageNamed 23 = .ok (.lcmp, 1) := dk_148 (dk_at dksX8_villageNamed_0 23 rfl rfl)
theorem dX8_villageNamed_24 : decode cX8_villageNamed 24 = .ok (.ifCond .ne 5, 3) := dk_154 0 5 (dk_at dksX8_villageNamed_1 0 rfl rfl)
theorem dX8_villageNamed_27 : decode cX8_villageNamed 27 = .ok (.iload_n 1, 1) := dk_27 (dk_at dksX8_villageNamed_1 3 rfl rfl)
theorem dX8_villageNamed_28 : decode cX8_villageNamed 28 = .ok (.ireturn, 1) := dk_172 (dk_at dksX8_villageNamed_1 4 rfl rfl)
theorem dX8_villageNamed_29 : decode cX8_villageNamed 29 = .ok (.iinc 1 1, 3) := dk_132 1 1 (dk_at dksX8_villageNamed_1 5 rfl rfl)
theorem dX8_villageNamed_32 : decode cX8_villageNamed 32 = .ok (.goto (-30), 3) := dk_167 255 226 (dk_at dksX8_villageNamed_1 8 rfl rfl)
theorem dX8_villageNamed_35 : decode cX8_villageNamed 35 = .ok (.iconst (-1), 1) := dk_2 (dk_at dksX8_villageNamed_1 11 rfl rfl)
theorem dX8_villageNamed_36 : decode cX8_villageNamed 36 = .ok (.ireturn, 1) := dk_172 (dk_at dksX8_villageNamed_1 12 rfl rfl)
abbrev cX8_needsWord : ByteArray := prog_30_method_22_code
def yX8_needsWord : MethodName := ⟨RX8, "needsWord", "(J)Z"⟩
def dkwX8_needsWord_0 : List UInt8 := [42, 31, 182, 0, 169, 154, 0, 9, 42, 4, 182, 0, 177, 172, 42, 182, 0, 183, 4, 172]
abbrev dktX8_needsWord_0 : List UInt8 := dkwX8_needsWord_0 ++ []
theorem dksX8_needsWord_0 : cX8_needsWord.data.toList.drop 0 = dktX8_needsWord_0 := by decide +kernel
theorem dX8_needsWord_0 : decode cX8_needsWord 0 = .ok (.aload_n 0, 1) := dk_42 (dk_at dksX8_needsWord_0 0 rfl rfl)
theorem dX8_needsWord_1 : decode cX8_needsWord 1 = .ok (.lload_n 1, 1) := dk_31 (dk_at dksX8_needsWord_0 1 rfl rfl)
theorem dX8_needsWord_2 : decode cX8_needsWord 2 = .ok (.invokevirtual 169, 3) := dk_182 0 169 (dk_at dksX8_needsWord_0 2 rfl rfl)
theorem dX8_needsWord_5 : decode cX8_needsWord 5 = .ok (.ifCond .ne 9, 3) := dk_154 0 9 (dk_at dksX8_needsWord_0 5 rfl rfl)
theorem dX8_needsWord_8 : decode cX8_needsWord 8 = .ok (.aload_n 0, 1) := dk_42 (dk_at dksX8_needsWord_0 8 rfl rfl)
theorem dX8_needsWord_9 : decode cX8_needsWord 9 = .ok (.iconst 1, 1) := dk_4 (dk_at dksX8_needsWord_0 9 rfl rfl)
theorem dX8_needsWord_10 : decode cX8_needsWord 10 = .ok (.invokevirtual 177, 3) := dk_182 0 177 (dk_at dksX8_needsWord_0 10 rfl rfl)
theorem dX8_needsWord_13 : decode cX8_needsWord 13 = .ok (.ireturn, 1) := dk_172 (dk_at dksX8_needsWord_0 13 rfl rfl)
theorem dX8_needsWord_14 : decode cX8_needsWord 14 = .ok (.aload_n 0, 1) := dk_42 (dk_at dksX8_needsWord_0 14 rfl rfl)
theorem dX8_needsWord_15 : decode cX8_needsWord 15 = .ok (.invokevirtual 183, 3) := dk_182 0 183 (dk_at dksX8_needsWord_0 15 rfl rfl)
theorem dX8_needsWord_18 : decode cX8_needsWord 18 = .ok (.iconst 1, 1) := dk_4 (dk_at dksX8_needsWord_0 18 rfl rfl)
theorem dX8_needsWord_19 : decode cX8_needsWord 19 = .ok (.ireturn, 1) := dk_172 (dk_at dksX8_needsWord_0 19 rfl rfl)
abbrev cX8_readsNet : ByteArray := prog_30_method_30_code
def yX8_readsNet : MethodName := ⟨RX8, "readsNet", "()Z"⟩
def dkwX8_readsNet_12 : List UInt8 := [180, 0, 13, 16, 13, 92, 46, 4, 96, 79, 42, 182, 0, 252, 172]
abbrev dktX8_readsNet_12 : List UInt8 := dkwX8_readsNet_12 ++ []
def dkwX8_readsNet_11 : List UInt8 := [182, 1, 12, 79, 42, 180, 0, 35, 27, 46, 156, 0, 9, 42, 4, 182, 0, 177, 172, 42, 182, 0, 183, 42]
abbrev dktX8_readsNet_11 : List UInt8 := dkwX8_readsNet_11 ++ dktX8_readsNet_12
def dkwX8_readsNet_10 : List UInt8 := [182, 0, 248, 154, 0, 5, 3, 172, 42, 180, 0, 32, 27, 42, 180, 0, 239, 79, 42, 180, 0, 35, 27, 42]
abbrev dktX8_readsNet_10 : List UInt8 := dkwX8_readsNet_10 ++ dktX8_readsNet_11
def dkwX8_readsNet_9 : List UInt8 := [16, 8, 42, 180, 0, 239, 104, 96, 79, 42, 20, 0, 221, 182, 1, 9, 153, 0, 13, 42, 3, 16, 10]
abbrev dktX8_readsNet_9 : List UInt8 := dkwX8_readsNet_9 ++ dktX8_readsNet_10
def dkwX8_readsNet_8 : List UInt8 := [180, 0, 13, 16, 8, 46, 4, 100, 182, 0, 248, 154, 0, 5, 3, 172, 42, 180, 0, 29, 27, 92, 46]
abbrev dktX8_readsNet_8 : List UInt8 := dkwX8_readsNet_8 ++ dktX8_readsNet_9
def dkwX8_readsNet_7 : List UInt8 := [180, 0, 29, 27, 46, 96, 160, 0, 9, 42, 6, 182, 0, 177, 172, 132, 2, 1, 167, 255, 219, 42, 3, 42]
abbrev dktX8_readsNet_7 : List UInt8 := dkwX8_readsNet_7 ++ dktX8_readsNet_8
def dkwX8_readsNet_6 : List UInt8 := [16, 13, 61, 28, 27, 162, 0, 38, 42, 180, 0, 29, 28, 46, 16, 8, 42, 180, 0, 131, 104, 42]
abbrev dktX8_readsNet_6 : List UInt8 := dkwX8_readsNet_6 ++ dktX8_readsNet_7
def dkwX8_readsNet_5 : List UInt8 := [160, 0, 66, 42, 180, 0, 131, 3, 42, 180, 0, 13, 16, 8, 46, 4, 100, 184, 0, 235, 153, 0, 46]
abbrev dktX8_readsNet_5 : List UInt8 := dkwX8_readsNet_5 ++ dktX8_readsNet_6
def dkwX8_readsNet_4 : List UInt8 := [100, 182, 0, 248, 154, 0, 5, 3, 172, 42, 180, 0, 29, 27, 42, 180, 0, 239, 79, 42, 180, 0, 134, 5]
abbrev dktX8_readsNet_4 : List UInt8 := dkwX8_readsNet_4 ++ dktX8_readsNet_5
def dkwX8_readsNet_3 : List UInt8 := [42, 182, 0, 183, 42, 20, 0, 219, 182, 1, 9, 153, 0, 20, 42, 3, 42, 180, 0, 13, 16, 7, 46, 4]
abbrev dktX8_readsNet_3 : List UInt8 := dkwX8_readsNet_3 ++ dktX8_readsNet_4
def dkwX8_readsNet_2 : List UInt8 := [180, 0, 26, 27, 42, 182, 1, 6, 79, 42, 180, 0, 26, 27, 46, 156, 0, 9, 42, 5, 182, 0, 177, 172]
abbrev dktX8_readsNet_2 : List UInt8 := dkwX8_readsNet_2 ++ dktX8_readsNet_3
def dkwX8_readsNet_1 : List UInt8 := [8, 182, 0, 177, 172, 42, 182, 0, 183, 42, 182, 1, 3, 153, 0, 9, 42, 4, 182, 0, 177, 172, 42]
abbrev dktX8_readsNet_1 : List UInt8 := dkwX8_readsNet_1 ++ dktX8_readsNet_2
def dkwX8_readsNet_0 : List UInt8 := [16, 13, 42, 180, 0, 13, 16, 13, 46, 96, 60, 42, 180, 0, 13, 16, 13, 46, 16, 12, 160, 0, 9, 42]
abbrev dktX8_readsNet_0 : List UInt8 := dkwX8_readsNet_0 ++ dktX8_readsNet_1
theorem dksX8_readsNet_0 : cX8_readsNet.data.toList.drop 0 = dktX8_readsNet_0 := by decide +kernel
theorem dksX8_readsNet_1 : cX8_readsNet.data.toList.drop 24 = dktX8_readsNet_1 := dk_seg dksX8_readsNet_0 24 rfl rfl
theorem dksX8_readsNet_2 : cX8_readsNet.data.toList.drop 47 = dktX8_readsNet_2 := dk_seg dksX8_readsNet_1 23 rfl rfl
theorem dksX8_readsNet_3 : cX8_readsNet.data.toList.drop 71 = dktX8_readsNet_3 := dk_seg dksX8_readsNet_2 24 rfl rfl
theorem dksX8_readsNet_4 : cX8_readsNet.data.toList.drop 95 = dktX8_readsNet_4 := dk_seg dksX8_readsNet_3 24 rfl rfl
theorem dksX8_readsNet_5 : cX8_readsNet.data.toList.drop 119 = dktX8_readsNet_5 := dk_seg dksX8_readsNet_4 24 rfl rfl
theorem dksX8_readsNet_6 : cX8_readsNet.data.toList.drop 142 = dktX8_readsNet_6 := dk_seg dksX8_readsNet_5 23 rfl rfl
theorem dksX8_readsNet_7 : cX8_readsNet.data.toList.drop 164 = dktX8_readsNet_7 := dk_seg dksX8_readsNet_6 22 rfl rfl
theorem dksX8_readsNet_8 : cX8_readsNet.data.toList.drop 188 = dktX8_readsNet_8 := dk_seg dksX8_readsNet_7 24 rfl rfl
theorem dksX8_readsNet_9 : cX8_readsNet.data.toList.drop 211 = dktX8_readsNet_9 := dk_seg dksX8_readsNet_8 23 rfl rfl
theorem dksX8_readsNet_10 : cX8_readsNet.data.toList.drop 234 = dktX8_readsNet_10 := dk_seg dksX8_readsNet_9 23 rfl rfl
theorem dksX8_readsNet_11 : cX8_readsNet.data.toList.drop 258 = dktX8_readsNet_11 := dk_seg dksX8_readsNet_10 24 rfl rfl
theorem dksX8_readsNet_12 : cX8_readsNet.data.toList.drop 282 = dktX8_readsNet_12 := dk_seg dksX8_readsNet_11 24 rfl rfl
theorem dX8_readsNet_0 : decode cX8_readsNet 0 = .ok (.bipush 13, 2) := dk_16 13 (dk_at dksX8_readsNet_0 0 rfl rfl)
theorem dX8_readsNet_2 : decode cX8_readsNet 2 = .ok (.aload_n 0, 1) := dk_42 (dk_at dksX8_readsNet_0 2 rfl rfl)
theorem dX8_readsNet_3 : decode cX8_readsNet 3 = .ok (.getfield 13, 3) := dk_180 0 13 (dk_at dksX8_readsNet_0 3 rfl rfl)
theorem dX8_readsNet_6 : decode cX8_readsNet 6 = .ok (.bipush 13, 2) := dk_16 13 (dk_at dksX8_readsNet_0 6 rfl rfl)
theorem dX8_readsNet_8 : decode cX8_readsNet 8 = .ok (.iaload, 1) := dk_46 (dk_at dksX8_readsNet_0 8 rfl rfl)
theorem dX8_readsNet_9 : decode cX8_readsNet 9 = .ok (.iadd, 1) := dk_96 (dk_at dksX8_readsNet_0 9 rfl rfl)
theorem dX8_readsNet_10 : decode cX8_readsNet 10 = .ok (.istore_n 1, 1) := dk_60 (dk_at dksX8_readsNet_0 10 rfl rfl)
theorem dX8_readsNet_11 : decode cX8_readsNet 11 = .ok (.aload_n 0, 1) := dk_42 (dk_at dksX8_readsNet_0 11 rfl rfl)
theorem dX8_readsNet_12 : decode cX8_readsNet 12 = .ok (.getfield 13, 3) := dk_180 0 13 (dk_at dksX8_readsNet_0 12 rfl rfl)
theorem dX8_readsNet_15 : decode cX8_readsNet 15 = .ok (.bipush 13, 2) := dk_16 13 (dk_at dksX8_readsNet_0 15 rfl rfl)
theorem dX8_readsNet_17 : decode cX8_readsNet 17 = .ok (.iaload, 1) := dk_46 (dk_at dksX8_readsNet_0 17 rfl rfl)
theorem dX8_readsNet_18 : decode cX8_readsNet 18 = .ok (.bipush 12, 2) := dk_16 12 (dk_at dksX8_readsNet_0 18 rfl rfl)
theorem dX8_readsNet_20 : decode cX8_readsNet 20 = .ok (.if_icmp .ne 9, 3) := dk_160 0 9 (dk_at dksX8_readsNet_0 20 rfl rfl)
theorem dX8_readsNet_23 : decode cX8_readsNet 23 = .ok (.aload_n 0, 1) := dk_42 (dk_at dksX8_readsNet_0 23 rfl rfl)
theorem dX8_readsNet_24 : decode cX8_readsNet 24 = .ok (.iconst 5, 1) := dk_8 (dk_at dksX8_readsNet_1 0 rfl rfl)
theorem dX8_readsNet_25 : decode cX8_readsNet 25 = .ok (.invokevirtual 177, 3) := dk_182 0 177 (dk_at dksX8_readsNet_1 1 rfl rfl)
theorem dX8_readsNet_28 : decode cX8_readsNet 28 = .ok (.ireturn, 1) := dk_172 (dk_at dksX8_readsNet_1 4 rfl rfl)
theorem dX8_readsNet_29 : decode cX8_readsNet 29 = .ok (.aload_n 0, 1) := dk_42 (dk_at dksX8_readsNet_1 5 rfl rfl)
theorem dX8_readsNet_30 : decode cX8_readsNet 30 = .ok (.invokevirtual 183, 3) := dk_182 0 183 (dk_at dksX8_readsNet_1 6 rfl rfl)
theorem dX8_readsNet_33 : decode cX8_readsNet 33 = .ok (.aload_n 0, 1) := dk_42 (dk_at dksX8_readsNet_1 9 rfl rfl)
theorem dX8_readsNet_34 : decode cX8_readsNet 34 = .ok (.invokevirtual 259, 3) := dk_182 1 3 (dk_at dksX8_readsNet_1 10 rfl rfl)
theorem dX8_readsNet_37 : decode cX8_readsNet 37 = .ok (.ifCond .eq 9, 3) := dk_153 0 9 (dk_at dksX8_readsNet_1 13 rfl rfl)
theorem dX8_readsNet_40 : decode cX8_readsNet 40 = .ok (.aload_n 0, 1) := dk_42 (dk_at dksX8_readsNet_1 16 rfl rfl)
theorem dX8_readsNet_41 : decode cX8_readsNet 41 = .ok (.iconst 1, 1) := dk_4 (dk_at dksX8_readsNet_1 17 rfl rfl)
theorem dX8_readsNet_42 : decode cX8_readsNet 42 = .ok (.invokevirtual 177, 3) := dk_182 0 177 (dk_at dksX8_readsNet_1 18 rfl rfl)
theorem dX8_readsNet_45 : decode cX8_readsNet 45 = .ok (.ireturn, 1) := dk_172 (dk_at dksX8_readsNet_1 21 rfl rfl)
theorem dX8_readsNet_46 : decode cX8_readsNet 46 = .ok (.aload_n 0, 1) := dk_42 (dk_at dksX8_readsNet_1 22 rfl rfl)
theorem dX8_readsNet_47 : decode cX8_readsNet 47 = .ok (.getfield 26, 3) := dk_180 0 26 (dk_at dksX8_readsNet_2 0 rfl rfl)
theorem dX8_readsNet_50 : decode cX8_readsNet 50 = .ok (.iload_n 1, 1) := dk_27 (dk_at dksX8_readsNet_2 3 rfl rfl)
theorem dX8_readsNet_51 : decode cX8_readsNet 51 = .ok (.aload_n 0, 1) := dk_42 (dk_at dksX8_readsNet_2 4 rfl rfl)
theorem dX8_readsNet_52 : decode cX8_readsNet 52 = .ok (.invokevirtual 262, 3) := dk_182 1 6 (dk_at dksX8_readsNet_2 5 rfl rfl)
theorem dX8_readsNet_55 : decode cX8_readsNet 55 = .ok (.iastore, 1) := dk_79 (dk_at dksX8_readsNet_2 8 rfl rfl)
theorem dX8_readsNet_56 : decode cX8_readsNet 56 = .ok (.aload_n 0, 1) := dk_42 (dk_at dksX8_readsNet_2 9 rfl rfl)
theorem dX8_readsNet_57 : decode cX8_readsNet 57 = .ok (.getfield 26, 3) := dk_180 0 26 (dk_at dksX8_readsNet_2 10 rfl rfl)
theorem dX8_readsNet_60 : decode cX8_readsNet 60 = .ok (.iload_n 1, 1) := dk_27 (dk_at dksX8_readsNet_2 13 rfl rfl)
theorem dX8_readsNet_61 : decode cX8_readsNet 61 = .ok (.iaload, 1) := dk_46 (dk_at dksX8_readsNet_2 14 rfl rfl)
theorem dX8_readsNet_62 : decode cX8_readsNet 62 = .ok (.ifCond .ge 9, 3) := dk_156 0 9 (dk_at dksX8_readsNet_2 15 rfl rfl)
theorem dX8_readsNet_65 : decode cX8_readsNet 65 = .ok (.aload_n 0, 1) := dk_42 (dk_at dksX8_readsNet_2 18 rfl rfl)
theorem dX8_readsNet_66 : decode cX8_readsNet 66 = .ok (.iconst 2, 1) := dk_5 (dk_at dksX8_readsNet_2 19 rfl rfl)
theorem dX8_readsNet_67 : decode cX8_readsNet 67 = .ok (.invokevirtual 177, 3) := dk_182 0 177 (dk_at dksX8_readsNet_2 20 rfl rfl)
theorem dX8_readsNet_70 : decode cX8_readsNet 70 = .ok (.ireturn, 1) := dk_172 (dk_at dksX8_readsNet_2 23 rfl rfl)
theorem dX8_readsNet_71 : decode cX8_readsNet 71 = .ok (.aload_n 0, 1) := dk_42 (dk_at dksX8_readsNet_3 0 rfl rfl)
theorem dX8_readsNet_72 : decode cX8_readsNet 72 = .ok (.invokevirtual 183, 3) := dk_182 0 183 (dk_at dksX8_readsNet_3 1 rfl rfl)
theorem dX8_readsNet_75 : decode cX8_readsNet 75 = .ok (.aload_n 0, 1) := dk_42 (dk_at dksX8_readsNet_3 4 rfl rfl)
theorem dX8_readsNet_76 : decode cX8_readsNet 76 = .ok (.ldc2_w 219, 3) := dk_20 0 219 (dk_at dksX8_readsNet_3 5 rfl rfl)
theorem dX8_readsNet_79 : decode cX8_readsNet 79 = .ok (.invokevirtual 265, 3) := dk_182 1 9 (dk_at dksX8_readsNet_3 8 rfl rfl)
theorem dX8_readsNet_82 : decode cX8_readsNet 82 = .ok (.ifCond .eq 20, 3) := dk_153 0 20 (dk_at dksX8_readsNet_3 11 rfl rfl)
theorem dX8_readsNet_85 : decode cX8_readsNet 85 = .ok (.aload_n 0, 1) := dk_42 (dk_at dksX8_readsNet_3 14 rfl rfl)
theorem dX8_readsNet_86 : decode cX8_readsNet 86 = .ok (.iconst 0, 1) := dk_3 (dk_at dksX8_readsNet_3 15 rfl rfl)
theorem dX8_readsNet_87 : decode cX8_readsNet 87 = .ok (.aload_n 0, 1) := dk_42 (dk_at dksX8_readsNet_3 16 rfl rfl)
theorem dX8_readsNet_88 : decode cX8_readsNet 88 = .ok (.getfield 13, 3) := dk_180 0 13 (dk_at dksX8_readsNet_3 17 rfl rfl)
theorem dX8_readsNet_91 : decode cX8_readsNet 91 = .ok (.bipush 7, 2) := dk_16 7 (dk_at dksX8_readsNet_3 20 rfl rfl)
theorem dX8_readsNet_93 : decode cX8_readsNet 93 = .ok (.iaload, 1) := dk_46 (dk_at dksX8_readsNet_3 22 rfl rfl)
theorem dX8_readsNet_94 : decode cX8_readsNet 94 = .ok (.iconst 1, 1) := dk_4 (dk_at dksX8_readsNet_3 23 rfl rfl)
theorem dX8_readsNet_95 : decode cX8_readsNet 95 = .ok (.isub, 1) := dk_100 (dk_at dksX8_readsNet_4 0 rfl rfl)
theorem dX8_readsNet_96 : decode cX8_readsNet 96 = .ok (.invokevirtual 248, 3) := dk_182 0 248 (dk_at dksX8_readsNet_4 1 rfl rfl)
theorem dX8_readsNet_99 : decode cX8_readsNet 99 = .ok (.ifCond .ne 5, 3) := dk_154 0 5 (dk_at dksX8_readsNet_4 4 rfl rfl)
theorem dX8_readsNet_102 : decode cX8_readsNet 102 = .ok (.iconst 0, 1) := dk_3 (dk_at dksX8_readsNet_4 7 rfl rfl)
theorem dX8_readsNet_103 : decode cX8_readsNet 103 = .ok (.ireturn, 1) := dk_172 (dk_at dksX8_readsNet_4 8 rfl rfl)
theorem dX8_readsNet_104 : decode cX8_readsNet 104 = .ok (.aload_n 0, 1) := dk_42 (dk_at dksX8_readsNet_4 9 rfl rfl)
theorem dX8_readsNet_105 : decode cX8_readsNet 105 = .ok (.getfield 29, 3) := dk_180 0 29 (dk_at dksX8_readsNet_4 10 rfl rfl)
theorem dX8_readsNet_108 : decode cX8_readsNet 108 = .ok (.iload_n 1, 1) := dk_27 (dk_at dksX8_readsNet_4 13 rfl rfl)
theorem dX8_readsNet_109 : decode cX8_readsNet 109 = .ok (.aload_n 0, 1) := dk_42 (dk_at dksX8_readsNet_4 14 rfl rfl)
theorem dX8_readsNet_110 : decode cX8_readsNet 110 = .ok (.getfield 239, 3) := dk_180 0 239 (dk_at dksX8_readsNet_4 15 rfl rfl)
theorem dX8_readsNet_113 : decode cX8_readsNet 113 = .ok (.iastore, 1) := dk_79 (dk_at dksX8_readsNet_4 18 rfl rfl)
theorem dX8_readsNet_114 : decode cX8_readsNet 114 = .ok (.aload_n 0, 1) := dk_42 (dk_at dksX8_readsNet_4 19 rfl rfl)
theorem dX8_readsNet_115 : decode cX8_readsNet 115 = .ok (.getfield 134, 3) := dk_180 0 134 (dk_at dksX8_readsNet_4 20 rfl rfl)
theorem dX8_readsNet_118 : decode cX8_readsNet 118 = .ok (.iconst 2, 1) := dk_5 (dk_at dksX8_readsNet_4 23 rfl rfl)
theorem dX8_readsNet_119 : decode cX8_readsNet 119 = .ok (.if_icmp .ne 66, 3) := dk_160 0 66 (dk_at dksX8_readsNet_5 0 rfl rfl)
theorem dX8_readsNet_122 : decode cX8_readsNet 122 = .ok (.aload_n 0, 1) := dk_42 (dk_at dksX8_readsNet_5 3 rfl rfl)
theorem dX8_readsNet_123 : decode cX8_readsNet 123 = .ok (.getfield 131, 3) := dk_180 0 131 (dk_at dksX8_readsNet_5 4 rfl rfl)
theorem dX8_readsNet_126 : decode cX8_readsNet 126 = .ok (.iconst 0, 1) := dk_3 (dk_at dksX8_readsNet_5 7 rfl rfl)
theorem dX8_readsNet_127 : decode cX8_readsNet 127 = .ok (.aload_n 0, 1) := dk_42 (dk_at dksX8_readsNet_5 8 rfl rfl)
theorem dX8_readsNet_128 : decode cX8_readsNet 128 = .ok (.getfield 13, 3) := dk_180 0 13 (dk_at dksX8_readsNet_5 9 rfl rfl)
theorem dX8_readsNet_131 : decode cX8_readsNet 131 = .ok (.bipush 8, 2) := dk_16 8 (dk_at dksX8_readsNet_5 12 rfl rfl)
theorem dX8_readsNet_133 : decode cX8_readsNet 133 = .ok (.iaload, 1) := dk_46 (dk_at dksX8_readsNet_5 14 rfl rfl)
theorem dX8_readsNet_134 : decode cX8_readsNet 134 = .ok (.iconst 1, 1) := dk_4 (dk_at dksX8_readsNet_5 15 rfl rfl)
theorem dX8_readsNet_135 : decode cX8_readsNet 135 = .ok (.isub, 1) := dk_100 (dk_at dksX8_readsNet_5 16 rfl rfl)
theorem dX8_readsNet_136 : decode cX8_readsNet 136 = .ok (.invokestatic 235, 3) := dk_184 0 235 (dk_at dksX8_readsNet_5 17 rfl rfl)
theorem dX8_readsNet_139 : decode cX8_readsNet 139 = .ok (.ifCond .eq 46, 3) := dk_153 0 46 (dk_at dksX8_readsNet_5 20 rfl rfl)
theorem dX8_readsNet_142 : decode cX8_readsNet 142 = .ok (.bipush 13, 2) := dk_16 13 (dk_at dksX8_readsNet_6 0 rfl rfl)
theorem dX8_readsNet_144 : decode cX8_readsNet 144 = .ok (.istore_n 2, 1) := dk_61 (dk_at dksX8_readsNet_6 2 rfl rfl)
theorem dX8_readsNet_145 : decode cX8_readsNet 145 = .ok (.iload_n 2, 1) := dk_28 (dk_at dksX8_readsNet_6 3 rfl rfl)
theorem dX8_readsNet_146 : decode cX8_readsNet 146 = .ok (.iload_n 1, 1) := dk_27 (dk_at dksX8_readsNet_6 4 rfl rfl)
theorem dX8_readsNet_147 : decode cX8_readsNet 147 = .ok (.if_icmp .ge 38, 3) := dk_162 0 38 (dk_at dksX8_readsNet_6 5 rfl rfl)
theorem dX8_readsNet_150 : decode cX8_readsNet 150 = .ok (.aload_n 0, 1) := dk_42 (dk_at dksX8_readsNet_6 8 rfl rfl)
theorem dX8_readsNet_151 : decode cX8_readsNet 151 = .ok (.getfield 29, 3) := dk_180 0 29 (dk_at dksX8_readsNet_6 9 rfl rfl)
theorem dX8_readsNet_154 : decode cX8_readsNet 154 = .ok (.iload_n 2, 1) := dk_28 (dk_at dksX8_readsNet_6 12 rfl rfl)
theorem dX8_readsNet_155 : decode cX8_readsNet 155 = .ok (.iaload, 1) := dk_46 (dk_at dksX8_readsNet_6 13 rfl rfl)
theorem dX8_readsNet_156 : decode cX8_readsNet 156 = .ok (.bipush 8, 2) := dk_16 8 (dk_at dksX8_readsNet_6 14 rfl rfl)
theorem dX8_readsNet_158 : decode cX8_readsNet 158 = .ok (.aload_n 0, 1) := dk_42 (dk_at dksX8_readsNet_6 16 rfl rfl)
theorem dX8_readsNet_159 : decode cX8_readsNet 159 = .ok (.getfield 131, 3) := dk_180 0 131 (dk_at dksX8_readsNet_6 17 rfl rfl)
theorem dX8_readsNet_162 : decode cX8_readsNet 162 = .ok (.imul, 1) := dk_104 (dk_at dksX8_readsNet_6 20 rfl rfl)
theorem dX8_readsNet_163 : decode cX8_readsNet 163 = .ok (.aload_n 0, 1) := dk_42 (dk_at dksX8_readsNet_6 21 rfl rfl)
theorem dX8_readsNet_164 : decode cX8_readsNet 164 = .ok (.getfield 29, 3) := dk_180 0 29 (dk_at dksX8_readsNet_7 0 rfl rfl)
theorem dX8_readsNet_167 : decode cX8_readsNet 167 = .ok (.iload_n 1, 1) := dk_27 (dk_at dksX8_readsNet_7 3 rfl rfl)
theorem dX8_readsNet_168 : decode cX8_readsNet 168 = .ok (.iaload, 1) := dk_46 (dk_at dksX8_readsNet_7 4 rfl rfl)
theorem dX8_readsNet_169 : decode cX8_readsNet 169 = .ok (.iadd, 1) := dk_96 (dk_at dksX8_readsNet_7 5 rfl rfl)
theorem dX8_readsNet_170 : decode cX8_readsNet 170 = .ok (.if_icmp .ne 9, 3) := dk_160 0 9 (dk_at dksX8_readsNet_7 6 rfl rfl)
theorem dX8_readsNet_173 : decode cX8_readsNet 173 = .ok (.aload_n 0, 1) := dk_42 (dk_at dksX8_readsNet_7 9 rfl rfl)
theorem dX8_readsNet_174 : decode cX8_readsNet 174 = .ok (.iconst 3, 1) := dk_6 (dk_at dksX8_readsNet_7 10 rfl rfl)
theorem dX8_readsNet_175 : decode cX8_readsNet 175 = .ok (.invokevirtual 177, 3) := dk_182 0 177 (dk_at dksX8_readsNet_7 11 rfl rfl)
theorem dX8_readsNet_178 : decode cX8_readsNet 178 = .ok (.ireturn, 1) := dk_172 (dk_at dksX8_readsNet_7 14 rfl rfl)
theorem dX8_readsNet_179 : decode cX8_readsNet 179 = .ok (.iinc 2 1, 3) := dk_132 2 1 (dk_at dksX8_readsNet_7 15 rfl rfl)
theorem dX8_readsNet_182 : decode cX8_readsNet 182 = .ok (.goto (-37), 3) := dk_167 255 219 (dk_at dksX8_readsNet_7 18 rfl rfl)
theorem dX8_readsNet_185 : decode cX8_readsNet 185 = .ok (.aload_n 0, 1) := dk_42 (dk_at dksX8_readsNet_7 21 rfl rfl)
theorem dX8_readsNet_186 : decode cX8_readsNet 186 = .ok (.iconst 0, 1) := dk_3 (dk_at dksX8_readsNet_7 22 rfl rfl)
theorem dX8_readsNet_187 : decode cX8_readsNet 187 = .ok (.aload_n 0, 1) := dk_42 (dk_at dksX8_readsNet_7 23 rfl rfl)
theorem dX8_readsNet_188 : decode cX8_readsNet 188 = .ok (.getfield 13, 3) := dk_180 0 13 (dk_at dksX8_readsNet_8 0 rfl rfl)
theorem dX8_readsNet_191 : decode cX8_readsNet 191 = .ok (.bipush 8, 2) := dk_16 8 (dk_at dksX8_readsNet_8 3 rfl rfl)
theorem dX8_readsNet_193 : decode cX8_readsNet 193 = .ok (.iaload, 1) := dk_46 (dk_at dksX8_readsNet_8 5 rfl rfl)
theorem dX8_readsNet_194 : decode cX8_readsNet 194 = .ok (.iconst 1, 1) := dk_4 (dk_at dksX8_readsNet_8 6 rfl rfl)
theorem dX8_readsNet_195 : decode cX8_readsNet 195 = .ok (.isub, 1) := dk_100 (dk_at dksX8_readsNet_8 7 rfl rfl)
theorem dX8_readsNet_196 : decode cX8_readsNet 196 = .ok (.invokevirtual 248, 3) := dk_182 0 248 (dk_at dksX8_readsNet_8 8 rfl rfl)
theorem dX8_readsNet_199 : decode cX8_readsNet 199 = .ok (.ifCond .ne 5, 3) := dk_154 0 5 (dk_at dksX8_readsNet_8 11 rfl rfl)
theorem dX8_readsNet_202 : decode cX8_readsNet 202 = .ok (.iconst 0, 1) := dk_3 (dk_at dksX8_readsNet_8 14 rfl rfl)
theorem dX8_readsNet_203 : decode cX8_readsNet 203 = .ok (.ireturn, 1) := dk_172 (dk_at dksX8_readsNet_8 15 rfl rfl)
theorem dX8_readsNet_204 : decode cX8_readsNet 204 = .ok (.aload_n 0, 1) := dk_42 (dk_at dksX8_readsNet_8 16 rfl rfl)
theorem dX8_readsNet_205 : decode cX8_readsNet 205 = .ok (.getfield 29, 3) := dk_180 0 29 (dk_at dksX8_readsNet_8 17 rfl rfl)
theorem dX8_readsNet_208 : decode cX8_readsNet 208 = .ok (.iload_n 1, 1) := dk_27 (dk_at dksX8_readsNet_8 20 rfl rfl)
theorem dX8_readsNet_209 : decode cX8_readsNet 209 = .ok (.dup2, 1) := dk_92 (dk_at dksX8_readsNet_8 21 rfl rfl)
theorem dX8_readsNet_210 : decode cX8_readsNet 210 = .ok (.iaload, 1) := dk_46 (dk_at dksX8_readsNet_8 22 rfl rfl)
theorem dX8_readsNet_211 : decode cX8_readsNet 211 = .ok (.bipush 8, 2) := dk_16 8 (dk_at dksX8_readsNet_9 0 rfl rfl)
theorem dX8_readsNet_213 : decode cX8_readsNet 213 = .ok (.aload_n 0, 1) := dk_42 (dk_at dksX8_readsNet_9 2 rfl rfl)
theorem dX8_readsNet_214 : decode cX8_readsNet 214 = .ok (.getfield 239, 3) := dk_180 0 239 (dk_at dksX8_readsNet_9 3 rfl rfl)
theorem dX8_readsNet_217 : decode cX8_readsNet 217 = .ok (.imul, 1) := dk_104 (dk_at dksX8_readsNet_9 6 rfl rfl)
theorem dX8_readsNet_218 : decode cX8_readsNet 218 = .ok (.iadd, 1) := dk_96 (dk_at dksX8_readsNet_9 7 rfl rfl)
theorem dX8_readsNet_219 : decode cX8_readsNet 219 = .ok (.iastore, 1) := dk_79 (dk_at dksX8_readsNet_9 8 rfl rfl)
theorem dX8_readsNet_220 : decode cX8_readsNet 220 = .ok (.aload_n 0, 1) := dk_42 (dk_at dksX8_readsNet_9 9 rfl rfl)
theorem dX8_readsNet_221 : decode cX8_readsNet 221 = .ok (.ldc2_w 221, 3) := dk_20 0 221 (dk_at dksX8_readsNet_9 10 rfl rfl)
theorem dX8_readsNet_224 : decode cX8_readsNet 224 = .ok (.invokevirtual 265, 3) := dk_182 1 9 (dk_at dksX8_readsNet_9 13 rfl rfl)
theorem dX8_readsNet_227 : decode cX8_readsNet 227 = .ok (.ifCond .eq 13, 3) := dk_153 0 13 (dk_at dksX8_readsNet_9 16 rfl rfl)
theorem dX8_readsNet_230 : decode cX8_readsNet 230 = .ok (.aload_n 0, 1) := dk_42 (dk_at dksX8_readsNet_9 19 rfl rfl)
theorem dX8_readsNet_231 : decode cX8_readsNet 231 = .ok (.iconst 0, 1) := dk_3 (dk_at dksX8_readsNet_9 20 rfl rfl)
theorem dX8_readsNet_232 : decode cX8_readsNet 232 = .ok (.bipush 10, 2) := dk_16 10 (dk_at dksX8_readsNet_9 21 rfl rfl)
theorem dX8_readsNet_234 : decode cX8_readsNet 234 = .ok (.invokevirtual 248, 3) := dk_182 0 248 (dk_at dksX8_readsNet_10 0 rfl rfl)
theorem dX8_readsNet_237 : decode cX8_readsNet 237 = .ok (.ifCond .ne 5, 3) := dk_154 0 5 (dk_at dksX8_readsNet_10 3 rfl rfl)
theorem dX8_readsNet_240 : decode cX8_readsNet 240 = .ok (.iconst 0, 1) := dk_3 (dk_at dksX8_readsNet_10 6 rfl rfl)
theorem dX8_readsNet_241 : decode cX8_readsNet 241 = .ok (.ireturn, 1) := dk_172 (dk_at dksX8_readsNet_10 7 rfl rfl)
theorem dX8_readsNet_242 : decode cX8_readsNet 242 = .ok (.aload_n 0, 1) := dk_42 (dk_at dksX8_readsNet_10 8 rfl rfl)
theorem dX8_readsNet_243 : decode cX8_readsNet 243 = .ok (.getfield 32, 3) := dk_180 0 32 (dk_at dksX8_readsNet_10 9 rfl rfl)
theorem dX8_readsNet_246 : decode cX8_readsNet 246 = .ok (.iload_n 1, 1) := dk_27 (dk_at dksX8_readsNet_10 12 rfl rfl)
theorem dX8_readsNet_247 : decode cX8_readsNet 247 = .ok (.aload_n 0, 1) := dk_42 (dk_at dksX8_readsNet_10 13 rfl rfl)
theorem dX8_readsNet_248 : decode cX8_readsNet 248 = .ok (.getfield 239, 3) := dk_180 0 239 (dk_at dksX8_readsNet_10 14 rfl rfl)
theorem dX8_readsNet_251 : decode cX8_readsNet 251 = .ok (.iastore, 1) := dk_79 (dk_at dksX8_readsNet_10 17 rfl rfl)
theorem dX8_readsNet_252 : decode cX8_readsNet 252 = .ok (.aload_n 0, 1) := dk_42 (dk_at dksX8_readsNet_10 18 rfl rfl)
theorem dX8_readsNet_253 : decode cX8_readsNet 253 = .ok (.getfield 35, 3) := dk_180 0 35 (dk_at dksX8_readsNet_10 19 rfl rfl)
theorem dX8_readsNet_256 : decode cX8_readsNet 256 = .ok (.iload_n 1, 1) := dk_27 (dk_at dksX8_readsNet_10 22 rfl rfl)
theorem dX8_readsNet_257 : decode cX8_readsNet 257 = .ok (.aload_n 0, 1) := dk_42 (dk_at dksX8_readsNet_10 23 rfl rfl)
theorem dX8_readsNet_258 : decode cX8_readsNet 258 = .ok (.invokevirtual 268, 3) := dk_182 1 12 (dk_at dksX8_readsNet_11 0 rfl rfl)
theorem dX8_readsNet_261 : decode cX8_readsNet 261 = .ok (.iastore, 1) := dk_79 (dk_at dksX8_readsNet_11 3 rfl rfl)
theorem dX8_readsNet_262 : decode cX8_readsNet 262 = .ok (.aload_n 0, 1) := dk_42 (dk_at dksX8_readsNet_11 4 rfl rfl)
theorem dX8_readsNet_263 : decode cX8_readsNet 263 = .ok (.getfield 35, 3) := dk_180 0 35 (dk_at dksX8_readsNet_11 5 rfl rfl)
theorem dX8_readsNet_266 : decode cX8_readsNet 266 = .ok (.iload_n 1, 1) := dk_27 (dk_at dksX8_readsNet_11 8 rfl rfl)
theorem dX8_readsNet_267 : decode cX8_readsNet 267 = .ok (.iaload, 1) := dk_46 (dk_at dksX8_readsNet_11 9 rfl rfl)
theorem dX8_readsNet_268 : decode cX8_readsNet 268 = .ok (.ifCond .ge 9, 3) := dk_156 0 9 (dk_at dksX8_readsNet_11 10 rfl rfl)
theorem dX8_readsNet_271 : decode cX8_readsNet 271 = .ok (.aload_n 0, 1) := dk_42 (dk_at dksX8_readsNet_11 13 rfl rfl)
theorem dX8_readsNet_272 : decode cX8_readsNet 272 = .ok (.iconst 1, 1) := dk_4 (dk_at dksX8_readsNet_11 14 rfl rfl)
theorem dX8_readsNet_273 : decode cX8_readsNet 273 = .ok (.invokevirtual 177, 3) := dk_182 0 177 (dk_at dksX8_readsNet_11 15 rfl rfl)
theorem dX8_readsNet_276 : decode cX8_readsNet 276 = .ok (.ireturn, 1) := dk_172 (dk_at dksX8_readsNet_11 18 rfl rfl)
theorem dX8_readsNet_277 : decode cX8_readsNet 277 = .ok (.aload_n 0, 1) := dk_42 (dk_at dksX8_readsNet_11 19 rfl rfl)
theorem dX8_readsNet_278 : decode cX8_readsNet 278 = .ok (.invokevirtual 183, 3) := dk_182 0 183 (dk_at dksX8_readsNet_11 20 rfl rfl)
theorem dX8_readsNet_281 : decode cX8_readsNet 281 = .ok (.aload_n 0, 1) := dk_42 (dk_at dksX8_readsNet_11 23 rfl rfl)
theorem dX8_readsNet_282 : decode cX8_readsNet 282 = .ok (.getfield 13, 3) := dk_180 0 13 (dk_at dksX8_readsNet_12 0 rfl rfl)
theorem dX8_readsNet_285 : decode cX8_readsNet 285 = .ok (.bipush 13, 2) := dk_16 13 (dk_at dksX8_readsNet_12 3 rfl rfl)
theorem dX8_readsNet_287 : decode cX8_readsNet 287 = .ok (.dup2, 1) := dk_92 (dk_at dksX8_readsNet_12 5 rfl rfl)
theorem dX8_readsNet_288 : decode cX8_readsNet 288 = .ok (.iaload, 1) := dk_46 (dk_at dksX8_readsNet_12 6 rfl rfl)
theorem dX8_readsNet_289 : decode cX8_readsNet 289 = .ok (.iconst 1, 1) := dk_4 (dk_at dksX8_readsNet_12 7 rfl rfl)
theorem dX8_readsNet_290 : decode cX8_readsNet 290 = .ok (.iadd, 1) := dk_96 (dk_at dksX8_readsNet_12 8 rfl rfl)
theorem dX8_readsNet_291 : decode cX8_readsNet 291 = .ok (.iastore, 1) := dk_79 (dk_at dksX8_readsNet_12 9 rfl rfl)
theorem dX8_readsNet_292 : decode cX8_readsNet 292 = .ok (.aload_n 0, 1) := dk_42 (dk_at dksX8_readsNet_12 10 rfl rfl)
theorem dX8_readsNet_293 : decode cX8_readsNet 293 = .ok (.invokevirtual 252, 3) := dk_182 0 252 (dk_at dksX8_readsNet_12 11 rfl rfl)
theorem dX8_readsNet_296 : decode cX8_readsNet 296 = .ok (.ireturn, 1) := dk_172 (dk_at dksX8_readsNet_12 14 rfl rfl)
abbrev cX8_kindAt : ByteArray := prog_30_method_29_code
def yX8_kindAt : MethodName := ⟨RX8, "kindAt", "()I"⟩
def dkwX8_kindAt_3 : List UInt8 := [42, 20, 0, 233, 182, 0, 169, 153, 0, 7, 8, 167, 0, 4, 2, 172]
abbrev dktX8_kindAt_3 : List UInt8 := dkwX8_kindAt_3 ++ []
def dkwX8_kindAt_2 : List UInt8 := [182, 0, 169, 153, 0, 7, 6, 167, 0, 32, 42, 20, 0, 231, 182, 0, 169, 153, 0, 7, 7, 167, 0, 18]
abbrev dktX8_kindAt_2 : List UInt8 := dkwX8_kindAt_2 ++ dktX8_kindAt_3
def dkwX8_kindAt_1 : List UInt8 := [4, 167, 0, 60, 42, 20, 0, 227, 182, 0, 169, 153, 0, 7, 5, 167, 0, 46, 42, 20, 0, 229]
abbrev dktX8_kindAt_1 : List UInt8 := dkwX8_kindAt_1 ++ dktX8_kindAt_2
def dkwX8_kindAt_0 : List UInt8 := [42, 20, 0, 223, 182, 0, 169, 153, 0, 7, 3, 167, 0, 74, 42, 20, 0, 225, 182, 0, 169, 153, 0, 7]
abbrev dktX8_kindAt_0 : List UInt8 := dkwX8_kindAt_0 ++ dktX8_kindAt_1
theorem dksX8_kindAt_0 : cX8_kindAt.data.toList.drop 0 = dktX8_kindAt_0 := by decide +kernel
theorem dksX8_kindAt_1 : cX8_kindAt.data.toList.drop 24 = dktX8_kindAt_1 := dk_seg dksX8_kindAt_0 24 rfl rfl
theorem dksX8_kindAt_2 : cX8_kindAt.data.toList.drop 46 = dktX8_kindAt_2 := dk_seg dksX8_kindAt_1 22 rfl rfl
theorem dksX8_kindAt_3 : cX8_kindAt.data.toList.drop 70 = dktX8_kindAt_3 := dk_seg dksX8_kindAt_2 24 rfl rfl
theorem dX8_kindAt_0 : decode cX8_kindAt 0 = .ok (.aload_n 0, 1) := dk_42 (dk_at dksX8_kindAt_0 0 rfl rfl)
theorem dX8_kindAt_1 : decode cX8_kindAt 1 = .ok (.ldc2_w 223, 3) := dk_20 0 223 (dk_at dksX8_kindAt_0 1 rfl rfl)
theorem dX8_kindAt_4 : decode cX8_kindAt 4 = .ok (.invokevirtual 169, 3) := dk_182 0 169 (dk_at dksX8_kindAt_0 4 rfl rfl)
theorem dX8_kindAt_7 : decode cX8_kindAt 7 = .ok (.ifCond .eq 7, 3) := dk_153 0 7 (dk_at dksX8_kindAt_0 7 rfl rfl)
theorem dX8_kindAt_10 : decode cX8_kindAt 10 = .ok (.iconst 0, 1) := dk_3 (dk_at dksX8_kindAt_0 10 rfl rfl)
theorem dX8_kindAt_11 : decode cX8_kindAt 11 = .ok (.goto 74, 3) := dk_167 0 74 (dk_at dksX8_kindAt_0 11 rfl rfl)
theorem dX8_kindAt_14 : decode cX8_kindAt 14 = .ok (.aload_n 0, 1) := dk_42 (dk_at dksX8_kindAt_0 14 rfl rfl)
theorem dX8_kindAt_15 : decode cX8_kindAt 15 = .ok (.ldc2_w 225, 3) := dk_20 0 225 (dk_at dksX8_kindAt_0 15 rfl rfl)
theorem dX8_kindAt_18 : decode cX8_kindAt 18 = .ok (.invokevirtual 169, 3) := dk_182 0 169 (dk_at dksX8_kindAt_0 18 rfl rfl)
theorem dX8_kindAt_21 : decode cX8_kindAt 21 = .ok (.ifCond .eq 7, 3) := dk_153 0 7 (dk_at dksX8_kindAt_0 21 rfl rfl)
theorem dX8_kindAt_24 : decode cX8_kindAt 24 = .ok (.iconst 1, 1) := dk_4 (dk_at dksX8_kindAt_1 0 rfl rfl)
theorem dX8_kindAt_25 : decode cX8_kindAt 25 = .ok (.goto 60, 3) := dk_167 0 60 (dk_at dksX8_kindAt_1 1 rfl rfl)
theorem dX8_kindAt_28 : decode cX8_kindAt 28 = .ok (.aload_n 0, 1) := dk_42 (dk_at dksX8_kindAt_1 4 rfl rfl)
theorem dX8_kindAt_29 : decode cX8_kindAt 29 = .ok (.ldc2_w 227, 3) := dk_20 0 227 (dk_at dksX8_kindAt_1 5 rfl rfl)
theorem dX8_kindAt_32 : decode cX8_kindAt 32 = .ok (.invokevirtual 169, 3) := dk_182 0 169 (dk_at dksX8_kindAt_1 8 rfl rfl)
theorem dX8_kindAt_35 : decode cX8_kindAt 35 = .ok (.ifCond .eq 7, 3) := dk_153 0 7 (dk_at dksX8_kindAt_1 11 rfl rfl)
theorem dX8_kindAt_38 : decode cX8_kindAt 38 = .ok (.iconst 2, 1) := dk_5 (dk_at dksX8_kindAt_1 14 rfl rfl)
theorem dX8_kindAt_39 : decode cX8_kindAt 39 = .ok (.goto 46, 3) := dk_167 0 46 (dk_at dksX8_kindAt_1 15 rfl rfl)
theorem dX8_kindAt_42 : decode cX8_kindAt 42 = .ok (.aload_n 0, 1) := dk_42 (dk_at dksX8_kindAt_1 18 rfl rfl)
theorem dX8_kindAt_43 : decode cX8_kindAt 43 = .ok (.ldc2_w 229, 3) := dk_20 0 229 (dk_at dksX8_kindAt_1 19 rfl rfl)
theorem dX8_kindAt_46 : decode cX8_kindAt 46 = .ok (.invokevirtual 169, 3) := dk_182 0 169 (dk_at dksX8_kindAt_2 0 rfl rfl)
theorem dX8_kindAt_49 : decode cX8_kindAt 49 = .ok (.ifCond .eq 7, 3) := dk_153 0 7 (dk_at dksX8_kindAt_2 3 rfl rfl)
theorem dX8_kindAt_52 : decode cX8_kindAt 52 = .ok (.iconst 3, 1) := dk_6 (dk_at dksX8_kindAt_2 6 rfl rfl)
theorem dX8_kindAt_53 : decode cX8_kindAt 53 = .ok (.goto 32, 3) := dk_167 0 32 (dk_at dksX8_kindAt_2 7 rfl rfl)
theorem dX8_kindAt_56 : decode cX8_kindAt 56 = .ok (.aload_n 0, 1) := dk_42 (dk_at dksX8_kindAt_2 10 rfl rfl)
theorem dX8_kindAt_57 : decode cX8_kindAt 57 = .ok (.ldc2_w 231, 3) := dk_20 0 231 (dk_at dksX8_kindAt_2 11 rfl rfl)
theorem dX8_kindAt_60 : decode cX8_kindAt 60 = .ok (.invokevirtual 169, 3) := dk_182 0 169 (dk_at dksX8_kindAt_2 14 rfl rfl)
theorem dX8_kindAt_63 : decode cX8_kindAt 63 = .ok (.ifCond .eq 7, 3) := dk_153 0 7 (dk_at dksX8_kindAt_2 17 rfl rfl)
theorem dX8_kindAt_66 : decode cX8_kindAt 66 = .ok (.iconst 4, 1) := dk_7 (dk_at dksX8_kindAt_2 20 rfl rfl)
theorem dX8_kindAt_67 : decode cX8_kindAt 67 = .ok (.goto 18, 3) := dk_167 0 18 (dk_at dksX8_kindAt_2 21 rfl rfl)
theorem dX8_kindAt_70 : decode cX8_kindAt 70 = .ok (.aload_n 0, 1) := dk_42 (dk_at dksX8_kindAt_3 0 rfl rfl)
theorem dX8_kindAt_71 : decode cX8_kindAt 71 = .ok (.ldc2_w 233, 3) := dk_20 0 233 (dk_at dksX8_kindAt_3 1 rfl rfl)
theorem dX8_kindAt_74 : decode cX8_kindAt 74 = .ok (.invokevirtual 169, 3) := dk_182 0 169 (dk_at dksX8_kindAt_3 4 rfl rfl)
theorem dX8_kindAt_77 : decode cX8_kindAt 77 = .ok (.ifCond .eq 7, 3) := dk_153 0 7 (dk_at dksX8_kindAt_3 7 rfl rfl)
theorem dX8_kindAt_80 : decode cX8_kindAt 80 = .ok (.iconst 5, 1) := dk_8 (dk_at dksX8_kindAt_3 10 rfl rfl)
theorem dX8_kindAt_81 : decode cX8_kindAt 81 = .ok (.goto 4, 3) := dk_167 0 4 (dk_at dksX8_kindAt_3 11 rfl rfl)
theorem dX8_kindAt_84 : decode cX8_kindAt 84 = .ok (.iconst (-1), 1) := dk_2 (dk_at dksX8_kindAt_3 14 rfl rfl)
theorem dX8_kindAt_85 : decode cX8_kindAt 85 = .ok (.ireturn, 1) := dk_172 (dk_at dksX8_kindAt_3 15 rfl rfl)
abbrev cX8_lays : ByteArray := prog_30_method_33_code
def yX8_lays : MethodName := ⟨RX8, "lays", "(II)V"⟩
def dkwX8_lays_6 : List UInt8 := [104, 29, 96, 46, 17, 3, 232, 28, 27, 100, 104, 96, 79, 132, 3, 1, 167, 255, 192, 177]
abbrev dktX8_lays_6 : List UInt8 := dkwX8_lays_6 ++ []
def dkwX8_lays_5 : List UInt8 := [17, 3, 232, 28, 27, 100, 104, 96, 79, 42, 180, 0, 41, 5, 28, 104, 29, 96, 42, 180, 0, 41, 5, 27]
abbrev dktX8_lays_5 : List UInt8 := dkwX8_lays_5 ++ dktX8_lays_6
def dkwX8_lays_4 : List UInt8 := [29, 5, 162, 0, 65, 42, 180, 0, 38, 5, 28, 104, 29, 96, 42, 180, 0, 38, 5, 27, 104, 29, 96, 46]
abbrev dktX8_lays_4 : List UInt8 := dkwX8_lays_4 ++ dktX8_lays_5
def dkwX8_lays_3 : List UInt8 := [180, 0, 35, 16, 13, 27, 28, 184, 1, 30, 42, 180, 0, 44, 17, 3, 232, 27, 28, 184, 1, 30, 3, 62]
abbrev dktX8_lays_3 : List UInt8 := dkwX8_lays_3 ++ dktX8_lays_4
def dkwX8_lays_2 : List UInt8 := [180, 0, 29, 16, 13, 27, 28, 184, 1, 30, 42, 180, 0, 32, 16, 13, 27, 28, 184, 1, 30, 42]
abbrev dktX8_lays_2 : List UInt8 := dkwX8_lays_2 ++ dktX8_lays_3
def dkwX8_lays_1 : List UInt8 := [180, 0, 19, 16, 6, 27, 28, 184, 1, 30, 42, 180, 0, 26, 16, 13, 27, 28, 184, 1, 30, 42]
abbrev dktX8_lays_1 : List UInt8 := dkwX8_lays_1 ++ dktX8_lays_2
def dkwX8_lays_0 : List UInt8 := [42, 180, 0, 13, 16, 7, 27, 28, 184, 1, 30, 42, 180, 0, 16, 16, 6, 27, 28, 184, 1, 30, 42]
abbrev dktX8_lays_0 : List UInt8 := dkwX8_lays_0 ++ dktX8_lays_1
theorem dksX8_lays_0 : cX8_lays.data.toList.drop 0 = dktX8_lays_0 := by decide +kernel
theorem dksX8_lays_1 : cX8_lays.data.toList.drop 23 = dktX8_lays_1 := dk_seg dksX8_lays_0 23 rfl rfl
theorem dksX8_lays_2 : cX8_lays.data.toList.drop 45 = dktX8_lays_2 := dk_seg dksX8_lays_1 22 rfl rfl
theorem dksX8_lays_3 : cX8_lays.data.toList.drop 67 = dktX8_lays_3 := dk_seg dksX8_lays_2 22 rfl rfl
theorem dksX8_lays_4 : cX8_lays.data.toList.drop 91 = dktX8_lays_4 := dk_seg dksX8_lays_3 24 rfl rfl
theorem dksX8_lays_5 : cX8_lays.data.toList.drop 115 = dktX8_lays_5 := dk_seg dksX8_lays_4 24 rfl rfl
theorem dksX8_lays_6 : cX8_lays.data.toList.drop 139 = dktX8_lays_6 := dk_seg dksX8_lays_5 24 rfl rfl
theorem dX8_lays_0 : decode cX8_lays 0 = .ok (.aload_n 0, 1) := dk_42 (dk_at dksX8_lays_0 0 rfl rfl)
theorem dX8_lays_1 : decode cX8_lays 1 = .ok (.getfield 13, 3) := dk_180 0 13 (dk_at dksX8_lays_0 1 rfl rfl)
theorem dX8_lays_4 : decode cX8_lays 4 = .ok (.bipush 7, 2) := dk_16 7 (dk_at dksX8_lays_0 4 rfl rfl)
theorem dX8_lays_6 : decode cX8_lays 6 = .ok (.iload_n 1, 1) := dk_27 (dk_at dksX8_lays_0 6 rfl rfl)
theorem dX8_lays_7 : decode cX8_lays 7 = .ok (.iload_n 2, 1) := dk_28 (dk_at dksX8_lays_0 7 rfl rfl)
theorem dX8_lays_8 : decode cX8_lays 8 = .ok (.invokestatic 286, 3) := dk_184 1 30 (dk_at dksX8_lays_0 8 rfl rfl)
theorem dX8_lays_11 : decode cX8_lays 11 = .ok (.aload_n 0, 1) := dk_42 (dk_at dksX8_lays_0 11 rfl rfl)
theorem dX8_lays_12 : decode cX8_lays 12 = .ok (.getfield 16, 3) := dk_180 0 16 (dk_at dksX8_lays_0 12 rfl rfl)
theorem dX8_lays_15 : decode cX8_lays 15 = .ok (.bipush 6, 2) := dk_16 6 (dk_at dksX8_lays_0 15 rfl rfl)
theorem dX8_lays_17 : decode cX8_lays 17 = .ok (.iload_n 1, 1) := dk_27 (dk_at dksX8_lays_0 17 rfl rfl)
theorem dX8_lays_18 : decode cX8_lays 18 = .ok (.iload_n 2, 1) := dk_28 (dk_at dksX8_lays_0 18 rfl rfl)
theorem dX8_lays_19 : decode cX8_lays 19 = .ok (.invokestatic 286, 3) := dk_184 1 30 (dk_at dksX8_lays_0 19 rfl rfl)
theorem dX8_lays_22 : decode cX8_lays 22 = .ok (.aload_n 0, 1) := dk_42 (dk_at dksX8_lays_0 22 rfl rfl)
theorem dX8_lays_23 : decode cX8_lays 23 = .ok (.getfield 19, 3) := dk_180 0 19 (dk_at dksX8_lays_1 0 rfl rfl)
theorem dX8_lays_26 : decode cX8_lays 26 = .ok (.bipush 6, 2) := dk_16 6 (dk_at dksX8_lays_1 3 rfl rfl)
theorem dX8_lays_28 : decode cX8_lays 28 = .ok (.iload_n 1, 1) := dk_27 (dk_at dksX8_lays_1 5 rfl rfl)
theorem dX8_lays_29 : decode cX8_lays 29 = .ok (.iload_n 2, 1) := dk_28 (dk_at dksX8_lays_1 6 rfl rfl)
theorem dX8_lays_30 : decode cX8_lays 30 = .ok (.invokestatic 286, 3) := dk_184 1 30 (dk_at dksX8_lays_1 7 rfl rfl)
theorem dX8_lays_33 : decode cX8_lays 33 = .ok (.aload_n 0, 1) := dk_42 (dk_at dksX8_lays_1 10 rfl rfl)
theorem dX8_lays_34 : decode cX8_lays 34 = .ok (.getfield 26, 3) := dk_180 0 26 (dk_at dksX8_lays_1 11 rfl rfl)
theorem dX8_lays_37 : decode cX8_lays 37 = .ok (.bipush 13, 2) := dk_16 13 (dk_at dksX8_lays_1 14 rfl rfl)
theorem dX8_lays_39 : decode cX8_lays 39 = .ok (.iload_n 1, 1) := dk_27 (dk_at dksX8_lays_1 16 rfl rfl)
theorem dX8_lays_40 : decode cX8_lays 40 = .ok (.iload_n 2, 1) := dk_28 (dk_at dksX8_lays_1 17 rfl rfl)
theorem dX8_lays_41 : decode cX8_lays 41 = .ok (.invokestatic 286, 3) := dk_184 1 30 (dk_at dksX8_lays_1 18 rfl rfl)
theorem dX8_lays_44 : decode cX8_lays 44 = .ok (.aload_n 0, 1) := dk_42 (dk_at dksX8_lays_1 21 rfl rfl)
theorem dX8_lays_45 : decode cX8_lays 45 = .ok (.getfield 29, 3) := dk_180 0 29 (dk_at dksX8_lays_2 0 rfl rfl)
theorem dX8_lays_48 : decode cX8_lays 48 = .ok (.bipush 13, 2) := dk_16 13 (dk_at dksX8_lays_2 3 rfl rfl)
theorem dX8_lays_50 : decode cX8_lays 50 = .ok (.iload_n 1, 1) := dk_27 (dk_at dksX8_lays_2 5 rfl rfl)
theorem dX8_lays_51 : decode cX8_lays 51 = .ok (.iload_n 2, 1) := dk_28 (dk_at dksX8_lays_2 6 rfl rfl)
theorem dX8_lays_52 : decode cX8_lays 52 = .ok (.invokestatic 286, 3) := dk_184 1 30 (dk_at dksX8_lays_2 7 rfl rfl)
theorem dX8_lays_55 : decode cX8_lays 55 = .ok (.aload_n 0, 1) := dk_42 (dk_at dksX8_lays_2 10 rfl rfl)
theorem dX8_lays_56 : decode cX8_lays 56 = .ok (.getfield 32, 3) := dk_180 0 32 (dk_at dksX8_lays_2 11 rfl rfl)
theorem dX8_lays_59 : decode cX8_lays 59 = .ok (.bipush 13, 2) := dk_16 13 (dk_at dksX8_lays_2 14 rfl rfl)
theorem dX8_lays_61 : decode cX8_lays 61 = .ok (.iload_n 1, 1) := dk_27 (dk_at dksX8_lays_2 16 rfl rfl)
theorem dX8_lays_62 : decode cX8_lays 62 = .ok (.iload_n 2, 1) := dk_28 (dk_at dksX8_lays_2 17 rfl rfl)
theorem dX8_lays_63 : decode cX8_lays 63 = .ok (.invokestatic 286, 3) := dk_184 1 30 (dk_at dksX8_lays_2 18 rfl rfl)
theorem dX8_lays_66 : decode cX8_lays 66 = .ok (.aload_n 0, 1) := dk_42 (dk_at dksX8_lays_2 21 rfl rfl)
theorem dX8_lays_67 : decode cX8_lays 67 = .ok (.getfield 35, 3) := dk_180 0 35 (dk_at dksX8_lays_3 0 rfl rfl)
theorem dX8_lays_70 : decode cX8_lays 70 = .ok (.bipush 13, 2) := dk_16 13 (dk_at dksX8_lays_3 3 rfl rfl)
theorem dX8_lays_72 : decode cX8_lays 72 = .ok (.iload_n 1, 1) := dk_27 (dk_at dksX8_lays_3 5 rfl rfl)
theorem dX8_lays_73 : decode cX8_lays 73 = .ok (.iload_n 2, 1) := dk_28 (dk_at dksX8_lays_3 6 rfl rfl)
theorem dX8_lays_74 : decode cX8_lays 74 = .ok (.invokestatic 286, 3) := dk_184 1 30 (dk_at dksX8_lays_3 7 rfl rfl)
theorem dX8_lays_77 : decode cX8_lays 77 = .ok (.aload_n 0, 1) := dk_42 (dk_at dksX8_lays_3 10 rfl rfl)
theorem dX8_lays_78 : decode cX8_lays 78 = .ok (.getfield 44, 3) := dk_180 0 44 (dk_at dksX8_lays_3 11 rfl rfl)
theorem dX8_lays_81 : decode cX8_lays 81 = .ok (.sipush 1000, 3) := dk_17 3 232 (dk_at dksX8_lays_3 14 rfl rfl)
theorem dX8_lays_84 : decode cX8_lays 84 = .ok (.iload_n 1, 1) := dk_27 (dk_at dksX8_lays_3 17 rfl rfl)
theorem dX8_lays_85 : decode cX8_lays 85 = .ok (.iload_n 2, 1) := dk_28 (dk_at dksX8_lays_3 18 rfl rfl)
theorem dX8_lays_86 : decode cX8_lays 86 = .ok (.invokestatic 286, 3) := dk_184 1 30 (dk_at dksX8_lays_3 19 rfl rfl)
theorem dX8_lays_89 : decode cX8_lays 89 = .ok (.iconst 0, 1) := dk_3 (dk_at dksX8_lays_3 22 rfl rfl)
theorem dX8_lays_90 : decode cX8_lays 90 = .ok (.istore_n 3, 1) := dk_62 (dk_at dksX8_lays_3 23 rfl rfl)
theorem dX8_lays_91 : decode cX8_lays 91 = .ok (.iload_n 3, 1) := dk_29 (dk_at dksX8_lays_4 0 rfl rfl)
theorem dX8_lays_92 : decode cX8_lays 92 = .ok (.iconst 2, 1) := dk_5 (dk_at dksX8_lays_4 1 rfl rfl)
theorem dX8_lays_93 : decode cX8_lays 93 = .ok (.if_icmp .ge 65, 3) := dk_162 0 65 (dk_at dksX8_lays_4 2 rfl rfl)
theorem dX8_lays_96 : decode cX8_lays 96 = .ok (.aload_n 0, 1) := dk_42 (dk_at dksX8_lays_4 5 rfl rfl)
theorem dX8_lays_97 : decode cX8_lays 97 = .ok (.getfield 38, 3) := dk_180 0 38 (dk_at dksX8_lays_4 6 rfl rfl)
theorem dX8_lays_100 : decode cX8_lays 100 = .ok (.iconst 2, 1) := dk_5 (dk_at dksX8_lays_4 9 rfl rfl)
theorem dX8_lays_101 : decode cX8_lays 101 = .ok (.iload_n 2, 1) := dk_28 (dk_at dksX8_lays_4 10 rfl rfl)
theorem dX8_lays_102 : decode cX8_lays 102 = .ok (.imul, 1) := dk_104 (dk_at dksX8_lays_4 11 rfl rfl)
theorem dX8_lays_103 : decode cX8_lays 103 = .ok (.iload_n 3, 1) := dk_29 (dk_at dksX8_lays_4 12 rfl rfl)
theorem dX8_lays_104 : decode cX8_lays 104 = .ok (.iadd, 1) := dk_96 (dk_at dksX8_lays_4 13 rfl rfl)
theorem dX8_lays_105 : decode cX8_lays 105 = .ok (.aload_n 0, 1) := dk_42 (dk_at dksX8_lays_4 14 rfl rfl)
theorem dX8_lays_106 : decode cX8_lays 106 = .ok (.getfield 38, 3) := dk_180 0 38 (dk_at dksX8_lays_4 15 rfl rfl)
theorem dX8_lays_109 : decode cX8_lays 109 = .ok (.iconst 2, 1) := dk_5 (dk_at dksX8_lays_4 18 rfl rfl)
theorem dX8_lays_110 : decode cX8_lays 110 = .ok (.iload_n 1, 1) := dk_27 (dk_at dksX8_lays_4 19 rfl rfl)
theorem dX8_lays_111 : decode cX8_lays 111 = .ok (.imul, 1) := dk_104 (dk_at dksX8_lays_4 20 rfl rfl)
theorem dX8_lays_112 : decode cX8_lays 112 = .ok (.iload_n 3, 1) := dk_29 (dk_at dksX8_lays_4 21 rfl rfl)
theorem dX8_lays_113 : decode cX8_lays 113 = .ok (.iadd, 1) := dk_96 (dk_at dksX8_lays_4 22 rfl rfl)
theorem dX8_lays_114 : decode cX8_lays 114 = .ok (.iaload, 1) := dk_46 (dk_at dksX8_lays_4 23 rfl rfl)
theorem dX8_lays_115 : decode cX8_lays 115 = .ok (.sipush 1000, 3) := dk_17 3 232 (dk_at dksX8_lays_5 0 rfl rfl)
theorem dX8_lays_118 : decode cX8_lays 118 = .ok (.iload_n 2, 1) := dk_28 (dk_at dksX8_lays_5 3 rfl rfl)
theorem dX8_lays_119 : decode cX8_lays 119 = .ok (.iload_n 1, 1) := dk_27 (dk_at dksX8_lays_5 4 rfl rfl)
theorem dX8_lays_120 : decode cX8_lays 120 = .ok (.isub, 1) := dk_100 (dk_at dksX8_lays_5 5 rfl rfl)
theorem dX8_lays_121 : decode cX8_lays 121 = .ok (.imul, 1) := dk_104 (dk_at dksX8_lays_5 6 rfl rfl)
theorem dX8_lays_122 : decode cX8_lays 122 = .ok (.iadd, 1) := dk_96 (dk_at dksX8_lays_5 7 rfl rfl)
theorem dX8_lays_123 : decode cX8_lays 123 = .ok (.iastore, 1) := dk_79 (dk_at dksX8_lays_5 8 rfl rfl)
theorem dX8_lays_124 : decode cX8_lays 124 = .ok (.aload_n 0, 1) := dk_42 (dk_at dksX8_lays_5 9 rfl rfl)
theorem dX8_lays_125 : decode cX8_lays 125 = .ok (.getfield 41, 3) := dk_180 0 41 (dk_at dksX8_lays_5 10 rfl rfl)
theorem dX8_lays_128 : decode cX8_lays 128 = .ok (.iconst 2, 1) := dk_5 (dk_at dksX8_lays_5 13 rfl rfl)
theorem dX8_lays_129 : decode cX8_lays 129 = .ok (.iload_n 2, 1) := dk_28 (dk_at dksX8_lays_5 14 rfl rfl)
theorem dX8_lays_130 : decode cX8_lays 130 = .ok (.imul, 1) := dk_104 (dk_at dksX8_lays_5 15 rfl rfl)
theorem dX8_lays_131 : decode cX8_lays 131 = .ok (.iload_n 3, 1) := dk_29 (dk_at dksX8_lays_5 16 rfl rfl)
theorem dX8_lays_132 : decode cX8_lays 132 = .ok (.iadd, 1) := dk_96 (dk_at dksX8_lays_5 17 rfl rfl)
theorem dX8_lays_133 : decode cX8_lays 133 = .ok (.aload_n 0, 1) := dk_42 (dk_at dksX8_lays_5 18 rfl rfl)
theorem dX8_lays_134 : decode cX8_lays 134 = .ok (.getfield 41, 3) := dk_180 0 41 (dk_at dksX8_lays_5 19 rfl rfl)
theorem dX8_lays_137 : decode cX8_lays 137 = .ok (.iconst 2, 1) := dk_5 (dk_at dksX8_lays_5 22 rfl rfl)
theorem dX8_lays_138 : decode cX8_lays 138 = .ok (.iload_n 1, 1) := dk_27 (dk_at dksX8_lays_5 23 rfl rfl)
theorem dX8_lays_139 : decode cX8_lays 139 = .ok (.imul, 1) := dk_104 (dk_at dksX8_lays_6 0 rfl rfl)
theorem dX8_lays_140 : decode cX8_lays 140 = .ok (.iload_n 3, 1) := dk_29 (dk_at dksX8_lays_6 1 rfl rfl)
theorem dX8_lays_141 : decode cX8_lays 141 = .ok (.iadd, 1) := dk_96 (dk_at dksX8_lays_6 2 rfl rfl)
theorem dX8_lays_142 : decode cX8_lays 142 = .ok (.iaload, 1) := dk_46 (dk_at dksX8_lays_6 3 rfl rfl)
theorem dX8_lays_143 : decode cX8_lays 143 = .ok (.sipush 1000, 3) := dk_17 3 232 (dk_at dksX8_lays_6 4 rfl rfl)
theorem dX8_lays_146 : decode cX8_lays 146 = .ok (.iload_n 2, 1) := dk_28 (dk_at dksX8_lays_6 7 rfl rfl)
theorem dX8_lays_147 : decode cX8_lays 147 = .ok (.iload_n 1, 1) := dk_27 (dk_at dksX8_lays_6 8 rfl rfl)
theorem dX8_lays_148 : decode cX8_lays 148 = .ok (.isub, 1) := dk_100 (dk_at dksX8_lays_6 9 rfl rfl)
theorem dX8_lays_149 : decode cX8_lays 149 = .ok (.imul, 1) := dk_104 (dk_at dksX8_lays_6 10 rfl rfl)
theorem dX8_lays_150 : decode cX8_lays 150 = .ok (.iadd, 1) := dk_96 (dk_at dksX8_lays_6 11 rfl rfl)
theorem dX8_lays_151 : decode cX8_lays 151 = .ok (.iastore, 1) := dk_79 (dk_at dksX8_lays_6 12 rfl rfl)
theorem dX8_lays_152 : decode cX8_lays 152 = .ok (.iinc 3 1, 3) := dk_132 3 1 (dk_at dksX8_lays_6 13 rfl rfl)
theorem dX8_lays_155 : decode cX8_lays 155 = .ok (.goto (-64), 3) := dk_167 255 192 (dk_at dksX8_lays_6 16 rfl rfl)
theorem dX8_lays_158 : decode cX8_lays 158 = .ok (.return_, 1) := dk_177 (dk_at dksX8_lays_6 19 rfl rfl)
abbrev cX8_moves : ByteArray := prog_30_method_32_code
def yX8_moves : MethodName := ⟨RX8, "moves", "([IIII)V"⟩
def dkwX8_moves_1 : List UInt8 := [79, 132, 4, 1, 167, 255, 231, 177]
abbrev dktX8_moves_1 : List UInt8 := dkwX8_moves_1 ++ []
def dkwX8_moves_0 : List UInt8 := [3, 54, 4, 21, 4, 27, 162, 0, 25, 42, 27, 29, 104, 21, 4, 96, 42, 27, 28, 104, 21, 4, 96, 46]
abbrev dktX8_moves_0 : List UInt8 := dkwX8_moves_0 ++ dktX8_moves_1
theorem dksX8_moves_0 : cX8_moves.data.toList.drop 0 = dktX8_moves_0 := by decide +kernel
theorem dksX8_moves_1 : cX8_moves.data.toList.drop 24 = dktX8_moves_1 := dk_seg dksX8_moves_0 24 rfl rfl
theorem dX8_moves_0 : decode cX8_moves 0 = .ok (.iconst 0, 1) := dk_3 (dk_at dksX8_moves_0 0 rfl rfl)
theorem dX8_moves_1 : decode cX8_moves 1 = .ok (.istore 4, 2) := dk_54 4 (dk_at dksX8_moves_0 1 rfl rfl)
theorem dX8_moves_3 : decode cX8_moves 3 = .ok (.iload 4, 2) := dk_21 4 (dk_at dksX8_moves_0 3 rfl rfl)
theorem dX8_moves_5 : decode cX8_moves 5 = .ok (.iload_n 1, 1) := dk_27 (dk_at dksX8_moves_0 5 rfl rfl)
theorem dX8_moves_6 : decode cX8_moves 6 = .ok (.if_icmp .ge 25, 3) := dk_162 0 25 (dk_at dksX8_moves_0 6 rfl rfl)
theorem dX8_moves_9 : decode cX8_moves 9 = .ok (.aload_n 0, 1) := dk_42 (dk_at dksX8_moves_0 9 rfl rfl)
theorem dX8_moves_10 : decode cX8_moves 10 = .ok (.iload_n 1, 1) := dk_27 (dk_at dksX8_moves_0 10 rfl rfl)
theorem dX8_moves_11 : decode cX8_moves 11 = .ok (.iload_n 3, 1) := dk_29 (dk_at dksX8_moves_0 11 rfl rfl)
theorem dX8_moves_12 : decode cX8_moves 12 = .ok (.imul, 1) := dk_104 (dk_at dksX8_moves_0 12 rfl rfl)
theorem dX8_moves_13 : decode cX8_moves 13 = .ok (.iload 4, 2) := dk_21 4 (dk_at dksX8_moves_0 13 rfl rfl)
theorem dX8_moves_15 : decode cX8_moves 15 = .ok (.iadd, 1) := dk_96 (dk_at dksX8_moves_0 15 rfl rfl)
theorem dX8_moves_16 : decode cX8_moves 16 = .ok (.aload_n 0, 1) := dk_42 (dk_at dksX8_moves_0 16 rfl rfl)
theorem dX8_moves_17 : decode cX8_moves 17 = .ok (.iload_n 1, 1) := dk_27 (dk_at dksX8_moves_0 17 rfl rfl)
theorem dX8_moves_18 : decode cX8_moves 18 = .ok (.iload_n 2, 1) := dk_28 (dk_at dksX8_moves_0 18 rfl rfl)
theorem dX8_moves_19 : decode cX8_moves 19 = .ok (.imul, 1) := dk_104 (dk_at dksX8_moves_0 19 rfl rfl)
theorem dX8_moves_20 : decode cX8_moves 20 = .ok (.iload 4, 2) := dk_21 4 (dk_at dksX8_moves_0 20 rfl rfl)
theorem dX8_moves_22 : decode cX8_moves 22 = .ok (.iadd, 1) := dk_96 (dk_at dksX8_moves_0 22 rfl rfl)
theorem dX8_moves_23 : decode cX8_moves 23 = .ok (.iaload, 1) := dk_46 (dk_at dksX8_moves_0 23 rfl rfl)
theorem dX8_moves_24 : decode cX8_moves 24 = .ok (.iastore, 1) := dk_79 (dk_at dksX8_moves_1 0 rfl rfl)
theorem dX8_moves_25 : decode cX8_moves 25 = .ok (.iinc 4 1, 3) := dk_132 4 1 (dk_at dksX8_moves_1 1 rfl rfl)
theorem dX8_moves_28 : decode cX8_moves 28 = .ok (.goto (-25), 3) := dk_167 255 231 (dk_at dksX8_moves_1 4 rfl rfl)
theorem dX8_moves_31 : decode cX8_moves 31 = .ok (.return_, 1) := dk_177 (dk_at dksX8_moves_1 7 rfl rfl)
abbrev cX8_net : ByteArray := prog_30_method_40_code
def yX8_net : MethodName := ⟨RX8, "net", "(II)I"⟩
def dkwX8_net_4 : List UInt8 := [167, 0, 12, 42, 180, 0, 84, 16, 38, 27, 96, 46, 172]
abbrev dktX8_net_4 : List UInt8 := dkwX8_net_4 ++ []
def dkwX8_net_3 : List UInt8 := [180, 0, 35, 27, 46, 167, 0, 29, 28, 7, 160, 0, 15, 42, 180, 0, 84, 16, 25, 27, 96, 46]
abbrev dktX8_net_3 : List UInt8 := dkwX8_net_3 ++ dktX8_net_4
def dkwX8_net_2 : List UInt8 := [180, 0, 84, 16, 12, 27, 96, 46, 167, 0, 9, 42, 180, 0, 32, 27, 46, 172, 28, 6, 160, 0, 12, 42]
abbrev dktX8_net_2 : List UInt8 := dkwX8_net_2 ++ dktX8_net_3
def dkwX8_net_1 : List UInt8 := [28, 6, 162, 0, 40, 28, 154, 0, 12, 42, 180, 0, 26, 27, 46, 167, 0, 26, 28, 4, 160, 0, 15, 42]
abbrev dktX8_net_1 : List UInt8 := dkwX8_net_1 ++ dktX8_net_2
def dkwX8_net_0 : List UInt8 := [42, 3, 181, 0, 109, 42, 27, 182, 1, 41, 153, 0, 12, 28, 3, 8, 184, 0, 235, 154, 0, 5, 2, 172]
abbrev dktX8_net_0 : List UInt8 := dkwX8_net_0 ++ dktX8_net_1
theorem dksX8_net_0 : cX8_net.data.toList.drop 0 = dktX8_net_0 := by decide +kernel
theorem dksX8_net_1 : cX8_net.data.toList.drop 24 = dktX8_net_1 := dk_seg dksX8_net_0 24 rfl rfl
theorem dksX8_net_2 : cX8_net.data.toList.drop 48 = dktX8_net_2 := dk_seg dksX8_net_1 24 rfl rfl
theorem dksX8_net_3 : cX8_net.data.toList.drop 72 = dktX8_net_3 := dk_seg dksX8_net_2 24 rfl rfl
theorem dksX8_net_4 : cX8_net.data.toList.drop 94 = dktX8_net_4 := dk_seg dksX8_net_3 22 rfl rfl
theorem dX8_net_0 : decode cX8_net 0 = .ok (.aload_n 0, 1) := dk_42 (dk_at dksX8_net_0 0 rfl rfl)
theorem dX8_net_1 : decode cX8_net 1 = .ok (.iconst 0, 1) := dk_3 (dk_at dksX8_net_0 1 rfl rfl)
theorem dX8_net_2 : decode cX8_net 2 = .ok (.putfield 109, 3) := dk_181 0 109 (dk_at dksX8_net_0 2 rfl rfl)
theorem dX8_net_5 : decode cX8_net 5 = .ok (.aload_n 0, 1) := dk_42 (dk_at dksX8_net_0 5 rfl rfl)
theorem dX8_net_6 : decode cX8_net 6 = .ok (.iload_n 1, 1) := dk_27 (dk_at dksX8_net_0 6 rfl rfl)
theorem dX8_net_7 : decode cX8_net 7 = .ok (.invokevirtual 297, 3) := dk_182 1 41 (dk_at dksX8_net_0 7 rfl rfl)
theorem dX8_net_10 : decode cX8_net 10 = .ok (.ifCond .eq 12, 3) := dk_153 0 12 (dk_at dksX8_net_0 10 rfl rfl)
theorem dX8_net_13 : decode cX8_net 13 = .ok (.iload_n 2, 1) := dk_28 (dk_at dksX8_net_0 13 rfl rfl)
theorem dX8_net_14 : decode cX8_net 14 = .ok (.iconst 0, 1) := dk_3 (dk_at dksX8_net_0 14 rfl rfl)
theorem dX8_net_15 : decode cX8_net 15 = .ok (.iconst 5, 1) := dk_8 (dk_at dksX8_net_0 15 rfl rfl)
theorem dX8_net_16 : decode cX8_net 16 = .ok (.invokestatic 235, 3) := dk_184 0 235 (dk_at dksX8_net_0 16 rfl rfl)
theorem dX8_net_19 : decode cX8_net 19 = .ok (.ifCond .ne 5, 3) := dk_154 0 5 (dk_at dksX8_net_0 19 rfl rfl)
theorem dX8_net_22 : decode cX8_net 22 = .ok (.iconst (-1), 1) := dk_2 (dk_at dksX8_net_0 22 rfl rfl)
theorem dX8_net_23 : decode cX8_net 23 = .ok (.ireturn, 1) := dk_172 (dk_at dksX8_net_0 23 rfl rfl)
theorem dX8_net_24 : decode cX8_net 24 = .ok (.iload_n 2, 1) := dk_28 (dk_at dksX8_net_1 0 rfl rfl)
theorem dX8_net_25 : decode cX8_net 25 = .ok (.iconst 3, 1) := dk_6 (dk_at dksX8_net_1 1 rfl rfl)
theorem dX8_net_26 : decode cX8_net 26 = .ok (.if_icmp .ge 40, 3) := dk_162 0 40 (dk_at dksX8_net_1 2 rfl rfl)
theorem dX8_net_29 : decode cX8_net 29 = .ok (.iload_n 2, 1) := dk_28 (dk_at dksX8_net_1 5 rfl rfl)
theorem dX8_net_30 : decode cX8_net 30 = .ok (.ifCond .ne 12, 3) := dk_154 0 12 (dk_at dksX8_net_1 6 rfl rfl)
theorem dX8_net_33 : decode cX8_net 33 = .ok (.aload_n 0, 1) := dk_42 (dk_at dksX8_net_1 9 rfl rfl)
theorem dX8_net_34 : decode cX8_net 34 = .ok (.getfield 26, 3) := dk_180 0 26 (dk_at dksX8_net_1 10 rfl rfl)
theorem dX8_net_37 : decode cX8_net 37 = .ok (.iload_n 1, 1) := dk_27 (dk_at dksX8_net_1 13 rfl rfl)
theorem dX8_net_38 : decode cX8_net 38 = .ok (.iaload, 1) := dk_46 (dk_at dksX8_net_1 14 rfl rfl)
theorem dX8_net_39 : decode cX8_net 39 = .ok (.goto 26, 3) := dk_167 0 26 (dk_at dksX8_net_1 15 rfl rfl)
theorem dX8_net_42 : decode cX8_net 42 = .ok (.iload_n 2, 1) := dk_28 (dk_at dksX8_net_1 18 rfl rfl)
theorem dX8_net_43 : decode cX8_net 43 = .ok (.iconst 1, 1) := dk_4 (dk_at dksX8_net_1 19 rfl rfl)
theorem dX8_net_44 : decode cX8_net 44 = .ok (.if_icmp .ne 15, 3) := dk_160 0 15 (dk_at dksX8_net_1 20 rfl rfl)
theorem dX8_net_47 : decode cX8_net 47 = .ok (.aload_n 0, 1) := dk_42 (dk_at dksX8_net_1 23 rfl rfl)
theorem dX8_net_48 : decode cX8_net 48 = .ok (.getfield 84, 3) := dk_180 0 84 (dk_at dksX8_net_2 0 rfl rfl)
theorem dX8_net_51 : decode cX8_net 51 = .ok (.bipush 12, 2) := dk_16 12 (dk_at dksX8_net_2 3 rfl rfl)
theorem dX8_net_53 : decode cX8_net 53 = .ok (.iload_n 1, 1) := dk_27 (dk_at dksX8_net_2 5 rfl rfl)
theorem dX8_net_54 : decode cX8_net 54 = .ok (.iadd, 1) := dk_96 (dk_at dksX8_net_2 6 rfl rfl)
theorem dX8_net_55 : decode cX8_net 55 = .ok (.iaload, 1) := dk_46 (dk_at dksX8_net_2 7 rfl rfl)
theorem dX8_net_56 : decode cX8_net 56 = .ok (.goto 9, 3) := dk_167 0 9 (dk_at dksX8_net_2 8 rfl rfl)
theorem dX8_net_59 : decode cX8_net 59 = .ok (.aload_n 0, 1) := dk_42 (dk_at dksX8_net_2 11 rfl rfl)
theorem dX8_net_60 : decode cX8_net 60 = .ok (.getfield 32, 3) := dk_180 0 32 (dk_at dksX8_net_2 12 rfl rfl)
theorem dX8_net_63 : decode cX8_net 63 = .ok (.iload_n 1, 1) := dk_27 (dk_at dksX8_net_2 15 rfl rfl)
theorem dX8_net_64 : decode cX8_net 64 = .ok (.iaload, 1) := dk_46 (dk_at dksX8_net_2 16 rfl rfl)
theorem dX8_net_65 : decode cX8_net 65 = .ok (.ireturn, 1) := dk_172 (dk_at dksX8_net_2 17 rfl rfl)
theorem dX8_net_66 : decode cX8_net 66 = .ok (.iload_n 2, 1) := dk_28 (dk_at dksX8_net_2 18 rfl rfl)
theorem dX8_net_67 : decode cX8_net 67 = .ok (.iconst 3, 1) := dk_6 (dk_at dksX8_net_2 19 rfl rfl)
theorem dX8_net_68 : decode cX8_net 68 = .ok (.if_icmp .ne 12, 3) := dk_160 0 12 (dk_at dksX8_net_2 20 rfl rfl)
theorem dX8_net_71 : decode cX8_net 71 = .ok (.aload_n 0, 1) := dk_42 (dk_at dksX8_net_2 23 rfl rfl)
theorem dX8_net_72 : decode cX8_net 72 = .ok (.getfield 35, 3) := dk_180 0 35 (dk_at dksX8_net_3 0 rfl rfl)
theorem dX8_net_75 : decode cX8_net 75 = .ok (.iload_n 1, 1) := dk_27 (dk_at dksX8_net_3 3 rfl rfl)
theorem dX8_net_76 : decode cX8_net 76 = .ok (.iaload, 1) := dk_46 (dk_at dksX8_net_3 4 rfl rfl)
theorem dX8_net_77 : decode cX8_net 77 = .ok (.goto 29, 3) := dk_167 0 29 (dk_at dksX8_net_3 5 rfl rfl)
theorem dX8_net_80 : decode cX8_net 80 = .ok (.iload_n 2, 1) := dk_28 (dk_at dksX8_net_3 8 rfl rfl)
theorem dX8_net_81 : decode cX8_net 81 = .ok (.iconst 4, 1) := dk_7 (dk_at dksX8_net_3 9 rfl rfl)
theorem dX8_net_82 : decode cX8_net 82 = .ok (.if_icmp .ne 15, 3) := dk_160 0 15 (dk_at dksX8_net_3 10 rfl rfl)
theorem dX8_net_85 : decode cX8_net 85 = .ok (.aload_n 0, 1) := dk_42 (dk_at dksX8_net_3 13 rfl rfl)
theorem dX8_net_86 : decode cX8_net 86 = .ok (.getfield 84, 3) := dk_180 0 84 (dk_at dksX8_net_3 14 rfl rfl)
theorem dX8_net_89 : decode cX8_net 89 = .ok (.bipush 25, 2) := dk_16 25 (dk_at dksX8_net_3 17 rfl rfl)
theorem dX8_net_91 : decode cX8_net 91 = .ok (.iload_n 1, 1) := dk_27 (dk_at dksX8_net_3 19 rfl rfl)
theorem dX8_net_92 : decode cX8_net 92 = .ok (.iadd, 1) := dk_96 (dk_at dksX8_net_3 20 rfl rfl)
theorem dX8_net_93 : decode cX8_net 93 = .ok (.iaload, 1) := dk_46 (dk_at dksX8_net_3 21 rfl rfl)
theorem dX8_net_94 : decode cX8_net 94 = .ok (.goto 12, 3) := dk_167 0 12 (dk_at dksX8_net_4 0 rfl rfl)
theorem dX8_net_97 : decode cX8_net 97 = .ok (.aload_n 0, 1) := dk_42 (dk_at dksX8_net_4 3 rfl rfl)
theorem dX8_net_98 : decode cX8_net 98 = .ok (.getfield 84, 3) := dk_180 0 84 (dk_at dksX8_net_4 4 rfl rfl)
theorem dX8_net_101 : decode cX8_net 101 = .ok (.bipush 38, 2) := dk_16 38 (dk_at dksX8_net_4 7 rfl rfl)
theorem dX8_net_103 : decode cX8_net 103 = .ok (.iload_n 1, 1) := dk_27 (dk_at dksX8_net_4 9 rfl rfl)
theorem dX8_net_104 : decode cX8_net 104 = .ok (.iadd, 1) := dk_96 (dk_at dksX8_net_4 10 rfl rfl)
theorem dX8_net_105 : decode cX8_net 105 = .ok (.iaload, 1) := dk_46 (dk_at dksX8_net_4 11 rfl rfl)
theorem dX8_net_106 : decode cX8_net 106 = .ok (.ireturn, 1) := dk_172 (dk_at dksX8_net_4 12 rfl rfl)
abbrev cX8_isNet : ByteArray := prog_30_method_36_code
def yX8_isNet : MethodName := ⟨RX8, "isNet", "(I)Z"⟩
def dkwX8_isNet_0 : List UInt8 := [27, 155, 0, 18, 27, 42, 180, 0, 13, 16, 6, 46, 162, 0, 7, 4, 167, 0, 4, 3, 172]
abbrev dktX8_isNet_0 : List UInt8 := dkwX8_isNet_0 ++ []
theorem dksX8_isNet_0 : cX8_isNet.data.toList.drop 0 = dktX8_isNet_0 := by decide +kernel
theorem dX8_isNet_0 : decode cX8_isNet 0 = .ok (.iload_n 1, 1) := dk_27 (dk_at dksX8_isNet_0 0 rfl rfl)
theorem dX8_isNet_1 : decode cX8_isNet 1 = .ok (.ifCond .lt 18, 3) := dk_155 0 18 (dk_at dksX8_isNet_0 1 rfl rfl)
theorem dX8_isNet_4 : decode cX8_isNet 4 = .ok (.iload_n 1, 1) := dk_27 (dk_at dksX8_isNet_0 4 rfl rfl)
theorem dX8_isNet_5 : decode cX8_isNet 5 = .ok (.aload_n 0, 1) := dk_42 (dk_at dksX8_isNet_0 5 rfl rfl)
theorem dX8_isNet_6 : decode cX8_isNet 6 = .ok (.getfield 13, 3) := dk_180 0 13 (dk_at dksX8_isNet_0 6 rfl rfl)
theorem dX8_isNet_9 : decode cX8_isNet 9 = .ok (.bipush 6, 2) := dk_16 6 (dk_at dksX8_isNet_0 9 rfl rfl)
theorem dX8_isNet_11 : decode cX8_isNet 11 = .ok (.iaload, 1) := dk_46 (dk_at dksX8_isNet_0 11 rfl rfl)
theorem dX8_isNet_12 : decode cX8_isNet 12 = .ok (.if_icmp .ge 7, 3) := dk_162 0 7 (dk_at dksX8_isNet_0 12 rfl rfl)
theorem dX8_isNet_15 : decode cX8_isNet 15 = .ok (.iconst 1, 1) := dk_4 (dk_at dksX8_isNet_0 15 rfl rfl)
theorem dX8_isNet_16 : decode cX8_isNet 16 = .ok (.goto 4, 3) := dk_167 0 4 (dk_at dksX8_isNet_0 16 rfl rfl)
theorem dX8_isNet_19 : decode cX8_isNet 19 = .ok (.iconst 0, 1) := dk_3 (dk_at dksX8_isNet_0 19 rfl rfl)
theorem dX8_isNet_20 : decode cX8_isNet 20 = .ok (.ireturn, 1) := dk_172 (dk_at dksX8_isNet_0 20 rfl rfl)
abbrev cX8_village : ByteArray := prog_30_method_42_code
def yX8_village : MethodName := ⟨RX8, "village", "(II)I"⟩
def dkwX8_village_3 : List UInt8 := [182, 1, 47, 172]
abbrev dktX8_village_3 : List UInt8 := dkwX8_village_3 ++ []
def dkwX8_village_2 : List UInt8 := [167, 0, 25, 28, 5, 160, 0, 15, 42, 180, 0, 84, 16, 6, 27, 96, 46, 167, 0, 8, 42, 27]
abbrev dktX8_village_2 : List UInt8 := dkwX8_village_2 ++ dktX8_village_3
def dkwX8_village_1 : List UInt8 := [28, 154, 0, 12, 42, 180, 0, 16, 27, 46, 167, 0, 39, 28, 4, 160, 0, 12, 42, 180, 0, 84, 27, 46]
abbrev dktX8_village_1 : List UInt8 := dkwX8_village_1 ++ dktX8_village_2
def dkwX8_village_0 : List UInt8 := [42, 3, 181, 0, 109, 42, 27, 182, 1, 44, 153, 0, 12, 28, 3, 6, 184, 0, 235, 154, 0, 5, 2, 172]
abbrev dktX8_village_0 : List UInt8 := dkwX8_village_0 ++ dktX8_village_1
theorem dksX8_village_0 : cX8_village.data.toList.drop 0 = dktX8_village_0 := by decide +kernel
theorem dksX8_village_1 : cX8_village.data.toList.drop 24 = dktX8_village_1 := dk_seg dksX8_village_0 24 rfl rfl
theorem dksX8_village_2 : cX8_village.data.toList.drop 48 = dktX8_village_2 := dk_seg dksX8_village_1 24 rfl rfl
theorem dksX8_village_3 : cX8_village.data.toList.drop 70 = dktX8_village_3 := dk_seg dksX8_village_2 22 rfl rfl
theorem dX8_village_0 : decode cX8_village 0 = .ok (.aload_n 0, 1) := dk_42 (dk_at dksX8_village_0 0 rfl rfl)
theorem dX8_village_1 : decode cX8_village 1 = .ok (.iconst 0, 1) := dk_3 (dk_at dksX8_village_0 1 rfl rfl)
theorem dX8_village_2 : decode cX8_village 2 = .ok (.putfield 109, 3) := dk_181 0 109 (dk_at dksX8_village_0 2 rfl rfl)
theorem dX8_village_5 : decode cX8_village 5 = .ok (.aload_n 0, 1) := dk_42 (dk_at dksX8_village_0 5 rfl rfl)
theorem dX8_village_6 : decode cX8_village 6 = .ok (.iload_n 1, 1) := dk_27 (dk_at dksX8_village_0 6 rfl rfl)
theorem dX8_village_7 : decode cX8_village 7 = .ok (.invokevirtual 300, 3) := dk_182 1 44 (dk_at dksX8_village_0 7 rfl rfl)
theorem dX8_village_10 : decode cX8_village 10 = .ok (.ifCond .eq 12, 3) := dk_153 0 12 (dk_at dksX8_village_0 10 rfl rfl)
theorem dX8_village_13 : decode cX8_village 13 = .ok (.iload_n 2, 1) := dk_28 (dk_at dksX8_village_0 13 rfl rfl)
theorem dX8_village_14 : decode cX8_village 14 = .ok (.iconst 0, 1) := dk_3 (dk_at dksX8_village_0 14 rfl rfl)
theorem dX8_village_15 : decode cX8_village 15 = .ok (.iconst 3, 1) := dk_6 (dk_at dksX8_village_0 15 rfl rfl)
theorem dX8_village_16 : decode cX8_village 16 = .ok (.invokestatic 235, 3) := dk_184 0 235 (dk_at dksX8_village_0 16 rfl rfl)
theorem dX8_village_19 : decode cX8_village 19 = .ok (.ifCond .ne 5, 3) := dk_154 0 5 (dk_at dksX8_village_0 19 rfl rfl)
theorem dX8_village_22 : decode cX8_village 22 = .ok (.iconst (-1), 1) := dk_2 (dk_at dksX8_village_0 22 rfl rfl)
theorem dX8_village_23 : decode cX8_village 23 = .ok (.ireturn, 1) := dk_172 (dk_at dksX8_village_0 23 rfl rfl)
theorem dX8_village_24 : decode cX8_village 24 = .ok (.iload_n 2, 1) := dk_28 (dk_at dksX8_village_1 0 rfl rfl)
theorem dX8_village_25 : decode cX8_village 25 = .ok (.ifCond .ne 12, 3) := dk_154 0 12 (dk_at dksX8_village_1 1 rfl rfl)
theorem dX8_village_28 : decode cX8_village 28 = .ok (.aload_n 0, 1) := dk_42 (dk_at dksX8_village_1 4 rfl rfl)
theorem dX8_village_29 : decode cX8_village 29 = .ok (.getfield 16, 3) := dk_180 0 16 (dk_at dksX8_village_1 5 rfl rfl)
theorem dX8_village_32 : decode cX8_village 32 = .ok (.iload_n 1, 1) := dk_27 (dk_at dksX8_village_1 8 rfl rfl)
theorem dX8_village_33 : decode cX8_village 33 = .ok (.iaload, 1) := dk_46 (dk_at dksX8_village_1 9 rfl rfl)
theorem dX8_village_34 : decode cX8_village 34 = .ok (.goto 39, 3) := dk_167 0 39 (dk_at dksX8_village_1 10 rfl rfl)
theorem dX8_village_37 : decode cX8_village 37 = .ok (.iload_n 2, 1) := dk_28 (dk_at dksX8_village_1 13 rfl rfl)
theorem dX8_village_38 : decode cX8_village 38 = .ok (.iconst 1, 1) := dk_4 (dk_at dksX8_village_1 14 rfl rfl)
theorem dX8_village_39 : decode cX8_village 39 = .ok (.if_icmp .ne 12, 3) := dk_160 0 12 (dk_at dksX8_village_1 15 rfl rfl)
theorem dX8_village_42 : decode cX8_village 42 = .ok (.aload_n 0, 1) := dk_42 (dk_at dksX8_village_1 18 rfl rfl)
theorem dX8_village_43 : decode cX8_village 43 = .ok (.getfield 84, 3) := dk_180 0 84 (dk_at dksX8_village_1 19 rfl rfl)
theorem dX8_village_46 : decode cX8_village 46 = .ok (.iload_n 1, 1) := dk_27 (dk_at dksX8_village_1 22 rfl rfl)
theorem dX8_village_47 : decode cX8_village 47 = .ok (.iaload, 1) := dk_46 (dk_at dksX8_village_1 23 rfl rfl)
theorem dX8_village_48 : decode cX8_village 48 = .ok (.goto 25, 3) := dk_167 0 25 (dk_at dksX8_village_2 0 rfl rfl)
theorem dX8_village_51 : decode cX8_village 51 = .ok (.iload_n 2, 1) := dk_28 (dk_at dksX8_village_2 3 rfl rfl)
theorem dX8_village_52 : decode cX8_village 52 = .ok (.iconst 2, 1) := dk_5 (dk_at dksX8_village_2 4 rfl rfl)
theorem dX8_village_53 : decode cX8_village 53 = .ok (.if_icmp .ne 15, 3) := dk_160 0 15 (dk_at dksX8_village_2 5 rfl rfl)
theorem dX8_village_56 : decode cX8_village 56 = .ok (.aload_n 0, 1) := dk_42 (dk_at dksX8_village_2 8 rfl rfl)
theorem dX8_village_57 : decode cX8_village 57 = .ok (.getfield 84, 3) := dk_180 0 84 (dk_at dksX8_village_2 9 rfl rfl)
theorem dX8_village_60 : decode cX8_village 60 = .ok (.bipush 6, 2) := dk_16 6 (dk_at dksX8_village_2 12 rfl rfl)
theorem dX8_village_62 : decode cX8_village 62 = .ok (.iload_n 1, 1) := dk_27 (dk_at dksX8_village_2 14 rfl rfl)
theorem dX8_village_63 : decode cX8_village 63 = .ok (.iadd, 1) := dk_96 (dk_at dksX8_village_2 15 rfl rfl)
theorem dX8_village_64 : decode cX8_village 64 = .ok (.iaload, 1) := dk_46 (dk_at dksX8_village_2 16 rfl rfl)
theorem dX8_village_65 : decode cX8_village 65 = .ok (.goto 8, 3) := dk_167 0 8 (dk_at dksX8_village_2 17 rfl rfl)
theorem dX8_village_68 : decode cX8_village 68 = .ok (.aload_n 0, 1) := dk_42 (dk_at dksX8_village_2 20 rfl rfl)
theorem dX8_village_69 : decode cX8_village 69 = .ok (.iload_n 1, 1) := dk_27 (dk_at dksX8_village_2 21 rfl rfl)
theorem dX8_village_70 : decode cX8_village 70 = .ok (.invokevirtual 303, 3) := dk_182 1 47 (dk_at dksX8_village_3 0 rfl rfl)
theorem dX8_village_73 : decode cX8_village 73 = .ok (.ireturn, 1) := dk_172 (dk_at dksX8_village_3 3 rfl rfl)
abbrev cX8_isVillage : ByteArray := prog_30_method_37_code
def yX8_isVillage : MethodName := ⟨RX8, "isVillage", "(I)Z"⟩
def dkwX8_isVillage_0 : List UInt8 := [27, 155, 0, 17, 27, 42, 180, 0, 13, 8, 46, 162, 0, 7, 4, 167, 0, 4, 3, 172]
abbrev dktX8_isVillage_0 : List UInt8 := dkwX8_isVillage_0 ++ []
theorem dksX8_isVillage_0 : cX8_isVillage.data.toList.drop 0 = dktX8_isVillage_0 := by decide +kernel
theorem dX8_isVillage_0 : decode cX8_isVillage 0 = .ok (.iload_n 1, 1) := dk_27 (dk_at dksX8_isVillage_0 0 rfl rfl)
theorem dX8_isVillage_1 : decode cX8_isVillage 1 = .ok (.ifCond .lt 17, 3) := dk_155 0 17 (dk_at dksX8_isVillage_0 1 rfl rfl)
theorem dX8_isVillage_4 : decode cX8_isVillage 4 = .ok (.iload_n 1, 1) := dk_27 (dk_at dksX8_isVillage_0 4 rfl rfl)
theorem dX8_isVillage_5 : decode cX8_isVillage 5 = .ok (.aload_n 0, 1) := dk_42 (dk_at dksX8_isVillage_0 5 rfl rfl)
theorem dX8_isVillage_6 : decode cX8_isVillage 6 = .ok (.getfield 13, 3) := dk_180 0 13 (dk_at dksX8_isVillage_0 6 rfl rfl)
theorem dX8_isVillage_9 : decode cX8_isVillage 9 = .ok (.iconst 5, 1) := dk_8 (dk_at dksX8_isVillage_0 9 rfl rfl)
theorem dX8_isVillage_10 : decode cX8_isVillage 10 = .ok (.iaload, 1) := dk_46 (dk_at dksX8_isVillage_0 10 rfl rfl)
theorem dX8_isVillage_11 : decode cX8_isVillage 11 = .ok (.if_icmp .ge 7, 3) := dk_162 0 7 (dk_at dksX8_isVillage_0 11 rfl rfl)
theorem dX8_isVillage_14 : decode cX8_isVillage 14 = .ok (.iconst 1, 1) := dk_4 (dk_at dksX8_isVillage_0 14 rfl rfl)
theorem dX8_isVillage_15 : decode cX8_isVillage 15 = .ok (.goto 4, 3) := dk_167 0 4 (dk_at dksX8_isVillage_0 15 rfl rfl)
theorem dX8_isVillage_18 : decode cX8_isVillage 18 = .ok (.iconst 0, 1) := dk_3 (dk_at dksX8_isVillage_0 18 rfl rfl)
theorem dX8_isVillage_19 : decode cX8_isVillage 19 = .ok (.ireturn, 1) := dk_172 (dk_at dksX8_isVillage_0 19 rfl rfl)
abbrev cX8_netsOf : ByteArray := prog_30_method_41_code
def yX8_netsOf : MethodName := ⟨RX8, "netsOf", "(I)I"⟩
def dkwX8_netsOf_1 : List UInt8 := [160, 0, 9, 4, 29, 120, 167, 0, 4, 3, 128, 61, 132, 3, 1, 167, 255, 222, 28, 172]
abbrev dktX8_netsOf_1 : List UInt8 := dkwX8_netsOf_1 ++ []
def dkwX8_netsOf_0 : List UInt8 := [3, 61, 3, 62, 29, 42, 180, 0, 13, 16, 6, 46, 162, 0, 29, 28, 42, 180, 0, 26, 29, 46, 27]
abbrev dktX8_netsOf_0 : List UInt8 := dkwX8_netsOf_0 ++ dktX8_netsOf_1
theorem dksX8_netsOf_0 : cX8_netsOf.data.toList.drop 0 = dktX8_netsOf_0 := by decide +kernel
theorem dksX8_netsOf_1 : cX8_netsOf.data.toList.drop 23 = dktX8_netsOf_1 := dk_seg dksX8_netsOf_0 23 rfl rfl
theorem dX8_netsOf_0 : decode cX8_netsOf 0 = .ok (.iconst 0, 1) := dk_3 (dk_at dksX8_netsOf_0 0 rfl rfl)
theorem dX8_netsOf_1 : decode cX8_netsOf 1 = .ok (.istore_n 2, 1) := dk_61 (dk_at dksX8_netsOf_0 1 rfl rfl)
theorem dX8_netsOf_2 : decode cX8_netsOf 2 = .ok (.iconst 0, 1) := dk_3 (dk_at dksX8_netsOf_0 2 rfl rfl)
theorem dX8_netsOf_3 : decode cX8_netsOf 3 = .ok (.istore_n 3, 1) := dk_62 (dk_at dksX8_netsOf_0 3 rfl rfl)
theorem dX8_netsOf_4 : decode cX8_netsOf 4 = .ok (.iload_n 3, 1) := dk_29 (dk_at dksX8_netsOf_0 4 rfl rfl)
theorem dX8_netsOf_5 : decode cX8_netsOf 5 = .ok (.aload_n 0, 1) := dk_42 (dk_at dksX8_netsOf_0 5 rfl rfl)
theorem dX8_netsOf_6 : decode cX8_netsOf 6 = .ok (.getfield 13, 3) := dk_180 0 13 (dk_at dksX8_netsOf_0 6 rfl rfl)
theorem dX8_netsOf_9 : decode cX8_netsOf 9 = .ok (.bipush 6, 2) := dk_16 6 (dk_at dksX8_netsOf_0 9 rfl rfl)
theorem dX8_netsOf_11 : decode cX8_netsOf 11 = .ok (.iaload, 1) := dk_46 (dk_at dksX8_netsOf_0 11 rfl rfl)
theorem dX8_netsOf_12 : decode cX8_netsOf 12 = .ok (.if_icmp .ge 29, 3) := dk_162 0 29 (dk_at dksX8_netsOf_0 12 rfl rfl)
theorem dX8_netsOf_15 : decode cX8_netsOf 15 = .ok (.iload_n 2, 1) := dk_28 (dk_at dksX8_netsOf_0 15 rfl rfl)
theorem dX8_netsOf_16 : decode cX8_netsOf 16 = .ok (.aload_n 0, 1) := dk_42 (dk_at dksX8_netsOf_0 16 rfl rfl)
theorem dX8_netsOf_17 : decode cX8_netsOf 17 = .ok (.getfield 26, 3) := dk_180 0 26 (dk_at dksX8_netsOf_0 17 rfl rfl)
theorem dX8_netsOf_20 : decode cX8_netsOf 20 = .ok (.iload_n 3, 1) := dk_29 (dk_at dksX8_netsOf_0 20 rfl rfl)
theorem dX8_netsOf_21 : decode cX8_netsOf 21 = .ok (.iaload, 1) := dk_46 (dk_at dksX8_netsOf_0 21 rfl rfl)
theorem dX8_netsOf_22 : decode cX8_netsOf 22 = .ok (.iload_n 1, 1) := dk_27 (dk_at dksX8_netsOf_0 22 rfl rfl)
theorem dX8_netsOf_23 : decode cX8_netsOf 23 = .ok (.if_icmp .ne 9, 3) := dk_160 0 9 (dk_at dksX8_netsOf_1 0 rfl rfl)
theorem dX8_netsOf_26 : decode cX8_netsOf 26 = .ok (.iconst 1, 1) := dk_4 (dk_at dksX8_netsOf_1 3 rfl rfl)
theorem dX8_netsOf_27 : decode cX8_netsOf 27 = .ok (.iload_n 3, 1) := dk_29 (dk_at dksX8_netsOf_1 4 rfl rfl)
theorem dX8_netsOf_28 : decode cX8_netsOf 28 = .ok (.ishl, 1) := dk_120 (dk_at dksX8_netsOf_1 5 rfl rfl)
theorem dX8_netsOf_29 : decode cX8_netsOf 29 = .ok (.goto 4, 3) := dk_167 0 4 (dk_at dksX8_netsOf_1 6 rfl rfl)
theorem dX8_netsOf_32 : decode cX8_netsOf 32 = .ok (.iconst 0, 1) := dk_3 (dk_at dksX8_netsOf_1 9 rfl rfl)
theorem dX8_netsOf_33 : decode cX8_netsOf 33 = .ok (.ior, 1) := dk_128 (dk_at dksX8_netsOf_1 10 rfl rfl)
theorem dX8_netsOf_34 : decode cX8_netsOf 34 = .ok (.istore_n 2, 1) := dk_61 (dk_at dksX8_netsOf_1 11 rfl rfl)
theorem dX8_netsOf_35 : decode cX8_netsOf 35 = .ok (.iinc 3 1, 3) := dk_132 3 1 (dk_at dksX8_netsOf_1 12 rfl rfl)
theorem dX8_netsOf_38 : decode cX8_netsOf 38 = .ok (.goto (-34), 3) := dk_167 255 222 (dk_at dksX8_netsOf_1 15 rfl rfl)
theorem dX8_netsOf_41 : decode cX8_netsOf 41 = .ok (.iload_n 2, 1) := dk_28 (dk_at dksX8_netsOf_1 18 rfl rfl)
theorem dX8_netsOf_42 : decode cX8_netsOf 42 = .ok (.ireturn, 1) := dk_172 (dk_at dksX8_netsOf_1 19 rfl rfl)
abbrev cX8_wind : ByteArray := prog_30_method_54_code
def yX8_wind : MethodName := ⟨RX8, "wind", "(I)I"⟩
def dkwX8_wind_1 : List UInt8 := [182, 1, 80, 167, 0, 4, 2, 172]
abbrev dktX8_wind_1 : List UInt8 := dkwX8_wind_1 ++ []
def dkwX8_wind_0 : List UInt8 := [42, 3, 181, 0, 109, 42, 27, 182, 1, 87, 153, 0, 18, 42, 27, 42, 180, 0, 84, 16, 50, 46]
abbrev dktX8_wind_0 : List UInt8 := dkwX8_wind_0 ++ dktX8_wind_1
theorem dksX8_wind_0 : cX8_wind.data.toList.drop 0 = dktX8_wind_0 := by decide +kernel
theorem dksX8_wind_1 : cX8_wind.data.toList.drop 22 = dktX8_wind_1 := dk_seg dksX8_wind_0 22 rfl rfl
theorem dX8_wind_0 : decode cX8_wind 0 = .ok (.aload_n 0, 1) := dk_42 (dk_at dksX8_wind_0 0 rfl rfl)
theorem dX8_wind_1 : decode cX8_wind 1 = .ok (.iconst 0, 1) := dk_3 (dk_at dksX8_wind_0 1 rfl rfl)
theorem dX8_wind_2 : decode cX8_wind 2 = .ok (.putfield 109, 3) := dk_181 0 109 (dk_at dksX8_wind_0 2 rfl rfl)
theorem dX8_wind_5 : decode cX8_wind 5 = .ok (.aload_n 0, 1) := dk_42 (dk_at dksX8_wind_0 5 rfl rfl)
theorem dX8_wind_6 : decode cX8_wind 6 = .ok (.iload_n 1, 1) := dk_27 (dk_at dksX8_wind_0 6 rfl rfl)
theorem dX8_wind_7 : decode cX8_wind 7 = .ok (.invokevirtual 343, 3) := dk_182 1 87 (dk_at dksX8_wind_0 7 rfl rfl)
theorem dX8_wind_10 : decode cX8_wind 10 = .ok (.ifCond .eq 18, 3) := dk_153 0 18 (dk_at dksX8_wind_0 10 rfl rfl)
theorem dX8_wind_13 : decode cX8_wind 13 = .ok (.aload_n 0, 1) := dk_42 (dk_at dksX8_wind_0 13 rfl rfl)
theorem dX8_wind_14 : decode cX8_wind 14 = .ok (.iload_n 1, 1) := dk_27 (dk_at dksX8_wind_0 14 rfl rfl)
theorem dX8_wind_15 : decode cX8_wind 15 = .ok (.aload_n 0, 1) := dk_42 (dk_at dksX8_wind_0 15 rfl rfl)
theorem dX8_wind_16 : decode cX8_wind 16 = .ok (.getfield 84, 3) := dk_180 0 84 (dk_at dksX8_wind_0 16 rfl rfl)
theorem dX8_wind_19 : decode cX8_wind 19 = .ok (.bipush 50, 2) := dk_16 50 (dk_at dksX8_wind_0 19 rfl rfl)
theorem dX8_wind_21 : decode cX8_wind 21 = .ok (.iaload, 1) := dk_46 (dk_at dksX8_wind_0 21 rfl rfl)
theorem dX8_wind_22 : decode cX8_wind 22 = .ok (.invokevirtual 336, 3) := dk_182 1 80 (dk_at dksX8_wind_1 0 rfl rfl)
theorem dX8_wind_25 : decode cX8_wind 25 = .ok (.goto 4, 3) := dk_167 0 4 (dk_at dksX8_wind_1 3 rfl rfl)
theorem dX8_wind_28 : decode cX8_wind 28 = .ok (.iconst (-1), 1) := dk_2 (dk_at dksX8_wind_1 6 rfl rfl)
theorem dX8_wind_29 : decode cX8_wind 29 = .ok (.ireturn, 1) := dk_172 (dk_at dksX8_wind_1 7 rfl rfl)
abbrev cX8_isHour : ByteArray := prog_30_method_38_code
def yX8_isHour : MethodName := ⟨RX8, "isHour", "(I)Z"⟩
def dkwX8_isHour_0 : List UInt8 := [27, 155, 0, 17, 27, 42, 180, 0, 13, 5, 46, 162, 0, 7, 4, 167, 0, 4, 3, 172]
abbrev dktX8_isHour_0 : List UInt8 := dkwX8_isHour_0 ++ []
theorem dksX8_isHour_0 : cX8_isHour.data.toList.drop 0 = dktX8_isHour_0 := by decide +kernel
theorem dX8_isHour_0 : decode cX8_isHour 0 = .ok (.iload_n 1, 1) := dk_27 (dk_at dksX8_isHour_0 0 rfl rfl)
theorem dX8_isHour_1 : decode cX8_isHour 1 = .ok (.ifCond .lt 17, 3) := dk_155 0 17 (dk_at dksX8_isHour_0 1 rfl rfl)
theorem dX8_isHour_4 : decode cX8_isHour 4 = .ok (.iload_n 1, 1) := dk_27 (dk_at dksX8_isHour_0 4 rfl rfl)
theorem dX8_isHour_5 : decode cX8_isHour 5 = .ok (.aload_n 0, 1) := dk_42 (dk_at dksX8_isHour_0 5 rfl rfl)
theorem dX8_isHour_6 : decode cX8_isHour 6 = .ok (.getfield 13, 3) := dk_180 0 13 (dk_at dksX8_isHour_0 6 rfl rfl)
theorem dX8_isHour_9 : decode cX8_isHour 9 = .ok (.iconst 2, 1) := dk_5 (dk_at dksX8_isHour_0 9 rfl rfl)
theorem dX8_isHour_10 : decode cX8_isHour 10 = .ok (.iaload, 1) := dk_46 (dk_at dksX8_isHour_0 10 rfl rfl)
theorem dX8_isHour_11 : decode cX8_isHour 11 = .ok (.if_icmp .ge 7, 3) := dk_162 0 7 (dk_at dksX8_isHour_0 11 rfl rfl)
theorem dX8_isHour_14 : decode cX8_isHour 14 = .ok (.iconst 1, 1) := dk_4 (dk_at dksX8_isHour_0 14 rfl rfl)
theorem dX8_isHour_15 : decode cX8_isHour 15 = .ok (.goto 4, 3) := dk_167 0 4 (dk_at dksX8_isHour_0 15 rfl rfl)
theorem dX8_isHour_18 : decode cX8_isHour 18 = .ok (.iconst 0, 1) := dk_3 (dk_at dksX8_isHour_0 18 rfl rfl)
theorem dX8_isHour_19 : decode cX8_isHour 19 = .ok (.ireturn, 1) := dk_172 (dk_at dksX8_isHour_0 19 rfl rfl)
abbrev cX8_windAt : ByteArray := prog_30_method_43_code
def yX8_windAt : MethodName := ⟨RX8, "windAt", "(II)I"⟩
def dkwX8_windAt_1 : List UInt8 := [42, 180, 0, 81, 5, 28, 79, 42, 3, 182, 1, 50, 6, 126, 172]
abbrev dktX8_windAt_1 : List UInt8 := dkwX8_windAt_1 ++ []
def dkwX8_windAt_0 : List UInt8 := [42, 180, 0, 41, 3, 46, 42, 180, 0, 38, 3, 46, 160, 0, 5, 3, 172, 42, 180, 0, 81, 4, 27, 79]
abbrev dktX8_windAt_0 : List UInt8 := dkwX8_windAt_0 ++ dktX8_windAt_1
theorem dksX8_windAt_0 : cX8_windAt.data.toList.drop 0 = dktX8_windAt_0 := by decide +kernel
theorem dksX8_windAt_1 : cX8_windAt.data.toList.drop 24 = dktX8_windAt_1 := dk_seg dksX8_windAt_0 24 rfl rfl
theorem dX8_windAt_0 : decode cX8_windAt 0 = .ok (.aload_n 0, 1) := dk_42 (dk_at dksX8_windAt_0 0 rfl rfl)
theorem dX8_windAt_1 : decode cX8_windAt 1 = .ok (.getfield 41, 3) := dk_180 0 41 (dk_at dksX8_windAt_0 1 rfl rfl)
theorem dX8_windAt_4 : decode cX8_windAt 4 = .ok (.iconst 0, 1) := dk_3 (dk_at dksX8_windAt_0 4 rfl rfl)
theorem dX8_windAt_5 : decode cX8_windAt 5 = .ok (.iaload, 1) := dk_46 (dk_at dksX8_windAt_0 5 rfl rfl)
theorem dX8_windAt_6 : decode cX8_windAt 6 = .ok (.aload_n 0, 1) := dk_42 (dk_at dksX8_windAt_0 6 rfl rfl)
theorem dX8_windAt_7 : decode cX8_windAt 7 = .ok (.getfield 38, 3) := dk_180 0 38 (dk_at dksX8_windAt_0 7 rfl rfl)
theorem dX8_windAt_10 : decode cX8_windAt 10 = .ok (.iconst 0, 1) := dk_3 (dk_at dksX8_windAt_0 10 rfl rfl)
theorem dX8_windAt_11 : decode cX8_windAt 11 = .ok (.iaload, 1) := dk_46 (dk_at dksX8_windAt_0 11 rfl rfl)
theorem dX8_windAt_12 : decode cX8_windAt 12 = .ok (.if_icmp .ne 5, 3) := dk_160 0 5 (dk_at dksX8_windAt_0 12 rfl rfl)
theorem dX8_windAt_15 : decode cX8_windAt 15 = .ok (.iconst 0, 1) := dk_3 (dk_at dksX8_windAt_0 15 rfl rfl)
theorem dX8_windAt_16 : decode cX8_windAt 16 = .ok (.ireturn, 1) := dk_172 (dk_at dksX8_windAt_0 16 rfl rfl)
theorem dX8_windAt_17 : decode cX8_windAt 17 = .ok (.aload_n 0, 1) := dk_42 (dk_at dksX8_windAt_0 17 rfl rfl)
theorem dX8_windAt_18 : decode cX8_windAt 18 = .ok (.getfield 81, 3) := dk_180 0 81 (dk_at dksX8_windAt_0 18 rfl rfl)
theorem dX8_windAt_21 : decode cX8_windAt 21 = .ok (.iconst 1, 1) := dk_4 (dk_at dksX8_windAt_0 21 rfl rfl)
theorem dX8_windAt_22 : decode cX8_windAt 22 = .ok (.iload_n 1, 1) := dk_27 (dk_at dksX8_windAt_0 22 rfl rfl)
theorem dX8_windAt_23 : decode cX8_windAt 23 = .ok (.iastore, 1) := dk_79 (dk_at dksX8_windAt_0 23 rfl rfl)
theorem dX8_windAt_24 : decode cX8_windAt 24 = .ok (.aload_n 0, 1) := dk_42 (dk_at dksX8_windAt_1 0 rfl rfl)
theorem dX8_windAt_25 : decode cX8_windAt 25 = .ok (.getfield 81, 3) := dk_180 0 81 (dk_at dksX8_windAt_1 1 rfl rfl)
theorem dX8_windAt_28 : decode cX8_windAt 28 = .ok (.iconst 2, 1) := dk_5 (dk_at dksX8_windAt_1 4 rfl rfl)
theorem dX8_windAt_29 : decode cX8_windAt 29 = .ok (.iload_n 2, 1) := dk_28 (dk_at dksX8_windAt_1 5 rfl rfl)
theorem dX8_windAt_30 : decode cX8_windAt 30 = .ok (.iastore, 1) := dk_79 (dk_at dksX8_windAt_1 6 rfl rfl)
theorem dX8_windAt_31 : decode cX8_windAt 31 = .ok (.aload_n 0, 1) := dk_42 (dk_at dksX8_windAt_1 7 rfl rfl)
theorem dX8_windAt_32 : decode cX8_windAt 32 = .ok (.iconst 0, 1) := dk_3 (dk_at dksX8_windAt_1 8 rfl rfl)
theorem dX8_windAt_33 : decode cX8_windAt 33 = .ok (.invokevirtual 306, 3) := dk_182 1 50 (dk_at dksX8_windAt_1 9 rfl rfl)
theorem dX8_windAt_36 : decode cX8_windAt 36 = .ok (.iconst 3, 1) := dk_6 (dk_at dksX8_windAt_1 12 rfl rfl)
theorem dX8_windAt_37 : decode cX8_windAt 37 = .ok (.iand, 1) := dk_126 (dk_at dksX8_windAt_1 13 rfl rfl)
theorem dX8_windAt_38 : decode cX8_windAt 38 = .ok (.ireturn, 1) := dk_172 (dk_at dksX8_windAt_1 14 rfl rfl)
abbrev cX8_worked : ByteArray := prog_30_method_18_code
def yX8_worked : MethodName := ⟨RX8, "worked", "(I)I"⟩
def dkwX8_worked_14 : List UInt8 := [21, 5, 104, 79, 132, 3, 1, 167, 254, 194, 42, 3, 182, 0, 196, 42, 180, 0, 54, 3, 46, 172]
abbrev dktX8_worked_14 : List UInt8 := dkwX8_worked_14 ++ []
def dkwX8_worked_13 : List UInt8 := [180, 0, 72, 28, 42, 180, 0, 75, 28, 46, 154, 0, 8, 21, 5, 167, 0, 12, 42, 180, 0, 72, 28, 46]
abbrev dktX8_worked_13 : List UInt8 := dkwX8_worked_13 ++ dktX8_worked_14
def dkwX8_worked_12 : List UInt8 := [46, 4, 160, 0, 21, 21, 5, 154, 0, 7, 4, 167, 0, 4, 3, 54, 5, 132, 2, 255, 167, 255, 227, 42]
abbrev dktX8_worked_12 : List UInt8 := dkwX8_worked_12 ++ dktX8_worked_13
def dkwX8_worked_11 : List UInt8 := [28, 182, 0, 196, 42, 180, 0, 54, 28, 46, 54, 5, 132, 2, 255, 28, 158, 0, 31, 42, 180, 0, 78, 28]
abbrev dktX8_worked_11 : List UInt8 := dkwX8_worked_11 ++ dktX8_worked_12
def dkwX8_worked_10 : List UInt8 := [162, 0, 13, 42, 180, 0, 81, 21, 4, 46, 167, 0, 4, 3, 54, 5, 21, 4, 16, 29, 160, 0, 19, 42]
abbrev dktX8_worked_10 : List UInt8 := dkwX8_worked_10 ++ dktX8_worked_11
def dkwX8_worked_9 : List UInt8 := [167, 0, 122, 21, 4, 16, 100, 161, 0, 11, 21, 4, 16, 100, 100, 167, 0, 21, 21, 4, 16, 20]
abbrev dktX8_worked_9 : List UInt8 := dkwX8_worked_9 ++ dktX8_worked_10
def dkwX8_worked_8 : List UInt8 := [159, 0, 10, 21, 4, 16, 27, 160, 0, 19, 42, 28, 182, 0, 196, 42, 180, 0, 57, 28, 21, 4, 79]
abbrev dktX8_worked_8 : List UInt8 := dkwX8_worked_8 ++ dktX8_worked_9
def dkwX8_worked_7 : List UInt8 := [79, 42, 180, 0, 66, 28, 3, 79, 42, 180, 0, 69, 28, 16, 20, 79, 167, 0, 152, 21, 4, 16, 26]
abbrev dktX8_worked_7 : List UInt8 := dkwX8_worked_7 ++ dktX8_worked_8
def dkwX8_worked_6 : List UInt8 := [42, 28, 182, 0, 190, 42, 180, 0, 60, 28, 42, 180, 0, 66, 28, 46, 79, 42, 180, 0, 63, 28, 21, 4]
abbrev dktX8_worked_6 : List UInt8 := dkwX8_worked_6 ++ dktX8_worked_7
def dkwX8_worked_5 : List UInt8 := [180, 0, 75, 28, 21, 4, 79, 167, 0, 209, 21, 4, 16, 24, 159, 0, 10, 21, 4, 16, 25, 160, 0, 46]
abbrev dktX8_worked_5 : List UInt8 := dkwX8_worked_5 ++ dktX8_worked_6
def dkwX8_worked_4 : List UInt8 := [182, 0, 190, 42, 180, 0, 69, 28, 21, 4, 79, 167, 0, 227, 21, 4, 16, 22, 160, 0, 14, 42]
abbrev dktX8_worked_4 : List UInt8 := dkwX8_worked_4 ++ dktX8_worked_5
def dkwX8_worked_3 : List UInt8 := [182, 0, 193, 167, 1, 1, 21, 4, 16, 20, 159, 0, 10, 21, 4, 16, 21, 160, 0, 19, 42, 28]
abbrev dktX8_worked_3 : List UInt8 := dkwX8_worked_3 ++ dktX8_worked_4
def dkwX8_worked_2 : List UInt8 := [132, 2, 1, 42, 180, 0, 78, 28, 21, 4, 16, 30, 160, 0, 7, 4, 167, 0, 4, 3, 79, 42, 28]
abbrev dktX8_worked_2 : List UInt8 := dkwX8_worked_2 ++ dktX8_worked_3
def dkwX8_worked_1 : List UInt8 := [42, 180, 0, 44, 29, 46, 54, 4, 21, 4, 16, 28, 159, 0, 10, 21, 4, 16, 30, 160, 0, 32]
abbrev dktX8_worked_1 : List UInt8 := dkwX8_worked_1 ++ dktX8_worked_2
def dkwX8_worked_0 : List UInt8 := [3, 61, 42, 3, 182, 0, 193, 42, 180, 0, 38, 27, 46, 62, 29, 42, 180, 0, 41, 27, 46, 162, 1, 58]
abbrev dktX8_worked_0 : List UInt8 := dkwX8_worked_0 ++ dktX8_worked_1
theorem dksX8_worked_0 : cX8_worked.data.toList.drop 0 = dktX8_worked_0 := by decide +kernel
theorem dksX8_worked_1 : cX8_worked.data.toList.drop 24 = dktX8_worked_1 := dk_seg dksX8_worked_0 24 rfl rfl
theorem dksX8_worked_2 : cX8_worked.data.toList.drop 46 = dktX8_worked_2 := dk_seg dksX8_worked_1 22 rfl rfl
theorem dksX8_worked_3 : cX8_worked.data.toList.drop 69 = dktX8_worked_3 := dk_seg dksX8_worked_2 23 rfl rfl
theorem dksX8_worked_4 : cX8_worked.data.toList.drop 91 = dktX8_worked_4 := dk_seg dksX8_worked_3 22 rfl rfl
theorem dksX8_worked_5 : cX8_worked.data.toList.drop 113 = dktX8_worked_5 := dk_seg dksX8_worked_4 22 rfl rfl
theorem dksX8_worked_6 : cX8_worked.data.toList.drop 137 = dktX8_worked_6 := dk_seg dksX8_worked_5 24 rfl rfl
theorem dksX8_worked_7 : cX8_worked.data.toList.drop 161 = dktX8_worked_7 := dk_seg dksX8_worked_6 24 rfl rfl
theorem dksX8_worked_8 : cX8_worked.data.toList.drop 184 = dktX8_worked_8 := dk_seg dksX8_worked_7 23 rfl rfl
theorem dksX8_worked_9 : cX8_worked.data.toList.drop 207 = dktX8_worked_9 := dk_seg dksX8_worked_8 23 rfl rfl
theorem dksX8_worked_10 : cX8_worked.data.toList.drop 229 = dktX8_worked_10 := dk_seg dksX8_worked_9 22 rfl rfl
theorem dksX8_worked_11 : cX8_worked.data.toList.drop 253 = dktX8_worked_11 := dk_seg dksX8_worked_10 24 rfl rfl
theorem dksX8_worked_12 : cX8_worked.data.toList.drop 277 = dktX8_worked_12 := dk_seg dksX8_worked_11 24 rfl rfl
theorem dksX8_worked_13 : cX8_worked.data.toList.drop 301 = dktX8_worked_13 := dk_seg dksX8_worked_12 24 rfl rfl
theorem dksX8_worked_14 : cX8_worked.data.toList.drop 325 = dktX8_worked_14 := dk_seg dksX8_worked_13 24 rfl rfl
theorem dX8_worked_0 : decode cX8_worked 0 = .ok (.iconst 0, 1) := dk_3 (dk_at dksX8_worked_0 0 rfl rfl)
theorem dX8_worked_1 : decode cX8_worked 1 = .ok (.istore_n 2, 1) := dk_61 (dk_at dksX8_worked_0 1 rfl rfl)
theorem dX8_worked_2 : decode cX8_worked 2 = .ok (.aload_n 0, 1) := dk_42 (dk_at dksX8_worked_0 2 rfl rfl)
theorem dX8_worked_3 : decode cX8_worked 3 = .ok (.iconst 0, 1) := dk_3 (dk_at dksX8_worked_0 3 rfl rfl)
theorem dX8_worked_4 : decode cX8_worked 4 = .ok (.invokevirtual 193, 3) := dk_182 0 193 (dk_at dksX8_worked_0 4 rfl rfl)
theorem dX8_worked_7 : decode cX8_worked 7 = .ok (.aload_n 0, 1) := dk_42 (dk_at dksX8_worked_0 7 rfl rfl)
theorem dX8_worked_8 : decode cX8_worked 8 = .ok (.getfield 38, 3) := dk_180 0 38 (dk_at dksX8_worked_0 8 rfl rfl)
theorem dX8_worked_11 : decode cX8_worked 11 = .ok (.iload_n 1, 1) := dk_27 (dk_at dksX8_worked_0 11 rfl rfl)
theorem dX8_worked_12 : decode cX8_worked 12 = .ok (.iaload, 1) := dk_46 (dk_at dksX8_worked_0 12 rfl rfl)
theorem dX8_worked_13 : decode cX8_worked 13 = .ok (.istore_n 3, 1) := dk_62 (dk_at dksX8_worked_0 13 rfl rfl)
theorem dX8_worked_14 : decode cX8_worked 14 = .ok (.iload_n 3, 1) := dk_29 (dk_at dksX8_worked_0 14 rfl rfl)
theorem dX8_worked_15 : decode cX8_worked 15 = .ok (.aload_n 0, 1) := dk_42 (dk_at dksX8_worked_0 15 rfl rfl)
theorem dX8_worked_16 : decode cX8_worked 16 = .ok (.getfield 41, 3) := dk_180 0 41 (dk_at dksX8_worked_0 16 rfl rfl)
theorem dX8_worked_19 : decode cX8_worked 19 = .ok (.iload_n 1, 1) := dk_27 (dk_at dksX8_worked_0 19 rfl rfl)
theorem dX8_worked_20 : decode cX8_worked 20 = .ok (.iaload, 1) := dk_46 (dk_at dksX8_worked_0 20 rfl rfl)
theorem dX8_worked_21 : decode cX8_worked 21 = .ok (.if_icmp .ge 314, 3) := dk_162 1 58 (dk_at dksX8_worked_0 21 rfl rfl)
theorem dX8_worked_24 : decode cX8_worked 24 = .ok (.aload_n 0, 1) := dk_42 (dk_at dksX8_worked_1 0 rfl rfl)
theorem dX8_worked_25 : decode cX8_worked 25 = .ok (.getfield 44, 3) := dk_180 0 44 (dk_at dksX8_worked_1 1 rfl rfl)
theorem dX8_worked_28 : decode cX8_worked 28 = .ok (.iload_n 3, 1) := dk_29 (dk_at dksX8_worked_1 4 rfl rfl)
theorem dX8_worked_29 : decode cX8_worked 29 = .ok (.iaload, 1) := dk_46 (dk_at dksX8_worked_1 5 rfl rfl)
theorem dX8_worked_30 : decode cX8_worked 30 = .ok (.istore 4, 2) := dk_54 4 (dk_at dksX8_worked_1 6 rfl rfl)
theorem dX8_worked_32 : decode cX8_worked 32 = .ok (.iload 4, 2) := dk_21 4 (dk_at dksX8_worked_1 8 rfl rfl)
theorem dX8_worked_34 : decode cX8_worked 34 = .ok (.bipush 28, 2) := dk_16 28 (dk_at dksX8_worked_1 10 rfl rfl)
theorem dX8_worked_36 : decode cX8_worked 36 = .ok (.if_icmp .eq 10, 3) := dk_159 0 10 (dk_at dksX8_worked_1 12 rfl rfl)
theorem dX8_worked_39 : decode cX8_worked 39 = .ok (.iload 4, 2) := dk_21 4 (dk_at dksX8_worked_1 15 rfl rfl)
theorem dX8_worked_41 : decode cX8_worked 41 = .ok (.bipush 30, 2) := dk_16 30 (dk_at dksX8_worked_1 17 rfl rfl)
theorem dX8_worked_43 : decode cX8_worked 43 = .ok (.if_icmp .ne 32, 3) := dk_160 0 32 (dk_at dksX8_worked_1 19 rfl rfl)
theorem dX8_worked_46 : decode cX8_worked 46 = .ok (.iinc 2 1, 3) := dk_132 2 1 (dk_at dksX8_worked_2 0 rfl rfl)
theorem dX8_worked_49 : decode cX8_worked 49 = .ok (.aload_n 0, 1) := dk_42 (dk_at dksX8_worked_2 3 rfl rfl)
theorem dX8_worked_50 : decode cX8_worked 50 = .ok (.getfield 78, 3) := dk_180 0 78 (dk_at dksX8_worked_2 4 rfl rfl)
theorem dX8_worked_53 : decode cX8_worked 53 = .ok (.iload_n 2, 1) := dk_28 (dk_at dksX8_worked_2 7 rfl rfl)
theorem dX8_worked_54 : decode cX8_worked 54 = .ok (.iload 4, 2) := dk_21 4 (dk_at dksX8_worked_2 8 rfl rfl)
theorem dX8_worked_56 : decode cX8_worked 56 = .ok (.bipush 30, 2) := dk_16 30 (dk_at dksX8_worked_2 10 rfl rfl)
theorem dX8_worked_58 : decode cX8_worked 58 = .ok (.if_icmp .ne 7, 3) := dk_160 0 7 (dk_at dksX8_worked_2 12 rfl rfl)
theorem dX8_worked_61 : decode cX8_worked 61 = .ok (.iconst 1, 1) := dk_4 (dk_at dksX8_worked_2 15 rfl rfl)
theorem dX8_worked_62 : decode cX8_worked 62 = .ok (.goto 4, 3) := dk_167 0 4 (dk_at dksX8_worked_2 16 rfl rfl)
theorem dX8_worked_65 : decode cX8_worked 65 = .ok (.iconst 0, 1) := dk_3 (dk_at dksX8_worked_2 19 rfl rfl)
theorem dX8_worked_66 : decode cX8_worked 66 = .ok (.iastore, 1) := dk_79 (dk_at dksX8_worked_2 20 rfl rfl)
theorem dX8_worked_67 : decode cX8_worked 67 = .ok (.aload_n 0, 1) := dk_42 (dk_at dksX8_worked_2 21 rfl rfl)
theorem dX8_worked_68 : decode cX8_worked 68 = .ok (.iload_n 2, 1) := dk_28 (dk_at dksX8_worked_2 22 rfl rfl)
theorem dX8_worked_69 : decode cX8_worked 69 = .ok (.invokevirtual 193, 3) := dk_182 0 193 (dk_at dksX8_worked_3 0 rfl rfl)
theorem dX8_worked_72 : decode cX8_worked 72 = .ok (.goto 257, 3) := dk_167 1 1 (dk_at dksX8_worked_3 3 rfl rfl)
theorem dX8_worked_75 : decode cX8_worked 75 = .ok (.iload 4, 2) := dk_21 4 (dk_at dksX8_worked_3 6 rfl rfl)
theorem dX8_worked_77 : decode cX8_worked 77 = .ok (.bipush 20, 2) := dk_16 20 (dk_at dksX8_worked_3 8 rfl rfl)
theorem dX8_worked_79 : decode cX8_worked 79 = .ok (.if_icmp .eq 10, 3) := dk_159 0 10 (dk_at dksX8_worked_3 10 rfl rfl)
theorem dX8_worked_82 : decode cX8_worked 82 = .ok (.iload 4, 2) := dk_21 4 (dk_at dksX8_worked_3 13 rfl rfl)
theorem dX8_worked_84 : decode cX8_worked 84 = .ok (.bipush 21, 2) := dk_16 21 (dk_at dksX8_worked_3 15 rfl rfl)
theorem dX8_worked_86 : decode cX8_worked 86 = .ok (.if_icmp .ne 19, 3) := dk_160 0 19 (dk_at dksX8_worked_3 17 rfl rfl)
theorem dX8_worked_89 : decode cX8_worked 89 = .ok (.aload_n 0, 1) := dk_42 (dk_at dksX8_worked_3 20 rfl rfl)
theorem dX8_worked_90 : decode cX8_worked 90 = .ok (.iload_n 2, 1) := dk_28 (dk_at dksX8_worked_3 21 rfl rfl)
theorem dX8_worked_91 : decode cX8_worked 91 = .ok (.invokevirtual 190, 3) := dk_182 0 190 (dk_at dksX8_worked_4 0 rfl rfl)
theorem dX8_worked_94 : decode cX8_worked 94 = .ok (.aload_n 0, 1) := dk_42 (dk_at dksX8_worked_4 3 rfl rfl)
theorem dX8_worked_95 : decode cX8_worked 95 = .ok (.getfield 69, 3) := dk_180 0 69 (dk_at dksX8_worked_4 4 rfl rfl)
theorem dX8_worked_98 : decode cX8_worked 98 = .ok (.iload_n 2, 1) := dk_28 (dk_at dksX8_worked_4 7 rfl rfl)
theorem dX8_worked_99 : decode cX8_worked 99 = .ok (.iload 4, 2) := dk_21 4 (dk_at dksX8_worked_4 8 rfl rfl)
theorem dX8_worked_101 : decode cX8_worked 101 = .ok (.iastore, 1) := dk_79 (dk_at dksX8_worked_4 10 rfl rfl)
theorem dX8_worked_102 : decode cX8_worked 102 = .ok (.goto 227, 3) := dk_167 0 227 (dk_at dksX8_worked_4 11 rfl rfl)
theorem dX8_worked_105 : decode cX8_worked 105 = .ok (.iload 4, 2) := dk_21 4 (dk_at dksX8_worked_4 14 rfl rfl)
theorem dX8_worked_107 : decode cX8_worked 107 = .ok (.bipush 22, 2) := dk_16 22 (dk_at dksX8_worked_4 16 rfl rfl)
theorem dX8_worked_109 : decode cX8_worked 109 = .ok (.if_icmp .ne 14, 3) := dk_160 0 14 (dk_at dksX8_worked_4 18 rfl rfl)
theorem dX8_worked_112 : decode cX8_worked 112 = .ok (.aload_n 0, 1) := dk_42 (dk_at dksX8_worked_4 21 rfl rfl)
theorem dX8_worked_113 : decode cX8_worked 113 = .ok (.getfield 75, 3) := dk_180 0 75 (dk_at dksX8_worked_5 0 rfl rfl)
theorem dX8_worked_116 : decode cX8_worked 116 = .ok (.iload_n 2, 1) := dk_28 (dk_at dksX8_worked_5 3 rfl rfl)
theorem dX8_worked_117 : decode cX8_worked 117 = .ok (.iload 4, 2) := dk_21 4 (dk_at dksX8_worked_5 4 rfl rfl)
theorem dX8_worked_119 : decode cX8_worked 119 = .ok (.iastore, 1) := dk_79 (dk_at dksX8_worked_5 6 rfl rfl)
theorem dX8_worked_120 : decode cX8_worked 120 = .ok (.goto 209, 3) := dk_167 0 209 (dk_at dksX8_worked_5 7 rfl rfl)
theorem dX8_worked_123 : decode cX8_worked 123 = .ok (.iload 4, 2) := dk_21 4 (dk_at dksX8_worked_5 10 rfl rfl)
theorem dX8_worked_125 : decode cX8_worked 125 = .ok (.bipush 24, 2) := dk_16 24 (dk_at dksX8_worked_5 12 rfl rfl)
theorem dX8_worked_127 : decode cX8_worked 127 = .ok (.if_icmp .eq 10, 3) := dk_159 0 10 (dk_at dksX8_worked_5 14 rfl rfl)
theorem dX8_worked_130 : decode cX8_worked 130 = .ok (.iload 4, 2) := dk_21 4 (dk_at dksX8_worked_5 17 rfl rfl)
theorem dX8_worked_132 : decode cX8_worked 132 = .ok (.bipush 25, 2) := dk_16 25 (dk_at dksX8_worked_5 19 rfl rfl)
theorem dX8_worked_134 : decode cX8_worked 134 = .ok (.if_icmp .ne 46, 3) := dk_160 0 46 (dk_at dksX8_worked_5 21 rfl rfl)
theorem dX8_worked_137 : decode cX8_worked 137 = .ok (.aload_n 0, 1) := dk_42 (dk_at dksX8_worked_6 0 rfl rfl)
theorem dX8_worked_138 : decode cX8_worked 138 = .ok (.iload_n 2, 1) := dk_28 (dk_at dksX8_worked_6 1 rfl rfl)
theorem dX8_worked_139 : decode cX8_worked 139 = .ok (.invokevirtual 190, 3) := dk_182 0 190 (dk_at dksX8_worked_6 2 rfl rfl)
theorem dX8_worked_142 : decode cX8_worked 142 = .ok (.aload_n 0, 1) := dk_42 (dk_at dksX8_worked_6 5 rfl rfl)
theorem dX8_worked_143 : decode cX8_worked 143 = .ok (.getfield 60, 3) := dk_180 0 60 (dk_at dksX8_worked_6 6 rfl rfl)
theorem dX8_worked_146 : decode cX8_worked 146 = .ok (.iload_n 2, 1) := dk_28 (dk_at dksX8_worked_6 9 rfl rfl)
theorem dX8_worked_147 : decode cX8_worked 147 = .ok (.aload_n 0, 1) := dk_42 (dk_at dksX8_worked_6 10 rfl rfl)
theorem dX8_worked_148 : decode cX8_worked 148 = .ok (.getfield 66, 3) := dk_180 0 66 (dk_at dksX8_worked_6 11 rfl rfl)
theorem dX8_worked_151 : decode cX8_worked 151 = .ok (.iload_n 2, 1) := dk_28 (dk_at dksX8_worked_6 14 rfl rfl)
theorem dX8_worked_152 : decode cX8_worked 152 = .ok (.iaload, 1) := dk_46 (dk_at dksX8_worked_6 15 rfl rfl)
theorem dX8_worked_153 : decode cX8_worked 153 = .ok (.iastore, 1) := dk_79 (dk_at dksX8_worked_6 16 rfl rfl)
theorem dX8_worked_154 : decode cX8_worked 154 = .ok (.aload_n 0, 1) := dk_42 (dk_at dksX8_worked_6 17 rfl rfl)
theorem dX8_worked_155 : decode cX8_worked 155 = .ok (.getfield 63, 3) := dk_180 0 63 (dk_at dksX8_worked_6 18 rfl rfl)
theorem dX8_worked_158 : decode cX8_worked 158 = .ok (.iload_n 2, 1) := dk_28 (dk_at dksX8_worked_6 21 rfl rfl)
theorem dX8_worked_159 : decode cX8_worked 159 = .ok (.iload 4, 2) := dk_21 4 (dk_at dksX8_worked_6 22 rfl rfl)
theorem dX8_worked_161 : decode cX8_worked 161 = .ok (.iastore, 1) := dk_79 (dk_at dksX8_worked_7 0 rfl rfl)
theorem dX8_worked_162 : decode cX8_worked 162 = .ok (.aload_n 0, 1) := dk_42 (dk_at dksX8_worked_7 1 rfl rfl)
theorem dX8_worked_163 : decode cX8_worked 163 = .ok (.getfield 66, 3) := dk_180 0 66 (dk_at dksX8_worked_7 2 rfl rfl)
theorem dX8_worked_166 : decode cX8_worked 166 = .ok (.iload_n 2, 1) := dk_28 (dk_at dksX8_worked_7 5 rfl rfl)
theorem dX8_worked_167 : decode cX8_worked 167 = .ok (.iconst 0, 1) := dk_3 (dk_at dksX8_worked_7 6 rfl rfl)
theorem dX8_worked_168 : decode cX8_worked 168 = .ok (.iastore, 1) := dk_79 (dk_at dksX8_worked_7 7 rfl rfl)
theorem dX8_worked_169 : decode cX8_worked 169 = .ok (.aload_n 0, 1) := dk_42 (dk_at dksX8_worked_7 8 rfl rfl)
theorem dX8_worked_170 : decode cX8_worked 170 = .ok (.getfield 69, 3) := dk_180 0 69 (dk_at dksX8_worked_7 9 rfl rfl)
theorem dX8_worked_173 : decode cX8_worked 173 = .ok (.iload_n 2, 1) := dk_28 (dk_at dksX8_worked_7 12 rfl rfl)
theorem dX8_worked_174 : decode cX8_worked 174 = .ok (.bipush 20, 2) := dk_16 20 (dk_at dksX8_worked_7 13 rfl rfl)
theorem dX8_worked_176 : decode cX8_worked 176 = .ok (.iastore, 1) := dk_79 (dk_at dksX8_worked_7 15 rfl rfl)
theorem dX8_worked_177 : decode cX8_worked 177 = .ok (.goto 152, 3) := dk_167 0 152 (dk_at dksX8_worked_7 16 rfl rfl)
theorem dX8_worked_180 : decode cX8_worked 180 = .ok (.iload 4, 2) := dk_21 4 (dk_at dksX8_worked_7 19 rfl rfl)
theorem dX8_worked_182 : decode cX8_worked 182 = .ok (.bipush 26, 2) := dk_16 26 (dk_at dksX8_worked_7 21 rfl rfl)
theorem dX8_worked_184 : decode cX8_worked 184 = .ok (.if_icmp .eq 10, 3) := dk_159 0 10 (dk_at dksX8_worked_8 0 rfl rfl)
theorem dX8_worked_187 : decode cX8_worked 187 = .ok (.iload 4, 2) := dk_21 4 (dk_at dksX8_worked_8 3 rfl rfl)
theorem dX8_worked_189 : decode cX8_worked 189 = .ok (.bipush 27, 2) := dk_16 27 (dk_at dksX8_worked_8 5 rfl rfl)
theorem dX8_worked_191 : decode cX8_worked 191 = .ok (.if_icmp .ne 19, 3) := dk_160 0 19 (dk_at dksX8_worked_8 7 rfl rfl)
theorem dX8_worked_194 : decode cX8_worked 194 = .ok (.aload_n 0, 1) := dk_42 (dk_at dksX8_worked_8 10 rfl rfl)
theorem dX8_worked_195 : decode cX8_worked 195 = .ok (.iload_n 2, 1) := dk_28 (dk_at dksX8_worked_8 11 rfl rfl)
theorem dX8_worked_196 : decode cX8_worked 196 = .ok (.invokevirtual 196, 3) := dk_182 0 196 (dk_at dksX8_worked_8 12 rfl rfl)
theorem dX8_worked_199 : decode cX8_worked 199 = .ok (.aload_n 0, 1) := dk_42 (dk_at dksX8_worked_8 15 rfl rfl)
theorem dX8_worked_200 : decode cX8_worked 200 = .ok (.getfield 57, 3) := dk_180 0 57 (dk_at dksX8_worked_8 16 rfl rfl)
theorem dX8_worked_203 : decode cX8_worked 203 = .ok (.iload_n 2, 1) := dk_28 (dk_at dksX8_worked_8 19 rfl rfl)
theorem dX8_worked_204 : decode cX8_worked 204 = .ok (.iload 4, 2) := dk_21 4 (dk_at dksX8_worked_8 20 rfl rfl)
theorem dX8_worked_206 : decode cX8_worked 206 = .ok (.iastore, 1) := dk_79 (dk_at dksX8_worked_8 22 rfl rfl)
theorem dX8_worked_207 : decode cX8_worked 207 = .ok (.goto 122, 3) := dk_167 0 122 (dk_at dksX8_worked_9 0 rfl rfl)
theorem dX8_worked_210 : decode cX8_worked 210 = .ok (.iload 4, 2) := dk_21 4 (dk_at dksX8_worked_9 3 rfl rfl)
theorem dX8_worked_212 : decode cX8_worked 212 = .ok (.bipush 100, 2) := dk_16 100 (dk_at dksX8_worked_9 5 rfl rfl)
theorem dX8_worked_214 : decode cX8_worked 214 = .ok (.if_icmp .lt 11, 3) := dk_161 0 11 (dk_at dksX8_worked_9 7 rfl rfl)
theorem dX8_worked_217 : decode cX8_worked 217 = .ok (.iload 4, 2) := dk_21 4 (dk_at dksX8_worked_9 10 rfl rfl)
theorem dX8_worked_219 : decode cX8_worked 219 = .ok (.bipush 100, 2) := dk_16 100 (dk_at dksX8_worked_9 12 rfl rfl)
theorem dX8_worked_221 : decode cX8_worked 221 = .ok (.isub, 1) := dk_100 (dk_at dksX8_worked_9 14 rfl rfl)
theorem dX8_worked_222 : decode cX8_worked 222 = .ok (.goto 21, 3) := dk_167 0 21 (dk_at dksX8_worked_9 15 rfl rfl)
theorem dX8_worked_225 : decode cX8_worked 225 = .ok (.iload 4, 2) := dk_21 4 (dk_at dksX8_worked_9 18 rfl rfl)
theorem dX8_worked_227 : decode cX8_worked 227 = .ok (.bipush 20, 2) := dk_16 20 (dk_at dksX8_worked_9 20 rfl rfl)
theorem dX8_worked_229 : decode cX8_worked 229 = .ok (.if_icmp .ge 13, 3) := dk_162 0 13 (dk_at dksX8_worked_10 0 rfl rfl)
theorem dX8_worked_232 : decode cX8_worked 232 = .ok (.aload_n 0, 1) := dk_42 (dk_at dksX8_worked_10 3 rfl rfl)
theorem dX8_worked_233 : decode cX8_worked 233 = .ok (.getfield 81, 3) := dk_180 0 81 (dk_at dksX8_worked_10 4 rfl rfl)
theorem dX8_worked_236 : decode cX8_worked 236 = .ok (.iload 4, 2) := dk_21 4 (dk_at dksX8_worked_10 7 rfl rfl)
theorem dX8_worked_238 : decode cX8_worked 238 = .ok (.iaload, 1) := dk_46 (dk_at dksX8_worked_10 9 rfl rfl)
theorem dX8_worked_239 : decode cX8_worked 239 = .ok (.goto 4, 3) := dk_167 0 4 (dk_at dksX8_worked_10 10 rfl rfl)
theorem dX8_worked_242 : decode cX8_worked 242 = .ok (.iconst 0, 1) := dk_3 (dk_at dksX8_worked_10 13 rfl rfl)
theorem dX8_worked_243 : decode cX8_worked 243 = .ok (.istore 5, 2) := dk_54 5 (dk_at dksX8_worked_10 14 rfl rfl)
theorem dX8_worked_245 : decode cX8_worked 245 = .ok (.iload 4, 2) := dk_21 4 (dk_at dksX8_worked_10 16 rfl rfl)
theorem dX8_worked_247 : decode cX8_worked 247 = .ok (.bipush 29, 2) := dk_16 29 (dk_at dksX8_worked_10 18 rfl rfl)
theorem dX8_worked_249 : decode cX8_worked 249 = .ok (.if_icmp .ne 19, 3) := dk_160 0 19 (dk_at dksX8_worked_10 20 rfl rfl)
theorem dX8_worked_252 : decode cX8_worked 252 = .ok (.aload_n 0, 1) := dk_42 (dk_at dksX8_worked_10 23 rfl rfl)
theorem dX8_worked_253 : decode cX8_worked 253 = .ok (.iload_n 2, 1) := dk_28 (dk_at dksX8_worked_11 0 rfl rfl)
theorem dX8_worked_254 : decode cX8_worked 254 = .ok (.invokevirtual 196, 3) := dk_182 0 196 (dk_at dksX8_worked_11 1 rfl rfl)
theorem dX8_worked_257 : decode cX8_worked 257 = .ok (.aload_n 0, 1) := dk_42 (dk_at dksX8_worked_11 4 rfl rfl)
theorem dX8_worked_258 : decode cX8_worked 258 = .ok (.getfield 54, 3) := dk_180 0 54 (dk_at dksX8_worked_11 5 rfl rfl)
theorem dX8_worked_261 : decode cX8_worked 261 = .ok (.iload_n 2, 1) := dk_28 (dk_at dksX8_worked_11 8 rfl rfl)
theorem dX8_worked_262 : decode cX8_worked 262 = .ok (.iaload, 1) := dk_46 (dk_at dksX8_worked_11 9 rfl rfl)
theorem dX8_worked_263 : decode cX8_worked 263 = .ok (.istore 5, 2) := dk_54 5 (dk_at dksX8_worked_11 10 rfl rfl)
theorem dX8_worked_265 : decode cX8_worked 265 = .ok (.iinc 2 (-1), 3) := dk_132 2 255 (dk_at dksX8_worked_11 12 rfl rfl)
theorem dX8_worked_268 : decode cX8_worked 268 = .ok (.iload_n 2, 1) := dk_28 (dk_at dksX8_worked_11 15 rfl rfl)
theorem dX8_worked_269 : decode cX8_worked 269 = .ok (.ifCond .le 31, 3) := dk_158 0 31 (dk_at dksX8_worked_11 16 rfl rfl)
theorem dX8_worked_272 : decode cX8_worked 272 = .ok (.aload_n 0, 1) := dk_42 (dk_at dksX8_worked_11 19 rfl rfl)
theorem dX8_worked_273 : decode cX8_worked 273 = .ok (.getfield 78, 3) := dk_180 0 78 (dk_at dksX8_worked_11 20 rfl rfl)
theorem dX8_worked_276 : decode cX8_worked 276 = .ok (.iload_n 2, 1) := dk_28 (dk_at dksX8_worked_11 23 rfl rfl)
theorem dX8_worked_277 : decode cX8_worked 277 = .ok (.iaload, 1) := dk_46 (dk_at dksX8_worked_12 0 rfl rfl)
theorem dX8_worked_278 : decode cX8_worked 278 = .ok (.iconst 1, 1) := dk_4 (dk_at dksX8_worked_12 1 rfl rfl)
theorem dX8_worked_279 : decode cX8_worked 279 = .ok (.if_icmp .ne 21, 3) := dk_160 0 21 (dk_at dksX8_worked_12 2 rfl rfl)
theorem dX8_worked_282 : decode cX8_worked 282 = .ok (.iload 5, 2) := dk_21 5 (dk_at dksX8_worked_12 5 rfl rfl)
theorem dX8_worked_284 : decode cX8_worked 284 = .ok (.ifCond .ne 7, 3) := dk_154 0 7 (dk_at dksX8_worked_12 7 rfl rfl)
theorem dX8_worked_287 : decode cX8_worked 287 = .ok (.iconst 1, 1) := dk_4 (dk_at dksX8_worked_12 10 rfl rfl)
theorem dX8_worked_288 : decode cX8_worked 288 = .ok (.goto 4, 3) := dk_167 0 4 (dk_at dksX8_worked_12 11 rfl rfl)
theorem dX8_worked_291 : decode cX8_worked 291 = .ok (.iconst 0, 1) := dk_3 (dk_at dksX8_worked_12 14 rfl rfl)
theorem dX8_worked_292 : decode cX8_worked 292 = .ok (.istore 5, 2) := dk_54 5 (dk_at dksX8_worked_12 15 rfl rfl)
theorem dX8_worked_294 : decode cX8_worked 294 = .ok (.iinc 2 (-1), 3) := dk_132 2 255 (dk_at dksX8_worked_12 17 rfl rfl)
theorem dX8_worked_297 : decode cX8_worked 297 = .ok (.goto (-29), 3) := dk_167 255 227 (dk_at dksX8_worked_12 20 rfl rfl)
theorem dX8_worked_300 : decode cX8_worked 300 = .ok (.aload_n 0, 1) := dk_42 (dk_at dksX8_worked_12 23 rfl rfl)
theorem dX8_worked_301 : decode cX8_worked 301 = .ok (.getfield 72, 3) := dk_180 0 72 (dk_at dksX8_worked_13 0 rfl rfl)
theorem dX8_worked_304 : decode cX8_worked 304 = .ok (.iload_n 2, 1) := dk_28 (dk_at dksX8_worked_13 3 rfl rfl)
theorem dX8_worked_305 : decode cX8_worked 305 = .ok (.aload_n 0, 1) := dk_42 (dk_at dksX8_worked_13 4 rfl rfl)
theorem dX8_worked_306 : decode cX8_worked 306 = .ok (.getfield 75, 3) := dk_180 0 75 (dk_at dksX8_worked_13 5 rfl rfl)
theorem dX8_worked_309 : decode cX8_worked 309 = .ok (.iload_n 2, 1) := dk_28 (dk_at dksX8_worked_13 8 rfl rfl)
theorem dX8_worked_310 : decode cX8_worked 310 = .ok (.iaload, 1) := dk_46 (dk_at dksX8_worked_13 9 rfl rfl)
theorem dX8_worked_311 : decode cX8_worked 311 = .ok (.ifCond .ne 8, 3) := dk_154 0 8 (dk_at dksX8_worked_13 10 rfl rfl)
theorem dX8_worked_314 : decode cX8_worked 314 = .ok (.iload 5, 2) := dk_21 5 (dk_at dksX8_worked_13 13 rfl rfl)
theorem dX8_worked_316 : decode cX8_worked 316 = .ok (.goto 12, 3) := dk_167 0 12 (dk_at dksX8_worked_13 15 rfl rfl)
theorem dX8_worked_319 : decode cX8_worked 319 = .ok (.aload_n 0, 1) := dk_42 (dk_at dksX8_worked_13 18 rfl rfl)
theorem dX8_worked_320 : decode cX8_worked 320 = .ok (.getfield 72, 3) := dk_180 0 72 (dk_at dksX8_worked_13 19 rfl rfl)
theorem dX8_worked_323 : decode cX8_worked 323 = .ok (.iload_n 2, 1) := dk_28 (dk_at dksX8_worked_13 22 rfl rfl)
theorem dX8_worked_324 : decode cX8_worked 324 = .ok (.iaload, 1) := dk_46 (dk_at dksX8_worked_13 23 rfl rfl)
theorem dX8_worked_325 : decode cX8_worked 325 = .ok (.iload 5, 2) := dk_21 5 (dk_at dksX8_worked_14 0 rfl rfl)
theorem dX8_worked_327 : decode cX8_worked 327 = .ok (.imul, 1) := dk_104 (dk_at dksX8_worked_14 2 rfl rfl)
theorem dX8_worked_328 : decode cX8_worked 328 = .ok (.iastore, 1) := dk_79 (dk_at dksX8_worked_14 3 rfl rfl)
theorem dX8_worked_329 : decode cX8_worked 329 = .ok (.iinc 3 1, 3) := dk_132 3 1 (dk_at dksX8_worked_14 4 rfl rfl)
theorem dX8_worked_332 : decode cX8_worked 332 = .ok (.goto (-318), 3) := dk_167 254 194 (dk_at dksX8_worked_14 7 rfl rfl)
theorem dX8_worked_335 : decode cX8_worked 335 = .ok (.aload_n 0, 1) := dk_42 (dk_at dksX8_worked_14 10 rfl rfl)
theorem dX8_worked_336 : decode cX8_worked 336 = .ok (.iconst 0, 1) := dk_3 (dk_at dksX8_worked_14 11 rfl rfl)
theorem dX8_worked_337 : decode cX8_worked 337 = .ok (.invokevirtual 196, 3) := dk_182 0 196 (dk_at dksX8_worked_14 12 rfl rfl)
theorem dX8_worked_340 : decode cX8_worked 340 = .ok (.aload_n 0, 1) := dk_42 (dk_at dksX8_worked_14 15 rfl rfl)
theorem dX8_worked_341 : decode cX8_worked 341 = .ok (.getfield 54, 3) := dk_180 0 54 (dk_at dksX8_worked_14 16 rfl rfl)
theorem dX8_worked_344 : decode cX8_worked 344 = .ok (.iconst 0, 1) := dk_3 (dk_at dksX8_worked_14 19 rfl rfl)
theorem dX8_worked_345 : decode cX8_worked 345 = .ok (.iaload, 1) := dk_46 (dk_at dksX8_worked_14 20 rfl rfl)
theorem dX8_worked_346 : decode cX8_worked 346 = .ok (.ireturn, 1) := dk_172 (dk_at dksX8_worked_14 21 rfl rfl)
abbrev cX8_opens : ByteArray := prog_30_method_15_code
def yX8_opens : MethodName := ⟨RX8, "opens", "(I)V"⟩
def dkwX8_opens_1 : List UInt8 := [180, 0, 69, 27, 16, 20, 79, 42, 180, 0, 75, 27, 3, 79, 177]
abbrev dktX8_opens_1 : List UInt8 := dkwX8_opens_1 ++ []
def dkwX8_opens_0 : List UInt8 := [42, 180, 0, 57, 27, 3, 79, 42, 180, 0, 63, 27, 3, 79, 42, 180, 0, 66, 27, 3, 79, 42]
abbrev dktX8_opens_0 : List UInt8 := dkwX8_opens_0 ++ dktX8_opens_1
theorem dksX8_opens_0 : cX8_opens.data.toList.drop 0 = dktX8_opens_0 := by decide +kernel
theorem dksX8_opens_1 : cX8_opens.data.toList.drop 22 = dktX8_opens_1 := dk_seg dksX8_opens_0 22 rfl rfl
theorem dX8_opens_0 : decode cX8_opens 0 = .ok (.aload_n 0, 1) := dk_42 (dk_at dksX8_opens_0 0 rfl rfl)
theorem dX8_opens_1 : decode cX8_opens 1 = .ok (.getfield 57, 3) := dk_180 0 57 (dk_at dksX8_opens_0 1 rfl rfl)
theorem dX8_opens_4 : decode cX8_opens 4 = .ok (.iload_n 1, 1) := dk_27 (dk_at dksX8_opens_0 4 rfl rfl)
theorem dX8_opens_5 : decode cX8_opens 5 = .ok (.iconst 0, 1) := dk_3 (dk_at dksX8_opens_0 5 rfl rfl)
theorem dX8_opens_6 : decode cX8_opens 6 = .ok (.iastore, 1) := dk_79 (dk_at dksX8_opens_0 6 rfl rfl)
theorem dX8_opens_7 : decode cX8_opens 7 = .ok (.aload_n 0, 1) := dk_42 (dk_at dksX8_opens_0 7 rfl rfl)
theorem dX8_opens_8 : decode cX8_opens 8 = .ok (.getfield 63, 3) := dk_180 0 63 (dk_at dksX8_opens_0 8 rfl rfl)
theorem dX8_opens_11 : decode cX8_opens 11 = .ok (.iload_n 1, 1) := dk_27 (dk_at dksX8_opens_0 11 rfl rfl)
theorem dX8_opens_12 : decode cX8_opens 12 = .ok (.iconst 0, 1) := dk_3 (dk_at dksX8_opens_0 12 rfl rfl)
theorem dX8_opens_13 : decode cX8_opens 13 = .ok (.iastore, 1) := dk_79 (dk_at dksX8_opens_0 13 rfl rfl)
theorem dX8_opens_14 : decode cX8_opens 14 = .ok (.aload_n 0, 1) := dk_42 (dk_at dksX8_opens_0 14 rfl rfl)
theorem dX8_opens_15 : decode cX8_opens 15 = .ok (.getfield 66, 3) := dk_180 0 66 (dk_at dksX8_opens_0 15 rfl rfl)
theorem dX8_opens_18 : decode cX8_opens 18 = .ok (.iload_n 1, 1) := dk_27 (dk_at dksX8_opens_0 18 rfl rfl)
theorem dX8_opens_19 : decode cX8_opens 19 = .ok (.iconst 0, 1) := dk_3 (dk_at dksX8_opens_0 19 rfl rfl)
theorem dX8_opens_20 : decode cX8_opens 20 = .ok (.iastore, 1) := dk_79 (dk_at dksX8_opens_0 20 rfl rfl)
theorem dX8_opens_21 : decode cX8_opens 21 = .ok (.aload_n 0, 1) := dk_42 (dk_at dksX8_opens_0 21 rfl rfl)
theorem dX8_opens_22 : decode cX8_opens 22 = .ok (.getfield 69, 3) := dk_180 0 69 (dk_at dksX8_opens_1 0 rfl rfl)
theorem dX8_opens_25 : decode cX8_opens 25 = .ok (.iload_n 1, 1) := dk_27 (dk_at dksX8_opens_1 3 rfl rfl)
theorem dX8_opens_26 : decode cX8_opens 26 = .ok (.bipush 20, 2) := dk_16 20 (dk_at dksX8_opens_1 4 rfl rfl)
theorem dX8_opens_28 : decode cX8_opens 28 = .ok (.iastore, 1) := dk_79 (dk_at dksX8_opens_1 6 rfl rfl)
theorem dX8_opens_29 : decode cX8_opens 29 = .ok (.aload_n 0, 1) := dk_42 (dk_at dksX8_opens_1 7 rfl rfl)
theorem dX8_opens_30 : decode cX8_opens 30 = .ok (.getfield 75, 3) := dk_180 0 75 (dk_at dksX8_opens_1 8 rfl rfl)
theorem dX8_opens_33 : decode cX8_opens 33 = .ok (.iload_n 1, 1) := dk_27 (dk_at dksX8_opens_1 11 rfl rfl)
theorem dX8_opens_34 : decode cX8_opens 34 = .ok (.iconst 0, 1) := dk_3 (dk_at dksX8_opens_1 12 rfl rfl)
theorem dX8_opens_35 : decode cX8_opens 35 = .ok (.iastore, 1) := dk_79 (dk_at dksX8_opens_1 13 rfl rfl)
theorem dX8_opens_36 : decode cX8_opens 36 = .ok (.return_, 1) := dk_177 (dk_at dksX8_opens_1 14 rfl rfl)
abbrev cX8_sums : ByteArray := prog_30_method_16_code
def yX8_sums : MethodName := ⟨RX8, "sums", "(I)V"⟩
def dkwX8_sums_2 : List UInt8 := [180, 0, 75, 27, 3, 79, 177]
abbrev dktX8_sums_2 : List UInt8 := dkwX8_sums_2 ++ []
def dkwX8_sums_1 : List UInt8 := [180, 0, 72, 27, 46, 100, 167, 0, 16, 42, 180, 0, 66, 27, 46, 42, 180, 0, 72, 27, 46, 96, 79, 42]
abbrev dktX8_sums_1 : List UInt8 := dkwX8_sums_1 ++ dktX8_sums_2
def dkwX8_sums_0 : List UInt8 := [42, 180, 0, 66, 27, 42, 180, 0, 69, 27, 46, 16, 21, 160, 0, 19, 42, 180, 0, 66, 27, 46, 42]
abbrev dktX8_sums_0 : List UInt8 := dkwX8_sums_0 ++ dktX8_sums_1
theorem dksX8_sums_0 : cX8_sums.data.toList.drop 0 = dktX8_sums_0 := by decide +kernel
theorem dksX8_sums_1 : cX8_sums.data.toList.drop 23 = dktX8_sums_1 := dk_seg dksX8_sums_0 23 rfl rfl
theorem dksX8_sums_2 : cX8_sums.data.toList.drop 47 = dktX8_sums_2 := dk_seg dksX8_sums_1 24 rfl rfl
theorem dX8_sums_0 : decode cX8_sums 0 = .ok (.aload_n 0, 1) := dk_42 (dk_at dksX8_sums_0 0 rfl rfl)
theorem dX8_sums_1 : decode cX8_sums 1 = .ok (.getfield 66, 3) := dk_180 0 66 (dk_at dksX8_sums_0 1 rfl rfl)
theorem dX8_sums_4 : decode cX8_sums 4 = .ok (.iload_n 1, 1) := dk_27 (dk_at dksX8_sums_0 4 rfl rfl)
theorem dX8_sums_5 : decode cX8_sums 5 = .ok (.aload_n 0, 1) := dk_42 (dk_at dksX8_sums_0 5 rfl rfl)
theorem dX8_sums_6 : decode cX8_sums 6 = .ok (.getfield 69, 3) := dk_180 0 69 (dk_at dksX8_sums_0 6 rfl rfl)
theorem dX8_sums_9 : decode cX8_sums 9 = .ok (.iload_n 1, 1) := dk_27 (dk_at dksX8_sums_0 9 rfl rfl)
theorem dX8_sums_10 : decode cX8_sums 10 = .ok (.iaload, 1) := dk_46 (dk_at dksX8_sums_0 10 rfl rfl)
theorem dX8_sums_11 : decode cX8_sums 11 = .ok (.bipush 21, 2) := dk_16 21 (dk_at dksX8_sums_0 11 rfl rfl)
theorem dX8_sums_13 : decode cX8_sums 13 = .ok (.if_icmp .ne 19, 3) := dk_160 0 19 (dk_at dksX8_sums_0 13 rfl rfl)
theorem dX8_sums_16 : decode cX8_sums 16 = .ok (.aload_n 0, 1) := dk_42 (dk_at dksX8_sums_0 16 rfl rfl)
theorem dX8_sums_17 : decode cX8_sums 17 = .ok (.getfield 66, 3) := dk_180 0 66 (dk_at dksX8_sums_0 17 rfl rfl)
theorem dX8_sums_20 : decode cX8_sums 20 = .ok (.iload_n 1, 1) := dk_27 (dk_at dksX8_sums_0 20 rfl rfl)
theorem dX8_sums_21 : decode cX8_sums 21 = .ok (.iaload, 1) := dk_46 (dk_at dksX8_sums_0 21 rfl rfl)
theorem dX8_sums_22 : decode cX8_sums 22 = .ok (.aload_n 0, 1) := dk_42 (dk_at dksX8_sums_0 22 rfl rfl)
theorem dX8_sums_23 : decode cX8_sums 23 = .ok (.getfield 72, 3) := dk_180 0 72 (dk_at dksX8_sums_1 0 rfl rfl)
theorem dX8_sums_26 : decode cX8_sums 26 = .ok (.iload_n 1, 1) := dk_27 (dk_at dksX8_sums_1 3 rfl rfl)
theorem dX8_sums_27 : decode cX8_sums 27 = .ok (.iaload, 1) := dk_46 (dk_at dksX8_sums_1 4 rfl rfl)
theorem dX8_sums_28 : decode cX8_sums 28 = .ok (.isub, 1) := dk_100 (dk_at dksX8_sums_1 5 rfl rfl)
theorem dX8_sums_29 : decode cX8_sums 29 = .ok (.goto 16, 3) := dk_167 0 16 (dk_at dksX8_sums_1 6 rfl rfl)
theorem dX8_sums_32 : decode cX8_sums 32 = .ok (.aload_n 0, 1) := dk_42 (dk_at dksX8_sums_1 9 rfl rfl)
theorem dX8_sums_33 : decode cX8_sums 33 = .ok (.getfield 66, 3) := dk_180 0 66 (dk_at dksX8_sums_1 10 rfl rfl)
theorem dX8_sums_36 : decode cX8_sums 36 = .ok (.iload_n 1, 1) := dk_27 (dk_at dksX8_sums_1 13 rfl rfl)
theorem dX8_sums_37 : decode cX8_sums 37 = .ok (.iaload, 1) := dk_46 (dk_at dksX8_sums_1 14 rfl rfl)
theorem dX8_sums_38 : decode cX8_sums 38 = .ok (.aload_n 0, 1) := dk_42 (dk_at dksX8_sums_1 15 rfl rfl)
theorem dX8_sums_39 : decode cX8_sums 39 = .ok (.getfield 72, 3) := dk_180 0 72 (dk_at dksX8_sums_1 16 rfl rfl)
theorem dX8_sums_42 : decode cX8_sums 42 = .ok (.iload_n 1, 1) := dk_27 (dk_at dksX8_sums_1 19 rfl rfl)
theorem dX8_sums_43 : decode cX8_sums 43 = .ok (.iaload, 1) := dk_46 (dk_at dksX8_sums_1 20 rfl rfl)
theorem dX8_sums_44 : decode cX8_sums 44 = .ok (.iadd, 1) := dk_96 (dk_at dksX8_sums_1 21 rfl rfl)
theorem dX8_sums_45 : decode cX8_sums 45 = .ok (.iastore, 1) := dk_79 (dk_at dksX8_sums_1 22 rfl rfl)
theorem dX8_sums_46 : decode cX8_sums 46 = .ok (.aload_n 0, 1) := dk_42 (dk_at dksX8_sums_1 23 rfl rfl)
theorem dX8_sums_47 : decode cX8_sums 47 = .ok (.getfield 75, 3) := dk_180 0 75 (dk_at dksX8_sums_2 0 rfl rfl)
theorem dX8_sums_50 : decode cX8_sums 50 = .ok (.iload_n 1, 1) := dk_27 (dk_at dksX8_sums_2 3 rfl rfl)
theorem dX8_sums_51 : decode cX8_sums 51 = .ok (.iconst 0, 1) := dk_3 (dk_at dksX8_sums_2 4 rfl rfl)
theorem dX8_sums_52 : decode cX8_sums 52 = .ok (.iastore, 1) := dk_79 (dk_at dksX8_sums_2 5 rfl rfl)
theorem dX8_sums_53 : decode cX8_sums 53 = .ok (.return_, 1) := dk_177 (dk_at dksX8_sums_2 6 rfl rfl)
abbrev cX8_tests : ByteArray := prog_30_method_17_code
def yX8_tests : MethodName := ⟨RX8, "tests", "(I)V"⟩
def dkwX8_tests_7 : List UInt8 := [177]
abbrev dktX8_tests_7 : List UInt8 := dkwX8_tests_7 ++ []
def dkwX8_tests_6 : List UInt8 := [28, 79, 42, 180, 0, 63, 27, 3, 79, 42, 180, 0, 66, 27, 3, 79, 42, 180, 0, 69, 27, 16, 20, 79]
abbrev dktX8_tests_6 : List UInt8 := dkwX8_tests_6 ++ dktX8_tests_7
def dkwX8_tests_5 : List UInt8 := [42, 180, 0, 54, 27, 46, 154, 0, 7, 28, 153, 0, 7, 4, 167, 0, 4, 3, 61, 42, 180, 0, 54, 27]
abbrev dktX8_tests_5 : List UInt8 := dkwX8_tests_5 ++ dktX8_tests_6
def dkwX8_tests_4 : List UInt8 := [153, 0, 11, 28, 153, 0, 7, 4, 167, 0, 4, 3, 61, 42, 180, 0, 57, 27, 46, 16, 27, 160, 0, 22]
abbrev dktX8_tests_4 : List UInt8 := dkwX8_tests_4 ++ dktX8_tests_5
def dkwX8_tests_3 : List UInt8 := [167, 0, 4, 3, 61, 42, 180, 0, 57, 27, 46, 16, 26, 160, 0, 22, 42, 180, 0, 54, 27, 46]
abbrev dktX8_tests_3 : List UInt8 := dkwX8_tests_3 ++ dktX8_tests_4
def dkwX8_tests_2 : List UInt8 := [27, 46, 16, 25, 160, 0, 24, 42, 180, 0, 60, 27, 46, 42, 180, 0, 66, 27, 46, 160, 0, 7, 4]
abbrev dktX8_tests_2 : List UInt8 := dkwX8_tests_2 ++ dktX8_tests_3
def dkwX8_tests_1 : List UInt8 := [180, 0, 60, 27, 46, 42, 180, 0, 66, 27, 46, 162, 0, 7, 4, 167, 0, 4, 3, 61, 42, 180, 0, 63]
abbrev dktX8_tests_1 : List UInt8 := dkwX8_tests_1 ++ dktX8_tests_2
def dkwX8_tests_0 : List UInt8 := [42, 27, 182, 0, 190, 42, 180, 0, 66, 27, 46, 61, 42, 180, 0, 63, 27, 46, 16, 24, 160, 0, 24, 42]
abbrev dktX8_tests_0 : List UInt8 := dkwX8_tests_0 ++ dktX8_tests_1
theorem dksX8_tests_0 : cX8_tests.data.toList.drop 0 = dktX8_tests_0 := by decide +kernel
theorem dksX8_tests_1 : cX8_tests.data.toList.drop 24 = dktX8_tests_1 := dk_seg dksX8_tests_0 24 rfl rfl
theorem dksX8_tests_2 : cX8_tests.data.toList.drop 48 = dktX8_tests_2 := dk_seg dksX8_tests_1 24 rfl rfl
theorem dksX8_tests_3 : cX8_tests.data.toList.drop 71 = dktX8_tests_3 := dk_seg dksX8_tests_2 23 rfl rfl
theorem dksX8_tests_4 : cX8_tests.data.toList.drop 93 = dktX8_tests_4 := dk_seg dksX8_tests_3 22 rfl rfl
theorem dksX8_tests_5 : cX8_tests.data.toList.drop 117 = dktX8_tests_5 := dk_seg dksX8_tests_4 24 rfl rfl
theorem dksX8_tests_6 : cX8_tests.data.toList.drop 141 = dktX8_tests_6 := dk_seg dksX8_tests_5 24 rfl rfl
theorem dksX8_tests_7 : cX8_tests.data.toList.drop 165 = dktX8_tests_7 := dk_seg dksX8_tests_6 24 rfl rfl
theorem dX8_tests_0 : decode cX8_tests 0 = .ok (.aload_n 0, 1) := dk_42 (dk_at dksX8_tests_0 0 rfl rfl)
theorem dX8_tests_1 : decode cX8_tests 1 = .ok (.iload_n 1, 1) := dk_27 (dk_at dksX8_tests_0 1 rfl rfl)
theorem dX8_tests_2 : decode cX8_tests 2 = .ok (.invokevirtual 190, 3) := dk_182 0 190 (dk_at dksX8_tests_0 2 rfl rfl)
theorem dX8_tests_5 : decode cX8_tests 5 = .ok (.aload_n 0, 1) := dk_42 (dk_at dksX8_tests_0 5 rfl rfl)
theorem dX8_tests_6 : decode cX8_tests 6 = .ok (.getfield 66, 3) := dk_180 0 66 (dk_at dksX8_tests_0 6 rfl rfl)
theorem dX8_tests_9 : decode cX8_tests 9 = .ok (.iload_n 1, 1) := dk_27 (dk_at dksX8_tests_0 9 rfl rfl)
theorem dX8_tests_10 : decode cX8_tests 10 = .ok (.iaload, 1) := dk_46 (dk_at dksX8_tests_0 10 rfl rfl)
theorem dX8_tests_11 : decode cX8_tests 11 = .ok (.istore_n 2, 1) := dk_61 (dk_at dksX8_tests_0 11 rfl rfl)
theorem dX8_tests_12 : decode cX8_tests 12 = .ok (.aload_n 0, 1) := dk_42 (dk_at dksX8_tests_0 12 rfl rfl)
theorem dX8_tests_13 : decode cX8_tests 13 = .ok (.getfield 63, 3) := dk_180 0 63 (dk_at dksX8_tests_0 13 rfl rfl)
theorem dX8_tests_16 : decode cX8_tests 16 = .ok (.iload_n 1, 1) := dk_27 (dk_at dksX8_tests_0 16 rfl rfl)
theorem dX8_tests_17 : decode cX8_tests 17 = .ok (.iaload, 1) := dk_46 (dk_at dksX8_tests_0 17 rfl rfl)
theorem dX8_tests_18 : decode cX8_tests 18 = .ok (.bipush 24, 2) := dk_16 24 (dk_at dksX8_tests_0 18 rfl rfl)
theorem dX8_tests_20 : decode cX8_tests 20 = .ok (.if_icmp .ne 24, 3) := dk_160 0 24 (dk_at dksX8_tests_0 20 rfl rfl)
theorem dX8_tests_23 : decode cX8_tests 23 = .ok (.aload_n 0, 1) := dk_42 (dk_at dksX8_tests_0 23 rfl rfl)
theorem dX8_tests_24 : decode cX8_tests 24 = .ok (.getfield 60, 3) := dk_180 0 60 (dk_at dksX8_tests_1 0 rfl rfl)
theorem dX8_tests_27 : decode cX8_tests 27 = .ok (.iload_n 1, 1) := dk_27 (dk_at dksX8_tests_1 3 rfl rfl)
theorem dX8_tests_28 : decode cX8_tests 28 = .ok (.iaload, 1) := dk_46 (dk_at dksX8_tests_1 4 rfl rfl)
theorem dX8_tests_29 : decode cX8_tests 29 = .ok (.aload_n 0, 1) := dk_42 (dk_at dksX8_tests_1 5 rfl rfl)
theorem dX8_tests_30 : decode cX8_tests 30 = .ok (.getfield 66, 3) := dk_180 0 66 (dk_at dksX8_tests_1 6 rfl rfl)
theorem dX8_tests_33 : decode cX8_tests 33 = .ok (.iload_n 1, 1) := dk_27 (dk_at dksX8_tests_1 9 rfl rfl)
theorem dX8_tests_34 : decode cX8_tests 34 = .ok (.iaload, 1) := dk_46 (dk_at dksX8_tests_1 10 rfl rfl)
theorem dX8_tests_35 : decode cX8_tests 35 = .ok (.if_icmp .ge 7, 3) := dk_162 0 7 (dk_at dksX8_tests_1 11 rfl rfl)
theorem dX8_tests_38 : decode cX8_tests 38 = .ok (.iconst 1, 1) := dk_4 (dk_at dksX8_tests_1 14 rfl rfl)
theorem dX8_tests_39 : decode cX8_tests 39 = .ok (.goto 4, 3) := dk_167 0 4 (dk_at dksX8_tests_1 15 rfl rfl)
theorem dX8_tests_42 : decode cX8_tests 42 = .ok (.iconst 0, 1) := dk_3 (dk_at dksX8_tests_1 18 rfl rfl)
theorem dX8_tests_43 : decode cX8_tests 43 = .ok (.istore_n 2, 1) := dk_61 (dk_at dksX8_tests_1 19 rfl rfl)
theorem dX8_tests_44 : decode cX8_tests 44 = .ok (.aload_n 0, 1) := dk_42 (dk_at dksX8_tests_1 20 rfl rfl)
theorem dX8_tests_45 : decode cX8_tests 45 = .ok (.getfield 63, 3) := dk_180 0 63 (dk_at dksX8_tests_1 21 rfl rfl)
theorem dX8_tests_48 : decode cX8_tests 48 = .ok (.iload_n 1, 1) := dk_27 (dk_at dksX8_tests_2 0 rfl rfl)
theorem dX8_tests_49 : decode cX8_tests 49 = .ok (.iaload, 1) := dk_46 (dk_at dksX8_tests_2 1 rfl rfl)
theorem dX8_tests_50 : decode cX8_tests 50 = .ok (.bipush 25, 2) := dk_16 25 (dk_at dksX8_tests_2 2 rfl rfl)
theorem dX8_tests_52 : decode cX8_tests 52 = .ok (.if_icmp .ne 24, 3) := dk_160 0 24 (dk_at dksX8_tests_2 4 rfl rfl)
theorem dX8_tests_55 : decode cX8_tests 55 = .ok (.aload_n 0, 1) := dk_42 (dk_at dksX8_tests_2 7 rfl rfl)
theorem dX8_tests_56 : decode cX8_tests 56 = .ok (.getfield 60, 3) := dk_180 0 60 (dk_at dksX8_tests_2 8 rfl rfl)
theorem dX8_tests_59 : decode cX8_tests 59 = .ok (.iload_n 1, 1) := dk_27 (dk_at dksX8_tests_2 11 rfl rfl)
theorem dX8_tests_60 : decode cX8_tests 60 = .ok (.iaload, 1) := dk_46 (dk_at dksX8_tests_2 12 rfl rfl)
theorem dX8_tests_61 : decode cX8_tests 61 = .ok (.aload_n 0, 1) := dk_42 (dk_at dksX8_tests_2 13 rfl rfl)
theorem dX8_tests_62 : decode cX8_tests 62 = .ok (.getfield 66, 3) := dk_180 0 66 (dk_at dksX8_tests_2 14 rfl rfl)
theorem dX8_tests_65 : decode cX8_tests 65 = .ok (.iload_n 1, 1) := dk_27 (dk_at dksX8_tests_2 17 rfl rfl)
theorem dX8_tests_66 : decode cX8_tests 66 = .ok (.iaload, 1) := dk_46 (dk_at dksX8_tests_2 18 rfl rfl)
theorem dX8_tests_67 : decode cX8_tests 67 = .ok (.if_icmp .ne 7, 3) := dk_160 0 7 (dk_at dksX8_tests_2 19 rfl rfl)
theorem dX8_tests_70 : decode cX8_tests 70 = .ok (.iconst 1, 1) := dk_4 (dk_at dksX8_tests_2 22 rfl rfl)
theorem dX8_tests_71 : decode cX8_tests 71 = .ok (.goto 4, 3) := dk_167 0 4 (dk_at dksX8_tests_3 0 rfl rfl)
theorem dX8_tests_74 : decode cX8_tests 74 = .ok (.iconst 0, 1) := dk_3 (dk_at dksX8_tests_3 3 rfl rfl)
theorem dX8_tests_75 : decode cX8_tests 75 = .ok (.istore_n 2, 1) := dk_61 (dk_at dksX8_tests_3 4 rfl rfl)
theorem dX8_tests_76 : decode cX8_tests 76 = .ok (.aload_n 0, 1) := dk_42 (dk_at dksX8_tests_3 5 rfl rfl)
theorem dX8_tests_77 : decode cX8_tests 77 = .ok (.getfield 57, 3) := dk_180 0 57 (dk_at dksX8_tests_3 6 rfl rfl)
theorem dX8_tests_80 : decode cX8_tests 80 = .ok (.iload_n 1, 1) := dk_27 (dk_at dksX8_tests_3 9 rfl rfl)
theorem dX8_tests_81 : decode cX8_tests 81 = .ok (.iaload, 1) := dk_46 (dk_at dksX8_tests_3 10 rfl rfl)
theorem dX8_tests_82 : decode cX8_tests 82 = .ok (.bipush 26, 2) := dk_16 26 (dk_at dksX8_tests_3 11 rfl rfl)
theorem dX8_tests_84 : decode cX8_tests 84 = .ok (.if_icmp .ne 22, 3) := dk_160 0 22 (dk_at dksX8_tests_3 13 rfl rfl)
theorem dX8_tests_87 : decode cX8_tests 87 = .ok (.aload_n 0, 1) := dk_42 (dk_at dksX8_tests_3 16 rfl rfl)
theorem dX8_tests_88 : decode cX8_tests 88 = .ok (.getfield 54, 3) := dk_180 0 54 (dk_at dksX8_tests_3 17 rfl rfl)
theorem dX8_tests_91 : decode cX8_tests 91 = .ok (.iload_n 1, 1) := dk_27 (dk_at dksX8_tests_3 20 rfl rfl)
theorem dX8_tests_92 : decode cX8_tests 92 = .ok (.iaload, 1) := dk_46 (dk_at dksX8_tests_3 21 rfl rfl)
theorem dX8_tests_93 : decode cX8_tests 93 = .ok (.ifCond .eq 11, 3) := dk_153 0 11 (dk_at dksX8_tests_4 0 rfl rfl)
theorem dX8_tests_96 : decode cX8_tests 96 = .ok (.iload_n 2, 1) := dk_28 (dk_at dksX8_tests_4 3 rfl rfl)
theorem dX8_tests_97 : decode cX8_tests 97 = .ok (.ifCond .eq 7, 3) := dk_153 0 7 (dk_at dksX8_tests_4 4 rfl rfl)
theorem dX8_tests_100 : decode cX8_tests 100 = .ok (.iconst 1, 1) := dk_4 (dk_at dksX8_tests_4 7 rfl rfl)
theorem dX8_tests_101 : decode cX8_tests 101 = .ok (.goto 4, 3) := dk_167 0 4 (dk_at dksX8_tests_4 8 rfl rfl)
theorem dX8_tests_104 : decode cX8_tests 104 = .ok (.iconst 0, 1) := dk_3 (dk_at dksX8_tests_4 11 rfl rfl)
theorem dX8_tests_105 : decode cX8_tests 105 = .ok (.istore_n 2, 1) := dk_61 (dk_at dksX8_tests_4 12 rfl rfl)
theorem dX8_tests_106 : decode cX8_tests 106 = .ok (.aload_n 0, 1) := dk_42 (dk_at dksX8_tests_4 13 rfl rfl)
theorem dX8_tests_107 : decode cX8_tests 107 = .ok (.getfield 57, 3) := dk_180 0 57 (dk_at dksX8_tests_4 14 rfl rfl)
theorem dX8_tests_110 : decode cX8_tests 110 = .ok (.iload_n 1, 1) := dk_27 (dk_at dksX8_tests_4 17 rfl rfl)
theorem dX8_tests_111 : decode cX8_tests 111 = .ok (.iaload, 1) := dk_46 (dk_at dksX8_tests_4 18 rfl rfl)
theorem dX8_tests_112 : decode cX8_tests 112 = .ok (.bipush 27, 2) := dk_16 27 (dk_at dksX8_tests_4 19 rfl rfl)
theorem dX8_tests_114 : decode cX8_tests 114 = .ok (.if_icmp .ne 22, 3) := dk_160 0 22 (dk_at dksX8_tests_4 21 rfl rfl)
theorem dX8_tests_117 : decode cX8_tests 117 = .ok (.aload_n 0, 1) := dk_42 (dk_at dksX8_tests_5 0 rfl rfl)
theorem dX8_tests_118 : decode cX8_tests 118 = .ok (.getfield 54, 3) := dk_180 0 54 (dk_at dksX8_tests_5 1 rfl rfl)
theorem dX8_tests_121 : decode cX8_tests 121 = .ok (.iload_n 1, 1) := dk_27 (dk_at dksX8_tests_5 4 rfl rfl)
theorem dX8_tests_122 : decode cX8_tests 122 = .ok (.iaload, 1) := dk_46 (dk_at dksX8_tests_5 5 rfl rfl)
theorem dX8_tests_123 : decode cX8_tests 123 = .ok (.ifCond .ne 7, 3) := dk_154 0 7 (dk_at dksX8_tests_5 6 rfl rfl)
theorem dX8_tests_126 : decode cX8_tests 126 = .ok (.iload_n 2, 1) := dk_28 (dk_at dksX8_tests_5 9 rfl rfl)
theorem dX8_tests_127 : decode cX8_tests 127 = .ok (.ifCond .eq 7, 3) := dk_153 0 7 (dk_at dksX8_tests_5 10 rfl rfl)
theorem dX8_tests_130 : decode cX8_tests 130 = .ok (.iconst 1, 1) := dk_4 (dk_at dksX8_tests_5 13 rfl rfl)
theorem dX8_tests_131 : decode cX8_tests 131 = .ok (.goto 4, 3) := dk_167 0 4 (dk_at dksX8_tests_5 14 rfl rfl)
theorem dX8_tests_134 : decode cX8_tests 134 = .ok (.iconst 0, 1) := dk_3 (dk_at dksX8_tests_5 17 rfl rfl)
theorem dX8_tests_135 : decode cX8_tests 135 = .ok (.istore_n 2, 1) := dk_61 (dk_at dksX8_tests_5 18 rfl rfl)
theorem dX8_tests_136 : decode cX8_tests 136 = .ok (.aload_n 0, 1) := dk_42 (dk_at dksX8_tests_5 19 rfl rfl)
theorem dX8_tests_137 : decode cX8_tests 137 = .ok (.getfield 54, 3) := dk_180 0 54 (dk_at dksX8_tests_5 20 rfl rfl)
theorem dX8_tests_140 : decode cX8_tests 140 = .ok (.iload_n 1, 1) := dk_27 (dk_at dksX8_tests_5 23 rfl rfl)
theorem dX8_tests_141 : decode cX8_tests 141 = .ok (.iload_n 2, 1) := dk_28 (dk_at dksX8_tests_6 0 rfl rfl)
theorem dX8_tests_142 : decode cX8_tests 142 = .ok (.iastore, 1) := dk_79 (dk_at dksX8_tests_6 1 rfl rfl)
theorem dX8_tests_143 : decode cX8_tests 143 = .ok (.aload_n 0, 1) := dk_42 (dk_at dksX8_tests_6 2 rfl rfl)
theorem dX8_tests_144 : decode cX8_tests 144 = .ok (.getfield 63, 3) := dk_180 0 63 (dk_at dksX8_tests_6 3 rfl rfl)
theorem dX8_tests_147 : decode cX8_tests 147 = .ok (.iload_n 1, 1) := dk_27 (dk_at dksX8_tests_6 6 rfl rfl)
theorem dX8_tests_148 : decode cX8_tests 148 = .ok (.iconst 0, 1) := dk_3 (dk_at dksX8_tests_6 7 rfl rfl)
theorem dX8_tests_149 : decode cX8_tests 149 = .ok (.iastore, 1) := dk_79 (dk_at dksX8_tests_6 8 rfl rfl)
theorem dX8_tests_150 : decode cX8_tests 150 = .ok (.aload_n 0, 1) := dk_42 (dk_at dksX8_tests_6 9 rfl rfl)
theorem dX8_tests_151 : decode cX8_tests 151 = .ok (.getfield 66, 3) := dk_180 0 66 (dk_at dksX8_tests_6 10 rfl rfl)
theorem dX8_tests_154 : decode cX8_tests 154 = .ok (.iload_n 1, 1) := dk_27 (dk_at dksX8_tests_6 13 rfl rfl)
theorem dX8_tests_155 : decode cX8_tests 155 = .ok (.iconst 0, 1) := dk_3 (dk_at dksX8_tests_6 14 rfl rfl)
theorem dX8_tests_156 : decode cX8_tests 156 = .ok (.iastore, 1) := dk_79 (dk_at dksX8_tests_6 15 rfl rfl)
theorem dX8_tests_157 : decode cX8_tests 157 = .ok (.aload_n 0, 1) := dk_42 (dk_at dksX8_tests_6 16 rfl rfl)
theorem dX8_tests_158 : decode cX8_tests 158 = .ok (.getfield 69, 3) := dk_180 0 69 (dk_at dksX8_tests_6 17 rfl rfl)
theorem dX8_tests_161 : decode cX8_tests 161 = .ok (.iload_n 1, 1) := dk_27 (dk_at dksX8_tests_6 20 rfl rfl)
theorem dX8_tests_162 : decode cX8_tests 162 = .ok (.bipush 20, 2) := dk_16 20 (dk_at dksX8_tests_6 21 rfl rfl)
theorem dX8_tests_164 : decode cX8_tests 164 = .ok (.iastore, 1) := dk_79 (dk_at dksX8_tests_6 23 rfl rfl)
theorem dX8_tests_165 : decode cX8_tests 165 = .ok (.return_, 1) := dk_177 (dk_at dksX8_tests_7 0 rfl rfl)
abbrev cX8_bank : ByteArray := prog_30_method_55_code
def yX8_bank : MethodName := ⟨RX8, "bank", "(III)I"⟩
def dkwX8_bank_4 : List UInt8 := [182, 1, 73, 172]
abbrev dktX8_bank_4 : List UInt8 := dkwX8_bank_4 ++ []
def dkwX8_bank_3 : List UInt8 := [182, 1, 59, 167, 0, 22, 42, 42, 182, 1, 90, 27, 42, 180, 0, 84, 16, 50, 46, 28, 21, 4]
abbrev dktX8_bank_3 : List UInt8 := dkwX8_bank_3 ++ dktX8_bank_4
def dkwX8_bank_2 : List UInt8 := [182, 1, 70, 161, 0, 5, 2, 172, 29, 154, 0, 21, 42, 27, 42, 180, 0, 84, 16, 50, 46, 28, 21, 4]
abbrev dktX8_bank_2 : List UInt8 := dkwX8_bank_2 ++ dktX8_bank_3
def dkwX8_bank_1 : List UInt8 := [42, 27, 42, 180, 0, 84, 16, 50, 46, 182, 1, 80, 54, 4, 28, 155, 0, 13, 28, 42, 21, 4]
abbrev dktX8_bank_1 : List UInt8 := dkwX8_bank_1 ++ dktX8_bank_2
def dkwX8_bank_0 : List UInt8 := [42, 3, 181, 0, 109, 42, 27, 182, 1, 87, 153, 0, 12, 29, 3, 4, 184, 0, 235, 154, 0, 5, 2, 172]
abbrev dktX8_bank_0 : List UInt8 := dkwX8_bank_0 ++ dktX8_bank_1
theorem dksX8_bank_0 : cX8_bank.data.toList.drop 0 = dktX8_bank_0 := by decide +kernel
theorem dksX8_bank_1 : cX8_bank.data.toList.drop 24 = dktX8_bank_1 := dk_seg dksX8_bank_0 24 rfl rfl
theorem dksX8_bank_2 : cX8_bank.data.toList.drop 46 = dktX8_bank_2 := dk_seg dksX8_bank_1 22 rfl rfl
theorem dksX8_bank_3 : cX8_bank.data.toList.drop 70 = dktX8_bank_3 := dk_seg dksX8_bank_2 24 rfl rfl
theorem dksX8_bank_4 : cX8_bank.data.toList.drop 92 = dktX8_bank_4 := dk_seg dksX8_bank_3 22 rfl rfl
theorem dX8_bank_0 : decode cX8_bank 0 = .ok (.aload_n 0, 1) := dk_42 (dk_at dksX8_bank_0 0 rfl rfl)
theorem dX8_bank_1 : decode cX8_bank 1 = .ok (.iconst 0, 1) := dk_3 (dk_at dksX8_bank_0 1 rfl rfl)
theorem dX8_bank_2 : decode cX8_bank 2 = .ok (.putfield 109, 3) := dk_181 0 109 (dk_at dksX8_bank_0 2 rfl rfl)
theorem dX8_bank_5 : decode cX8_bank 5 = .ok (.aload_n 0, 1) := dk_42 (dk_at dksX8_bank_0 5 rfl rfl)
theorem dX8_bank_6 : decode cX8_bank 6 = .ok (.iload_n 1, 1) := dk_27 (dk_at dksX8_bank_0 6 rfl rfl)
theorem dX8_bank_7 : decode cX8_bank 7 = .ok (.invokevirtual 343, 3) := dk_182 1 87 (dk_at dksX8_bank_0 7 rfl rfl)
theorem dX8_bank_10 : decode cX8_bank 10 = .ok (.ifCond .eq 12, 3) := dk_153 0 12 (dk_at dksX8_bank_0 10 rfl rfl)
theorem dX8_bank_13 : decode cX8_bank 13 = .ok (.iload_n 3, 1) := dk_29 (dk_at dksX8_bank_0 13 rfl rfl)
theorem dX8_bank_14 : decode cX8_bank 14 = .ok (.iconst 0, 1) := dk_3 (dk_at dksX8_bank_0 14 rfl rfl)
theorem dX8_bank_15 : decode cX8_bank 15 = .ok (.iconst 1, 1) := dk_4 (dk_at dksX8_bank_0 15 rfl rfl)
theorem dX8_bank_16 : decode cX8_bank 16 = .ok (.invokestatic 235, 3) := dk_184 0 235 (dk_at dksX8_bank_0 16 rfl rfl)
theorem dX8_bank_19 : decode cX8_bank 19 = .ok (.ifCond .ne 5, 3) := dk_154 0 5 (dk_at dksX8_bank_0 19 rfl rfl)
theorem dX8_bank_22 : decode cX8_bank 22 = .ok (.iconst (-1), 1) := dk_2 (dk_at dksX8_bank_0 22 rfl rfl)
theorem dX8_bank_23 : decode cX8_bank 23 = .ok (.ireturn, 1) := dk_172 (dk_at dksX8_bank_0 23 rfl rfl)
theorem dX8_bank_24 : decode cX8_bank 24 = .ok (.aload_n 0, 1) := dk_42 (dk_at dksX8_bank_1 0 rfl rfl)
theorem dX8_bank_25 : decode cX8_bank 25 = .ok (.iload_n 1, 1) := dk_27 (dk_at dksX8_bank_1 1 rfl rfl)
theorem dX8_bank_26 : decode cX8_bank 26 = .ok (.aload_n 0, 1) := dk_42 (dk_at dksX8_bank_1 2 rfl rfl)
theorem dX8_bank_27 : decode cX8_bank 27 = .ok (.getfield 84, 3) := dk_180 0 84 (dk_at dksX8_bank_1 3 rfl rfl)
theorem dX8_bank_30 : decode cX8_bank 30 = .ok (.bipush 50, 2) := dk_16 50 (dk_at dksX8_bank_1 6 rfl rfl)
theorem dX8_bank_32 : decode cX8_bank 32 = .ok (.iaload, 1) := dk_46 (dk_at dksX8_bank_1 8 rfl rfl)
theorem dX8_bank_33 : decode cX8_bank 33 = .ok (.invokevirtual 336, 3) := dk_182 1 80 (dk_at dksX8_bank_1 9 rfl rfl)
theorem dX8_bank_36 : decode cX8_bank 36 = .ok (.istore 4, 2) := dk_54 4 (dk_at dksX8_bank_1 12 rfl rfl)
theorem dX8_bank_38 : decode cX8_bank 38 = .ok (.iload_n 2, 1) := dk_28 (dk_at dksX8_bank_1 14 rfl rfl)
theorem dX8_bank_39 : decode cX8_bank 39 = .ok (.ifCond .lt 13, 3) := dk_155 0 13 (dk_at dksX8_bank_1 15 rfl rfl)
theorem dX8_bank_42 : decode cX8_bank 42 = .ok (.iload_n 2, 1) := dk_28 (dk_at dksX8_bank_1 18 rfl rfl)
theorem dX8_bank_43 : decode cX8_bank 43 = .ok (.aload_n 0, 1) := dk_42 (dk_at dksX8_bank_1 19 rfl rfl)
theorem dX8_bank_44 : decode cX8_bank 44 = .ok (.iload 4, 2) := dk_21 4 (dk_at dksX8_bank_1 20 rfl rfl)
theorem dX8_bank_46 : decode cX8_bank 46 = .ok (.invokevirtual 326, 3) := dk_182 1 70 (dk_at dksX8_bank_2 0 rfl rfl)
theorem dX8_bank_49 : decode cX8_bank 49 = .ok (.if_icmp .lt 5, 3) := dk_161 0 5 (dk_at dksX8_bank_2 3 rfl rfl)
theorem dX8_bank_52 : decode cX8_bank 52 = .ok (.iconst (-1), 1) := dk_2 (dk_at dksX8_bank_2 6 rfl rfl)
theorem dX8_bank_53 : decode cX8_bank 53 = .ok (.ireturn, 1) := dk_172 (dk_at dksX8_bank_2 7 rfl rfl)
theorem dX8_bank_54 : decode cX8_bank 54 = .ok (.iload_n 3, 1) := dk_29 (dk_at dksX8_bank_2 8 rfl rfl)
theorem dX8_bank_55 : decode cX8_bank 55 = .ok (.ifCond .ne 21, 3) := dk_154 0 21 (dk_at dksX8_bank_2 9 rfl rfl)
theorem dX8_bank_58 : decode cX8_bank 58 = .ok (.aload_n 0, 1) := dk_42 (dk_at dksX8_bank_2 12 rfl rfl)
theorem dX8_bank_59 : decode cX8_bank 59 = .ok (.iload_n 1, 1) := dk_27 (dk_at dksX8_bank_2 13 rfl rfl)
theorem dX8_bank_60 : decode cX8_bank 60 = .ok (.aload_n 0, 1) := dk_42 (dk_at dksX8_bank_2 14 rfl rfl)
theorem dX8_bank_61 : decode cX8_bank 61 = .ok (.getfield 84, 3) := dk_180 0 84 (dk_at dksX8_bank_2 15 rfl rfl)
theorem dX8_bank_64 : decode cX8_bank 64 = .ok (.bipush 50, 2) := dk_16 50 (dk_at dksX8_bank_2 18 rfl rfl)
theorem dX8_bank_66 : decode cX8_bank 66 = .ok (.iaload, 1) := dk_46 (dk_at dksX8_bank_2 20 rfl rfl)
theorem dX8_bank_67 : decode cX8_bank 67 = .ok (.iload_n 2, 1) := dk_28 (dk_at dksX8_bank_2 21 rfl rfl)
theorem dX8_bank_68 : decode cX8_bank 68 = .ok (.iload 4, 2) := dk_21 4 (dk_at dksX8_bank_2 22 rfl rfl)
theorem dX8_bank_70 : decode cX8_bank 70 = .ok (.invokevirtual 315, 3) := dk_182 1 59 (dk_at dksX8_bank_3 0 rfl rfl)
theorem dX8_bank_73 : decode cX8_bank 73 = .ok (.goto 22, 3) := dk_167 0 22 (dk_at dksX8_bank_3 3 rfl rfl)
theorem dX8_bank_76 : decode cX8_bank 76 = .ok (.aload_n 0, 1) := dk_42 (dk_at dksX8_bank_3 6 rfl rfl)
theorem dX8_bank_77 : decode cX8_bank 77 = .ok (.aload_n 0, 1) := dk_42 (dk_at dksX8_bank_3 7 rfl rfl)
theorem dX8_bank_78 : decode cX8_bank 78 = .ok (.invokevirtual 346, 3) := dk_182 1 90 (dk_at dksX8_bank_3 8 rfl rfl)
theorem dX8_bank_81 : decode cX8_bank 81 = .ok (.iload_n 1, 1) := dk_27 (dk_at dksX8_bank_3 11 rfl rfl)
theorem dX8_bank_82 : decode cX8_bank 82 = .ok (.aload_n 0, 1) := dk_42 (dk_at dksX8_bank_3 12 rfl rfl)
theorem dX8_bank_83 : decode cX8_bank 83 = .ok (.getfield 84, 3) := dk_180 0 84 (dk_at dksX8_bank_3 13 rfl rfl)
theorem dX8_bank_86 : decode cX8_bank 86 = .ok (.bipush 50, 2) := dk_16 50 (dk_at dksX8_bank_3 16 rfl rfl)
theorem dX8_bank_88 : decode cX8_bank 88 = .ok (.iaload, 1) := dk_46 (dk_at dksX8_bank_3 18 rfl rfl)
theorem dX8_bank_89 : decode cX8_bank 89 = .ok (.iload_n 2, 1) := dk_28 (dk_at dksX8_bank_3 19 rfl rfl)
theorem dX8_bank_90 : decode cX8_bank 90 = .ok (.iload 4, 2) := dk_21 4 (dk_at dksX8_bank_3 20 rfl rfl)
theorem dX8_bank_92 : decode cX8_bank 92 = .ok (.invokevirtual 329, 3) := dk_182 1 73 (dk_at dksX8_bank_4 0 rfl rfl)
theorem dX8_bank_95 : decode cX8_bank 95 = .ok (.ireturn, 1) := dk_172 (dk_at dksX8_bank_4 3 rfl rfl)
abbrev cX8_lines : ByteArray := prog_30_method_47_code
def yX8_lines : MethodName := ⟨RX8, "lines", "(I)I"⟩
def dkwX8_lines_0 : List UInt8 := [27, 5, 162, 0, 12, 42, 180, 0, 13, 4, 46, 167, 0, 9, 42, 180, 0, 13, 3, 46, 172]
abbrev dktX8_lines_0 : List UInt8 := dkwX8_lines_0 ++ []
theorem dksX8_lines_0 : cX8_lines.data.toList.drop 0 = dktX8_lines_0 := by decide +kernel
theorem dX8_lines_0 : decode cX8_lines 0 = .ok (.iload_n 1, 1) := dk_27 (dk_at dksX8_lines_0 0 rfl rfl)
theorem dX8_lines_1 : decode cX8_lines 1 = .ok (.iconst 2, 1) := dk_5 (dk_at dksX8_lines_0 1 rfl rfl)
theorem dX8_lines_2 : decode cX8_lines 2 = .ok (.if_icmp .ge 12, 3) := dk_162 0 12 (dk_at dksX8_lines_0 2 rfl rfl)
theorem dX8_lines_5 : decode cX8_lines 5 = .ok (.aload_n 0, 1) := dk_42 (dk_at dksX8_lines_0 5 rfl rfl)
theorem dX8_lines_6 : decode cX8_lines 6 = .ok (.getfield 13, 3) := dk_180 0 13 (dk_at dksX8_lines_0 6 rfl rfl)
theorem dX8_lines_9 : decode cX8_lines 9 = .ok (.iconst 1, 1) := dk_4 (dk_at dksX8_lines_0 9 rfl rfl)
theorem dX8_lines_10 : decode cX8_lines 10 = .ok (.iaload, 1) := dk_46 (dk_at dksX8_lines_0 10 rfl rfl)
theorem dX8_lines_11 : decode cX8_lines 11 = .ok (.goto 9, 3) := dk_167 0 9 (dk_at dksX8_lines_0 11 rfl rfl)
theorem dX8_lines_14 : decode cX8_lines 14 = .ok (.aload_n 0, 1) := dk_42 (dk_at dksX8_lines_0 14 rfl rfl)
theorem dX8_lines_15 : decode cX8_lines 15 = .ok (.getfield 13, 3) := dk_180 0 13 (dk_at dksX8_lines_0 15 rfl rfl)
theorem dX8_lines_18 : decode cX8_lines 18 = .ok (.iconst 0, 1) := dk_3 (dk_at dksX8_lines_0 18 rfl rfl)
theorem dX8_lines_19 : decode cX8_lines 19 = .ok (.iaload, 1) := dk_46 (dk_at dksX8_lines_0 19 rfl rfl)
theorem dX8_lines_20 : decode cX8_lines 20 = .ok (.ireturn, 1) := dk_172 (dk_at dksX8_lines_0 20 rfl rfl)
abbrev cX8_bankOf : ByteArray := prog_30_method_44_code
def yX8_bankOf : MethodName := ⟨RX8, "bankOf", "(IIII)I"⟩
def dkwX8_bankOf_2 : List UInt8 := [4, 182, 1, 50, 54, 5, 21, 5, 156, 0, 7, 3, 167, 0, 11, 17, 3, 231, 21, 5, 184, 1, 53, 172]
abbrev dktX8_bankOf_2 : List UInt8 := dkwX8_bankOf_2 ++ []
def dkwX8_bankOf_1 : List UInt8 := [79, 42, 180, 0, 81, 5, 28, 79, 42, 180, 0, 81, 6, 29, 79, 42, 180, 0, 81, 7, 21, 4, 79, 42]
abbrev dktX8_bankOf_1 : List UInt8 := dkwX8_bankOf_1 ++ dktX8_bankOf_2
def dkwX8_bankOf_0 : List UInt8 := [42, 180, 0, 41, 4, 46, 42, 180, 0, 38, 4, 46, 160, 0, 6, 16, 20, 172, 42, 180, 0, 81, 4, 27]
abbrev dktX8_bankOf_0 : List UInt8 := dkwX8_bankOf_0 ++ dktX8_bankOf_1
theorem dksX8_bankOf_0 : cX8_bankOf.data.toList.drop 0 = dktX8_bankOf_0 := by decide +kernel
theorem dksX8_bankOf_1 : cX8_bankOf.data.toList.drop 24 = dktX8_bankOf_1 := dk_seg dksX8_bankOf_0 24 rfl rfl
theorem dksX8_bankOf_2 : cX8_bankOf.data.toList.drop 48 = dktX8_bankOf_2 := dk_seg dksX8_bankOf_1 24 rfl rfl
theorem dX8_bankOf_0 : decode cX8_bankOf 0 = .ok (.aload_n 0, 1) := dk_42 (dk_at dksX8_bankOf_0 0 rfl rfl)
theorem dX8_bankOf_1 : decode cX8_bankOf 1 = .ok (.getfield 41, 3) := dk_180 0 41 (dk_at dksX8_bankOf_0 1 rfl rfl)
theorem dX8_bankOf_4 : decode cX8_bankOf 4 = .ok (.iconst 1, 1) := dk_4 (dk_at dksX8_bankOf_0 4 rfl rfl)
theorem dX8_bankOf_5 : decode cX8_bankOf 5 = .ok (.iaload, 1) := dk_46 (dk_at dksX8_bankOf_0 5 rfl rfl)
theorem dX8_bankOf_6 : decode cX8_bankOf 6 = .ok (.aload_n 0, 1) := dk_42 (dk_at dksX8_bankOf_0 6 rfl rfl)
theorem dX8_bankOf_7 : decode cX8_bankOf 7 = .ok (.getfield 38, 3) := dk_180 0 38 (dk_at dksX8_bankOf_0 7 rfl rfl)
theorem dX8_bankOf_10 : decode cX8_bankOf 10 = .ok (.iconst 1, 1) := dk_4 (dk_at dksX8_bankOf_0 10 rfl rfl)
theorem dX8_bankOf_11 : decode cX8_bankOf 11 = .ok (.iaload, 1) := dk_46 (dk_at dksX8_bankOf_0 11 rfl rfl)
theorem dX8_bankOf_12 : decode cX8_bankOf 12 = .ok (.if_icmp .ne 6, 3) := dk_160 0 6 (dk_at dksX8_bankOf_0 12 rfl rfl)
theorem dX8_bankOf_15 : decode cX8_bankOf 15 = .ok (.bipush 20, 2) := dk_16 20 (dk_at dksX8_bankOf_0 15 rfl rfl)
theorem dX8_bankOf_17 : decode cX8_bankOf 17 = .ok (.ireturn, 1) := dk_172 (dk_at dksX8_bankOf_0 17 rfl rfl)
theorem dX8_bankOf_18 : decode cX8_bankOf 18 = .ok (.aload_n 0, 1) := dk_42 (dk_at dksX8_bankOf_0 18 rfl rfl)
theorem dX8_bankOf_19 : decode cX8_bankOf 19 = .ok (.getfield 81, 3) := dk_180 0 81 (dk_at dksX8_bankOf_0 19 rfl rfl)
theorem dX8_bankOf_22 : decode cX8_bankOf 22 = .ok (.iconst 1, 1) := dk_4 (dk_at dksX8_bankOf_0 22 rfl rfl)
theorem dX8_bankOf_23 : decode cX8_bankOf 23 = .ok (.iload_n 1, 1) := dk_27 (dk_at dksX8_bankOf_0 23 rfl rfl)
theorem dX8_bankOf_24 : decode cX8_bankOf 24 = .ok (.iastore, 1) := dk_79 (dk_at dksX8_bankOf_1 0 rfl rfl)
theorem dX8_bankOf_25 : decode cX8_bankOf 25 = .ok (.aload_n 0, 1) := dk_42 (dk_at dksX8_bankOf_1 1 rfl rfl)
theorem dX8_bankOf_26 : decode cX8_bankOf 26 = .ok (.getfield 81, 3) := dk_180 0 81 (dk_at dksX8_bankOf_1 2 rfl rfl)
theorem dX8_bankOf_29 : decode cX8_bankOf 29 = .ok (.iconst 2, 1) := dk_5 (dk_at dksX8_bankOf_1 5 rfl rfl)
theorem dX8_bankOf_30 : decode cX8_bankOf 30 = .ok (.iload_n 2, 1) := dk_28 (dk_at dksX8_bankOf_1 6 rfl rfl)
theorem dX8_bankOf_31 : decode cX8_bankOf 31 = .ok (.iastore, 1) := dk_79 (dk_at dksX8_bankOf_1 7 rfl rfl)
theorem dX8_bankOf_32 : decode cX8_bankOf 32 = .ok (.aload_n 0, 1) := dk_42 (dk_at dksX8_bankOf_1 8 rfl rfl)
theorem dX8_bankOf_33 : decode cX8_bankOf 33 = .ok (.getfield 81, 3) := dk_180 0 81 (dk_at dksX8_bankOf_1 9 rfl rfl)
theorem dX8_bankOf_36 : decode cX8_bankOf 36 = .ok (.iconst 3, 1) := dk_6 (dk_at dksX8_bankOf_1 12 rfl rfl)
theorem dX8_bankOf_37 : decode cX8_bankOf 37 = .ok (.iload_n 3, 1) := dk_29 (dk_at dksX8_bankOf_1 13 rfl rfl)
theorem dX8_bankOf_38 : decode cX8_bankOf 38 = .ok (.iastore, 1) := dk_79 (dk_at dksX8_bankOf_1 14 rfl rfl)
theorem dX8_bankOf_39 : decode cX8_bankOf 39 = .ok (.aload_n 0, 1) := dk_42 (dk_at dksX8_bankOf_1 15 rfl rfl)
theorem dX8_bankOf_40 : decode cX8_bankOf 40 = .ok (.getfield 81, 3) := dk_180 0 81 (dk_at dksX8_bankOf_1 16 rfl rfl)
theorem dX8_bankOf_43 : decode cX8_bankOf 43 = .ok (.iconst 4, 1) := dk_7 (dk_at dksX8_bankOf_1 19 rfl rfl)
theorem dX8_bankOf_44 : decode cX8_bankOf 44 = .ok (.iload 4, 2) := dk_21 4 (dk_at dksX8_bankOf_1 20 rfl rfl)
theorem dX8_bankOf_46 : decode cX8_bankOf 46 = .ok (.iastore, 1) := dk_79 (dk_at dksX8_bankOf_1 22 rfl rfl)
theorem dX8_bankOf_47 : decode cX8_bankOf 47 = .ok (.aload_n 0, 1) := dk_42 (dk_at dksX8_bankOf_1 23 rfl rfl)
theorem dX8_bankOf_48 : decode cX8_bankOf 48 = .ok (.iconst 1, 1) := dk_4 (dk_at dksX8_bankOf_2 0 rfl rfl)
theorem dX8_bankOf_49 : decode cX8_bankOf 49 = .ok (.invokevirtual 306, 3) := dk_182 1 50 (dk_at dksX8_bankOf_2 1 rfl rfl)
theorem dX8_bankOf_52 : decode cX8_bankOf 52 = .ok (.istore 5, 2) := dk_54 5 (dk_at dksX8_bankOf_2 4 rfl rfl)
theorem dX8_bankOf_54 : decode cX8_bankOf 54 = .ok (.iload 5, 2) := dk_21 5 (dk_at dksX8_bankOf_2 6 rfl rfl)
theorem dX8_bankOf_56 : decode cX8_bankOf 56 = .ok (.ifCond .ge 7, 3) := dk_156 0 7 (dk_at dksX8_bankOf_2 8 rfl rfl)
theorem dX8_bankOf_59 : decode cX8_bankOf 59 = .ok (.iconst 0, 1) := dk_3 (dk_at dksX8_bankOf_2 11 rfl rfl)
theorem dX8_bankOf_60 : decode cX8_bankOf 60 = .ok (.goto 11, 3) := dk_167 0 11 (dk_at dksX8_bankOf_2 12 rfl rfl)
theorem dX8_bankOf_63 : decode cX8_bankOf 63 = .ok (.sipush 999, 3) := dk_17 3 231 (dk_at dksX8_bankOf_2 15 rfl rfl)
theorem dX8_bankOf_66 : decode cX8_bankOf 66 = .ok (.iload 5, 2) := dk_21 5 (dk_at dksX8_bankOf_2 18 rfl rfl)
theorem dX8_bankOf_68 : decode cX8_bankOf 68 = .ok (.invokestatic 309, 3) := dk_184 1 53 (dk_at dksX8_bankOf_2 20 rfl rfl)
theorem dX8_bankOf_71 : decode cX8_bankOf 71 = .ok (.ireturn, 1) := dk_172 (dk_at dksX8_bankOf_2 23 rfl rfl)
abbrev cX8_all : ByteArray := prog_30_method_52_code
def yX8_all : MethodName := ⟨RX8, "all", "()I"⟩
def dkwX8_all_0 : List UInt8 := [4, 42, 180, 0, 13, 16, 6, 46, 120, 4, 100, 172]
abbrev dktX8_all_0 : List UInt8 := dkwX8_all_0 ++ []
theorem dksX8_all_0 : cX8_all.data.toList.drop 0 = dktX8_all_0 := by decide +kernel
theorem dX8_all_0 : decode cX8_all 0 = .ok (.iconst 1, 1) := dk_4 (dk_at dksX8_all_0 0 rfl rfl)
theorem dX8_all_1 : decode cX8_all 1 = .ok (.aload_n 0, 1) := dk_42 (dk_at dksX8_all_0 1 rfl rfl)
theorem dX8_all_2 : decode cX8_all 2 = .ok (.getfield 13, 3) := dk_180 0 13 (dk_at dksX8_all_0 2 rfl rfl)
theorem dX8_all_5 : decode cX8_all 5 = .ok (.bipush 6, 2) := dk_16 6 (dk_at dksX8_all_0 5 rfl rfl)
theorem dX8_all_7 : decode cX8_all 7 = .ok (.iaload, 1) := dk_46 (dk_at dksX8_all_0 7 rfl rfl)
theorem dX8_all_8 : decode cX8_all 8 = .ok (.ishl, 1) := dk_120 (dk_at dksX8_all_0 8 rfl rfl)
theorem dX8_all_9 : decode cX8_all 9 = .ok (.iconst 1, 1) := dk_4 (dk_at dksX8_all_0 9 rfl rfl)
theorem dX8_all_10 : decode cX8_all 10 = .ok (.isub, 1) := dk_100 (dk_at dksX8_all_0 10 rfl rfl)
theorem dX8_all_11 : decode cX8_all 11 = .ok (.ireturn, 1) := dk_172 (dk_at dksX8_all_0 11 rfl rfl)
abbrev cX8_passes : ByteArray := prog_30_method_48_code
def yX8_passes : MethodName := ⟨RX8, "passes", "(IIIII)I"⟩
def dkwX8_passes_6 : List UInt8 := [167, 255, 155, 21, 6, 172]
abbrev dktX8_passes_6 : List UInt8 := dkwX8_passes_6 ++ []
def dkwX8_passes_5 : List UInt8 := [42, 180, 0, 93, 21, 10, 92, 46, 21, 11, 96, 79, 21, 6, 21, 11, 100, 54, 6, 132, 8, 1]
abbrev dktX8_passes_5 : List UInt8 := dkwX8_passes_5 ++ dktX8_passes_6
def dkwX8_passes_4 : List UInt8 := [182, 1, 63, 54, 10, 21, 10, 156, 0, 6, 167, 0, 33, 42, 21, 10, 21, 6, 28, 182, 1, 66, 54, 11]
abbrev dktX8_passes_4 : List UInt8 := dkwX8_passes_4 ++ dktX8_passes_5
def dkwX8_passes_3 : List UInt8 := [162, 0, 14, 16, 8, 21, 4, 104, 21, 9, 96, 167, 0, 11, 16, 8, 21, 9, 104, 21, 4, 96, 27]
abbrev dktX8_passes_3 : List UInt8 := dkwX8_passes_3 ++ dktX8_passes_4
def dkwX8_passes_2 : List UInt8 := [112, 154, 0, 8, 21, 8, 167, 0, 10, 21, 7, 4, 100, 21, 8, 100, 54, 9, 42, 21, 5, 5]
abbrev dktX8_passes_2 : List UInt8 := dkwX8_passes_2 ++ dktX8_passes_3
def dkwX8_passes_1 : List UInt8 := [167, 0, 9, 42, 180, 0, 13, 4, 46, 54, 7, 3, 54, 8, 21, 8, 21, 7, 162, 0, 100, 21, 5, 5]
abbrev dktX8_passes_1 : List UInt8 := dkwX8_passes_1 ++ dktX8_passes_2
def dkwX8_passes_0 : List UInt8 := [42, 28, 29, 21, 4, 21, 5, 182, 1, 59, 54, 6, 21, 5, 5, 162, 0, 12, 42, 180, 0, 13, 3, 46]
abbrev dktX8_passes_0 : List UInt8 := dkwX8_passes_0 ++ dktX8_passes_1
theorem dksX8_passes_0 : cX8_passes.data.toList.drop 0 = dktX8_passes_0 := by decide +kernel
theorem dksX8_passes_1 : cX8_passes.data.toList.drop 24 = dktX8_passes_1 := dk_seg dksX8_passes_0 24 rfl rfl
theorem dksX8_passes_2 : cX8_passes.data.toList.drop 48 = dktX8_passes_2 := dk_seg dksX8_passes_1 24 rfl rfl
theorem dksX8_passes_3 : cX8_passes.data.toList.drop 70 = dktX8_passes_3 := dk_seg dksX8_passes_2 22 rfl rfl
theorem dksX8_passes_4 : cX8_passes.data.toList.drop 93 = dktX8_passes_4 := dk_seg dksX8_passes_3 23 rfl rfl
theorem dksX8_passes_5 : cX8_passes.data.toList.drop 117 = dktX8_passes_5 := dk_seg dksX8_passes_4 24 rfl rfl
theorem dksX8_passes_6 : cX8_passes.data.toList.drop 139 = dktX8_passes_6 := dk_seg dksX8_passes_5 22 rfl rfl
theorem dX8_passes_0 : decode cX8_passes 0 = .ok (.aload_n 0, 1) := dk_42 (dk_at dksX8_passes_0 0 rfl rfl)
theorem dX8_passes_1 : decode cX8_passes 1 = .ok (.iload_n 2, 1) := dk_28 (dk_at dksX8_passes_0 1 rfl rfl)
theorem dX8_passes_2 : decode cX8_passes 2 = .ok (.iload_n 3, 1) := dk_29 (dk_at dksX8_passes_0 2 rfl rfl)
theorem dX8_passes_3 : decode cX8_passes 3 = .ok (.iload 4, 2) := dk_21 4 (dk_at dksX8_passes_0 3 rfl rfl)
theorem dX8_passes_5 : decode cX8_passes 5 = .ok (.iload 5, 2) := dk_21 5 (dk_at dksX8_passes_0 5 rfl rfl)
theorem dX8_passes_7 : decode cX8_passes 7 = .ok (.invokevirtual 315, 3) := dk_182 1 59 (dk_at dksX8_passes_0 7 rfl rfl)
theorem dX8_passes_10 : decode cX8_passes 10 = .ok (.istore 6, 2) := dk_54 6 (dk_at dksX8_passes_0 10 rfl rfl)
theorem dX8_passes_12 : decode cX8_passes 12 = .ok (.iload 5, 2) := dk_21 5 (dk_at dksX8_passes_0 12 rfl rfl)
theorem dX8_passes_14 : decode cX8_passes 14 = .ok (.iconst 2, 1) := dk_5 (dk_at dksX8_passes_0 14 rfl rfl)
theorem dX8_passes_15 : decode cX8_passes 15 = .ok (.if_icmp .ge 12, 3) := dk_162 0 12 (dk_at dksX8_passes_0 15 rfl rfl)
theorem dX8_passes_18 : decode cX8_passes 18 = .ok (.aload_n 0, 1) := dk_42 (dk_at dksX8_passes_0 18 rfl rfl)
theorem dX8_passes_19 : decode cX8_passes 19 = .ok (.getfield 13, 3) := dk_180 0 13 (dk_at dksX8_passes_0 19 rfl rfl)
theorem dX8_passes_22 : decode cX8_passes 22 = .ok (.iconst 0, 1) := dk_3 (dk_at dksX8_passes_0 22 rfl rfl)
theorem dX8_passes_23 : decode cX8_passes 23 = .ok (.iaload, 1) := dk_46 (dk_at dksX8_passes_0 23 rfl rfl)
theorem dX8_passes_24 : decode cX8_passes 24 = .ok (.goto 9, 3) := dk_167 0 9 (dk_at dksX8_passes_1 0 rfl rfl)
theorem dX8_passes_27 : decode cX8_passes 27 = .ok (.aload_n 0, 1) := dk_42 (dk_at dksX8_passes_1 3 rfl rfl)
theorem dX8_passes_28 : decode cX8_passes 28 = .ok (.getfield 13, 3) := dk_180 0 13 (dk_at dksX8_passes_1 4 rfl rfl)
theorem dX8_passes_31 : decode cX8_passes 31 = .ok (.iconst 1, 1) := dk_4 (dk_at dksX8_passes_1 7 rfl rfl)
theorem dX8_passes_32 : decode cX8_passes 32 = .ok (.iaload, 1) := dk_46 (dk_at dksX8_passes_1 8 rfl rfl)
theorem dX8_passes_33 : decode cX8_passes 33 = .ok (.istore 7, 2) := dk_54 7 (dk_at dksX8_passes_1 9 rfl rfl)
theorem dX8_passes_35 : decode cX8_passes 35 = .ok (.iconst 0, 1) := dk_3 (dk_at dksX8_passes_1 11 rfl rfl)
theorem dX8_passes_36 : decode cX8_passes 36 = .ok (.istore 8, 2) := dk_54 8 (dk_at dksX8_passes_1 12 rfl rfl)
theorem dX8_passes_38 : decode cX8_passes 38 = .ok (.iload 8, 2) := dk_21 8 (dk_at dksX8_passes_1 14 rfl rfl)
theorem dX8_passes_40 : decode cX8_passes 40 = .ok (.iload 7, 2) := dk_21 7 (dk_at dksX8_passes_1 16 rfl rfl)
theorem dX8_passes_42 : decode cX8_passes 42 = .ok (.if_icmp .ge 100, 3) := dk_162 0 100 (dk_at dksX8_passes_1 18 rfl rfl)
theorem dX8_passes_45 : decode cX8_passes 45 = .ok (.iload 5, 2) := dk_21 5 (dk_at dksX8_passes_1 21 rfl rfl)
theorem dX8_passes_47 : decode cX8_passes 47 = .ok (.iconst 2, 1) := dk_5 (dk_at dksX8_passes_1 23 rfl rfl)
theorem dX8_passes_48 : decode cX8_passes 48 = .ok (.irem, 1) := dk_112 (dk_at dksX8_passes_2 0 rfl rfl)
theorem dX8_passes_49 : decode cX8_passes 49 = .ok (.ifCond .ne 8, 3) := dk_154 0 8 (dk_at dksX8_passes_2 1 rfl rfl)
theorem dX8_passes_52 : decode cX8_passes 52 = .ok (.iload 8, 2) := dk_21 8 (dk_at dksX8_passes_2 4 rfl rfl)
theorem dX8_passes_54 : decode cX8_passes 54 = .ok (.goto 10, 3) := dk_167 0 10 (dk_at dksX8_passes_2 6 rfl rfl)
theorem dX8_passes_57 : decode cX8_passes 57 = .ok (.iload 7, 2) := dk_21 7 (dk_at dksX8_passes_2 9 rfl rfl)
theorem dX8_passes_59 : decode cX8_passes 59 = .ok (.iconst 1, 1) := dk_4 (dk_at dksX8_passes_2 11 rfl rfl)
theorem dX8_passes_60 : decode cX8_passes 60 = .ok (.isub, 1) := dk_100 (dk_at dksX8_passes_2 12 rfl rfl)
theorem dX8_passes_61 : decode cX8_passes 61 = .ok (.iload 8, 2) := dk_21 8 (dk_at dksX8_passes_2 13 rfl rfl)
theorem dX8_passes_63 : decode cX8_passes 63 = .ok (.isub, 1) := dk_100 (dk_at dksX8_passes_2 15 rfl rfl)
theorem dX8_passes_64 : decode cX8_passes 64 = .ok (.istore 9, 2) := dk_54 9 (dk_at dksX8_passes_2 16 rfl rfl)
theorem dX8_passes_66 : decode cX8_passes 66 = .ok (.aload_n 0, 1) := dk_42 (dk_at dksX8_passes_2 18 rfl rfl)
theorem dX8_passes_67 : decode cX8_passes 67 = .ok (.iload 5, 2) := dk_21 5 (dk_at dksX8_passes_2 19 rfl rfl)
theorem dX8_passes_69 : decode cX8_passes 69 = .ok (.iconst 2, 1) := dk_5 (dk_at dksX8_passes_2 21 rfl rfl)
theorem dX8_passes_70 : decode cX8_passes 70 = .ok (.if_icmp .ge 14, 3) := dk_162 0 14 (dk_at dksX8_passes_3 0 rfl rfl)
theorem dX8_passes_73 : decode cX8_passes 73 = .ok (.bipush 8, 2) := dk_16 8 (dk_at dksX8_passes_3 3 rfl rfl)
theorem dX8_passes_75 : decode cX8_passes 75 = .ok (.iload 4, 2) := dk_21 4 (dk_at dksX8_passes_3 5 rfl rfl)
theorem dX8_passes_77 : decode cX8_passes 77 = .ok (.imul, 1) := dk_104 (dk_at dksX8_passes_3 7 rfl rfl)
theorem dX8_passes_78 : decode cX8_passes 78 = .ok (.iload 9, 2) := dk_21 9 (dk_at dksX8_passes_3 8 rfl rfl)
theorem dX8_passes_80 : decode cX8_passes 80 = .ok (.iadd, 1) := dk_96 (dk_at dksX8_passes_3 10 rfl rfl)
theorem dX8_passes_81 : decode cX8_passes 81 = .ok (.goto 11, 3) := dk_167 0 11 (dk_at dksX8_passes_3 11 rfl rfl)
theorem dX8_passes_84 : decode cX8_passes 84 = .ok (.bipush 8, 2) := dk_16 8 (dk_at dksX8_passes_3 14 rfl rfl)
theorem dX8_passes_86 : decode cX8_passes 86 = .ok (.iload 9, 2) := dk_21 9 (dk_at dksX8_passes_3 16 rfl rfl)
theorem dX8_passes_88 : decode cX8_passes 88 = .ok (.imul, 1) := dk_104 (dk_at dksX8_passes_3 18 rfl rfl)
theorem dX8_passes_89 : decode cX8_passes 89 = .ok (.iload 4, 2) := dk_21 4 (dk_at dksX8_passes_3 19 rfl rfl)
theorem dX8_passes_91 : decode cX8_passes 91 = .ok (.iadd, 1) := dk_96 (dk_at dksX8_passes_3 21 rfl rfl)
theorem dX8_passes_92 : decode cX8_passes 92 = .ok (.iload_n 1, 1) := dk_27 (dk_at dksX8_passes_3 22 rfl rfl)
theorem dX8_passes_93 : decode cX8_passes 93 = .ok (.invokevirtual 319, 3) := dk_182 1 63 (dk_at dksX8_passes_4 0 rfl rfl)
theorem dX8_passes_96 : decode cX8_passes 96 = .ok (.istore 10, 2) := dk_54 10 (dk_at dksX8_passes_4 3 rfl rfl)
theorem dX8_passes_98 : decode cX8_passes 98 = .ok (.iload 10, 2) := dk_21 10 (dk_at dksX8_passes_4 5 rfl rfl)
theorem dX8_passes_100 : decode cX8_passes 100 = .ok (.ifCond .ge 6, 3) := dk_156 0 6 (dk_at dksX8_passes_4 7 rfl rfl)
theorem dX8_passes_103 : decode cX8_passes 103 = .ok (.goto 33, 3) := dk_167 0 33 (dk_at dksX8_passes_4 10 rfl rfl)
theorem dX8_passes_106 : decode cX8_passes 106 = .ok (.aload_n 0, 1) := dk_42 (dk_at dksX8_passes_4 13 rfl rfl)
theorem dX8_passes_107 : decode cX8_passes 107 = .ok (.iload 10, 2) := dk_21 10 (dk_at dksX8_passes_4 14 rfl rfl)
theorem dX8_passes_109 : decode cX8_passes 109 = .ok (.iload 6, 2) := dk_21 6 (dk_at dksX8_passes_4 16 rfl rfl)
theorem dX8_passes_111 : decode cX8_passes 111 = .ok (.iload_n 2, 1) := dk_28 (dk_at dksX8_passes_4 18 rfl rfl)
theorem dX8_passes_112 : decode cX8_passes 112 = .ok (.invokevirtual 322, 3) := dk_182 1 66 (dk_at dksX8_passes_4 19 rfl rfl)
theorem dX8_passes_115 : decode cX8_passes 115 = .ok (.istore 11, 2) := dk_54 11 (dk_at dksX8_passes_4 22 rfl rfl)
theorem dX8_passes_117 : decode cX8_passes 117 = .ok (.aload_n 0, 1) := dk_42 (dk_at dksX8_passes_5 0 rfl rfl)
theorem dX8_passes_118 : decode cX8_passes 118 = .ok (.getfield 93, 3) := dk_180 0 93 (dk_at dksX8_passes_5 1 rfl rfl)
theorem dX8_passes_121 : decode cX8_passes 121 = .ok (.iload 10, 2) := dk_21 10 (dk_at dksX8_passes_5 4 rfl rfl)
theorem dX8_passes_123 : decode cX8_passes 123 = .ok (.dup2, 1) := dk_92 (dk_at dksX8_passes_5 6 rfl rfl)
theorem dX8_passes_124 : decode cX8_passes 124 = .ok (.iaload, 1) := dk_46 (dk_at dksX8_passes_5 7 rfl rfl)
theorem dX8_passes_125 : decode cX8_passes 125 = .ok (.iload 11, 2) := dk_21 11 (dk_at dksX8_passes_5 8 rfl rfl)
theorem dX8_passes_127 : decode cX8_passes 127 = .ok (.iadd, 1) := dk_96 (dk_at dksX8_passes_5 10 rfl rfl)
theorem dX8_passes_128 : decode cX8_passes 128 = .ok (.iastore, 1) := dk_79 (dk_at dksX8_passes_5 11 rfl rfl)
theorem dX8_passes_129 : decode cX8_passes 129 = .ok (.iload 6, 2) := dk_21 6 (dk_at dksX8_passes_5 12 rfl rfl)
theorem dX8_passes_131 : decode cX8_passes 131 = .ok (.iload 11, 2) := dk_21 11 (dk_at dksX8_passes_5 14 rfl rfl)
theorem dX8_passes_133 : decode cX8_passes 133 = .ok (.isub, 1) := dk_100 (dk_at dksX8_passes_5 16 rfl rfl)
theorem dX8_passes_134 : decode cX8_passes 134 = .ok (.istore 6, 2) := dk_54 6 (dk_at dksX8_passes_5 17 rfl rfl)
theorem dX8_passes_136 : decode cX8_passes 136 = .ok (.iinc 8 1, 3) := dk_132 8 1 (dk_at dksX8_passes_5 19 rfl rfl)
theorem dX8_passes_139 : decode cX8_passes 139 = .ok (.goto (-101), 3) := dk_167 255 155 (dk_at dksX8_passes_6 0 rfl rfl)
theorem dX8_passes_142 : decode cX8_passes 142 = .ok (.iload 6, 2) := dk_21 6 (dk_at dksX8_passes_6 3 rfl rfl)
theorem dX8_passes_144 : decode cX8_passes 144 = .ok (.ireturn, 1) := dk_172 (dk_at dksX8_passes_6 5 rfl rfl)
abbrev cX8_netAt : ByteArray := prog_30_method_45_code
def yX8_netAt : MethodName := ⟨RX8, "netAt", "(II)I"⟩
def dkwX8_netAt_1 : List UInt8 := [96, 46, 27, 160, 0, 5, 29, 172, 132, 3, 1, 167, 255, 223, 2, 172]
abbrev dktX8_netAt_1 : List UInt8 := dkwX8_netAt_1 ++ []
def dkwX8_netAt_0 : List UInt8 := [3, 62, 29, 16, 13, 162, 0, 33, 28, 29, 122, 4, 126, 4, 160, 0, 18, 42, 180, 0, 84, 16, 12, 29]
abbrev dktX8_netAt_0 : List UInt8 := dkwX8_netAt_0 ++ dktX8_netAt_1
theorem dksX8_netAt_0 : cX8_netAt.data.toList.drop 0 = dktX8_netAt_0 := by decide +kernel
theorem dksX8_netAt_1 : cX8_netAt.data.toList.drop 24 = dktX8_netAt_1 := dk_seg dksX8_netAt_0 24 rfl rfl
theorem dX8_netAt_0 : decode cX8_netAt 0 = .ok (.iconst 0, 1) := dk_3 (dk_at dksX8_netAt_0 0 rfl rfl)
theorem dX8_netAt_1 : decode cX8_netAt 1 = .ok (.istore_n 3, 1) := dk_62 (dk_at dksX8_netAt_0 1 rfl rfl)
theorem dX8_netAt_2 : decode cX8_netAt 2 = .ok (.iload_n 3, 1) := dk_29 (dk_at dksX8_netAt_0 2 rfl rfl)
theorem dX8_netAt_3 : decode cX8_netAt 3 = .ok (.bipush 13, 2) := dk_16 13 (dk_at dksX8_netAt_0 3 rfl rfl)
theorem dX8_netAt_5 : decode cX8_netAt 5 = .ok (.if_icmp .ge 33, 3) := dk_162 0 33 (dk_at dksX8_netAt_0 5 rfl rfl)
theorem dX8_netAt_8 : decode cX8_netAt 8 = .ok (.iload_n 2, 1) := dk_28 (dk_at dksX8_netAt_0 8 rfl rfl)
theorem dX8_netAt_9 : decode cX8_netAt 9 = .ok (.iload_n 3, 1) := dk_29 (dk_at dksX8_netAt_0 9 rfl rfl)
theorem dX8_netAt_10 : decode cX8_netAt 10 = .ok (.ishr, 1) := dk_122 (dk_at dksX8_netAt_0 10 rfl rfl)
theorem dX8_netAt_11 : decode cX8_netAt 11 = .ok (.iconst 1, 1) := dk_4 (dk_at dksX8_netAt_0 11 rfl rfl)
theorem dX8_netAt_12 : decode cX8_netAt 12 = .ok (.iand, 1) := dk_126 (dk_at dksX8_netAt_0 12 rfl rfl)
theorem dX8_netAt_13 : decode cX8_netAt 13 = .ok (.iconst 1, 1) := dk_4 (dk_at dksX8_netAt_0 13 rfl rfl)
theorem dX8_netAt_14 : decode cX8_netAt 14 = .ok (.if_icmp .ne 18, 3) := dk_160 0 18 (dk_at dksX8_netAt_0 14 rfl rfl)
theorem dX8_netAt_17 : decode cX8_netAt 17 = .ok (.aload_n 0, 1) := dk_42 (dk_at dksX8_netAt_0 17 rfl rfl)
theorem dX8_netAt_18 : decode cX8_netAt 18 = .ok (.getfield 84, 3) := dk_180 0 84 (dk_at dksX8_netAt_0 18 rfl rfl)
theorem dX8_netAt_21 : decode cX8_netAt 21 = .ok (.bipush 12, 2) := dk_16 12 (dk_at dksX8_netAt_0 21 rfl rfl)
theorem dX8_netAt_23 : decode cX8_netAt 23 = .ok (.iload_n 3, 1) := dk_29 (dk_at dksX8_netAt_0 23 rfl rfl)
theorem dX8_netAt_24 : decode cX8_netAt 24 = .ok (.iadd, 1) := dk_96 (dk_at dksX8_netAt_1 0 rfl rfl)
theorem dX8_netAt_25 : decode cX8_netAt 25 = .ok (.iaload, 1) := dk_46 (dk_at dksX8_netAt_1 1 rfl rfl)
theorem dX8_netAt_26 : decode cX8_netAt 26 = .ok (.iload_n 1, 1) := dk_27 (dk_at dksX8_netAt_1 2 rfl rfl)
theorem dX8_netAt_27 : decode cX8_netAt 27 = .ok (.if_icmp .ne 5, 3) := dk_160 0 5 (dk_at dksX8_netAt_1 3 rfl rfl)
theorem dX8_netAt_30 : decode cX8_netAt 30 = .ok (.iload_n 3, 1) := dk_29 (dk_at dksX8_netAt_1 6 rfl rfl)
theorem dX8_netAt_31 : decode cX8_netAt 31 = .ok (.ireturn, 1) := dk_172 (dk_at dksX8_netAt_1 7 rfl rfl)
theorem dX8_netAt_32 : decode cX8_netAt 32 = .ok (.iinc 3 1, 3) := dk_132 3 1 (dk_at dksX8_netAt_1 8 rfl rfl)
theorem dX8_netAt_35 : decode cX8_netAt 35 = .ok (.goto (-33), 3) := dk_167 255 223 (dk_at dksX8_netAt_1 11 rfl rfl)
theorem dX8_netAt_38 : decode cX8_netAt 38 = .ok (.iconst (-1), 1) := dk_2 (dk_at dksX8_netAt_1 14 rfl rfl)
theorem dX8_netAt_39 : decode cX8_netAt 39 = .ok (.ireturn, 1) := dk_172 (dk_at dksX8_netAt_1 15 rfl rfl)
abbrev cX8_taken : ByteArray := prog_30_method_46_code
def yX8_taken : MethodName := ⟨RX8, "taken", "(III)I"⟩
def dkwX8_taken_3 : List UInt8 := [16, 25, 27, 96, 46, 154, 0, 10, 21, 5, 5, 108, 167, 0, 5, 21, 5, 172]
abbrev dktX8_taken_3 : List UInt8 := dkwX8_taken_3 ++ []
def dkwX8_taken_2 : List UInt8 := [21, 4, 8, 160, 0, 11, 28, 16, 10, 162, 0, 5, 3, 172, 21, 4, 6, 160, 0, 22, 42, 180, 0, 84]
abbrev dktX8_taken_2 : List UInt8 := dkwX8_taken_2 ++ dktX8_taken_3
def dkwX8_taken_1 : List UInt8 := [160, 0, 10, 7, 21, 5, 184, 1, 53, 172, 21, 4, 5, 160, 0, 10, 29, 5, 112, 4, 159, 0, 15]
abbrev dktX8_taken_1 : List UInt8 := dkwX8_taken_1 ++ dktX8_taken_2
def dkwX8_taken_0 : List UInt8 := [42, 180, 0, 35, 27, 46, 54, 4, 28, 42, 180, 0, 32, 27, 46, 104, 16, 10, 108, 54, 5, 21, 4, 4]
abbrev dktX8_taken_0 : List UInt8 := dkwX8_taken_0 ++ dktX8_taken_1
theorem dksX8_taken_0 : cX8_taken.data.toList.drop 0 = dktX8_taken_0 := by decide +kernel
theorem dksX8_taken_1 : cX8_taken.data.toList.drop 24 = dktX8_taken_1 := dk_seg dksX8_taken_0 24 rfl rfl
theorem dksX8_taken_2 : cX8_taken.data.toList.drop 47 = dktX8_taken_2 := dk_seg dksX8_taken_1 23 rfl rfl
theorem dksX8_taken_3 : cX8_taken.data.toList.drop 71 = dktX8_taken_3 := dk_seg dksX8_taken_2 24 rfl rfl
theorem dX8_taken_0 : decode cX8_taken 0 = .ok (.aload_n 0, 1) := dk_42 (dk_at dksX8_taken_0 0 rfl rfl)
theorem dX8_taken_1 : decode cX8_taken 1 = .ok (.getfield 35, 3) := dk_180 0 35 (dk_at dksX8_taken_0 1 rfl rfl)
theorem dX8_taken_4 : decode cX8_taken 4 = .ok (.iload_n 1, 1) := dk_27 (dk_at dksX8_taken_0 4 rfl rfl)
theorem dX8_taken_5 : decode cX8_taken 5 = .ok (.iaload, 1) := dk_46 (dk_at dksX8_taken_0 5 rfl rfl)
theorem dX8_taken_6 : decode cX8_taken 6 = .ok (.istore 4, 2) := dk_54 4 (dk_at dksX8_taken_0 6 rfl rfl)
theorem dX8_taken_8 : decode cX8_taken 8 = .ok (.iload_n 2, 1) := dk_28 (dk_at dksX8_taken_0 8 rfl rfl)
theorem dX8_taken_9 : decode cX8_taken 9 = .ok (.aload_n 0, 1) := dk_42 (dk_at dksX8_taken_0 9 rfl rfl)
theorem dX8_taken_10 : decode cX8_taken 10 = .ok (.getfield 32, 3) := dk_180 0 32 (dk_at dksX8_taken_0 10 rfl rfl)
theorem dX8_taken_13 : decode cX8_taken 13 = .ok (.iload_n 1, 1) := dk_27 (dk_at dksX8_taken_0 13 rfl rfl)
theorem dX8_taken_14 : decode cX8_taken 14 = .ok (.iaload, 1) := dk_46 (dk_at dksX8_taken_0 14 rfl rfl)
theorem dX8_taken_15 : decode cX8_taken 15 = .ok (.imul, 1) := dk_104 (dk_at dksX8_taken_0 15 rfl rfl)
theorem dX8_taken_16 : decode cX8_taken 16 = .ok (.bipush 10, 2) := dk_16 10 (dk_at dksX8_taken_0 16 rfl rfl)
theorem dX8_taken_18 : decode cX8_taken 18 = .ok (.idiv, 1) := dk_108 (dk_at dksX8_taken_0 18 rfl rfl)
theorem dX8_taken_19 : decode cX8_taken 19 = .ok (.istore 5, 2) := dk_54 5 (dk_at dksX8_taken_0 19 rfl rfl)
theorem dX8_taken_21 : decode cX8_taken 21 = .ok (.iload 4, 2) := dk_21 4 (dk_at dksX8_taken_0 21 rfl rfl)
theorem dX8_taken_23 : decode cX8_taken 23 = .ok (.iconst 1, 1) := dk_4 (dk_at dksX8_taken_0 23 rfl rfl)
theorem dX8_taken_24 : decode cX8_taken 24 = .ok (.if_icmp .ne 10, 3) := dk_160 0 10 (dk_at dksX8_taken_1 0 rfl rfl)
theorem dX8_taken_27 : decode cX8_taken 27 = .ok (.iconst 4, 1) := dk_7 (dk_at dksX8_taken_1 3 rfl rfl)
theorem dX8_taken_28 : decode cX8_taken 28 = .ok (.iload 5, 2) := dk_21 5 (dk_at dksX8_taken_1 4 rfl rfl)
theorem dX8_taken_30 : decode cX8_taken 30 = .ok (.invokestatic 309, 3) := dk_184 1 53 (dk_at dksX8_taken_1 6 rfl rfl)
theorem dX8_taken_33 : decode cX8_taken 33 = .ok (.ireturn, 1) := dk_172 (dk_at dksX8_taken_1 9 rfl rfl)
theorem dX8_taken_34 : decode cX8_taken 34 = .ok (.iload 4, 2) := dk_21 4 (dk_at dksX8_taken_1 10 rfl rfl)
theorem dX8_taken_36 : decode cX8_taken 36 = .ok (.iconst 2, 1) := dk_5 (dk_at dksX8_taken_1 12 rfl rfl)
theorem dX8_taken_37 : decode cX8_taken 37 = .ok (.if_icmp .ne 10, 3) := dk_160 0 10 (dk_at dksX8_taken_1 13 rfl rfl)
theorem dX8_taken_40 : decode cX8_taken 40 = .ok (.iload_n 3, 1) := dk_29 (dk_at dksX8_taken_1 16 rfl rfl)
theorem dX8_taken_41 : decode cX8_taken 41 = .ok (.iconst 2, 1) := dk_5 (dk_at dksX8_taken_1 17 rfl rfl)
theorem dX8_taken_42 : decode cX8_taken 42 = .ok (.irem, 1) := dk_112 (dk_at dksX8_taken_1 18 rfl rfl)
theorem dX8_taken_43 : decode cX8_taken 43 = .ok (.iconst 1, 1) := dk_4 (dk_at dksX8_taken_1 19 rfl rfl)
theorem dX8_taken_44 : decode cX8_taken 44 = .ok (.if_icmp .eq 15, 3) := dk_159 0 15 (dk_at dksX8_taken_1 20 rfl rfl)
theorem dX8_taken_47 : decode cX8_taken 47 = .ok (.iload 4, 2) := dk_21 4 (dk_at dksX8_taken_2 0 rfl rfl)
theorem dX8_taken_49 : decode cX8_taken 49 = .ok (.iconst 5, 1) := dk_8 (dk_at dksX8_taken_2 2 rfl rfl)
theorem dX8_taken_50 : decode cX8_taken 50 = .ok (.if_icmp .ne 11, 3) := dk_160 0 11 (dk_at dksX8_taken_2 3 rfl rfl)
theorem dX8_taken_53 : decode cX8_taken 53 = .ok (.iload_n 2, 1) := dk_28 (dk_at dksX8_taken_2 6 rfl rfl)
theorem dX8_taken_54 : decode cX8_taken 54 = .ok (.bipush 10, 2) := dk_16 10 (dk_at dksX8_taken_2 7 rfl rfl)
theorem dX8_taken_56 : decode cX8_taken 56 = .ok (.if_icmp .ge 5, 3) := dk_162 0 5 (dk_at dksX8_taken_2 9 rfl rfl)
theorem dX8_taken_59 : decode cX8_taken 59 = .ok (.iconst 0, 1) := dk_3 (dk_at dksX8_taken_2 12 rfl rfl)
theorem dX8_taken_60 : decode cX8_taken 60 = .ok (.ireturn, 1) := dk_172 (dk_at dksX8_taken_2 13 rfl rfl)
theorem dX8_taken_61 : decode cX8_taken 61 = .ok (.iload 4, 2) := dk_21 4 (dk_at dksX8_taken_2 14 rfl rfl)
theorem dX8_taken_63 : decode cX8_taken 63 = .ok (.iconst 3, 1) := dk_6 (dk_at dksX8_taken_2 16 rfl rfl)
theorem dX8_taken_64 : decode cX8_taken 64 = .ok (.if_icmp .ne 22, 3) := dk_160 0 22 (dk_at dksX8_taken_2 17 rfl rfl)
theorem dX8_taken_67 : decode cX8_taken 67 = .ok (.aload_n 0, 1) := dk_42 (dk_at dksX8_taken_2 20 rfl rfl)
theorem dX8_taken_68 : decode cX8_taken 68 = .ok (.getfield 84, 3) := dk_180 0 84 (dk_at dksX8_taken_2 21 rfl rfl)
theorem dX8_taken_71 : decode cX8_taken 71 = .ok (.bipush 25, 2) := dk_16 25 (dk_at dksX8_taken_3 0 rfl rfl)
theorem dX8_taken_73 : decode cX8_taken 73 = .ok (.iload_n 1, 1) := dk_27 (dk_at dksX8_taken_3 2 rfl rfl)
theorem dX8_taken_74 : decode cX8_taken 74 = .ok (.iadd, 1) := dk_96 (dk_at dksX8_taken_3 3 rfl rfl)
theorem dX8_taken_75 : decode cX8_taken 75 = .ok (.iaload, 1) := dk_46 (dk_at dksX8_taken_3 4 rfl rfl)
theorem dX8_taken_76 : decode cX8_taken 76 = .ok (.ifCond .ne 10, 3) := dk_154 0 10 (dk_at dksX8_taken_3 5 rfl rfl)
theorem dX8_taken_79 : decode cX8_taken 79 = .ok (.iload 5, 2) := dk_21 5 (dk_at dksX8_taken_3 8 rfl rfl)
theorem dX8_taken_81 : decode cX8_taken 81 = .ok (.iconst 2, 1) := dk_5 (dk_at dksX8_taken_3 10 rfl rfl)
theorem dX8_taken_82 : decode cX8_taken 82 = .ok (.idiv, 1) := dk_108 (dk_at dksX8_taken_3 11 rfl rfl)
theorem dX8_taken_83 : decode cX8_taken 83 = .ok (.goto 5, 3) := dk_167 0 5 (dk_at dksX8_taken_3 12 rfl rfl)
theorem dX8_taken_86 : decode cX8_taken 86 = .ok (.iload 5, 2) := dk_21 5 (dk_at dksX8_taken_3 15 rfl rfl)
theorem dX8_taken_88 : decode cX8_taken 88 = .ok (.ireturn, 1) := dk_172 (dk_at dksX8_taken_3 17 rfl rfl)
abbrev cX8_nights : ByteArray := prog_30_method_58_code
def yX8_nights : MethodName := ⟨RX8, "nights", "(I)I"⟩
def dkwX8_nights_1 : List UInt8 := [42, 182, 1, 102, 132, 2, 1, 167, 255, 244, 42, 180, 0, 84, 16, 50, 46, 172]
abbrev dktX8_nights_1 : List UInt8 := dkwX8_nights_1 ++ []
def dkwX8_nights_0 : List UInt8 := [42, 3, 181, 0, 109, 27, 4, 16, 100, 184, 0, 235, 154, 0, 5, 2, 172, 3, 61, 28, 27, 162, 0, 13]
abbrev dktX8_nights_0 : List UInt8 := dkwX8_nights_0 ++ dktX8_nights_1
theorem dksX8_nights_0 : cX8_nights.data.toList.drop 0 = dktX8_nights_0 := by decide +kernel
theorem dksX8_nights_1 : cX8_nights.data.toList.drop 24 = dktX8_nights_1 := dk_seg dksX8_nights_0 24 rfl rfl
theorem dX8_nights_0 : decode cX8_nights 0 = .ok (.aload_n 0, 1) := dk_42 (dk_at dksX8_nights_0 0 rfl rfl)
theorem dX8_nights_1 : decode cX8_nights 1 = .ok (.iconst 0, 1) := dk_3 (dk_at dksX8_nights_0 1 rfl rfl)
theorem dX8_nights_2 : decode cX8_nights 2 = .ok (.putfield 109, 3) := dk_181 0 109 (dk_at dksX8_nights_0 2 rfl rfl)
theorem dX8_nights_5 : decode cX8_nights 5 = .ok (.iload_n 1, 1) := dk_27 (dk_at dksX8_nights_0 5 rfl rfl)
theorem dX8_nights_6 : decode cX8_nights 6 = .ok (.iconst 1, 1) := dk_4 (dk_at dksX8_nights_0 6 rfl rfl)
theorem dX8_nights_7 : decode cX8_nights 7 = .ok (.bipush 100, 2) := dk_16 100 (dk_at dksX8_nights_0 7 rfl rfl)
theorem dX8_nights_9 : decode cX8_nights 9 = .ok (.invokestatic 235, 3) := dk_184 0 235 (dk_at dksX8_nights_0 9 rfl rfl)
theorem dX8_nights_12 : decode cX8_nights 12 = .ok (.ifCond .ne 5, 3) := dk_154 0 5 (dk_at dksX8_nights_0 12 rfl rfl)
theorem dX8_nights_15 : decode cX8_nights 15 = .ok (.iconst (-1), 1) := dk_2 (dk_at dksX8_nights_0 15 rfl rfl)
theorem dX8_nights_16 : decode cX8_nights 16 = .ok (.ireturn, 1) := dk_172 (dk_at dksX8_nights_0 16 rfl rfl)
theorem dX8_nights_17 : decode cX8_nights 17 = .ok (.iconst 0, 1) := dk_3 (dk_at dksX8_nights_0 17 rfl rfl)
theorem dX8_nights_18 : decode cX8_nights 18 = .ok (.istore_n 2, 1) := dk_61 (dk_at dksX8_nights_0 18 rfl rfl)
theorem dX8_nights_19 : decode cX8_nights 19 = .ok (.iload_n 2, 1) := dk_28 (dk_at dksX8_nights_0 19 rfl rfl)
theorem dX8_nights_20 : decode cX8_nights 20 = .ok (.iload_n 1, 1) := dk_27 (dk_at dksX8_nights_0 20 rfl rfl)
theorem dX8_nights_21 : decode cX8_nights 21 = .ok (.if_icmp .ge 13, 3) := dk_162 0 13 (dk_at dksX8_nights_0 21 rfl rfl)
theorem dX8_nights_24 : decode cX8_nights 24 = .ok (.aload_n 0, 1) := dk_42 (dk_at dksX8_nights_1 0 rfl rfl)
theorem dX8_nights_25 : decode cX8_nights 25 = .ok (.invokevirtual 358, 3) := dk_182 1 102 (dk_at dksX8_nights_1 1 rfl rfl)
theorem dX8_nights_28 : decode cX8_nights 28 = .ok (.iinc 2 1, 3) := dk_132 2 1 (dk_at dksX8_nights_1 4 rfl rfl)
theorem dX8_nights_31 : decode cX8_nights 31 = .ok (.goto (-12), 3) := dk_167 255 244 (dk_at dksX8_nights_1 7 rfl rfl)
theorem dX8_nights_34 : decode cX8_nights 34 = .ok (.aload_n 0, 1) := dk_42 (dk_at dksX8_nights_1 10 rfl rfl)
theorem dX8_nights_35 : decode cX8_nights 35 = .ok (.getfield 84, 3) := dk_180 0 84 (dk_at dksX8_nights_1 11 rfl rfl)
theorem dX8_nights_38 : decode cX8_nights 38 = .ok (.bipush 50, 2) := dk_16 50 (dk_at dksX8_nights_1 14 rfl rfl)
theorem dX8_nights_40 : decode cX8_nights 40 = .ok (.iaload, 1) := dk_46 (dk_at dksX8_nights_1 16 rfl rfl)
theorem dX8_nights_41 : decode cX8_nights 41 = .ok (.ireturn, 1) := dk_172 (dk_at dksX8_nights_1 17 rfl rfl)
abbrev cX8_night : ByteArray := prog_30_method_57_code
def yX8_night : MethodName := ⟨RX8, "night", "()V"⟩
def dkwX8_night_0 : List UInt8 := [42, 42, 182, 1, 90, 182, 1, 96, 42, 182, 1, 99, 177]
abbrev dktX8_night_0 : List UInt8 := dkwX8_night_0 ++ []
theorem dksX8_night_0 : cX8_night.data.toList.drop 0 = dktX8_night_0 := by decide +kernel
theorem dX8_night_0 : decode cX8_night 0 = .ok (.aload_n 0, 1) := dk_42 (dk_at dksX8_night_0 0 rfl rfl)
theorem dX8_night_1 : decode cX8_night 1 = .ok (.aload_n 0, 1) := dk_42 (dk_at dksX8_night_0 1 rfl rfl)
theorem dX8_night_2 : decode cX8_night 2 = .ok (.invokevirtual 346, 3) := dk_182 1 90 (dk_at dksX8_night_0 2 rfl rfl)
theorem dX8_night_5 : decode cX8_night 5 = .ok (.invokevirtual 352, 3) := dk_182 1 96 (dk_at dksX8_night_0 5 rfl rfl)
theorem dX8_night_8 : decode cX8_night 8 = .ok (.aload_n 0, 1) := dk_42 (dk_at dksX8_night_0 8 rfl rfl)
theorem dX8_night_9 : decode cX8_night 9 = .ok (.invokevirtual 355, 3) := dk_182 1 99 (dk_at dksX8_night_0 9 rfl rfl)
theorem dX8_night_12 : decode cX8_night 12 = .ok (.return_, 1) := dk_177 (dk_at dksX8_night_0 12 rfl rfl)
abbrev cX8_goes : ByteArray := prog_30_method_51_code
def yX8_goes : MethodName := ⟨RX8, "goes", "(I)V"⟩
def dkwX8_goes_2 : List UInt8 := [177]
abbrev dktX8_goes_2 : List UInt8 := dkwX8_goes_2 ++ []
def dkwX8_goes_1 : List UInt8 := [16, 50, 46, 42, 28, 42, 180, 0, 84, 16, 50, 46, 182, 1, 80, 182, 1, 83, 132, 2, 1, 167, 255, 218]
abbrev dktX8_goes_1 : List UInt8 := dkwX8_goes_1 ++ dktX8_goes_2
def dkwX8_goes_0 : List UInt8 := [42, 182, 1, 77, 3, 61, 28, 42, 180, 0, 13, 5, 46, 162, 0, 34, 42, 27, 28, 42, 180, 0, 84]
abbrev dktX8_goes_0 : List UInt8 := dkwX8_goes_0 ++ dktX8_goes_1
theorem dksX8_goes_0 : cX8_goes.data.toList.drop 0 = dktX8_goes_0 := by decide +kernel
theorem dksX8_goes_1 : cX8_goes.data.toList.drop 23 = dktX8_goes_1 := dk_seg dksX8_goes_0 23 rfl rfl
theorem dksX8_goes_2 : cX8_goes.data.toList.drop 47 = dktX8_goes_2 := dk_seg dksX8_goes_1 24 rfl rfl
theorem dX8_goes_0 : decode cX8_goes 0 = .ok (.aload_n 0, 1) := dk_42 (dk_at dksX8_goes_0 0 rfl rfl)
theorem dX8_goes_1 : decode cX8_goes 1 = .ok (.invokevirtual 333, 3) := dk_182 1 77 (dk_at dksX8_goes_0 1 rfl rfl)
theorem dX8_goes_4 : decode cX8_goes 4 = .ok (.iconst 0, 1) := dk_3 (dk_at dksX8_goes_0 4 rfl rfl)
theorem dX8_goes_5 : decode cX8_goes 5 = .ok (.istore_n 2, 1) := dk_61 (dk_at dksX8_goes_0 5 rfl rfl)
theorem dX8_goes_6 : decode cX8_goes 6 = .ok (.iload_n 2, 1) := dk_28 (dk_at dksX8_goes_0 6 rfl rfl)
theorem dX8_goes_7 : decode cX8_goes 7 = .ok (.aload_n 0, 1) := dk_42 (dk_at dksX8_goes_0 7 rfl rfl)
theorem dX8_goes_8 : decode cX8_goes 8 = .ok (.getfield 13, 3) := dk_180 0 13 (dk_at dksX8_goes_0 8 rfl rfl)
theorem dX8_goes_11 : decode cX8_goes 11 = .ok (.iconst 2, 1) := dk_5 (dk_at dksX8_goes_0 11 rfl rfl)
theorem dX8_goes_12 : decode cX8_goes 12 = .ok (.iaload, 1) := dk_46 (dk_at dksX8_goes_0 12 rfl rfl)
theorem dX8_goes_13 : decode cX8_goes 13 = .ok (.if_icmp .ge 34, 3) := dk_162 0 34 (dk_at dksX8_goes_0 13 rfl rfl)
theorem dX8_goes_16 : decode cX8_goes 16 = .ok (.aload_n 0, 1) := dk_42 (dk_at dksX8_goes_0 16 rfl rfl)
theorem dX8_goes_17 : decode cX8_goes 17 = .ok (.iload_n 1, 1) := dk_27 (dk_at dksX8_goes_0 17 rfl rfl)
theorem dX8_goes_18 : decode cX8_goes 18 = .ok (.iload_n 2, 1) := dk_28 (dk_at dksX8_goes_0 18 rfl rfl)
theorem dX8_goes_19 : decode cX8_goes 19 = .ok (.aload_n 0, 1) := dk_42 (dk_at dksX8_goes_0 19 rfl rfl)
theorem dX8_goes_20 : decode cX8_goes 20 = .ok (.getfield 84, 3) := dk_180 0 84 (dk_at dksX8_goes_0 20 rfl rfl)
theorem dX8_goes_23 : decode cX8_goes 23 = .ok (.bipush 50, 2) := dk_16 50 (dk_at dksX8_goes_1 0 rfl rfl)
theorem dX8_goes_25 : decode cX8_goes 25 = .ok (.iaload, 1) := dk_46 (dk_at dksX8_goes_1 2 rfl rfl)
theorem dX8_goes_26 : decode cX8_goes 26 = .ok (.aload_n 0, 1) := dk_42 (dk_at dksX8_goes_1 3 rfl rfl)
theorem dX8_goes_27 : decode cX8_goes 27 = .ok (.iload_n 2, 1) := dk_28 (dk_at dksX8_goes_1 4 rfl rfl)
theorem dX8_goes_28 : decode cX8_goes 28 = .ok (.aload_n 0, 1) := dk_42 (dk_at dksX8_goes_1 5 rfl rfl)
theorem dX8_goes_29 : decode cX8_goes 29 = .ok (.getfield 84, 3) := dk_180 0 84 (dk_at dksX8_goes_1 6 rfl rfl)
theorem dX8_goes_32 : decode cX8_goes 32 = .ok (.bipush 50, 2) := dk_16 50 (dk_at dksX8_goes_1 9 rfl rfl)
theorem dX8_goes_34 : decode cX8_goes 34 = .ok (.iaload, 1) := dk_46 (dk_at dksX8_goes_1 11 rfl rfl)
theorem dX8_goes_35 : decode cX8_goes 35 = .ok (.invokevirtual 336, 3) := dk_182 1 80 (dk_at dksX8_goes_1 12 rfl rfl)
theorem dX8_goes_38 : decode cX8_goes 38 = .ok (.invokevirtual 339, 3) := dk_182 1 83 (dk_at dksX8_goes_1 15 rfl rfl)
theorem dX8_goes_41 : decode cX8_goes 41 = .ok (.iinc 2 1, 3) := dk_132 2 1 (dk_at dksX8_goes_1 18 rfl rfl)
theorem dX8_goes_44 : decode cX8_goes 44 = .ok (.goto (-38), 3) := dk_167 255 218 (dk_at dksX8_goes_1 21 rfl rfl)
theorem dX8_goes_47 : decode cX8_goes 47 = .ok (.return_, 1) := dk_177 (dk_at dksX8_goes_2 0 rfl rfl)
abbrev cX8_clears : ByteArray := prog_30_method_49_code
def yX8_clears : MethodName := ⟨RX8, "clears", "()V"⟩
def dkwX8_clears_0 : List UInt8 := [3, 60, 27, 16, 13, 162, 0, 16, 42, 180, 0, 93, 27, 3, 79, 132, 1, 1, 167, 255, 240, 177]
abbrev dktX8_clears_0 : List UInt8 := dkwX8_clears_0 ++ []
theorem dksX8_clears_0 : cX8_clears.data.toList.drop 0 = dktX8_clears_0 := by decide +kernel
theorem dX8_clears_0 : decode cX8_clears 0 = .ok (.iconst 0, 1) := dk_3 (dk_at dksX8_clears_0 0 rfl rfl)
theorem dX8_clears_1 : decode cX8_clears 1 = .ok (.istore_n 1, 1) := dk_60 (dk_at dksX8_clears_0 1 rfl rfl)
theorem dX8_clears_2 : decode cX8_clears 2 = .ok (.iload_n 1, 1) := dk_27 (dk_at dksX8_clears_0 2 rfl rfl)
theorem dX8_clears_3 : decode cX8_clears 3 = .ok (.bipush 13, 2) := dk_16 13 (dk_at dksX8_clears_0 3 rfl rfl)
theorem dX8_clears_5 : decode cX8_clears 5 = .ok (.if_icmp .ge 16, 3) := dk_162 0 16 (dk_at dksX8_clears_0 5 rfl rfl)
theorem dX8_clears_8 : decode cX8_clears 8 = .ok (.aload_n 0, 1) := dk_42 (dk_at dksX8_clears_0 8 rfl rfl)
theorem dX8_clears_9 : decode cX8_clears 9 = .ok (.getfield 93, 3) := dk_180 0 93 (dk_at dksX8_clears_0 9 rfl rfl)
theorem dX8_clears_12 : decode cX8_clears 12 = .ok (.iload_n 1, 1) := dk_27 (dk_at dksX8_clears_0 12 rfl rfl)
theorem dX8_clears_13 : decode cX8_clears 13 = .ok (.iconst 0, 1) := dk_3 (dk_at dksX8_clears_0 13 rfl rfl)
theorem dX8_clears_14 : decode cX8_clears 14 = .ok (.iastore, 1) := dk_79 (dk_at dksX8_clears_0 14 rfl rfl)
theorem dX8_clears_15 : decode cX8_clears 15 = .ok (.iinc 1 1, 3) := dk_132 1 1 (dk_at dksX8_clears_0 15 rfl rfl)
theorem dX8_clears_18 : decode cX8_clears 18 = .ok (.goto (-16), 3) := dk_167 255 240 (dk_at dksX8_clears_0 18 rfl rfl)
theorem dX8_clears_21 : decode cX8_clears 21 = .ok (.return_, 1) := dk_177 (dk_at dksX8_clears_0 21 rfl rfl)
abbrev cX8_blows : ByteArray := prog_30_method_50_code
def yX8_blows : MethodName := ⟨RX8, "blows", "(IIII)V"⟩
def dkwX8_blows_1 : List UInt8 := [182, 1, 73, 87, 132, 5, 1, 167, 255, 230, 177]
abbrev dktX8_blows_1 : List UInt8 := dkwX8_blows_1 ++ []
def dkwX8_blows_0 : List UInt8 := [3, 54, 5, 21, 5, 42, 21, 4, 182, 1, 70, 162, 0, 21, 42, 27, 28, 29, 21, 5, 21, 4]
abbrev dktX8_blows_0 : List UInt8 := dkwX8_blows_0 ++ dktX8_blows_1
theorem dksX8_blows_0 : cX8_blows.data.toList.drop 0 = dktX8_blows_0 := by decide +kernel
theorem dksX8_blows_1 : cX8_blows.data.toList.drop 22 = dktX8_blows_1 := dk_seg dksX8_blows_0 22 rfl rfl
theorem dX8_blows_0 : decode cX8_blows 0 = .ok (.iconst 0, 1) := dk_3 (dk_at dksX8_blows_0 0 rfl rfl)
theorem dX8_blows_1 : decode cX8_blows 1 = .ok (.istore 5, 2) := dk_54 5 (dk_at dksX8_blows_0 1 rfl rfl)
theorem dX8_blows_3 : decode cX8_blows 3 = .ok (.iload 5, 2) := dk_21 5 (dk_at dksX8_blows_0 3 rfl rfl)
theorem dX8_blows_5 : decode cX8_blows 5 = .ok (.aload_n 0, 1) := dk_42 (dk_at dksX8_blows_0 5 rfl rfl)
theorem dX8_blows_6 : decode cX8_blows 6 = .ok (.iload 4, 2) := dk_21 4 (dk_at dksX8_blows_0 6 rfl rfl)
theorem dX8_blows_8 : decode cX8_blows 8 = .ok (.invokevirtual 326, 3) := dk_182 1 70 (dk_at dksX8_blows_0 8 rfl rfl)
theorem dX8_blows_11 : decode cX8_blows 11 = .ok (.if_icmp .ge 21, 3) := dk_162 0 21 (dk_at dksX8_blows_0 11 rfl rfl)
theorem dX8_blows_14 : decode cX8_blows 14 = .ok (.aload_n 0, 1) := dk_42 (dk_at dksX8_blows_0 14 rfl rfl)
theorem dX8_blows_15 : decode cX8_blows 15 = .ok (.iload_n 1, 1) := dk_27 (dk_at dksX8_blows_0 15 rfl rfl)
theorem dX8_blows_16 : decode cX8_blows 16 = .ok (.iload_n 2, 1) := dk_28 (dk_at dksX8_blows_0 16 rfl rfl)
theorem dX8_blows_17 : decode cX8_blows 17 = .ok (.iload_n 3, 1) := dk_29 (dk_at dksX8_blows_0 17 rfl rfl)
theorem dX8_blows_18 : decode cX8_blows 18 = .ok (.iload 5, 2) := dk_21 5 (dk_at dksX8_blows_0 18 rfl rfl)
theorem dX8_blows_20 : decode cX8_blows 20 = .ok (.iload 4, 2) := dk_21 4 (dk_at dksX8_blows_0 20 rfl rfl)
theorem dX8_blows_22 : decode cX8_blows 22 = .ok (.invokevirtual 329, 3) := dk_182 1 73 (dk_at dksX8_blows_1 0 rfl rfl)
theorem dX8_blows_25 : decode cX8_blows 25 = .ok (.pop, 1) := dk_87 (dk_at dksX8_blows_1 3 rfl rfl)
theorem dX8_blows_26 : decode cX8_blows 26 = .ok (.iinc 5 1, 3) := dk_132 5 1 (dk_at dksX8_blows_1 4 rfl rfl)
theorem dX8_blows_29 : decode cX8_blows 29 = .ok (.goto (-26), 3) := dk_167 255 230 (dk_at dksX8_blows_1 7 rfl rfl)
theorem dX8_blows_32 : decode cX8_blows 32 = .ok (.return_, 1) := dk_177 (dk_at dksX8_blows_1 10 rfl rfl)
abbrev cX8_ends0 : ByteArray := prog_30_method_56_code
def yX8_ends0 : MethodName := ⟨RX8, "ends0", "()V"⟩
def dkwX8_ends0_5 : List UInt8 := [180, 0, 84, 16, 50, 92, 46, 4, 96, 79, 177]
abbrev dktX8_ends0_5 : List UInt8 := dkwX8_ends0_5 ++ []
def dkwX8_ends0_4 : List UInt8 := [16, 6, 27, 96, 92, 46, 42, 180, 0, 16, 27, 46, 28, 100, 96, 79, 132, 1, 1, 167, 255, 175, 42]
abbrev dktX8_ends0_4 : List UInt8 := dkwX8_ends0_4 ++ dktX8_ends0_5
def dkwX8_ends0_3 : List UInt8 := [180, 0, 16, 27, 46, 184, 1, 53, 61, 42, 180, 0, 84, 27, 92, 46, 28, 100, 79, 42, 180, 0, 84]
abbrev dktX8_ends0_3 : List UInt8 := dkwX8_ends0_3 ++ dktX8_ends0_4
def dkwX8_ends0_2 : List UInt8 := [46, 42, 27, 2, 182, 1, 93, 42, 180, 0, 13, 6, 46, 96, 96, 79, 42, 180, 0, 84, 27, 46, 42]
abbrev dktX8_ends0_2 : List UInt8 := dkwX8_ends0_2 ++ dktX8_ends0_3
def dkwX8_ends0_1 : List UInt8 := [132, 1, 1, 167, 255, 232, 3, 60, 27, 42, 180, 0, 13, 8, 46, 162, 0, 77, 42, 180, 0, 84, 27, 92]
abbrev dktX8_ends0_1 : List UInt8 := dkwX8_ends0_1 ++ dktX8_ends0_2
def dkwX8_ends0_0 : List UInt8 := [3, 60, 27, 16, 12, 162, 0, 24, 42, 180, 0, 84, 16, 38, 27, 96, 42, 180, 0, 93, 27, 46, 79]
abbrev dktX8_ends0_0 : List UInt8 := dkwX8_ends0_0 ++ dktX8_ends0_1
theorem dksX8_ends0_0 : cX8_ends0.data.toList.drop 0 = dktX8_ends0_0 := by decide +kernel
theorem dksX8_ends0_1 : cX8_ends0.data.toList.drop 23 = dktX8_ends0_1 := dk_seg dksX8_ends0_0 23 rfl rfl
theorem dksX8_ends0_2 : cX8_ends0.data.toList.drop 47 = dktX8_ends0_2 := dk_seg dksX8_ends0_1 24 rfl rfl
theorem dksX8_ends0_3 : cX8_ends0.data.toList.drop 70 = dktX8_ends0_3 := dk_seg dksX8_ends0_2 23 rfl rfl
theorem dksX8_ends0_4 : cX8_ends0.data.toList.drop 93 = dktX8_ends0_4 := dk_seg dksX8_ends0_3 23 rfl rfl
theorem dksX8_ends0_5 : cX8_ends0.data.toList.drop 116 = dktX8_ends0_5 := dk_seg dksX8_ends0_4 23 rfl rfl
theorem dX8_ends0_0 : decode cX8_ends0 0 = .ok (.iconst 0, 1) := dk_3 (dk_at dksX8_ends0_0 0 rfl rfl)
theorem dX8_ends0_1 : decode cX8_ends0 1 = .ok (.istore_n 1, 1) := dk_60 (dk_at dksX8_ends0_0 1 rfl rfl)
theorem dX8_ends0_2 : decode cX8_ends0 2 = .ok (.iload_n 1, 1) := dk_27 (dk_at dksX8_ends0_0 2 rfl rfl)
theorem dX8_ends0_3 : decode cX8_ends0 3 = .ok (.bipush 12, 2) := dk_16 12 (dk_at dksX8_ends0_0 3 rfl rfl)
theorem dX8_ends0_5 : decode cX8_ends0 5 = .ok (.if_icmp .ge 24, 3) := dk_162 0 24 (dk_at dksX8_ends0_0 5 rfl rfl)
theorem dX8_ends0_8 : decode cX8_ends0 8 = .ok (.aload_n 0, 1) := dk_42 (dk_at dksX8_ends0_0 8 rfl rfl)
theorem dX8_ends0_9 : decode cX8_ends0 9 = .ok (.getfield 84, 3) := dk_180 0 84 (dk_at dksX8_ends0_0 9 rfl rfl)
theorem dX8_ends0_12 : decode cX8_ends0 12 = .ok (.bipush 38, 2) := dk_16 38 (dk_at dksX8_ends0_0 12 rfl rfl)
theorem dX8_ends0_14 : decode cX8_ends0 14 = .ok (.iload_n 1, 1) := dk_27 (dk_at dksX8_ends0_0 14 rfl rfl)
theorem dX8_ends0_15 : decode cX8_ends0 15 = .ok (.iadd, 1) := dk_96 (dk_at dksX8_ends0_0 15 rfl rfl)
theorem dX8_ends0_16 : decode cX8_ends0 16 = .ok (.aload_n 0, 1) := dk_42 (dk_at dksX8_ends0_0 16 rfl rfl)
theorem dX8_ends0_17 : decode cX8_ends0 17 = .ok (.getfield 93, 3) := dk_180 0 93 (dk_at dksX8_ends0_0 17 rfl rfl)
theorem dX8_ends0_20 : decode cX8_ends0 20 = .ok (.iload_n 1, 1) := dk_27 (dk_at dksX8_ends0_0 20 rfl rfl)
theorem dX8_ends0_21 : decode cX8_ends0 21 = .ok (.iaload, 1) := dk_46 (dk_at dksX8_ends0_0 21 rfl rfl)
theorem dX8_ends0_22 : decode cX8_ends0 22 = .ok (.iastore, 1) := dk_79 (dk_at dksX8_ends0_0 22 rfl rfl)
theorem dX8_ends0_23 : decode cX8_ends0 23 = .ok (.iinc 1 1, 3) := dk_132 1 1 (dk_at dksX8_ends0_1 0 rfl rfl)
theorem dX8_ends0_26 : decode cX8_ends0 26 = .ok (.goto (-24), 3) := dk_167 255 232 (dk_at dksX8_ends0_1 3 rfl rfl)
theorem dX8_ends0_29 : decode cX8_ends0 29 = .ok (.iconst 0, 1) := dk_3 (dk_at dksX8_ends0_1 6 rfl rfl)
theorem dX8_ends0_30 : decode cX8_ends0 30 = .ok (.istore_n 1, 1) := dk_60 (dk_at dksX8_ends0_1 7 rfl rfl)
theorem dX8_ends0_31 : decode cX8_ends0 31 = .ok (.iload_n 1, 1) := dk_27 (dk_at dksX8_ends0_1 8 rfl rfl)
theorem dX8_ends0_32 : decode cX8_ends0 32 = .ok (.aload_n 0, 1) := dk_42 (dk_at dksX8_ends0_1 9 rfl rfl)
theorem dX8_ends0_33 : decode cX8_ends0 33 = .ok (.getfield 13, 3) := dk_180 0 13 (dk_at dksX8_ends0_1 10 rfl rfl)
theorem dX8_ends0_36 : decode cX8_ends0 36 = .ok (.iconst 5, 1) := dk_8 (dk_at dksX8_ends0_1 13 rfl rfl)
theorem dX8_ends0_37 : decode cX8_ends0 37 = .ok (.iaload, 1) := dk_46 (dk_at dksX8_ends0_1 14 rfl rfl)
theorem dX8_ends0_38 : decode cX8_ends0 38 = .ok (.if_icmp .ge 77, 3) := dk_162 0 77 (dk_at dksX8_ends0_1 15 rfl rfl)
theorem dX8_ends0_41 : decode cX8_ends0 41 = .ok (.aload_n 0, 1) := dk_42 (dk_at dksX8_ends0_1 18 rfl rfl)
theorem dX8_ends0_42 : decode cX8_ends0 42 = .ok (.getfield 84, 3) := dk_180 0 84 (dk_at dksX8_ends0_1 19 rfl rfl)
theorem dX8_ends0_45 : decode cX8_ends0 45 = .ok (.iload_n 1, 1) := dk_27 (dk_at dksX8_ends0_1 22 rfl rfl)
theorem dX8_ends0_46 : decode cX8_ends0 46 = .ok (.dup2, 1) := dk_92 (dk_at dksX8_ends0_1 23 rfl rfl)
theorem dX8_ends0_47 : decode cX8_ends0 47 = .ok (.iaload, 1) := dk_46 (dk_at dksX8_ends0_2 0 rfl rfl)
theorem dX8_ends0_48 : decode cX8_ends0 48 = .ok (.aload_n 0, 1) := dk_42 (dk_at dksX8_ends0_2 1 rfl rfl)
theorem dX8_ends0_49 : decode cX8_ends0 49 = .ok (.iload_n 1, 1) := dk_27 (dk_at dksX8_ends0_2 2 rfl rfl)
theorem dX8_ends0_50 : decode cX8_ends0 50 = .ok (.iconst (-1), 1) := dk_2 (dk_at dksX8_ends0_2 3 rfl rfl)
theorem dX8_ends0_51 : decode cX8_ends0 51 = .ok (.invokevirtual 349, 3) := dk_182 1 93 (dk_at dksX8_ends0_2 4 rfl rfl)
theorem dX8_ends0_54 : decode cX8_ends0 54 = .ok (.aload_n 0, 1) := dk_42 (dk_at dksX8_ends0_2 7 rfl rfl)
theorem dX8_ends0_55 : decode cX8_ends0 55 = .ok (.getfield 13, 3) := dk_180 0 13 (dk_at dksX8_ends0_2 8 rfl rfl)
theorem dX8_ends0_58 : decode cX8_ends0 58 = .ok (.iconst 3, 1) := dk_6 (dk_at dksX8_ends0_2 11 rfl rfl)
theorem dX8_ends0_59 : decode cX8_ends0 59 = .ok (.iaload, 1) := dk_46 (dk_at dksX8_ends0_2 12 rfl rfl)
theorem dX8_ends0_60 : decode cX8_ends0 60 = .ok (.iadd, 1) := dk_96 (dk_at dksX8_ends0_2 13 rfl rfl)
theorem dX8_ends0_61 : decode cX8_ends0 61 = .ok (.iadd, 1) := dk_96 (dk_at dksX8_ends0_2 14 rfl rfl)
theorem dX8_ends0_62 : decode cX8_ends0 62 = .ok (.iastore, 1) := dk_79 (dk_at dksX8_ends0_2 15 rfl rfl)
theorem dX8_ends0_63 : decode cX8_ends0 63 = .ok (.aload_n 0, 1) := dk_42 (dk_at dksX8_ends0_2 16 rfl rfl)
theorem dX8_ends0_64 : decode cX8_ends0 64 = .ok (.getfield 84, 3) := dk_180 0 84 (dk_at dksX8_ends0_2 17 rfl rfl)
theorem dX8_ends0_67 : decode cX8_ends0 67 = .ok (.iload_n 1, 1) := dk_27 (dk_at dksX8_ends0_2 20 rfl rfl)
theorem dX8_ends0_68 : decode cX8_ends0 68 = .ok (.iaload, 1) := dk_46 (dk_at dksX8_ends0_2 21 rfl rfl)
theorem dX8_ends0_69 : decode cX8_ends0 69 = .ok (.aload_n 0, 1) := dk_42 (dk_at dksX8_ends0_2 22 rfl rfl)
theorem dX8_ends0_70 : decode cX8_ends0 70 = .ok (.getfield 16, 3) := dk_180 0 16 (dk_at dksX8_ends0_3 0 rfl rfl)
theorem dX8_ends0_73 : decode cX8_ends0 73 = .ok (.iload_n 1, 1) := dk_27 (dk_at dksX8_ends0_3 3 rfl rfl)
theorem dX8_ends0_74 : decode cX8_ends0 74 = .ok (.iaload, 1) := dk_46 (dk_at dksX8_ends0_3 4 rfl rfl)
theorem dX8_ends0_75 : decode cX8_ends0 75 = .ok (.invokestatic 309, 3) := dk_184 1 53 (dk_at dksX8_ends0_3 5 rfl rfl)
theorem dX8_ends0_78 : decode cX8_ends0 78 = .ok (.istore_n 2, 1) := dk_61 (dk_at dksX8_ends0_3 8 rfl rfl)
theorem dX8_ends0_79 : decode cX8_ends0 79 = .ok (.aload_n 0, 1) := dk_42 (dk_at dksX8_ends0_3 9 rfl rfl)
theorem dX8_ends0_80 : decode cX8_ends0 80 = .ok (.getfield 84, 3) := dk_180 0 84 (dk_at dksX8_ends0_3 10 rfl rfl)
theorem dX8_ends0_83 : decode cX8_ends0 83 = .ok (.iload_n 1, 1) := dk_27 (dk_at dksX8_ends0_3 13 rfl rfl)
theorem dX8_ends0_84 : decode cX8_ends0 84 = .ok (.dup2, 1) := dk_92 (dk_at dksX8_ends0_3 14 rfl rfl)
theorem dX8_ends0_85 : decode cX8_ends0 85 = .ok (.iaload, 1) := dk_46 (dk_at dksX8_ends0_3 15 rfl rfl)
theorem dX8_ends0_86 : decode cX8_ends0 86 = .ok (.iload_n 2, 1) := dk_28 (dk_at dksX8_ends0_3 16 rfl rfl)
theorem dX8_ends0_87 : decode cX8_ends0 87 = .ok (.isub, 1) := dk_100 (dk_at dksX8_ends0_3 17 rfl rfl)
theorem dX8_ends0_88 : decode cX8_ends0 88 = .ok (.iastore, 1) := dk_79 (dk_at dksX8_ends0_3 18 rfl rfl)
theorem dX8_ends0_89 : decode cX8_ends0 89 = .ok (.aload_n 0, 1) := dk_42 (dk_at dksX8_ends0_3 19 rfl rfl)
theorem dX8_ends0_90 : decode cX8_ends0 90 = .ok (.getfield 84, 3) := dk_180 0 84 (dk_at dksX8_ends0_3 20 rfl rfl)
theorem dX8_ends0_93 : decode cX8_ends0 93 = .ok (.bipush 6, 2) := dk_16 6 (dk_at dksX8_ends0_4 0 rfl rfl)
theorem dX8_ends0_95 : decode cX8_ends0 95 = .ok (.iload_n 1, 1) := dk_27 (dk_at dksX8_ends0_4 2 rfl rfl)
theorem dX8_ends0_96 : decode cX8_ends0 96 = .ok (.iadd, 1) := dk_96 (dk_at dksX8_ends0_4 3 rfl rfl)
theorem dX8_ends0_97 : decode cX8_ends0 97 = .ok (.dup2, 1) := dk_92 (dk_at dksX8_ends0_4 4 rfl rfl)
theorem dX8_ends0_98 : decode cX8_ends0 98 = .ok (.iaload, 1) := dk_46 (dk_at dksX8_ends0_4 5 rfl rfl)
theorem dX8_ends0_99 : decode cX8_ends0 99 = .ok (.aload_n 0, 1) := dk_42 (dk_at dksX8_ends0_4 6 rfl rfl)
theorem dX8_ends0_100 : decode cX8_ends0 100 = .ok (.getfield 16, 3) := dk_180 0 16 (dk_at dksX8_ends0_4 7 rfl rfl)
theorem dX8_ends0_103 : decode cX8_ends0 103 = .ok (.iload_n 1, 1) := dk_27 (dk_at dksX8_ends0_4 10 rfl rfl)
theorem dX8_ends0_104 : decode cX8_ends0 104 = .ok (.iaload, 1) := dk_46 (dk_at dksX8_ends0_4 11 rfl rfl)
theorem dX8_ends0_105 : decode cX8_ends0 105 = .ok (.iload_n 2, 1) := dk_28 (dk_at dksX8_ends0_4 12 rfl rfl)
theorem dX8_ends0_106 : decode cX8_ends0 106 = .ok (.isub, 1) := dk_100 (dk_at dksX8_ends0_4 13 rfl rfl)
theorem dX8_ends0_107 : decode cX8_ends0 107 = .ok (.iadd, 1) := dk_96 (dk_at dksX8_ends0_4 14 rfl rfl)
theorem dX8_ends0_108 : decode cX8_ends0 108 = .ok (.iastore, 1) := dk_79 (dk_at dksX8_ends0_4 15 rfl rfl)
theorem dX8_ends0_109 : decode cX8_ends0 109 = .ok (.iinc 1 1, 3) := dk_132 1 1 (dk_at dksX8_ends0_4 16 rfl rfl)
theorem dX8_ends0_112 : decode cX8_ends0 112 = .ok (.goto (-81), 3) := dk_167 255 175 (dk_at dksX8_ends0_4 19 rfl rfl)
theorem dX8_ends0_115 : decode cX8_ends0 115 = .ok (.aload_n 0, 1) := dk_42 (dk_at dksX8_ends0_4 22 rfl rfl)
theorem dX8_ends0_116 : decode cX8_ends0 116 = .ok (.getfield 84, 3) := dk_180 0 84 (dk_at dksX8_ends0_5 0 rfl rfl)
theorem dX8_ends0_119 : decode cX8_ends0 119 = .ok (.bipush 50, 2) := dk_16 50 (dk_at dksX8_ends0_5 3 rfl rfl)
theorem dX8_ends0_121 : decode cX8_ends0 121 = .ok (.dup2, 1) := dk_92 (dk_at dksX8_ends0_5 5 rfl rfl)
theorem dX8_ends0_122 : decode cX8_ends0 122 = .ok (.iaload, 1) := dk_46 (dk_at dksX8_ends0_5 6 rfl rfl)
theorem dX8_ends0_123 : decode cX8_ends0 123 = .ok (.iconst 1, 1) := dk_4 (dk_at dksX8_ends0_5 7 rfl rfl)
theorem dX8_ends0_124 : decode cX8_ends0 124 = .ok (.iadd, 1) := dk_96 (dk_at dksX8_ends0_5 8 rfl rfl)
theorem dX8_ends0_125 : decode cX8_ends0 125 = .ok (.iastore, 1) := dk_79 (dk_at dksX8_ends0_5 9 rfl rfl)
theorem dX8_ends0_126 : decode cX8_ends0 126 = .ok (.return_, 1) := dk_177 (dk_at dksX8_ends0_5 10 rfl rfl)
abbrev cX8_yielded : ByteArray := prog_30_method_53_code
def yX8_yielded : MethodName := ⟨RX8, "yielded", "(II)I"⟩
def dkwX8_yielded_3 : List UInt8 := [46, 167, 0, 4, 3, 96, 62, 132, 4, 1, 167, 255, 179, 29, 172]
abbrev dktX8_yielded_3 : List UInt8 := dkwX8_yielded_3 ++ []
def dkwX8_yielded_2 : List UInt8 := [46, 28, 159, 0, 7, 4, 167, 0, 4, 3, 54, 5, 29, 21, 5, 153, 0, 13, 42, 180, 0, 93, 21, 4]
abbrev dktX8_yielded_2 : List UInt8 := dkwX8_yielded_2 ++ dktX8_yielded_3
def dkwX8_yielded_1 : List UInt8 := [155, 0, 14, 42, 180, 0, 26, 21, 4, 46, 27, 160, 0, 22, 28, 155, 0, 14, 42, 180, 0, 26, 21, 4]
abbrev dktX8_yielded_1 : List UInt8 := dkwX8_yielded_1 ++ dktX8_yielded_2
def dkwX8_yielded_0 : List UInt8 := [3, 62, 3, 54, 4, 21, 4, 16, 13, 162, 0, 76, 42, 180, 0, 35, 21, 4, 46, 7, 159, 0, 37, 27]
abbrev dktX8_yielded_0 : List UInt8 := dkwX8_yielded_0 ++ dktX8_yielded_1
theorem dksX8_yielded_0 : cX8_yielded.data.toList.drop 0 = dktX8_yielded_0 := by decide +kernel
theorem dksX8_yielded_1 : cX8_yielded.data.toList.drop 24 = dktX8_yielded_1 := dk_seg dksX8_yielded_0 24 rfl rfl
theorem dksX8_yielded_2 : cX8_yielded.data.toList.drop 48 = dktX8_yielded_2 := dk_seg dksX8_yielded_1 24 rfl rfl
theorem dksX8_yielded_3 : cX8_yielded.data.toList.drop 72 = dktX8_yielded_3 := dk_seg dksX8_yielded_2 24 rfl rfl
theorem dX8_yielded_0 : decode cX8_yielded 0 = .ok (.iconst 0, 1) := dk_3 (dk_at dksX8_yielded_0 0 rfl rfl)
theorem dX8_yielded_1 : decode cX8_yielded 1 = .ok (.istore_n 3, 1) := dk_62 (dk_at dksX8_yielded_0 1 rfl rfl)
theorem dX8_yielded_2 : decode cX8_yielded 2 = .ok (.iconst 0, 1) := dk_3 (dk_at dksX8_yielded_0 2 rfl rfl)
theorem dX8_yielded_3 : decode cX8_yielded 3 = .ok (.istore 4, 2) := dk_54 4 (dk_at dksX8_yielded_0 3 rfl rfl)
theorem dX8_yielded_5 : decode cX8_yielded 5 = .ok (.iload 4, 2) := dk_21 4 (dk_at dksX8_yielded_0 5 rfl rfl)
theorem dX8_yielded_7 : decode cX8_yielded 7 = .ok (.bipush 13, 2) := dk_16 13 (dk_at dksX8_yielded_0 7 rfl rfl)
theorem dX8_yielded_9 : decode cX8_yielded 9 = .ok (.if_icmp .ge 76, 3) := dk_162 0 76 (dk_at dksX8_yielded_0 9 rfl rfl)
theorem dX8_yielded_12 : decode cX8_yielded 12 = .ok (.aload_n 0, 1) := dk_42 (dk_at dksX8_yielded_0 12 rfl rfl)
theorem dX8_yielded_13 : decode cX8_yielded 13 = .ok (.getfield 35, 3) := dk_180 0 35 (dk_at dksX8_yielded_0 13 rfl rfl)
theorem dX8_yielded_16 : decode cX8_yielded 16 = .ok (.iload 4, 2) := dk_21 4 (dk_at dksX8_yielded_0 16 rfl rfl)
theorem dX8_yielded_18 : decode cX8_yielded 18 = .ok (.iaload, 1) := dk_46 (dk_at dksX8_yielded_0 18 rfl rfl)
theorem dX8_yielded_19 : decode cX8_yielded 19 = .ok (.iconst 4, 1) := dk_7 (dk_at dksX8_yielded_0 19 rfl rfl)
theorem dX8_yielded_20 : decode cX8_yielded 20 = .ok (.if_icmp .eq 37, 3) := dk_159 0 37 (dk_at dksX8_yielded_0 20 rfl rfl)
theorem dX8_yielded_23 : decode cX8_yielded 23 = .ok (.iload_n 1, 1) := dk_27 (dk_at dksX8_yielded_0 23 rfl rfl)
theorem dX8_yielded_24 : decode cX8_yielded 24 = .ok (.ifCond .lt 14, 3) := dk_155 0 14 (dk_at dksX8_yielded_1 0 rfl rfl)
theorem dX8_yielded_27 : decode cX8_yielded 27 = .ok (.aload_n 0, 1) := dk_42 (dk_at dksX8_yielded_1 3 rfl rfl)
theorem dX8_yielded_28 : decode cX8_yielded 28 = .ok (.getfield 26, 3) := dk_180 0 26 (dk_at dksX8_yielded_1 4 rfl rfl)
theorem dX8_yielded_31 : decode cX8_yielded 31 = .ok (.iload 4, 2) := dk_21 4 (dk_at dksX8_yielded_1 7 rfl rfl)
theorem dX8_yielded_33 : decode cX8_yielded 33 = .ok (.iaload, 1) := dk_46 (dk_at dksX8_yielded_1 9 rfl rfl)
theorem dX8_yielded_34 : decode cX8_yielded 34 = .ok (.iload_n 1, 1) := dk_27 (dk_at dksX8_yielded_1 10 rfl rfl)
theorem dX8_yielded_35 : decode cX8_yielded 35 = .ok (.if_icmp .ne 22, 3) := dk_160 0 22 (dk_at dksX8_yielded_1 11 rfl rfl)
theorem dX8_yielded_38 : decode cX8_yielded 38 = .ok (.iload_n 2, 1) := dk_28 (dk_at dksX8_yielded_1 14 rfl rfl)
theorem dX8_yielded_39 : decode cX8_yielded 39 = .ok (.ifCond .lt 14, 3) := dk_155 0 14 (dk_at dksX8_yielded_1 15 rfl rfl)
theorem dX8_yielded_42 : decode cX8_yielded 42 = .ok (.aload_n 0, 1) := dk_42 (dk_at dksX8_yielded_1 18 rfl rfl)
theorem dX8_yielded_43 : decode cX8_yielded 43 = .ok (.getfield 26, 3) := dk_180 0 26 (dk_at dksX8_yielded_1 19 rfl rfl)
theorem dX8_yielded_46 : decode cX8_yielded 46 = .ok (.iload 4, 2) := dk_21 4 (dk_at dksX8_yielded_1 22 rfl rfl)
theorem dX8_yielded_48 : decode cX8_yielded 48 = .ok (.iaload, 1) := dk_46 (dk_at dksX8_yielded_2 0 rfl rfl)
theorem dX8_yielded_49 : decode cX8_yielded 49 = .ok (.iload_n 2, 1) := dk_28 (dk_at dksX8_yielded_2 1 rfl rfl)
theorem dX8_yielded_50 : decode cX8_yielded 50 = .ok (.if_icmp .eq 7, 3) := dk_159 0 7 (dk_at dksX8_yielded_2 2 rfl rfl)
theorem dX8_yielded_53 : decode cX8_yielded 53 = .ok (.iconst 1, 1) := dk_4 (dk_at dksX8_yielded_2 5 rfl rfl)
theorem dX8_yielded_54 : decode cX8_yielded 54 = .ok (.goto 4, 3) := dk_167 0 4 (dk_at dksX8_yielded_2 6 rfl rfl)
theorem dX8_yielded_57 : decode cX8_yielded 57 = .ok (.iconst 0, 1) := dk_3 (dk_at dksX8_yielded_2 9 rfl rfl)
theorem dX8_yielded_58 : decode cX8_yielded 58 = .ok (.istore 5, 2) := dk_54 5 (dk_at dksX8_yielded_2 10 rfl rfl)
theorem dX8_yielded_60 : decode cX8_yielded 60 = .ok (.iload_n 3, 1) := dk_29 (dk_at dksX8_yielded_2 12 rfl rfl)
theorem dX8_yielded_61 : decode cX8_yielded 61 = .ok (.iload 5, 2) := dk_21 5 (dk_at dksX8_yielded_2 13 rfl rfl)
theorem dX8_yielded_63 : decode cX8_yielded 63 = .ok (.ifCond .eq 13, 3) := dk_153 0 13 (dk_at dksX8_yielded_2 15 rfl rfl)
theorem dX8_yielded_66 : decode cX8_yielded 66 = .ok (.aload_n 0, 1) := dk_42 (dk_at dksX8_yielded_2 18 rfl rfl)
theorem dX8_yielded_67 : decode cX8_yielded 67 = .ok (.getfield 93, 3) := dk_180 0 93 (dk_at dksX8_yielded_2 19 rfl rfl)
theorem dX8_yielded_70 : decode cX8_yielded 70 = .ok (.iload 4, 2) := dk_21 4 (dk_at dksX8_yielded_2 22 rfl rfl)
theorem dX8_yielded_72 : decode cX8_yielded 72 = .ok (.iaload, 1) := dk_46 (dk_at dksX8_yielded_3 0 rfl rfl)
theorem dX8_yielded_73 : decode cX8_yielded 73 = .ok (.goto 4, 3) := dk_167 0 4 (dk_at dksX8_yielded_3 1 rfl rfl)
theorem dX8_yielded_76 : decode cX8_yielded 76 = .ok (.iconst 0, 1) := dk_3 (dk_at dksX8_yielded_3 4 rfl rfl)
theorem dX8_yielded_77 : decode cX8_yielded 77 = .ok (.iadd, 1) := dk_96 (dk_at dksX8_yielded_3 5 rfl rfl)
theorem dX8_yielded_78 : decode cX8_yielded 78 = .ok (.istore_n 3, 1) := dk_62 (dk_at dksX8_yielded_3 6 rfl rfl)
theorem dX8_yielded_79 : decode cX8_yielded 79 = .ok (.iinc 4 1, 3) := dk_132 4 1 (dk_at dksX8_yielded_3 7 rfl rfl)
theorem dX8_yielded_82 : decode cX8_yielded 82 = .ok (.goto (-77), 3) := dk_167 255 179 (dk_at dksX8_yielded_3 10 rfl rfl)
theorem dX8_yielded_85 : decode cX8_yielded 85 = .ok (.iload_n 3, 1) := dk_29 (dk_at dksX8_yielded_3 13 rfl rfl)
theorem dX8_yielded_86 : decode cX8_yielded 86 = .ok (.ireturn, 1) := dk_172 (dk_at dksX8_yielded_3 14 rfl rfl)
abbrev cX8_mend : ByteArray := prog_30_method_59_code
def yX8_mend : MethodName := ⟨RX8, "mend", "(IZ)Z"⟩
def dkwX8_mend_2 : List UInt8 := [180, 0, 84, 16, 25, 27, 96, 28, 153, 0, 7, 4, 167, 0, 4, 3, 79, 4, 172]
abbrev dktX8_mend_2 : List UInt8 := dkwX8_mend_2 ++ []
def dkwX8_mend_1 : List UInt8 := [180, 0, 84, 16, 25, 27, 96, 46, 4, 160, 0, 7, 4, 167, 0, 4, 3, 28, 160, 0, 5, 3, 172, 42]
abbrev dktX8_mend_1 : List UInt8 := dkwX8_mend_1 ++ dktX8_mend_2
def dkwX8_mend_0 : List UInt8 := [42, 3, 181, 0, 109, 42, 27, 182, 1, 41, 153, 0, 35, 42, 180, 0, 35, 27, 46, 6, 160, 0, 25, 42]
abbrev dktX8_mend_0 : List UInt8 := dkwX8_mend_0 ++ dktX8_mend_1
theorem dksX8_mend_0 : cX8_mend.data.toList.drop 0 = dktX8_mend_0 := by decide +kernel
theorem dksX8_mend_1 : cX8_mend.data.toList.drop 24 = dktX8_mend_1 := dk_seg dksX8_mend_0 24 rfl rfl
theorem dksX8_mend_2 : cX8_mend.data.toList.drop 48 = dktX8_mend_2 := dk_seg dksX8_mend_1 24 rfl rfl
theorem dX8_mend_0 : decode cX8_mend 0 = .ok (.aload_n 0, 1) := dk_42 (dk_at dksX8_mend_0 0 rfl rfl)
theorem dX8_mend_1 : decode cX8_mend 1 = .ok (.iconst 0, 1) := dk_3 (dk_at dksX8_mend_0 1 rfl rfl)
theorem dX8_mend_2 : decode cX8_mend 2 = .ok (.putfield 109, 3) := dk_181 0 109 (dk_at dksX8_mend_0 2 rfl rfl)
theorem dX8_mend_5 : decode cX8_mend 5 = .ok (.aload_n 0, 1) := dk_42 (dk_at dksX8_mend_0 5 rfl rfl)
theorem dX8_mend_6 : decode cX8_mend 6 = .ok (.iload_n 1, 1) := dk_27 (dk_at dksX8_mend_0 6 rfl rfl)
theorem dX8_mend_7 : decode cX8_mend 7 = .ok (.invokevirtual 297, 3) := dk_182 1 41 (dk_at dksX8_mend_0 7 rfl rfl)
theorem dX8_mend_10 : decode cX8_mend 10 = .ok (.ifCond .eq 35, 3) := dk_153 0 35 (dk_at dksX8_mend_0 10 rfl rfl)
theorem dX8_mend_13 : decode cX8_mend 13 = .ok (.aload_n 0, 1) := dk_42 (dk_at dksX8_mend_0 13 rfl rfl)
theorem dX8_mend_14 : decode cX8_mend 14 = .ok (.getfield 35, 3) := dk_180 0 35 (dk_at dksX8_mend_0 14 rfl rfl)
theorem dX8_mend_17 : decode cX8_mend 17 = .ok (.iload_n 1, 1) := dk_27 (dk_at dksX8_mend_0 17 rfl rfl)
theorem dX8_mend_18 : decode cX8_mend 18 = .ok (.iaload, 1) := dk_46 (dk_at dksX8_mend_0 18 rfl rfl)
theorem dX8_mend_19 : decode cX8_mend 19 = .ok (.iconst 3, 1) := dk_6 (dk_at dksX8_mend_0 19 rfl rfl)
theorem dX8_mend_20 : decode cX8_mend 20 = .ok (.if_icmp .ne 25, 3) := dk_160 0 25 (dk_at dksX8_mend_0 20 rfl rfl)
theorem dX8_mend_23 : decode cX8_mend 23 = .ok (.aload_n 0, 1) := dk_42 (dk_at dksX8_mend_0 23 rfl rfl)
theorem dX8_mend_24 : decode cX8_mend 24 = .ok (.getfield 84, 3) := dk_180 0 84 (dk_at dksX8_mend_1 0 rfl rfl)
theorem dX8_mend_27 : decode cX8_mend 27 = .ok (.bipush 25, 2) := dk_16 25 (dk_at dksX8_mend_1 3 rfl rfl)
theorem dX8_mend_29 : decode cX8_mend 29 = .ok (.iload_n 1, 1) := dk_27 (dk_at dksX8_mend_1 5 rfl rfl)
theorem dX8_mend_30 : decode cX8_mend 30 = .ok (.iadd, 1) := dk_96 (dk_at dksX8_mend_1 6 rfl rfl)
theorem dX8_mend_31 : decode cX8_mend 31 = .ok (.iaload, 1) := dk_46 (dk_at dksX8_mend_1 7 rfl rfl)
theorem dX8_mend_32 : decode cX8_mend 32 = .ok (.iconst 1, 1) := dk_4 (dk_at dksX8_mend_1 8 rfl rfl)
theorem dX8_mend_33 : decode cX8_mend 33 = .ok (.if_icmp .ne 7, 3) := dk_160 0 7 (dk_at dksX8_mend_1 9 rfl rfl)
theorem dX8_mend_36 : decode cX8_mend 36 = .ok (.iconst 1, 1) := dk_4 (dk_at dksX8_mend_1 12 rfl rfl)
theorem dX8_mend_37 : decode cX8_mend 37 = .ok (.goto 4, 3) := dk_167 0 4 (dk_at dksX8_mend_1 13 rfl rfl)
theorem dX8_mend_40 : decode cX8_mend 40 = .ok (.iconst 0, 1) := dk_3 (dk_at dksX8_mend_1 16 rfl rfl)
theorem dX8_mend_41 : decode cX8_mend 41 = .ok (.iload_n 2, 1) := dk_28 (dk_at dksX8_mend_1 17 rfl rfl)
theorem dX8_mend_42 : decode cX8_mend 42 = .ok (.if_icmp .ne 5, 3) := dk_160 0 5 (dk_at dksX8_mend_1 18 rfl rfl)
theorem dX8_mend_45 : decode cX8_mend 45 = .ok (.iconst 0, 1) := dk_3 (dk_at dksX8_mend_1 21 rfl rfl)
theorem dX8_mend_46 : decode cX8_mend 46 = .ok (.ireturn, 1) := dk_172 (dk_at dksX8_mend_1 22 rfl rfl)
theorem dX8_mend_47 : decode cX8_mend 47 = .ok (.aload_n 0, 1) := dk_42 (dk_at dksX8_mend_1 23 rfl rfl)
theorem dX8_mend_48 : decode cX8_mend 48 = .ok (.getfield 84, 3) := dk_180 0 84 (dk_at dksX8_mend_2 0 rfl rfl)
theorem dX8_mend_51 : decode cX8_mend 51 = .ok (.bipush 25, 2) := dk_16 25 (dk_at dksX8_mend_2 3 rfl rfl)
theorem dX8_mend_53 : decode cX8_mend 53 = .ok (.iload_n 1, 1) := dk_27 (dk_at dksX8_mend_2 5 rfl rfl)
theorem dX8_mend_54 : decode cX8_mend 54 = .ok (.iadd, 1) := dk_96 (dk_at dksX8_mend_2 6 rfl rfl)
theorem dX8_mend_55 : decode cX8_mend 55 = .ok (.iload_n 2, 1) := dk_28 (dk_at dksX8_mend_2 7 rfl rfl)
theorem dX8_mend_56 : decode cX8_mend 56 = .ok (.ifCond .eq 7, 3) := dk_153 0 7 (dk_at dksX8_mend_2 8 rfl rfl)
theorem dX8_mend_59 : decode cX8_mend 59 = .ok (.iconst 1, 1) := dk_4 (dk_at dksX8_mend_2 11 rfl rfl)
theorem dX8_mend_60 : decode cX8_mend 60 = .ok (.goto 4, 3) := dk_167 0 4 (dk_at dksX8_mend_2 12 rfl rfl)
theorem dX8_mend_63 : decode cX8_mend 63 = .ok (.iconst 0, 1) := dk_3 (dk_at dksX8_mend_2 15 rfl rfl)
theorem dX8_mend_64 : decode cX8_mend 64 = .ok (.iastore, 1) := dk_79 (dk_at dksX8_mend_2 16 rfl rfl)
theorem dX8_mend_65 : decode cX8_mend 65 = .ok (.iconst 1, 1) := dk_4 (dk_at dksX8_mend_2 17 rfl rfl)
theorem dX8_mend_66 : decode cX8_mend 66 = .ok (.ireturn, 1) := dk_172 (dk_at dksX8_mend_2 18 rfl rfl)
abbrev cX8_move : ByteArray := prog_30_method_60_code
def yX8_move : MethodName := ⟨RX8, "move", "(II)Z"⟩
def dkwX8_move_1 : List UInt8 := [182, 1, 90, 182, 1, 63, 155, 0, 5, 3, 172, 42, 180, 0, 84, 16, 12, 27, 96, 28, 79, 4, 172]
abbrev dktX8_move_1 : List UInt8 := dkwX8_move_1 ++ []
def dkwX8_move_0 : List UInt8 := [42, 3, 181, 0, 109, 42, 27, 182, 1, 41, 153, 0, 23, 42, 28, 182, 1, 105, 153, 0, 15, 42, 28, 42]
abbrev dktX8_move_0 : List UInt8 := dkwX8_move_0 ++ dktX8_move_1
theorem dksX8_move_0 : cX8_move.data.toList.drop 0 = dktX8_move_0 := by decide +kernel
theorem dksX8_move_1 : cX8_move.data.toList.drop 24 = dktX8_move_1 := dk_seg dksX8_move_0 24 rfl rfl
theorem dX8_move_0 : decode cX8_move 0 = .ok (.aload_n 0, 1) := dk_42 (dk_at dksX8_move_0 0 rfl rfl)
theorem dX8_move_1 : decode cX8_move 1 = .ok (.iconst 0, 1) := dk_3 (dk_at dksX8_move_0 1 rfl rfl)
theorem dX8_move_2 : decode cX8_move 2 = .ok (.putfield 109, 3) := dk_181 0 109 (dk_at dksX8_move_0 2 rfl rfl)
theorem dX8_move_5 : decode cX8_move 5 = .ok (.aload_n 0, 1) := dk_42 (dk_at dksX8_move_0 5 rfl rfl)
theorem dX8_move_6 : decode cX8_move 6 = .ok (.iload_n 1, 1) := dk_27 (dk_at dksX8_move_0 6 rfl rfl)
theorem dX8_move_7 : decode cX8_move 7 = .ok (.invokevirtual 297, 3) := dk_182 1 41 (dk_at dksX8_move_0 7 rfl rfl)
theorem dX8_move_10 : decode cX8_move 10 = .ok (.ifCond .eq 23, 3) := dk_153 0 23 (dk_at dksX8_move_0 10 rfl rfl)
theorem dX8_move_13 : decode cX8_move 13 = .ok (.aload_n 0, 1) := dk_42 (dk_at dksX8_move_0 13 rfl rfl)
theorem dX8_move_14 : decode cX8_move 14 = .ok (.iload_n 2, 1) := dk_28 (dk_at dksX8_move_0 14 rfl rfl)
theorem dX8_move_15 : decode cX8_move 15 = .ok (.invokevirtual 361, 3) := dk_182 1 105 (dk_at dksX8_move_0 15 rfl rfl)
theorem dX8_move_18 : decode cX8_move 18 = .ok (.ifCond .eq 15, 3) := dk_153 0 15 (dk_at dksX8_move_0 18 rfl rfl)
theorem dX8_move_21 : decode cX8_move 21 = .ok (.aload_n 0, 1) := dk_42 (dk_at dksX8_move_0 21 rfl rfl)
theorem dX8_move_22 : decode cX8_move 22 = .ok (.iload_n 2, 1) := dk_28 (dk_at dksX8_move_0 22 rfl rfl)
theorem dX8_move_23 : decode cX8_move 23 = .ok (.aload_n 0, 1) := dk_42 (dk_at dksX8_move_0 23 rfl rfl)
theorem dX8_move_24 : decode cX8_move 24 = .ok (.invokevirtual 346, 3) := dk_182 1 90 (dk_at dksX8_move_1 0 rfl rfl)
theorem dX8_move_27 : decode cX8_move 27 = .ok (.invokevirtual 319, 3) := dk_182 1 63 (dk_at dksX8_move_1 3 rfl rfl)
theorem dX8_move_30 : decode cX8_move 30 = .ok (.ifCond .lt 5, 3) := dk_155 0 5 (dk_at dksX8_move_1 6 rfl rfl)
theorem dX8_move_33 : decode cX8_move 33 = .ok (.iconst 0, 1) := dk_3 (dk_at dksX8_move_1 9 rfl rfl)
theorem dX8_move_34 : decode cX8_move 34 = .ok (.ireturn, 1) := dk_172 (dk_at dksX8_move_1 10 rfl rfl)
theorem dX8_move_35 : decode cX8_move 35 = .ok (.aload_n 0, 1) := dk_42 (dk_at dksX8_move_1 11 rfl rfl)
theorem dX8_move_36 : decode cX8_move 36 = .ok (.getfield 84, 3) := dk_180 0 84 (dk_at dksX8_move_1 12 rfl rfl)
theorem dX8_move_39 : decode cX8_move 39 = .ok (.bipush 12, 2) := dk_16 12 (dk_at dksX8_move_1 15 rfl rfl)
theorem dX8_move_41 : decode cX8_move 41 = .ok (.iload_n 1, 1) := dk_27 (dk_at dksX8_move_1 17 rfl rfl)
theorem dX8_move_42 : decode cX8_move 42 = .ok (.iadd, 1) := dk_96 (dk_at dksX8_move_1 18 rfl rfl)
theorem dX8_move_43 : decode cX8_move 43 = .ok (.iload_n 2, 1) := dk_28 (dk_at dksX8_move_1 19 rfl rfl)
theorem dX8_move_44 : decode cX8_move 44 = .ok (.iastore, 1) := dk_79 (dk_at dksX8_move_1 20 rfl rfl)
theorem dX8_move_45 : decode cX8_move 45 = .ok (.iconst 1, 1) := dk_4 (dk_at dksX8_move_1 21 rfl rfl)
theorem dX8_move_46 : decode cX8_move 46 = .ok (.ireturn, 1) := dk_172 (dk_at dksX8_move_1 22 rfl rfl)
abbrev cX8_isPlace : ByteArray := prog_30_method_39_code
def yX8_isPlace : MethodName := ⟨RX8, "isPlace", "(I)Z"⟩
def dkwX8_isPlace_1 : List UInt8 := [180, 0, 13, 4, 46, 162, 0, 7, 4, 167, 0, 4, 3, 172]
abbrev dktX8_isPlace_1 : List UInt8 := dkwX8_isPlace_1 ++ []
def dkwX8_isPlace_0 : List UInt8 := [27, 155, 0, 33, 27, 16, 8, 112, 42, 180, 0, 13, 3, 46, 162, 0, 20, 27, 16, 8, 108, 42]
abbrev dktX8_isPlace_0 : List UInt8 := dkwX8_isPlace_0 ++ dktX8_isPlace_1
theorem dksX8_isPlace_0 : cX8_isPlace.data.toList.drop 0 = dktX8_isPlace_0 := by decide +kernel
theorem dksX8_isPlace_1 : cX8_isPlace.data.toList.drop 22 = dktX8_isPlace_1 := dk_seg dksX8_isPlace_0 22 rfl rfl
theorem dX8_isPlace_0 : decode cX8_isPlace 0 = .ok (.iload_n 1, 1) := dk_27 (dk_at dksX8_isPlace_0 0 rfl rfl)
theorem dX8_isPlace_1 : decode cX8_isPlace 1 = .ok (.ifCond .lt 33, 3) := dk_155 0 33 (dk_at dksX8_isPlace_0 1 rfl rfl)
theorem dX8_isPlace_4 : decode cX8_isPlace 4 = .ok (.iload_n 1, 1) := dk_27 (dk_at dksX8_isPlace_0 4 rfl rfl)
theorem dX8_isPlace_5 : decode cX8_isPlace 5 = .ok (.bipush 8, 2) := dk_16 8 (dk_at dksX8_isPlace_0 5 rfl rfl)
theorem dX8_isPlace_7 : decode cX8_isPlace 7 = .ok (.irem, 1) := dk_112 (dk_at dksX8_isPlace_0 7 rfl rfl)
theorem dX8_isPlace_8 : decode cX8_isPlace 8 = .ok (.aload_n 0, 1) := dk_42 (dk_at dksX8_isPlace_0 8 rfl rfl)
theorem dX8_isPlace_9 : decode cX8_isPlace 9 = .ok (.getfield 13, 3) := dk_180 0 13 (dk_at dksX8_isPlace_0 9 rfl rfl)
theorem dX8_isPlace_12 : decode cX8_isPlace 12 = .ok (.iconst 0, 1) := dk_3 (dk_at dksX8_isPlace_0 12 rfl rfl)
theorem dX8_isPlace_13 : decode cX8_isPlace 13 = .ok (.iaload, 1) := dk_46 (dk_at dksX8_isPlace_0 13 rfl rfl)
theorem dX8_isPlace_14 : decode cX8_isPlace 14 = .ok (.if_icmp .ge 20, 3) := dk_162 0 20 (dk_at dksX8_isPlace_0 14 rfl rfl)
theorem dX8_isPlace_17 : decode cX8_isPlace 17 = .ok (.iload_n 1, 1) := dk_27 (dk_at dksX8_isPlace_0 17 rfl rfl)
theorem dX8_isPlace_18 : decode cX8_isPlace 18 = .ok (.bipush 8, 2) := dk_16 8 (dk_at dksX8_isPlace_0 18 rfl rfl)
theorem dX8_isPlace_20 : decode cX8_isPlace 20 = .ok (.idiv, 1) := dk_108 (dk_at dksX8_isPlace_0 20 rfl rfl)
theorem dX8_isPlace_21 : decode cX8_isPlace 21 = .ok (.aload_n 0, 1) := dk_42 (dk_at dksX8_isPlace_0 21 rfl rfl)
theorem dX8_isPlace_22 : decode cX8_isPlace 22 = .ok (.getfield 13, 3) := dk_180 0 13 (dk_at dksX8_isPlace_1 0 rfl rfl)
theorem dX8_isPlace_25 : decode cX8_isPlace 25 = .ok (.iconst 1, 1) := dk_4 (dk_at dksX8_isPlace_1 3 rfl rfl)
theorem dX8_isPlace_26 : decode cX8_isPlace 26 = .ok (.iaload, 1) := dk_46 (dk_at dksX8_isPlace_1 4 rfl rfl)
theorem dX8_isPlace_27 : decode cX8_isPlace 27 = .ok (.if_icmp .ge 7, 3) := dk_162 0 7 (dk_at dksX8_isPlace_1 5 rfl rfl)
theorem dX8_isPlace_30 : decode cX8_isPlace 30 = .ok (.iconst 1, 1) := dk_4 (dk_at dksX8_isPlace_1 8 rfl rfl)
theorem dX8_isPlace_31 : decode cX8_isPlace 31 = .ok (.goto 4, 3) := dk_167 0 4 (dk_at dksX8_isPlace_1 9 rfl rfl)
theorem dX8_isPlace_34 : decode cX8_isPlace 34 = .ok (.iconst 0, 1) := dk_3 (dk_at dksX8_isPlace_1 12 rfl rfl)
theorem dX8_isPlace_35 : decode cX8_isPlace 35 = .ok (.ireturn, 1) := dk_172 (dk_at dksX8_isPlace_1 13 rfl rfl)
abbrev cX8_yields : ByteArray := prog_30_method_61_code
def yX8_yields : MethodName := ⟨RX8, "yields", "(I)I"⟩
def dkwX8_yields_2 : List UInt8 := [182, 1, 93, 172]
abbrev dktX8_yields_2 : List UInt8 := dkwX8_yields_2 ++ []
def dkwX8_yields_1 : List UInt8 := [181, 0, 109, 42, 180, 0, 109, 4, 160, 0, 5, 3, 172, 42, 42, 182, 1, 90, 182, 1, 96, 42, 27, 2]
abbrev dktX8_yields_1 : List UInt8 := dkwX8_yields_1 ++ dktX8_yields_2
def dkwX8_yields_0 : List UInt8 := [42, 27, 2, 42, 180, 0, 13, 8, 46, 4, 100, 184, 0, 235, 153, 0, 7, 3, 167, 0, 4, 4]
abbrev dktX8_yields_0 : List UInt8 := dkwX8_yields_0 ++ dktX8_yields_1
theorem dksX8_yields_0 : cX8_yields.data.toList.drop 0 = dktX8_yields_0 := by decide +kernel
theorem dksX8_yields_1 : cX8_yields.data.toList.drop 22 = dktX8_yields_1 := dk_seg dksX8_yields_0 22 rfl rfl
theorem dksX8_yields_2 : cX8_yields.data.toList.drop 46 = dktX8_yields_2 := dk_seg dksX8_yields_1 24 rfl rfl
theorem dX8_yields_0 : decode cX8_yields 0 = .ok (.aload_n 0, 1) := dk_42 (dk_at dksX8_yields_0 0 rfl rfl)
theorem dX8_yields_1 : decode cX8_yields 1 = .ok (.iload_n 1, 1) := dk_27 (dk_at dksX8_yields_0 1 rfl rfl)
theorem dX8_yields_2 : decode cX8_yields 2 = .ok (.iconst (-1), 1) := dk_2 (dk_at dksX8_yields_0 2 rfl rfl)
theorem dX8_yields_3 : decode cX8_yields 3 = .ok (.aload_n 0, 1) := dk_42 (dk_at dksX8_yields_0 3 rfl rfl)
theorem dX8_yields_4 : decode cX8_yields 4 = .ok (.getfield 13, 3) := dk_180 0 13 (dk_at dksX8_yields_0 4 rfl rfl)
theorem dX8_yields_7 : decode cX8_yields 7 = .ok (.iconst 5, 1) := dk_8 (dk_at dksX8_yields_0 7 rfl rfl)
theorem dX8_yields_8 : decode cX8_yields 8 = .ok (.iaload, 1) := dk_46 (dk_at dksX8_yields_0 8 rfl rfl)
theorem dX8_yields_9 : decode cX8_yields 9 = .ok (.iconst 1, 1) := dk_4 (dk_at dksX8_yields_0 9 rfl rfl)
theorem dX8_yields_10 : decode cX8_yields 10 = .ok (.isub, 1) := dk_100 (dk_at dksX8_yields_0 10 rfl rfl)
theorem dX8_yields_11 : decode cX8_yields 11 = .ok (.invokestatic 235, 3) := dk_184 0 235 (dk_at dksX8_yields_0 11 rfl rfl)
theorem dX8_yields_14 : decode cX8_yields 14 = .ok (.ifCond .eq 7, 3) := dk_153 0 7 (dk_at dksX8_yields_0 14 rfl rfl)
theorem dX8_yields_17 : decode cX8_yields 17 = .ok (.iconst 0, 1) := dk_3 (dk_at dksX8_yields_0 17 rfl rfl)
theorem dX8_yields_18 : decode cX8_yields 18 = .ok (.goto 4, 3) := dk_167 0 4 (dk_at dksX8_yields_0 18 rfl rfl)
theorem dX8_yields_21 : decode cX8_yields 21 = .ok (.iconst 1, 1) := dk_4 (dk_at dksX8_yields_0 21 rfl rfl)
theorem dX8_yields_22 : decode cX8_yields 22 = .ok (.putfield 109, 3) := dk_181 0 109 (dk_at dksX8_yields_1 0 rfl rfl)
theorem dX8_yields_25 : decode cX8_yields 25 = .ok (.aload_n 0, 1) := dk_42 (dk_at dksX8_yields_1 3 rfl rfl)
theorem dX8_yields_26 : decode cX8_yields 26 = .ok (.getfield 109, 3) := dk_180 0 109 (dk_at dksX8_yields_1 4 rfl rfl)
theorem dX8_yields_29 : decode cX8_yields 29 = .ok (.iconst 1, 1) := dk_4 (dk_at dksX8_yields_1 7 rfl rfl)
theorem dX8_yields_30 : decode cX8_yields 30 = .ok (.if_icmp .ne 5, 3) := dk_160 0 5 (dk_at dksX8_yields_1 8 rfl rfl)
theorem dX8_yields_33 : decode cX8_yields 33 = .ok (.iconst 0, 1) := dk_3 (dk_at dksX8_yields_1 11 rfl rfl)
theorem dX8_yields_34 : decode cX8_yields 34 = .ok (.ireturn, 1) := dk_172 (dk_at dksX8_yields_1 12 rfl rfl)
theorem dX8_yields_35 : decode cX8_yields 35 = .ok (.aload_n 0, 1) := dk_42 (dk_at dksX8_yields_1 13 rfl rfl)
theorem dX8_yields_36 : decode cX8_yields 36 = .ok (.aload_n 0, 1) := dk_42 (dk_at dksX8_yields_1 14 rfl rfl)
theorem dX8_yields_37 : decode cX8_yields 37 = .ok (.invokevirtual 346, 3) := dk_182 1 90 (dk_at dksX8_yields_1 15 rfl rfl)
theorem dX8_yields_40 : decode cX8_yields 40 = .ok (.invokevirtual 352, 3) := dk_182 1 96 (dk_at dksX8_yields_1 18 rfl rfl)
theorem dX8_yields_43 : decode cX8_yields 43 = .ok (.aload_n 0, 1) := dk_42 (dk_at dksX8_yields_1 21 rfl rfl)
theorem dX8_yields_44 : decode cX8_yields 44 = .ok (.iload_n 1, 1) := dk_27 (dk_at dksX8_yields_1 22 rfl rfl)
theorem dX8_yields_45 : decode cX8_yields 45 = .ok (.iconst (-1), 1) := dk_2 (dk_at dksX8_yields_1 23 rfl rfl)
theorem dX8_yields_46 : decode cX8_yields 46 = .ok (.invokevirtual 349, 3) := dk_182 1 93 (dk_at dksX8_yields_2 0 rfl rfl)
theorem dX8_yields_49 : decode cX8_yields 49 = .ok (.ireturn, 1) := dk_172 (dk_at dksX8_yields_2 3 rfl rfl)
abbrev cX8_place : ByteArray := prog_30_method_63_code
def yX8_place : MethodName := ⟨RX8, "place", "(IIIII)I"⟩
def dkwX8_place_9 : List UInt8 := [167, 0, 5, 21, 7, 172]
abbrev dktX8_place_9 : List UInt8 := dkwX8_place_9 ++ []
def dkwX8_place_8 : List UInt8 := [21, 6, 155, 0, 8, 21, 5, 154, 0, 8, 21, 6, 167, 0, 17, 21, 4, 5, 160, 0, 9, 21, 7, 116]
abbrev dktX8_place_8 : List UInt8 := dkwX8_place_8 ++ dktX8_place_9
def dkwX8_place_7 : List UInt8 := [21, 9, 21, 7, 163, 0, 6, 167, 0, 11, 21, 8, 54, 6, 21, 9, 54, 7, 132, 8, 1, 167, 255, 168]
abbrev dktX8_place_7 : List UInt8 := dkwX8_place_7 ++ dktX8_place_8
def dkwX8_place_6 : List UInt8 := [182, 1, 90, 17, 16, 0, 128, 182, 1, 96, 42, 27, 21, 4, 182, 1, 108, 54, 9, 21, 6, 155, 0, 13]
abbrev dktX8_place_6 : List UInt8 := dkwX8_place_6 ++ dktX8_place_7
def dkwX8_place_5 : List UInt8 := [182, 1, 90, 182, 1, 63, 155, 0, 6, 167, 0, 56, 42, 180, 0, 84, 16, 24, 21, 8, 79, 42, 42]
abbrev dktX8_place_5 : List UInt8 := dkwX8_place_5 ++ dktX8_place_6
def dkwX8_place_4 : List UInt8 := [54, 8, 21, 8, 16, 64, 162, 0, 87, 42, 21, 8, 182, 1, 105, 153, 0, 72, 42, 21, 8, 42]
abbrev dktX8_place_4 : List UInt8 := dkwX8_place_4 ++ dktX8_place_5
def dkwX8_place_3 : List UInt8 := [42, 180, 0, 35, 16, 12, 29, 79, 42, 180, 0, 84, 16, 37, 3, 79, 2, 54, 6, 3, 54, 7, 3]
abbrev dktX8_place_3 : List UInt8 := dkwX8_place_3 ++ dktX8_place_4
def dkwX8_place_2 : List UInt8 := [184, 0, 235, 154, 0, 5, 2, 172, 42, 180, 0, 26, 16, 12, 27, 79, 42, 180, 0, 32, 16, 12, 28, 79]
abbrev dktX8_place_2 : List UInt8 := dkwX8_place_2 ++ dktX8_place_3
def dkwX8_place_1 : List UInt8 := [3, 8, 184, 0, 235, 153, 0, 23, 21, 4, 3, 5, 184, 0, 235, 153, 0, 13, 21, 5, 3, 4]
abbrev dktX8_place_1 : List UInt8 := dkwX8_place_1 ++ dktX8_place_2
def dkwX8_place_0 : List UInt8 := [42, 3, 181, 0, 109, 42, 27, 182, 1, 44, 153, 0, 42, 28, 3, 16, 10, 184, 0, 235, 153, 0, 32, 29]
abbrev dktX8_place_0 : List UInt8 := dkwX8_place_0 ++ dktX8_place_1
theorem dksX8_place_0 : cX8_place.data.toList.drop 0 = dktX8_place_0 := by decide +kernel
theorem dksX8_place_1 : cX8_place.data.toList.drop 24 = dktX8_place_1 := dk_seg dksX8_place_0 24 rfl rfl
theorem dksX8_place_2 : cX8_place.data.toList.drop 46 = dktX8_place_2 := dk_seg dksX8_place_1 22 rfl rfl
theorem dksX8_place_3 : cX8_place.data.toList.drop 70 = dktX8_place_3 := dk_seg dksX8_place_2 24 rfl rfl
theorem dksX8_place_4 : cX8_place.data.toList.drop 93 = dktX8_place_4 := dk_seg dksX8_place_3 23 rfl rfl
theorem dksX8_place_5 : cX8_place.data.toList.drop 115 = dktX8_place_5 := dk_seg dksX8_place_4 22 rfl rfl
theorem dksX8_place_6 : cX8_place.data.toList.drop 138 = dktX8_place_6 := dk_seg dksX8_place_5 23 rfl rfl
theorem dksX8_place_7 : cX8_place.data.toList.drop 162 = dktX8_place_7 := dk_seg dksX8_place_6 24 rfl rfl
theorem dksX8_place_8 : cX8_place.data.toList.drop 186 = dktX8_place_8 := dk_seg dksX8_place_7 24 rfl rfl
theorem dksX8_place_9 : cX8_place.data.toList.drop 210 = dktX8_place_9 := dk_seg dksX8_place_8 24 rfl rfl
theorem dX8_place_0 : decode cX8_place 0 = .ok (.aload_n 0, 1) := dk_42 (dk_at dksX8_place_0 0 rfl rfl)
theorem dX8_place_1 : decode cX8_place 1 = .ok (.iconst 0, 1) := dk_3 (dk_at dksX8_place_0 1 rfl rfl)
theorem dX8_place_2 : decode cX8_place 2 = .ok (.putfield 109, 3) := dk_181 0 109 (dk_at dksX8_place_0 2 rfl rfl)
theorem dX8_place_5 : decode cX8_place 5 = .ok (.aload_n 0, 1) := dk_42 (dk_at dksX8_place_0 5 rfl rfl)
theorem dX8_place_6 : decode cX8_place 6 = .ok (.iload_n 1, 1) := dk_27 (dk_at dksX8_place_0 6 rfl rfl)
theorem dX8_place_7 : decode cX8_place 7 = .ok (.invokevirtual 300, 3) := dk_182 1 44 (dk_at dksX8_place_0 7 rfl rfl)
theorem dX8_place_10 : decode cX8_place 10 = .ok (.ifCond .eq 42, 3) := dk_153 0 42 (dk_at dksX8_place_0 10 rfl rfl)
theorem dX8_place_13 : decode cX8_place 13 = .ok (.iload_n 2, 1) := dk_28 (dk_at dksX8_place_0 13 rfl rfl)
theorem dX8_place_14 : decode cX8_place 14 = .ok (.iconst 0, 1) := dk_3 (dk_at dksX8_place_0 14 rfl rfl)
theorem dX8_place_15 : decode cX8_place 15 = .ok (.bipush 10, 2) := dk_16 10 (dk_at dksX8_place_0 15 rfl rfl)
theorem dX8_place_17 : decode cX8_place 17 = .ok (.invokestatic 235, 3) := dk_184 0 235 (dk_at dksX8_place_0 17 rfl rfl)
theorem dX8_place_20 : decode cX8_place 20 = .ok (.ifCond .eq 32, 3) := dk_153 0 32 (dk_at dksX8_place_0 20 rfl rfl)
theorem dX8_place_23 : decode cX8_place 23 = .ok (.iload_n 3, 1) := dk_29 (dk_at dksX8_place_0 23 rfl rfl)
theorem dX8_place_24 : decode cX8_place 24 = .ok (.iconst 0, 1) := dk_3 (dk_at dksX8_place_1 0 rfl rfl)
theorem dX8_place_25 : decode cX8_place 25 = .ok (.iconst 5, 1) := dk_8 (dk_at dksX8_place_1 1 rfl rfl)
theorem dX8_place_26 : decode cX8_place 26 = .ok (.invokestatic 235, 3) := dk_184 0 235 (dk_at dksX8_place_1 2 rfl rfl)
theorem dX8_place_29 : decode cX8_place 29 = .ok (.ifCond .eq 23, 3) := dk_153 0 23 (dk_at dksX8_place_1 5 rfl rfl)
theorem dX8_place_32 : decode cX8_place 32 = .ok (.iload 4, 2) := dk_21 4 (dk_at dksX8_place_1 8 rfl rfl)
theorem dX8_place_34 : decode cX8_place 34 = .ok (.iconst 0, 1) := dk_3 (dk_at dksX8_place_1 10 rfl rfl)
theorem dX8_place_35 : decode cX8_place 35 = .ok (.iconst 2, 1) := dk_5 (dk_at dksX8_place_1 11 rfl rfl)
theorem dX8_place_36 : decode cX8_place 36 = .ok (.invokestatic 235, 3) := dk_184 0 235 (dk_at dksX8_place_1 12 rfl rfl)
theorem dX8_place_39 : decode cX8_place 39 = .ok (.ifCond .eq 13, 3) := dk_153 0 13 (dk_at dksX8_place_1 15 rfl rfl)
theorem dX8_place_42 : decode cX8_place 42 = .ok (.iload 5, 2) := dk_21 5 (dk_at dksX8_place_1 18 rfl rfl)
theorem dX8_place_44 : decode cX8_place 44 = .ok (.iconst 0, 1) := dk_3 (dk_at dksX8_place_1 20 rfl rfl)
theorem dX8_place_45 : decode cX8_place 45 = .ok (.iconst 1, 1) := dk_4 (dk_at dksX8_place_1 21 rfl rfl)
theorem dX8_place_46 : decode cX8_place 46 = .ok (.invokestatic 235, 3) := dk_184 0 235 (dk_at dksX8_place_2 0 rfl rfl)
theorem dX8_place_49 : decode cX8_place 49 = .ok (.ifCond .ne 5, 3) := dk_154 0 5 (dk_at dksX8_place_2 3 rfl rfl)
theorem dX8_place_52 : decode cX8_place 52 = .ok (.iconst (-1), 1) := dk_2 (dk_at dksX8_place_2 6 rfl rfl)
theorem dX8_place_53 : decode cX8_place 53 = .ok (.ireturn, 1) := dk_172 (dk_at dksX8_place_2 7 rfl rfl)
theorem dX8_place_54 : decode cX8_place 54 = .ok (.aload_n 0, 1) := dk_42 (dk_at dksX8_place_2 8 rfl rfl)
theorem dX8_place_55 : decode cX8_place 55 = .ok (.getfield 26, 3) := dk_180 0 26 (dk_at dksX8_place_2 9 rfl rfl)
theorem dX8_place_58 : decode cX8_place 58 = .ok (.bipush 12, 2) := dk_16 12 (dk_at dksX8_place_2 12 rfl rfl)
theorem dX8_place_60 : decode cX8_place 60 = .ok (.iload_n 1, 1) := dk_27 (dk_at dksX8_place_2 14 rfl rfl)
theorem dX8_place_61 : decode cX8_place 61 = .ok (.iastore, 1) := dk_79 (dk_at dksX8_place_2 15 rfl rfl)
theorem dX8_place_62 : decode cX8_place 62 = .ok (.aload_n 0, 1) := dk_42 (dk_at dksX8_place_2 16 rfl rfl)
theorem dX8_place_63 : decode cX8_place 63 = .ok (.getfield 32, 3) := dk_180 0 32 (dk_at dksX8_place_2 17 rfl rfl)
theorem dX8_place_66 : decode cX8_place 66 = .ok (.bipush 12, 2) := dk_16 12 (dk_at dksX8_place_2 20 rfl rfl)
theorem dX8_place_68 : decode cX8_place 68 = .ok (.iload_n 2, 1) := dk_28 (dk_at dksX8_place_2 22 rfl rfl)
theorem dX8_place_69 : decode cX8_place 69 = .ok (.iastore, 1) := dk_79 (dk_at dksX8_place_2 23 rfl rfl)
theorem dX8_place_70 : decode cX8_place 70 = .ok (.aload_n 0, 1) := dk_42 (dk_at dksX8_place_3 0 rfl rfl)
theorem dX8_place_71 : decode cX8_place 71 = .ok (.getfield 35, 3) := dk_180 0 35 (dk_at dksX8_place_3 1 rfl rfl)
theorem dX8_place_74 : decode cX8_place 74 = .ok (.bipush 12, 2) := dk_16 12 (dk_at dksX8_place_3 4 rfl rfl)
theorem dX8_place_76 : decode cX8_place 76 = .ok (.iload_n 3, 1) := dk_29 (dk_at dksX8_place_3 6 rfl rfl)
theorem dX8_place_77 : decode cX8_place 77 = .ok (.iastore, 1) := dk_79 (dk_at dksX8_place_3 7 rfl rfl)
theorem dX8_place_78 : decode cX8_place 78 = .ok (.aload_n 0, 1) := dk_42 (dk_at dksX8_place_3 8 rfl rfl)
theorem dX8_place_79 : decode cX8_place 79 = .ok (.getfield 84, 3) := dk_180 0 84 (dk_at dksX8_place_3 9 rfl rfl)
theorem dX8_place_82 : decode cX8_place 82 = .ok (.bipush 37, 2) := dk_16 37 (dk_at dksX8_place_3 12 rfl rfl)
theorem dX8_place_84 : decode cX8_place 84 = .ok (.iconst 0, 1) := dk_3 (dk_at dksX8_place_3 14 rfl rfl)
theorem dX8_place_85 : decode cX8_place 85 = .ok (.iastore, 1) := dk_79 (dk_at dksX8_place_3 15 rfl rfl)
theorem dX8_place_86 : decode cX8_place 86 = .ok (.iconst (-1), 1) := dk_2 (dk_at dksX8_place_3 16 rfl rfl)
theorem dX8_place_87 : decode cX8_place 87 = .ok (.istore 6, 2) := dk_54 6 (dk_at dksX8_place_3 17 rfl rfl)
theorem dX8_place_89 : decode cX8_place 89 = .ok (.iconst 0, 1) := dk_3 (dk_at dksX8_place_3 19 rfl rfl)
theorem dX8_place_90 : decode cX8_place 90 = .ok (.istore 7, 2) := dk_54 7 (dk_at dksX8_place_3 20 rfl rfl)
theorem dX8_place_92 : decode cX8_place 92 = .ok (.iconst 0, 1) := dk_3 (dk_at dksX8_place_3 22 rfl rfl)
theorem dX8_place_93 : decode cX8_place 93 = .ok (.istore 8, 2) := dk_54 8 (dk_at dksX8_place_4 0 rfl rfl)
theorem dX8_place_95 : decode cX8_place 95 = .ok (.iload 8, 2) := dk_21 8 (dk_at dksX8_place_4 2 rfl rfl)
theorem dX8_place_97 : decode cX8_place 97 = .ok (.bipush 64, 2) := dk_16 64 (dk_at dksX8_place_4 4 rfl rfl)
theorem dX8_place_99 : decode cX8_place 99 = .ok (.if_icmp .ge 87, 3) := dk_162 0 87 (dk_at dksX8_place_4 6 rfl rfl)
theorem dX8_place_102 : decode cX8_place 102 = .ok (.aload_n 0, 1) := dk_42 (dk_at dksX8_place_4 9 rfl rfl)
theorem dX8_place_103 : decode cX8_place 103 = .ok (.iload 8, 2) := dk_21 8 (dk_at dksX8_place_4 10 rfl rfl)
theorem dX8_place_105 : decode cX8_place 105 = .ok (.invokevirtual 361, 3) := dk_182 1 105 (dk_at dksX8_place_4 12 rfl rfl)
theorem dX8_place_108 : decode cX8_place 108 = .ok (.ifCond .eq 72, 3) := dk_153 0 72 (dk_at dksX8_place_4 15 rfl rfl)
theorem dX8_place_111 : decode cX8_place 111 = .ok (.aload_n 0, 1) := dk_42 (dk_at dksX8_place_4 18 rfl rfl)
theorem dX8_place_112 : decode cX8_place 112 = .ok (.iload 8, 2) := dk_21 8 (dk_at dksX8_place_4 19 rfl rfl)
theorem dX8_place_114 : decode cX8_place 114 = .ok (.aload_n 0, 1) := dk_42 (dk_at dksX8_place_4 21 rfl rfl)
theorem dX8_place_115 : decode cX8_place 115 = .ok (.invokevirtual 346, 3) := dk_182 1 90 (dk_at dksX8_place_5 0 rfl rfl)
theorem dX8_place_118 : decode cX8_place 118 = .ok (.invokevirtual 319, 3) := dk_182 1 63 (dk_at dksX8_place_5 3 rfl rfl)
theorem dX8_place_121 : decode cX8_place 121 = .ok (.ifCond .lt 6, 3) := dk_155 0 6 (dk_at dksX8_place_5 6 rfl rfl)
theorem dX8_place_124 : decode cX8_place 124 = .ok (.goto 56, 3) := dk_167 0 56 (dk_at dksX8_place_5 9 rfl rfl)
theorem dX8_place_127 : decode cX8_place 127 = .ok (.aload_n 0, 1) := dk_42 (dk_at dksX8_place_5 12 rfl rfl)
theorem dX8_place_128 : decode cX8_place 128 = .ok (.getfield 84, 3) := dk_180 0 84 (dk_at dksX8_place_5 13 rfl rfl)
theorem dX8_place_131 : decode cX8_place 131 = .ok (.bipush 24, 2) := dk_16 24 (dk_at dksX8_place_5 16 rfl rfl)
theorem dX8_place_133 : decode cX8_place 133 = .ok (.iload 8, 2) := dk_21 8 (dk_at dksX8_place_5 18 rfl rfl)
theorem dX8_place_135 : decode cX8_place 135 = .ok (.iastore, 1) := dk_79 (dk_at dksX8_place_5 20 rfl rfl)
theorem dX8_place_136 : decode cX8_place 136 = .ok (.aload_n 0, 1) := dk_42 (dk_at dksX8_place_5 21 rfl rfl)
theorem dX8_place_137 : decode cX8_place 137 = .ok (.aload_n 0, 1) := dk_42 (dk_at dksX8_place_5 22 rfl rfl)
theorem dX8_place_138 : decode cX8_place 138 = .ok (.invokevirtual 346, 3) := dk_182 1 90 (dk_at dksX8_place_6 0 rfl rfl)
theorem dX8_place_141 : decode cX8_place 141 = .ok (.sipush 4096, 3) := dk_17 16 0 (dk_at dksX8_place_6 3 rfl rfl)
theorem dX8_place_144 : decode cX8_place 144 = .ok (.ior, 1) := dk_128 (dk_at dksX8_place_6 6 rfl rfl)
theorem dX8_place_145 : decode cX8_place 145 = .ok (.invokevirtual 352, 3) := dk_182 1 96 (dk_at dksX8_place_6 7 rfl rfl)
theorem dX8_place_148 : decode cX8_place 148 = .ok (.aload_n 0, 1) := dk_42 (dk_at dksX8_place_6 10 rfl rfl)
theorem dX8_place_149 : decode cX8_place 149 = .ok (.iload_n 1, 1) := dk_27 (dk_at dksX8_place_6 11 rfl rfl)
theorem dX8_place_150 : decode cX8_place 150 = .ok (.iload 4, 2) := dk_21 4 (dk_at dksX8_place_6 12 rfl rfl)
theorem dX8_place_152 : decode cX8_place 152 = .ok (.invokevirtual 364, 3) := dk_182 1 108 (dk_at dksX8_place_6 14 rfl rfl)
theorem dX8_place_155 : decode cX8_place 155 = .ok (.istore 9, 2) := dk_54 9 (dk_at dksX8_place_6 17 rfl rfl)
theorem dX8_place_157 : decode cX8_place 157 = .ok (.iload 6, 2) := dk_21 6 (dk_at dksX8_place_6 19 rfl rfl)
theorem dX8_place_159 : decode cX8_place 159 = .ok (.ifCond .lt 13, 3) := dk_155 0 13 (dk_at dksX8_place_6 21 rfl rfl)
theorem dX8_place_162 : decode cX8_place 162 = .ok (.iload 9, 2) := dk_21 9 (dk_at dksX8_place_7 0 rfl rfl)
theorem dX8_place_164 : decode cX8_place 164 = .ok (.iload 7, 2) := dk_21 7 (dk_at dksX8_place_7 2 rfl rfl)
theorem dX8_place_166 : decode cX8_place 166 = .ok (.if_icmp .gt 6, 3) := dk_163 0 6 (dk_at dksX8_place_7 4 rfl rfl)
theorem dX8_place_169 : decode cX8_place 169 = .ok (.goto 11, 3) := dk_167 0 11 (dk_at dksX8_place_7 7 rfl rfl)
theorem dX8_place_172 : decode cX8_place 172 = .ok (.iload 8, 2) := dk_21 8 (dk_at dksX8_place_7 10 rfl rfl)
theorem dX8_place_174 : decode cX8_place 174 = .ok (.istore 6, 2) := dk_54 6 (dk_at dksX8_place_7 12 rfl rfl)
theorem dX8_place_176 : decode cX8_place 176 = .ok (.iload 9, 2) := dk_21 9 (dk_at dksX8_place_7 14 rfl rfl)
theorem dX8_place_178 : decode cX8_place 178 = .ok (.istore 7, 2) := dk_54 7 (dk_at dksX8_place_7 16 rfl rfl)
theorem dX8_place_180 : decode cX8_place 180 = .ok (.iinc 8 1, 3) := dk_132 8 1 (dk_at dksX8_place_7 18 rfl rfl)
theorem dX8_place_183 : decode cX8_place 183 = .ok (.goto (-88), 3) := dk_167 255 168 (dk_at dksX8_place_7 21 rfl rfl)
theorem dX8_place_186 : decode cX8_place 186 = .ok (.iload 6, 2) := dk_21 6 (dk_at dksX8_place_8 0 rfl rfl)
theorem dX8_place_188 : decode cX8_place 188 = .ok (.ifCond .lt 8, 3) := dk_155 0 8 (dk_at dksX8_place_8 2 rfl rfl)
theorem dX8_place_191 : decode cX8_place 191 = .ok (.iload 5, 2) := dk_21 5 (dk_at dksX8_place_8 5 rfl rfl)
theorem dX8_place_193 : decode cX8_place 193 = .ok (.ifCond .ne 8, 3) := dk_154 0 8 (dk_at dksX8_place_8 7 rfl rfl)
theorem dX8_place_196 : decode cX8_place 196 = .ok (.iload 6, 2) := dk_21 6 (dk_at dksX8_place_8 10 rfl rfl)
theorem dX8_place_198 : decode cX8_place 198 = .ok (.goto 17, 3) := dk_167 0 17 (dk_at dksX8_place_8 12 rfl rfl)
theorem dX8_place_201 : decode cX8_place 201 = .ok (.iload 4, 2) := dk_21 4 (dk_at dksX8_place_8 15 rfl rfl)
theorem dX8_place_203 : decode cX8_place 203 = .ok (.iconst 2, 1) := dk_5 (dk_at dksX8_place_8 17 rfl rfl)
theorem dX8_place_204 : decode cX8_place 204 = .ok (.if_icmp .ne 9, 3) := dk_160 0 9 (dk_at dksX8_place_8 18 rfl rfl)
theorem dX8_place_207 : decode cX8_place 207 = .ok (.iload 7, 2) := dk_21 7 (dk_at dksX8_place_8 21 rfl rfl)
theorem dX8_place_209 : decode cX8_place 209 = .ok (.ineg, 1) := dk_116 (dk_at dksX8_place_8 23 rfl rfl)
theorem dX8_place_210 : decode cX8_place 210 = .ok (.goto 5, 3) := dk_167 0 5 (dk_at dksX8_place_9 0 rfl rfl)
theorem dX8_place_213 : decode cX8_place 213 = .ok (.iload 7, 2) := dk_21 7 (dk_at dksX8_place_9 3 rfl rfl)
theorem dX8_place_215 : decode cX8_place 215 = .ok (.ireturn, 1) := dk_172 (dk_at dksX8_place_9 5 rfl rfl)
abbrev cX8_asked : ByteArray := prog_30_method_62_code
def yX8_asked : MethodName := ⟨RX8, "asked", "(II)I"⟩
def dkwX8_asked_1 : List UInt8 := [167, 0, 10, 42, 2, 27, 182, 1, 93, 116, 172]
abbrev dktX8_asked_1 : List UInt8 := dkwX8_asked_1 ++ []
def dkwX8_asked_0 : List UInt8 := [28, 154, 0, 12, 42, 2, 2, 182, 1, 93, 167, 0, 24, 28, 4, 160, 0, 12, 42, 27, 2, 182, 1, 93]
abbrev dktX8_asked_0 : List UInt8 := dkwX8_asked_0 ++ dktX8_asked_1
theorem dksX8_asked_0 : cX8_asked.data.toList.drop 0 = dktX8_asked_0 := by decide +kernel
theorem dksX8_asked_1 : cX8_asked.data.toList.drop 24 = dktX8_asked_1 := dk_seg dksX8_asked_0 24 rfl rfl
theorem dX8_asked_0 : decode cX8_asked 0 = .ok (.iload_n 2, 1) := dk_28 (dk_at dksX8_asked_0 0 rfl rfl)
theorem dX8_asked_1 : decode cX8_asked 1 = .ok (.ifCond .ne 12, 3) := dk_154 0 12 (dk_at dksX8_asked_0 1 rfl rfl)
theorem dX8_asked_4 : decode cX8_asked 4 = .ok (.aload_n 0, 1) := dk_42 (dk_at dksX8_asked_0 4 rfl rfl)
theorem dX8_asked_5 : decode cX8_asked 5 = .ok (.iconst (-1), 1) := dk_2 (dk_at dksX8_asked_0 5 rfl rfl)
theorem dX8_asked_6 : decode cX8_asked 6 = .ok (.iconst (-1), 1) := dk_2 (dk_at dksX8_asked_0 6 rfl rfl)
theorem dX8_asked_7 : decode cX8_asked 7 = .ok (.invokevirtual 349, 3) := dk_182 1 93 (dk_at dksX8_asked_0 7 rfl rfl)
theorem dX8_asked_10 : decode cX8_asked 10 = .ok (.goto 24, 3) := dk_167 0 24 (dk_at dksX8_asked_0 10 rfl rfl)
theorem dX8_asked_13 : decode cX8_asked 13 = .ok (.iload_n 2, 1) := dk_28 (dk_at dksX8_asked_0 13 rfl rfl)
theorem dX8_asked_14 : decode cX8_asked 14 = .ok (.iconst 1, 1) := dk_4 (dk_at dksX8_asked_0 14 rfl rfl)
theorem dX8_asked_15 : decode cX8_asked 15 = .ok (.if_icmp .ne 12, 3) := dk_160 0 12 (dk_at dksX8_asked_0 15 rfl rfl)
theorem dX8_asked_18 : decode cX8_asked 18 = .ok (.aload_n 0, 1) := dk_42 (dk_at dksX8_asked_0 18 rfl rfl)
theorem dX8_asked_19 : decode cX8_asked 19 = .ok (.iload_n 1, 1) := dk_27 (dk_at dksX8_asked_0 19 rfl rfl)
theorem dX8_asked_20 : decode cX8_asked 20 = .ok (.iconst (-1), 1) := dk_2 (dk_at dksX8_asked_0 20 rfl rfl)
theorem dX8_asked_21 : decode cX8_asked 21 = .ok (.invokevirtual 349, 3) := dk_182 1 93 (dk_at dksX8_asked_0 21 rfl rfl)
theorem dX8_asked_24 : decode cX8_asked 24 = .ok (.goto 10, 3) := dk_167 0 10 (dk_at dksX8_asked_1 0 rfl rfl)
theorem dX8_asked_27 : decode cX8_asked 27 = .ok (.aload_n 0, 1) := dk_42 (dk_at dksX8_asked_1 3 rfl rfl)
theorem dX8_asked_28 : decode cX8_asked 28 = .ok (.iconst (-1), 1) := dk_2 (dk_at dksX8_asked_1 4 rfl rfl)
theorem dX8_asked_29 : decode cX8_asked 29 = .ok (.iload_n 1, 1) := dk_27 (dk_at dksX8_asked_1 5 rfl rfl)
theorem dX8_asked_30 : decode cX8_asked 30 = .ok (.invokevirtual 349, 3) := dk_182 1 93 (dk_at dksX8_asked_1 6 rfl rfl)
theorem dX8_asked_33 : decode cX8_asked 33 = .ok (.ineg, 1) := dk_116 (dk_at dksX8_asked_1 9 rfl rfl)
theorem dX8_asked_34 : decode cX8_asked 34 = .ok (.ireturn, 1) := dk_172 (dk_at dksX8_asked_1 10 rfl rfl)
abbrev cX8_restless : ByteArray := prog_30_method_65_code
def yX8_restless : MethodName := ⟨RX8, "restless", "()I"⟩
def dkwX8_restless_2 : List UInt8 := [132, 2, 1, 167, 255, 215, 27, 172]
abbrev dktX8_restless_2 : List UInt8 := dkwX8_restless_2 ++ []
def dkwX8_restless_1 : List UInt8 := [182, 1, 111, 42, 180, 0, 84, 16, 12, 28, 96, 46, 159, 0, 9, 4, 28, 120, 167, 0, 4, 3, 128, 60]
abbrev dktX8_restless_1 : List UInt8 := dkwX8_restless_1 ++ dktX8_restless_2
def dkwX8_restless_0 : List UInt8 := [42, 3, 181, 0, 109, 3, 60, 3, 61, 28, 42, 180, 0, 13, 16, 6, 46, 162, 0, 36, 27, 42, 28]
abbrev dktX8_restless_0 : List UInt8 := dkwX8_restless_0 ++ dktX8_restless_1
theorem dksX8_restless_0 : cX8_restless.data.toList.drop 0 = dktX8_restless_0 := by decide +kernel
theorem dksX8_restless_1 : cX8_restless.data.toList.drop 23 = dktX8_restless_1 := dk_seg dksX8_restless_0 23 rfl rfl
theorem dksX8_restless_2 : cX8_restless.data.toList.drop 47 = dktX8_restless_2 := dk_seg dksX8_restless_1 24 rfl rfl
theorem dX8_restless_0 : decode cX8_restless 0 = .ok (.aload_n 0, 1) := dk_42 (dk_at dksX8_restless_0 0 rfl rfl)
theorem dX8_restless_1 : decode cX8_restless 1 = .ok (.iconst 0, 1) := dk_3 (dk_at dksX8_restless_0 1 rfl rfl)
theorem dX8_restless_2 : decode cX8_restless 2 = .ok (.putfield 109, 3) := dk_181 0 109 (dk_at dksX8_restless_0 2 rfl rfl)
theorem dX8_restless_5 : decode cX8_restless 5 = .ok (.iconst 0, 1) := dk_3 (dk_at dksX8_restless_0 5 rfl rfl)
theorem dX8_restless_6 : decode cX8_restless 6 = .ok (.istore_n 1, 1) := dk_60 (dk_at dksX8_restless_0 6 rfl rfl)
theorem dX8_restless_7 : decode cX8_restless 7 = .ok (.iconst 0, 1) := dk_3 (dk_at dksX8_restless_0 7 rfl rfl)
theorem dX8_restless_8 : decode cX8_restless 8 = .ok (.istore_n 2, 1) := dk_61 (dk_at dksX8_restless_0 8 rfl rfl)
theorem dX8_restless_9 : decode cX8_restless 9 = .ok (.iload_n 2, 1) := dk_28 (dk_at dksX8_restless_0 9 rfl rfl)
theorem dX8_restless_10 : decode cX8_restless 10 = .ok (.aload_n 0, 1) := dk_42 (dk_at dksX8_restless_0 10 rfl rfl)
theorem dX8_restless_11 : decode cX8_restless 11 = .ok (.getfield 13, 3) := dk_180 0 13 (dk_at dksX8_restless_0 11 rfl rfl)
theorem dX8_restless_14 : decode cX8_restless 14 = .ok (.bipush 6, 2) := dk_16 6 (dk_at dksX8_restless_0 14 rfl rfl)
theorem dX8_restless_16 : decode cX8_restless 16 = .ok (.iaload, 1) := dk_46 (dk_at dksX8_restless_0 16 rfl rfl)
theorem dX8_restless_17 : decode cX8_restless 17 = .ok (.if_icmp .ge 36, 3) := dk_162 0 36 (dk_at dksX8_restless_0 17 rfl rfl)
theorem dX8_restless_20 : decode cX8_restless 20 = .ok (.iload_n 1, 1) := dk_27 (dk_at dksX8_restless_0 20 rfl rfl)
theorem dX8_restless_21 : decode cX8_restless 21 = .ok (.aload_n 0, 1) := dk_42 (dk_at dksX8_restless_0 21 rfl rfl)
theorem dX8_restless_22 : decode cX8_restless 22 = .ok (.iload_n 2, 1) := dk_28 (dk_at dksX8_restless_0 22 rfl rfl)
theorem dX8_restless_23 : decode cX8_restless 23 = .ok (.invokevirtual 367, 3) := dk_182 1 111 (dk_at dksX8_restless_1 0 rfl rfl)
theorem dX8_restless_26 : decode cX8_restless 26 = .ok (.aload_n 0, 1) := dk_42 (dk_at dksX8_restless_1 3 rfl rfl)
theorem dX8_restless_27 : decode cX8_restless 27 = .ok (.getfield 84, 3) := dk_180 0 84 (dk_at dksX8_restless_1 4 rfl rfl)
theorem dX8_restless_30 : decode cX8_restless 30 = .ok (.bipush 12, 2) := dk_16 12 (dk_at dksX8_restless_1 7 rfl rfl)
theorem dX8_restless_32 : decode cX8_restless 32 = .ok (.iload_n 2, 1) := dk_28 (dk_at dksX8_restless_1 9 rfl rfl)
theorem dX8_restless_33 : decode cX8_restless 33 = .ok (.iadd, 1) := dk_96 (dk_at dksX8_restless_1 10 rfl rfl)
theorem dX8_restless_34 : decode cX8_restless 34 = .ok (.iaload, 1) := dk_46 (dk_at dksX8_restless_1 11 rfl rfl)
theorem dX8_restless_35 : decode cX8_restless 35 = .ok (.if_icmp .eq 9, 3) := dk_159 0 9 (dk_at dksX8_restless_1 12 rfl rfl)
theorem dX8_restless_38 : decode cX8_restless 38 = .ok (.iconst 1, 1) := dk_4 (dk_at dksX8_restless_1 15 rfl rfl)
theorem dX8_restless_39 : decode cX8_restless 39 = .ok (.iload_n 2, 1) := dk_28 (dk_at dksX8_restless_1 16 rfl rfl)
theorem dX8_restless_40 : decode cX8_restless 40 = .ok (.ishl, 1) := dk_120 (dk_at dksX8_restless_1 17 rfl rfl)
theorem dX8_restless_41 : decode cX8_restless 41 = .ok (.goto 4, 3) := dk_167 0 4 (dk_at dksX8_restless_1 18 rfl rfl)
theorem dX8_restless_44 : decode cX8_restless 44 = .ok (.iconst 0, 1) := dk_3 (dk_at dksX8_restless_1 21 rfl rfl)
theorem dX8_restless_45 : decode cX8_restless 45 = .ok (.ior, 1) := dk_128 (dk_at dksX8_restless_1 22 rfl rfl)
theorem dX8_restless_46 : decode cX8_restless 46 = .ok (.istore_n 1, 1) := dk_60 (dk_at dksX8_restless_1 23 rfl rfl)
theorem dX8_restless_47 : decode cX8_restless 47 = .ok (.iinc 2 1, 3) := dk_132 2 1 (dk_at dksX8_restless_2 0 rfl rfl)
theorem dX8_restless_50 : decode cX8_restless 50 = .ok (.goto (-41), 3) := dk_167 255 215 (dk_at dksX8_restless_2 3 rfl rfl)
theorem dX8_restless_53 : decode cX8_restless 53 = .ok (.iload_n 1, 1) := dk_27 (dk_at dksX8_restless_2 6 rfl rfl)
theorem dX8_restless_54 : decode cX8_restless 54 = .ok (.ireturn, 1) := dk_172 (dk_at dksX8_restless_2 7 rfl rfl)
abbrev cX8_betterAt : ByteArray := prog_30_method_64_code
def yX8_betterAt : MethodName := ⟨RX8, "betterAt", "(I)I"⟩
def dkwX8_betterAt_6 : List UInt8 := [16, 12, 27, 96, 28, 79, 29, 172]
abbrev dktX8_betterAt_6 : List UInt8 := dkwX8_betterAt_6 ++ []
def dkwX8_betterAt_5 : List UInt8 := [163, 0, 6, 167, 0, 10, 21, 6, 54, 4, 21, 5, 62, 132, 5, 1, 167, 255, 162, 42, 180, 0, 84]
abbrev dktX8_betterAt_5 : List UInt8 := dkwX8_betterAt_5 ++ dktX8_betterAt_6
def dkwX8_betterAt_4 : List UInt8 := [42, 182, 1, 90, 182, 1, 96, 42, 42, 180, 0, 26, 27, 46, 2, 182, 1, 93, 54, 6, 21, 6, 21, 4]
abbrev dktX8_betterAt_4 : List UInt8 := dkwX8_betterAt_4 ++ dktX8_betterAt_5
def dkwX8_betterAt_3 : List UInt8 := [182, 1, 90, 182, 1, 63, 155, 0, 6, 167, 0, 52, 42, 180, 0, 84, 16, 12, 27, 96, 21, 5, 79, 42]
abbrev dktX8_betterAt_3 : List UInt8 := dkwX8_betterAt_3 ++ dktX8_betterAt_4
def dkwX8_betterAt_2 : List UInt8 := [180, 0, 84, 16, 12, 27, 96, 28, 79, 42, 21, 5, 182, 1, 105, 153, 0, 68, 42, 21, 5, 42]
abbrev dktX8_betterAt_2 : List UInt8 := dkwX8_betterAt_2 ++ dktX8_betterAt_3
def dkwX8_betterAt_1 : List UInt8 := [180, 0, 26, 27, 46, 2, 182, 1, 93, 54, 4, 3, 54, 5, 21, 5, 16, 64, 162, 0, 93, 42]
abbrev dktX8_betterAt_1 : List UInt8 := dkwX8_betterAt_1 ++ dktX8_betterAt_2
def dkwX8_betterAt_0 : List UInt8 := [42, 180, 0, 84, 16, 12, 27, 96, 46, 61, 28, 62, 42, 42, 182, 1, 90, 182, 1, 96, 42, 42]
abbrev dktX8_betterAt_0 : List UInt8 := dkwX8_betterAt_0 ++ dktX8_betterAt_1
theorem dksX8_betterAt_0 : cX8_betterAt.data.toList.drop 0 = dktX8_betterAt_0 := by decide +kernel
theorem dksX8_betterAt_1 : cX8_betterAt.data.toList.drop 22 = dktX8_betterAt_1 := dk_seg dksX8_betterAt_0 22 rfl rfl
theorem dksX8_betterAt_2 : cX8_betterAt.data.toList.drop 44 = dktX8_betterAt_2 := dk_seg dksX8_betterAt_1 22 rfl rfl
theorem dksX8_betterAt_3 : cX8_betterAt.data.toList.drop 66 = dktX8_betterAt_3 := dk_seg dksX8_betterAt_2 22 rfl rfl
theorem dksX8_betterAt_4 : cX8_betterAt.data.toList.drop 90 = dktX8_betterAt_4 := dk_seg dksX8_betterAt_3 24 rfl rfl
theorem dksX8_betterAt_5 : cX8_betterAt.data.toList.drop 114 = dktX8_betterAt_5 := dk_seg dksX8_betterAt_4 24 rfl rfl
theorem dksX8_betterAt_6 : cX8_betterAt.data.toList.drop 137 = dktX8_betterAt_6 := dk_seg dksX8_betterAt_5 23 rfl rfl
theorem dX8_betterAt_0 : decode cX8_betterAt 0 = .ok (.aload_n 0, 1) := dk_42 (dk_at dksX8_betterAt_0 0 rfl rfl)
theorem dX8_betterAt_1 : decode cX8_betterAt 1 = .ok (.getfield 84, 3) := dk_180 0 84 (dk_at dksX8_betterAt_0 1 rfl rfl)
theorem dX8_betterAt_4 : decode cX8_betterAt 4 = .ok (.bipush 12, 2) := dk_16 12 (dk_at dksX8_betterAt_0 4 rfl rfl)
theorem dX8_betterAt_6 : decode cX8_betterAt 6 = .ok (.iload_n 1, 1) := dk_27 (dk_at dksX8_betterAt_0 6 rfl rfl)
theorem dX8_betterAt_7 : decode cX8_betterAt 7 = .ok (.iadd, 1) := dk_96 (dk_at dksX8_betterAt_0 7 rfl rfl)
theorem dX8_betterAt_8 : decode cX8_betterAt 8 = .ok (.iaload, 1) := dk_46 (dk_at dksX8_betterAt_0 8 rfl rfl)
theorem dX8_betterAt_9 : decode cX8_betterAt 9 = .ok (.istore_n 2, 1) := dk_61 (dk_at dksX8_betterAt_0 9 rfl rfl)
theorem dX8_betterAt_10 : decode cX8_betterAt 10 = .ok (.iload_n 2, 1) := dk_28 (dk_at dksX8_betterAt_0 10 rfl rfl)
theorem dX8_betterAt_11 : decode cX8_betterAt 11 = .ok (.istore_n 3, 1) := dk_62 (dk_at dksX8_betterAt_0 11 rfl rfl)
theorem dX8_betterAt_12 : decode cX8_betterAt 12 = .ok (.aload_n 0, 1) := dk_42 (dk_at dksX8_betterAt_0 12 rfl rfl)
theorem dX8_betterAt_13 : decode cX8_betterAt 13 = .ok (.aload_n 0, 1) := dk_42 (dk_at dksX8_betterAt_0 13 rfl rfl)
theorem dX8_betterAt_14 : decode cX8_betterAt 14 = .ok (.invokevirtual 346, 3) := dk_182 1 90 (dk_at dksX8_betterAt_0 14 rfl rfl)
theorem dX8_betterAt_17 : decode cX8_betterAt 17 = .ok (.invokevirtual 352, 3) := dk_182 1 96 (dk_at dksX8_betterAt_0 17 rfl rfl)
theorem dX8_betterAt_20 : decode cX8_betterAt 20 = .ok (.aload_n 0, 1) := dk_42 (dk_at dksX8_betterAt_0 20 rfl rfl)
theorem dX8_betterAt_21 : decode cX8_betterAt 21 = .ok (.aload_n 0, 1) := dk_42 (dk_at dksX8_betterAt_0 21 rfl rfl)
theorem dX8_betterAt_22 : decode cX8_betterAt 22 = .ok (.getfield 26, 3) := dk_180 0 26 (dk_at dksX8_betterAt_1 0 rfl rfl)
theorem dX8_betterAt_25 : decode cX8_betterAt 25 = .ok (.iload_n 1, 1) := dk_27 (dk_at dksX8_betterAt_1 3 rfl rfl)
theorem dX8_betterAt_26 : decode cX8_betterAt 26 = .ok (.iaload, 1) := dk_46 (dk_at dksX8_betterAt_1 4 rfl rfl)
theorem dX8_betterAt_27 : decode cX8_betterAt 27 = .ok (.iconst (-1), 1) := dk_2 (dk_at dksX8_betterAt_1 5 rfl rfl)
theorem dX8_betterAt_28 : decode cX8_betterAt 28 = .ok (.invokevirtual 349, 3) := dk_182 1 93 (dk_at dksX8_betterAt_1 6 rfl rfl)
theorem dX8_betterAt_31 : decode cX8_betterAt 31 = .ok (.istore 4, 2) := dk_54 4 (dk_at dksX8_betterAt_1 9 rfl rfl)
theorem dX8_betterAt_33 : decode cX8_betterAt 33 = .ok (.iconst 0, 1) := dk_3 (dk_at dksX8_betterAt_1 11 rfl rfl)
theorem dX8_betterAt_34 : decode cX8_betterAt 34 = .ok (.istore 5, 2) := dk_54 5 (dk_at dksX8_betterAt_1 12 rfl rfl)
theorem dX8_betterAt_36 : decode cX8_betterAt 36 = .ok (.iload 5, 2) := dk_21 5 (dk_at dksX8_betterAt_1 14 rfl rfl)
theorem dX8_betterAt_38 : decode cX8_betterAt 38 = .ok (.bipush 64, 2) := dk_16 64 (dk_at dksX8_betterAt_1 16 rfl rfl)
theorem dX8_betterAt_40 : decode cX8_betterAt 40 = .ok (.if_icmp .ge 93, 3) := dk_162 0 93 (dk_at dksX8_betterAt_1 18 rfl rfl)
theorem dX8_betterAt_43 : decode cX8_betterAt 43 = .ok (.aload_n 0, 1) := dk_42 (dk_at dksX8_betterAt_1 21 rfl rfl)
theorem dX8_betterAt_44 : decode cX8_betterAt 44 = .ok (.getfield 84, 3) := dk_180 0 84 (dk_at dksX8_betterAt_2 0 rfl rfl)
theorem dX8_betterAt_47 : decode cX8_betterAt 47 = .ok (.bipush 12, 2) := dk_16 12 (dk_at dksX8_betterAt_2 3 rfl rfl)
theorem dX8_betterAt_49 : decode cX8_betterAt 49 = .ok (.iload_n 1, 1) := dk_27 (dk_at dksX8_betterAt_2 5 rfl rfl)
theorem dX8_betterAt_50 : decode cX8_betterAt 50 = .ok (.iadd, 1) := dk_96 (dk_at dksX8_betterAt_2 6 rfl rfl)
theorem dX8_betterAt_51 : decode cX8_betterAt 51 = .ok (.iload_n 2, 1) := dk_28 (dk_at dksX8_betterAt_2 7 rfl rfl)
theorem dX8_betterAt_52 : decode cX8_betterAt 52 = .ok (.iastore, 1) := dk_79 (dk_at dksX8_betterAt_2 8 rfl rfl)
theorem dX8_betterAt_53 : decode cX8_betterAt 53 = .ok (.aload_n 0, 1) := dk_42 (dk_at dksX8_betterAt_2 9 rfl rfl)
theorem dX8_betterAt_54 : decode cX8_betterAt 54 = .ok (.iload 5, 2) := dk_21 5 (dk_at dksX8_betterAt_2 10 rfl rfl)
theorem dX8_betterAt_56 : decode cX8_betterAt 56 = .ok (.invokevirtual 361, 3) := dk_182 1 105 (dk_at dksX8_betterAt_2 12 rfl rfl)
theorem dX8_betterAt_59 : decode cX8_betterAt 59 = .ok (.ifCond .eq 68, 3) := dk_153 0 68 (dk_at dksX8_betterAt_2 15 rfl rfl)
theorem dX8_betterAt_62 : decode cX8_betterAt 62 = .ok (.aload_n 0, 1) := dk_42 (dk_at dksX8_betterAt_2 18 rfl rfl)
theorem dX8_betterAt_63 : decode cX8_betterAt 63 = .ok (.iload 5, 2) := dk_21 5 (dk_at dksX8_betterAt_2 19 rfl rfl)
theorem dX8_betterAt_65 : decode cX8_betterAt 65 = .ok (.aload_n 0, 1) := dk_42 (dk_at dksX8_betterAt_2 21 rfl rfl)
theorem dX8_betterAt_66 : decode cX8_betterAt 66 = .ok (.invokevirtual 346, 3) := dk_182 1 90 (dk_at dksX8_betterAt_3 0 rfl rfl)
theorem dX8_betterAt_69 : decode cX8_betterAt 69 = .ok (.invokevirtual 319, 3) := dk_182 1 63 (dk_at dksX8_betterAt_3 3 rfl rfl)
theorem dX8_betterAt_72 : decode cX8_betterAt 72 = .ok (.ifCond .lt 6, 3) := dk_155 0 6 (dk_at dksX8_betterAt_3 6 rfl rfl)
theorem dX8_betterAt_75 : decode cX8_betterAt 75 = .ok (.goto 52, 3) := dk_167 0 52 (dk_at dksX8_betterAt_3 9 rfl rfl)
theorem dX8_betterAt_78 : decode cX8_betterAt 78 = .ok (.aload_n 0, 1) := dk_42 (dk_at dksX8_betterAt_3 12 rfl rfl)
theorem dX8_betterAt_79 : decode cX8_betterAt 79 = .ok (.getfield 84, 3) := dk_180 0 84 (dk_at dksX8_betterAt_3 13 rfl rfl)
theorem dX8_betterAt_82 : decode cX8_betterAt 82 = .ok (.bipush 12, 2) := dk_16 12 (dk_at dksX8_betterAt_3 16 rfl rfl)
theorem dX8_betterAt_84 : decode cX8_betterAt 84 = .ok (.iload_n 1, 1) := dk_27 (dk_at dksX8_betterAt_3 18 rfl rfl)
theorem dX8_betterAt_85 : decode cX8_betterAt 85 = .ok (.iadd, 1) := dk_96 (dk_at dksX8_betterAt_3 19 rfl rfl)
theorem dX8_betterAt_86 : decode cX8_betterAt 86 = .ok (.iload 5, 2) := dk_21 5 (dk_at dksX8_betterAt_3 20 rfl rfl)
theorem dX8_betterAt_88 : decode cX8_betterAt 88 = .ok (.iastore, 1) := dk_79 (dk_at dksX8_betterAt_3 22 rfl rfl)
theorem dX8_betterAt_89 : decode cX8_betterAt 89 = .ok (.aload_n 0, 1) := dk_42 (dk_at dksX8_betterAt_3 23 rfl rfl)
theorem dX8_betterAt_90 : decode cX8_betterAt 90 = .ok (.aload_n 0, 1) := dk_42 (dk_at dksX8_betterAt_4 0 rfl rfl)
theorem dX8_betterAt_91 : decode cX8_betterAt 91 = .ok (.invokevirtual 346, 3) := dk_182 1 90 (dk_at dksX8_betterAt_4 1 rfl rfl)
theorem dX8_betterAt_94 : decode cX8_betterAt 94 = .ok (.invokevirtual 352, 3) := dk_182 1 96 (dk_at dksX8_betterAt_4 4 rfl rfl)
theorem dX8_betterAt_97 : decode cX8_betterAt 97 = .ok (.aload_n 0, 1) := dk_42 (dk_at dksX8_betterAt_4 7 rfl rfl)
theorem dX8_betterAt_98 : decode cX8_betterAt 98 = .ok (.aload_n 0, 1) := dk_42 (dk_at dksX8_betterAt_4 8 rfl rfl)
theorem dX8_betterAt_99 : decode cX8_betterAt 99 = .ok (.getfield 26, 3) := dk_180 0 26 (dk_at dksX8_betterAt_4 9 rfl rfl)
theorem dX8_betterAt_102 : decode cX8_betterAt 102 = .ok (.iload_n 1, 1) := dk_27 (dk_at dksX8_betterAt_4 12 rfl rfl)
theorem dX8_betterAt_103 : decode cX8_betterAt 103 = .ok (.iaload, 1) := dk_46 (dk_at dksX8_betterAt_4 13 rfl rfl)
theorem dX8_betterAt_104 : decode cX8_betterAt 104 = .ok (.iconst (-1), 1) := dk_2 (dk_at dksX8_betterAt_4 14 rfl rfl)
theorem dX8_betterAt_105 : decode cX8_betterAt 105 = .ok (.invokevirtual 349, 3) := dk_182 1 93 (dk_at dksX8_betterAt_4 15 rfl rfl)
theorem dX8_betterAt_108 : decode cX8_betterAt 108 = .ok (.istore 6, 2) := dk_54 6 (dk_at dksX8_betterAt_4 18 rfl rfl)
theorem dX8_betterAt_110 : decode cX8_betterAt 110 = .ok (.iload 6, 2) := dk_21 6 (dk_at dksX8_betterAt_4 20 rfl rfl)
theorem dX8_betterAt_112 : decode cX8_betterAt 112 = .ok (.iload 4, 2) := dk_21 4 (dk_at dksX8_betterAt_4 22 rfl rfl)
theorem dX8_betterAt_114 : decode cX8_betterAt 114 = .ok (.if_icmp .gt 6, 3) := dk_163 0 6 (dk_at dksX8_betterAt_5 0 rfl rfl)
theorem dX8_betterAt_117 : decode cX8_betterAt 117 = .ok (.goto 10, 3) := dk_167 0 10 (dk_at dksX8_betterAt_5 3 rfl rfl)
theorem dX8_betterAt_120 : decode cX8_betterAt 120 = .ok (.iload 6, 2) := dk_21 6 (dk_at dksX8_betterAt_5 6 rfl rfl)
theorem dX8_betterAt_122 : decode cX8_betterAt 122 = .ok (.istore 4, 2) := dk_54 4 (dk_at dksX8_betterAt_5 8 rfl rfl)
theorem dX8_betterAt_124 : decode cX8_betterAt 124 = .ok (.iload 5, 2) := dk_21 5 (dk_at dksX8_betterAt_5 10 rfl rfl)
theorem dX8_betterAt_126 : decode cX8_betterAt 126 = .ok (.istore_n 3, 1) := dk_62 (dk_at dksX8_betterAt_5 12 rfl rfl)
theorem dX8_betterAt_127 : decode cX8_betterAt 127 = .ok (.iinc 5 1, 3) := dk_132 5 1 (dk_at dksX8_betterAt_5 13 rfl rfl)
theorem dX8_betterAt_130 : decode cX8_betterAt 130 = .ok (.goto (-94), 3) := dk_167 255 162 (dk_at dksX8_betterAt_5 16 rfl rfl)
theorem dX8_betterAt_133 : decode cX8_betterAt 133 = .ok (.aload_n 0, 1) := dk_42 (dk_at dksX8_betterAt_5 19 rfl rfl)
theorem dX8_betterAt_134 : decode cX8_betterAt 134 = .ok (.getfield 84, 3) := dk_180 0 84 (dk_at dksX8_betterAt_5 20 rfl rfl)
theorem dX8_betterAt_137 : decode cX8_betterAt 137 = .ok (.bipush 12, 2) := dk_16 12 (dk_at dksX8_betterAt_6 0 rfl rfl)
theorem dX8_betterAt_139 : decode cX8_betterAt 139 = .ok (.iload_n 1, 1) := dk_27 (dk_at dksX8_betterAt_6 2 rfl rfl)
theorem dX8_betterAt_140 : decode cX8_betterAt 140 = .ok (.iadd, 1) := dk_96 (dk_at dksX8_betterAt_6 3 rfl rfl)
theorem dX8_betterAt_141 : decode cX8_betterAt 141 = .ok (.iload_n 2, 1) := dk_28 (dk_at dksX8_betterAt_6 4 rfl rfl)
theorem dX8_betterAt_142 : decode cX8_betterAt 142 = .ok (.iastore, 1) := dk_79 (dk_at dksX8_betterAt_6 5 rfl rfl)
theorem dX8_betterAt_143 : decode cX8_betterAt 143 = .ok (.iload_n 3, 1) := dk_29 (dk_at dksX8_betterAt_6 6 rfl rfl)
theorem dX8_betterAt_144 : decode cX8_betterAt 144 = .ok (.ireturn, 1) := dk_172 (dk_at dksX8_betterAt_6 7 rfl rfl)
abbrev cX8_played : ByteArray := prog_30_method_68_code
def yX8_played : MethodName := ⟨RX8, "played", "(I)I"⟩
def dkwX8_played_4 : List UInt8 := [3, 184, 1, 123, 28, 172]
abbrev dktX8_played_4 : List UInt8 := dkwX8_played_4 ++ []
def dkwX8_played_3 : List UInt8 := [167, 0, 14, 42, 180, 0, 84, 16, 12, 27, 96, 5, 100, 46, 61, 42, 180, 0, 87, 3, 42, 180, 0, 84]
abbrev dktX8_played_3 : List UInt8 := dkwX8_played_3 ++ dktX8_played_4
def dkwX8_played_2 : List UInt8 := [180, 1, 117, 167, 0, 34, 27, 4, 160, 0, 18, 42, 180, 1, 114, 153, 0, 7, 4, 167, 0, 18, 3]
abbrev dktX8_played_2 : List UInt8 := dkwX8_played_2 ++ dktX8_played_3
def dkwX8_played_1 : List UInt8 := [42, 180, 0, 84, 3, 42, 180, 0, 87, 3, 184, 1, 123, 42, 182, 1, 127, 27, 154, 0, 10, 42]
abbrev dktX8_played_1 : List UInt8 := dkwX8_played_1 ++ dktX8_played_2
def dkwX8_played_0 : List UInt8 := [42, 3, 181, 0, 109, 27, 3, 4, 42, 180, 0, 13, 16, 6, 46, 96, 184, 0, 235, 154, 0, 5, 2, 172]
abbrev dktX8_played_0 : List UInt8 := dkwX8_played_0 ++ dktX8_played_1
theorem dksX8_played_0 : cX8_played.data.toList.drop 0 = dktX8_played_0 := by decide +kernel
theorem dksX8_played_1 : cX8_played.data.toList.drop 24 = dktX8_played_1 := dk_seg dksX8_played_0 24 rfl rfl
theorem dksX8_played_2 : cX8_played.data.toList.drop 46 = dktX8_played_2 := dk_seg dksX8_played_1 22 rfl rfl
theorem dksX8_played_3 : cX8_played.data.toList.drop 69 = dktX8_played_3 := dk_seg dksX8_played_2 23 rfl rfl
theorem dksX8_played_4 : cX8_played.data.toList.drop 93 = dktX8_played_4 := dk_seg dksX8_played_3 24 rfl rfl
theorem dX8_played_0 : decode cX8_played 0 = .ok (.aload_n 0, 1) := dk_42 (dk_at dksX8_played_0 0 rfl rfl)
theorem dX8_played_1 : decode cX8_played 1 = .ok (.iconst 0, 1) := dk_3 (dk_at dksX8_played_0 1 rfl rfl)
theorem dX8_played_2 : decode cX8_played 2 = .ok (.putfield 109, 3) := dk_181 0 109 (dk_at dksX8_played_0 2 rfl rfl)
theorem dX8_played_5 : decode cX8_played 5 = .ok (.iload_n 1, 1) := dk_27 (dk_at dksX8_played_0 5 rfl rfl)
theorem dX8_played_6 : decode cX8_played 6 = .ok (.iconst 0, 1) := dk_3 (dk_at dksX8_played_0 6 rfl rfl)
theorem dX8_played_7 : decode cX8_played 7 = .ok (.iconst 1, 1) := dk_4 (dk_at dksX8_played_0 7 rfl rfl)
theorem dX8_played_8 : decode cX8_played 8 = .ok (.aload_n 0, 1) := dk_42 (dk_at dksX8_played_0 8 rfl rfl)
theorem dX8_played_9 : decode cX8_played 9 = .ok (.getfield 13, 3) := dk_180 0 13 (dk_at dksX8_played_0 9 rfl rfl)
theorem dX8_played_12 : decode cX8_played 12 = .ok (.bipush 6, 2) := dk_16 6 (dk_at dksX8_played_0 12 rfl rfl)
theorem dX8_played_14 : decode cX8_played 14 = .ok (.iaload, 1) := dk_46 (dk_at dksX8_played_0 14 rfl rfl)
theorem dX8_played_15 : decode cX8_played 15 = .ok (.iadd, 1) := dk_96 (dk_at dksX8_played_0 15 rfl rfl)
theorem dX8_played_16 : decode cX8_played 16 = .ok (.invokestatic 235, 3) := dk_184 0 235 (dk_at dksX8_played_0 16 rfl rfl)
theorem dX8_played_19 : decode cX8_played 19 = .ok (.ifCond .ne 5, 3) := dk_154 0 5 (dk_at dksX8_played_0 19 rfl rfl)
theorem dX8_played_22 : decode cX8_played 22 = .ok (.iconst (-1), 1) := dk_2 (dk_at dksX8_played_0 22 rfl rfl)
theorem dX8_played_23 : decode cX8_played 23 = .ok (.ireturn, 1) := dk_172 (dk_at dksX8_played_0 23 rfl rfl)
theorem dX8_played_24 : decode cX8_played 24 = .ok (.aload_n 0, 1) := dk_42 (dk_at dksX8_played_1 0 rfl rfl)
theorem dX8_played_25 : decode cX8_played 25 = .ok (.getfield 84, 3) := dk_180 0 84 (dk_at dksX8_played_1 1 rfl rfl)
theorem dX8_played_28 : decode cX8_played 28 = .ok (.iconst 0, 1) := dk_3 (dk_at dksX8_played_1 4 rfl rfl)
theorem dX8_played_29 : decode cX8_played 29 = .ok (.aload_n 0, 1) := dk_42 (dk_at dksX8_played_1 5 rfl rfl)
theorem dX8_played_30 : decode cX8_played 30 = .ok (.getfield 87, 3) := dk_180 0 87 (dk_at dksX8_played_1 6 rfl rfl)
theorem dX8_played_33 : decode cX8_played 33 = .ok (.iconst 0, 1) := dk_3 (dk_at dksX8_played_1 9 rfl rfl)
theorem dX8_played_34 : decode cX8_played 34 = .ok (.invokestatic 379, 3) := dk_184 1 123 (dk_at dksX8_played_1 10 rfl rfl)
theorem dX8_played_37 : decode cX8_played 37 = .ok (.aload_n 0, 1) := dk_42 (dk_at dksX8_played_1 13 rfl rfl)
theorem dX8_played_38 : decode cX8_played 38 = .ok (.invokevirtual 383, 3) := dk_182 1 127 (dk_at dksX8_played_1 14 rfl rfl)
theorem dX8_played_41 : decode cX8_played 41 = .ok (.iload_n 1, 1) := dk_27 (dk_at dksX8_played_1 17 rfl rfl)
theorem dX8_played_42 : decode cX8_played 42 = .ok (.ifCond .ne 10, 3) := dk_154 0 10 (dk_at dksX8_played_1 18 rfl rfl)
theorem dX8_played_45 : decode cX8_played 45 = .ok (.aload_n 0, 1) := dk_42 (dk_at dksX8_played_1 21 rfl rfl)
theorem dX8_played_46 : decode cX8_played 46 = .ok (.getfield 373, 3) := dk_180 1 117 (dk_at dksX8_played_2 0 rfl rfl)
theorem dX8_played_49 : decode cX8_played 49 = .ok (.goto 34, 3) := dk_167 0 34 (dk_at dksX8_played_2 3 rfl rfl)
theorem dX8_played_52 : decode cX8_played 52 = .ok (.iload_n 1, 1) := dk_27 (dk_at dksX8_played_2 6 rfl rfl)
theorem dX8_played_53 : decode cX8_played 53 = .ok (.iconst 1, 1) := dk_4 (dk_at dksX8_played_2 7 rfl rfl)
theorem dX8_played_54 : decode cX8_played 54 = .ok (.if_icmp .ne 18, 3) := dk_160 0 18 (dk_at dksX8_played_2 8 rfl rfl)
theorem dX8_played_57 : decode cX8_played 57 = .ok (.aload_n 0, 1) := dk_42 (dk_at dksX8_played_2 11 rfl rfl)
theorem dX8_played_58 : decode cX8_played 58 = .ok (.getfield 370, 3) := dk_180 1 114 (dk_at dksX8_played_2 12 rfl rfl)
theorem dX8_played_61 : decode cX8_played 61 = .ok (.ifCond .eq 7, 3) := dk_153 0 7 (dk_at dksX8_played_2 15 rfl rfl)
theorem dX8_played_64 : decode cX8_played 64 = .ok (.iconst 1, 1) := dk_4 (dk_at dksX8_played_2 18 rfl rfl)
theorem dX8_played_65 : decode cX8_played 65 = .ok (.goto 18, 3) := dk_167 0 18 (dk_at dksX8_played_2 19 rfl rfl)
theorem dX8_played_68 : decode cX8_played 68 = .ok (.iconst 0, 1) := dk_3 (dk_at dksX8_played_2 22 rfl rfl)
theorem dX8_played_69 : decode cX8_played 69 = .ok (.goto 14, 3) := dk_167 0 14 (dk_at dksX8_played_3 0 rfl rfl)
theorem dX8_played_72 : decode cX8_played 72 = .ok (.aload_n 0, 1) := dk_42 (dk_at dksX8_played_3 3 rfl rfl)
theorem dX8_played_73 : decode cX8_played 73 = .ok (.getfield 84, 3) := dk_180 0 84 (dk_at dksX8_played_3 4 rfl rfl)
theorem dX8_played_76 : decode cX8_played 76 = .ok (.bipush 12, 2) := dk_16 12 (dk_at dksX8_played_3 7 rfl rfl)
theorem dX8_played_78 : decode cX8_played 78 = .ok (.iload_n 1, 1) := dk_27 (dk_at dksX8_played_3 9 rfl rfl)
theorem dX8_played_79 : decode cX8_played 79 = .ok (.iadd, 1) := dk_96 (dk_at dksX8_played_3 10 rfl rfl)
theorem dX8_played_80 : decode cX8_played 80 = .ok (.iconst 2, 1) := dk_5 (dk_at dksX8_played_3 11 rfl rfl)
theorem dX8_played_81 : decode cX8_played 81 = .ok (.isub, 1) := dk_100 (dk_at dksX8_played_3 12 rfl rfl)
theorem dX8_played_82 : decode cX8_played 82 = .ok (.iaload, 1) := dk_46 (dk_at dksX8_played_3 13 rfl rfl)
theorem dX8_played_83 : decode cX8_played 83 = .ok (.istore_n 2, 1) := dk_61 (dk_at dksX8_played_3 14 rfl rfl)
theorem dX8_played_84 : decode cX8_played 84 = .ok (.aload_n 0, 1) := dk_42 (dk_at dksX8_played_3 15 rfl rfl)
theorem dX8_played_85 : decode cX8_played 85 = .ok (.getfield 87, 3) := dk_180 0 87 (dk_at dksX8_played_3 16 rfl rfl)
theorem dX8_played_88 : decode cX8_played 88 = .ok (.iconst 0, 1) := dk_3 (dk_at dksX8_played_3 19 rfl rfl)
theorem dX8_played_89 : decode cX8_played 89 = .ok (.aload_n 0, 1) := dk_42 (dk_at dksX8_played_3 20 rfl rfl)
theorem dX8_played_90 : decode cX8_played 90 = .ok (.getfield 84, 3) := dk_180 0 84 (dk_at dksX8_played_3 21 rfl rfl)
theorem dX8_played_93 : decode cX8_played 93 = .ok (.iconst 0, 1) := dk_3 (dk_at dksX8_played_4 0 rfl rfl)
theorem dX8_played_94 : decode cX8_played 94 = .ok (.invokestatic 379, 3) := dk_184 1 123 (dk_at dksX8_played_4 1 rfl rfl)
theorem dX8_played_97 : decode cX8_played 97 = .ok (.iload_n 2, 1) := dk_28 (dk_at dksX8_played_4 4 rfl rfl)
theorem dX8_played_98 : decode cX8_played 98 = .ok (.ireturn, 1) := dk_172 (dk_at dksX8_played_4 5 rfl rfl)
abbrev cX8_copies : ByteArray := prog_30_method_34_code
def yX8_copies : MethodName := ⟨RX8, "copies", "([II[II)V"⟩
def dkwX8_copies_1 : List UInt8 := [132, 4, 1, 167, 255, 234, 177]
abbrev dktX8_copies_1 : List UInt8 := dkwX8_copies_1 ++ []
def dkwX8_copies_0 : List UInt8 := [3, 54, 4, 21, 4, 16, 80, 162, 0, 21, 44, 29, 21, 4, 96, 42, 27, 21, 4, 96, 46, 79]
abbrev dktX8_copies_0 : List UInt8 := dkwX8_copies_0 ++ dktX8_copies_1
theorem dksX8_copies_0 : cX8_copies.data.toList.drop 0 = dktX8_copies_0 := by decide +kernel
theorem dksX8_copies_1 : cX8_copies.data.toList.drop 22 = dktX8_copies_1 := dk_seg dksX8_copies_0 22 rfl rfl
theorem dX8_copies_0 : decode cX8_copies 0 = .ok (.iconst 0, 1) := dk_3 (dk_at dksX8_copies_0 0 rfl rfl)
theorem dX8_copies_1 : decode cX8_copies 1 = .ok (.istore 4, 2) := dk_54 4 (dk_at dksX8_copies_0 1 rfl rfl)
theorem dX8_copies_3 : decode cX8_copies 3 = .ok (.iload 4, 2) := dk_21 4 (dk_at dksX8_copies_0 3 rfl rfl)
theorem dX8_copies_5 : decode cX8_copies 5 = .ok (.bipush 80, 2) := dk_16 80 (dk_at dksX8_copies_0 5 rfl rfl)
theorem dX8_copies_7 : decode cX8_copies 7 = .ok (.if_icmp .ge 21, 3) := dk_162 0 21 (dk_at dksX8_copies_0 7 rfl rfl)
theorem dX8_copies_10 : decode cX8_copies 10 = .ok (.aload_n 2, 1) := dk_44 (dk_at dksX8_copies_0 10 rfl rfl)
theorem dX8_copies_11 : decode cX8_copies 11 = .ok (.iload_n 3, 1) := dk_29 (dk_at dksX8_copies_0 11 rfl rfl)
theorem dX8_copies_12 : decode cX8_copies 12 = .ok (.iload 4, 2) := dk_21 4 (dk_at dksX8_copies_0 12 rfl rfl)
theorem dX8_copies_14 : decode cX8_copies 14 = .ok (.iadd, 1) := dk_96 (dk_at dksX8_copies_0 14 rfl rfl)
theorem dX8_copies_15 : decode cX8_copies 15 = .ok (.aload_n 0, 1) := dk_42 (dk_at dksX8_copies_0 15 rfl rfl)
theorem dX8_copies_16 : decode cX8_copies 16 = .ok (.iload_n 1, 1) := dk_27 (dk_at dksX8_copies_0 16 rfl rfl)
theorem dX8_copies_17 : decode cX8_copies 17 = .ok (.iload 4, 2) := dk_21 4 (dk_at dksX8_copies_0 17 rfl rfl)
theorem dX8_copies_19 : decode cX8_copies 19 = .ok (.iadd, 1) := dk_96 (dk_at dksX8_copies_0 19 rfl rfl)
theorem dX8_copies_20 : decode cX8_copies 20 = .ok (.iaload, 1) := dk_46 (dk_at dksX8_copies_0 20 rfl rfl)
theorem dX8_copies_21 : decode cX8_copies 21 = .ok (.iastore, 1) := dk_79 (dk_at dksX8_copies_0 21 rfl rfl)
theorem dX8_copies_22 : decode cX8_copies 22 = .ok (.iinc 4 1, 3) := dk_132 4 1 (dk_at dksX8_copies_1 0 rfl rfl)
theorem dX8_copies_25 : decode cX8_copies 25 = .ok (.goto (-22), 3) := dk_167 255 234 (dk_at dksX8_copies_1 3 rfl rfl)
theorem dX8_copies_28 : decode cX8_copies 28 = .ok (.return_, 1) := dk_177 (dk_at dksX8_copies_1 6 rfl rfl)
abbrev cX8_plays : ByteArray := prog_30_method_67_code
def yX8_plays : MethodName := ⟨RX8, "plays", "()V"⟩
def dkwX8_plays_8 : List UInt8 := [104, 29, 96, 42, 180, 0, 84, 16, 12, 29, 96, 46, 79, 132, 3, 1, 167, 255, 224, 167, 255, 89, 177]
abbrev dktX8_plays_8 : List UInt8 := dkwX8_plays_8 ++ []
def dkwX8_plays_7 : List UInt8 := [132, 3, 1, 167, 255, 235, 3, 62, 29, 16, 12, 162, 0, 32, 42, 180, 0, 96, 16, 12, 42, 180, 1, 117]
abbrev dktX8_plays_7 : List UInt8 := dkwX8_plays_7 ++ dktX8_plays_8
def dkwX8_plays_6 : List UInt8 := [180, 1, 114, 60, 3, 62, 29, 42, 180, 1, 117, 162, 0, 19, 27, 154, 0, 15, 42, 29, 182, 1, 120, 60]
abbrev dktX8_plays_6 : List UInt8 := dkwX8_plays_6 ++ dktX8_plays_7
def dkwX8_plays_5 : List UInt8 := [96, 21, 4, 79, 132, 3, 1, 167, 255, 200, 42, 28, 154, 0, 7, 4, 167, 0, 4, 3, 181, 1, 114, 42]
abbrev dktX8_plays_5 : List UInt8 := dkwX8_plays_5 ++ dktX8_plays_6
def dkwX8_plays_4 : List UInt8 := [180, 0, 84, 16, 12, 29, 96, 46, 159, 0, 7, 4, 167, 0, 4, 3, 61, 42, 180, 0, 84, 16, 12, 29]
abbrev dktX8_plays_4 : List UInt8 := dkwX8_plays_4 ++ dktX8_plays_5
def dkwX8_plays_3 : List UInt8 := [180, 0, 13, 16, 6, 46, 162, 0, 51, 42, 29, 182, 1, 111, 54, 4, 28, 154, 0, 17, 21, 4, 42]
abbrev dktX8_plays_3 : List UInt8 := dkwX8_plays_3 ++ dktX8_plays_4
def dkwX8_plays_2 : List UInt8 := [180, 1, 117, 16, 100, 162, 0, 160, 42, 89, 180, 1, 117, 4, 96, 181, 1, 117, 3, 61, 3, 62, 29, 42]
abbrev dktX8_plays_2 : List UInt8 := dkwX8_plays_2 ++ dktX8_plays_3
def dkwX8_plays_1 : List UInt8 := [28, 42, 180, 0, 84, 16, 12, 28, 96, 46, 79, 132, 2, 1, 167, 255, 232, 27, 154, 0, 169, 42]
abbrev dktX8_plays_1 : List UInt8 := dkwX8_plays_1 ++ dktX8_plays_2
def dkwX8_plays_0 : List UInt8 := [42, 3, 181, 1, 114, 42, 3, 181, 1, 117, 3, 60, 3, 61, 28, 16, 12, 162, 0, 24, 42, 180, 0, 96]
abbrev dktX8_plays_0 : List UInt8 := dkwX8_plays_0 ++ dktX8_plays_1
theorem dksX8_plays_0 : cX8_plays.data.toList.drop 0 = dktX8_plays_0 := by decide +kernel
theorem dksX8_plays_1 : cX8_plays.data.toList.drop 24 = dktX8_plays_1 := dk_seg dksX8_plays_0 24 rfl rfl
theorem dksX8_plays_2 : cX8_plays.data.toList.drop 46 = dktX8_plays_2 := dk_seg dksX8_plays_1 22 rfl rfl
theorem dksX8_plays_3 : cX8_plays.data.toList.drop 70 = dktX8_plays_3 := dk_seg dksX8_plays_2 24 rfl rfl
theorem dksX8_plays_4 : cX8_plays.data.toList.drop 93 = dktX8_plays_4 := dk_seg dksX8_plays_3 23 rfl rfl
theorem dksX8_plays_5 : cX8_plays.data.toList.drop 117 = dktX8_plays_5 := dk_seg dksX8_plays_4 24 rfl rfl
theorem dksX8_plays_6 : cX8_plays.data.toList.drop 141 = dktX8_plays_6 := dk_seg dksX8_plays_5 24 rfl rfl
theorem dksX8_plays_7 : cX8_plays.data.toList.drop 165 = dktX8_plays_7 := dk_seg dksX8_plays_6 24 rfl rfl
theorem dksX8_plays_8 : cX8_plays.data.toList.drop 189 = dktX8_plays_8 := dk_seg dksX8_plays_7 24 rfl rfl
theorem dX8_plays_0 : decode cX8_plays 0 = .ok (.aload_n 0, 1) := dk_42 (dk_at dksX8_plays_0 0 rfl rfl)
theorem dX8_plays_1 : decode cX8_plays 1 = .ok (.iconst 0, 1) := dk_3 (dk_at dksX8_plays_0 1 rfl rfl)
theorem dX8_plays_2 : decode cX8_plays 2 = .ok (.putfield 370, 3) := dk_181 1 114 (dk_at dksX8_plays_0 2 rfl rfl)
theorem dX8_plays_5 : decode cX8_plays 5 = .ok (.aload_n 0, 1) := dk_42 (dk_at dksX8_plays_0 5 rfl rfl)
theorem dX8_plays_6 : decode cX8_plays 6 = .ok (.iconst 0, 1) := dk_3 (dk_at dksX8_plays_0 6 rfl rfl)
theorem dX8_plays_7 : decode cX8_plays 7 = .ok (.putfield 373, 3) := dk_181 1 117 (dk_at dksX8_plays_0 7 rfl rfl)
theorem dX8_plays_10 : decode cX8_plays 10 = .ok (.iconst 0, 1) := dk_3 (dk_at dksX8_plays_0 10 rfl rfl)
theorem dX8_plays_11 : decode cX8_plays 11 = .ok (.istore_n 1, 1) := dk_60 (dk_at dksX8_plays_0 11 rfl rfl)
theorem dX8_plays_12 : decode cX8_plays 12 = .ok (.iconst 0, 1) := dk_3 (dk_at dksX8_plays_0 12 rfl rfl)
theorem dX8_plays_13 : decode cX8_plays 13 = .ok (.istore_n 2, 1) := dk_61 (dk_at dksX8_plays_0 13 rfl rfl)
theorem dX8_plays_14 : decode cX8_plays 14 = .ok (.iload_n 2, 1) := dk_28 (dk_at dksX8_plays_0 14 rfl rfl)
theorem dX8_plays_15 : decode cX8_plays 15 = .ok (.bipush 12, 2) := dk_16 12 (dk_at dksX8_plays_0 15 rfl rfl)
theorem dX8_plays_17 : decode cX8_plays 17 = .ok (.if_icmp .ge 24, 3) := dk_162 0 24 (dk_at dksX8_plays_0 17 rfl rfl)
theorem dX8_plays_20 : decode cX8_plays 20 = .ok (.aload_n 0, 1) := dk_42 (dk_at dksX8_plays_0 20 rfl rfl)
theorem dX8_plays_21 : decode cX8_plays 21 = .ok (.getfield 96, 3) := dk_180 0 96 (dk_at dksX8_plays_0 21 rfl rfl)
theorem dX8_plays_24 : decode cX8_plays 24 = .ok (.iload_n 2, 1) := dk_28 (dk_at dksX8_plays_1 0 rfl rfl)
theorem dX8_plays_25 : decode cX8_plays 25 = .ok (.aload_n 0, 1) := dk_42 (dk_at dksX8_plays_1 1 rfl rfl)
theorem dX8_plays_26 : decode cX8_plays 26 = .ok (.getfield 84, 3) := dk_180 0 84 (dk_at dksX8_plays_1 2 rfl rfl)
theorem dX8_plays_29 : decode cX8_plays 29 = .ok (.bipush 12, 2) := dk_16 12 (dk_at dksX8_plays_1 5 rfl rfl)
theorem dX8_plays_31 : decode cX8_plays 31 = .ok (.iload_n 2, 1) := dk_28 (dk_at dksX8_plays_1 7 rfl rfl)
theorem dX8_plays_32 : decode cX8_plays 32 = .ok (.iadd, 1) := dk_96 (dk_at dksX8_plays_1 8 rfl rfl)
theorem dX8_plays_33 : decode cX8_plays 33 = .ok (.iaload, 1) := dk_46 (dk_at dksX8_plays_1 9 rfl rfl)
theorem dX8_plays_34 : decode cX8_plays 34 = .ok (.iastore, 1) := dk_79 (dk_at dksX8_plays_1 10 rfl rfl)
theorem dX8_plays_35 : decode cX8_plays 35 = .ok (.iinc 2 1, 3) := dk_132 2 1 (dk_at dksX8_plays_1 11 rfl rfl)
theorem dX8_plays_38 : decode cX8_plays 38 = .ok (.goto (-24), 3) := dk_167 255 232 (dk_at dksX8_plays_1 14 rfl rfl)
theorem dX8_plays_41 : decode cX8_plays 41 = .ok (.iload_n 1, 1) := dk_27 (dk_at dksX8_plays_1 17 rfl rfl)
theorem dX8_plays_42 : decode cX8_plays 42 = .ok (.ifCond .ne 169, 3) := dk_154 0 169 (dk_at dksX8_plays_1 18 rfl rfl)
theorem dX8_plays_45 : decode cX8_plays 45 = .ok (.aload_n 0, 1) := dk_42 (dk_at dksX8_plays_1 21 rfl rfl)
theorem dX8_plays_46 : decode cX8_plays 46 = .ok (.getfield 373, 3) := dk_180 1 117 (dk_at dksX8_plays_2 0 rfl rfl)
theorem dX8_plays_49 : decode cX8_plays 49 = .ok (.bipush 100, 2) := dk_16 100 (dk_at dksX8_plays_2 3 rfl rfl)
theorem dX8_plays_51 : decode cX8_plays 51 = .ok (.if_icmp .ge 160, 3) := dk_162 0 160 (dk_at dksX8_plays_2 5 rfl rfl)
theorem dX8_plays_54 : decode cX8_plays 54 = .ok (.aload_n 0, 1) := dk_42 (dk_at dksX8_plays_2 8 rfl rfl)
theorem dX8_plays_55 : decode cX8_plays 55 = .ok (.dup, 1) := dk_89 (dk_at dksX8_plays_2 9 rfl rfl)
theorem dX8_plays_56 : decode cX8_plays 56 = .ok (.getfield 373, 3) := dk_180 1 117 (dk_at dksX8_plays_2 10 rfl rfl)
theorem dX8_plays_59 : decode cX8_plays 59 = .ok (.iconst 1, 1) := dk_4 (dk_at dksX8_plays_2 13 rfl rfl)
theorem dX8_plays_60 : decode cX8_plays 60 = .ok (.iadd, 1) := dk_96 (dk_at dksX8_plays_2 14 rfl rfl)
theorem dX8_plays_61 : decode cX8_plays 61 = .ok (.putfield 373, 3) := dk_181 1 117 (dk_at dksX8_plays_2 15 rfl rfl)
theorem dX8_plays_64 : decode cX8_plays 64 = .ok (.iconst 0, 1) := dk_3 (dk_at dksX8_plays_2 18 rfl rfl)
theorem dX8_plays_65 : decode cX8_plays 65 = .ok (.istore_n 2, 1) := dk_61 (dk_at dksX8_plays_2 19 rfl rfl)
theorem dX8_plays_66 : decode cX8_plays 66 = .ok (.iconst 0, 1) := dk_3 (dk_at dksX8_plays_2 20 rfl rfl)
theorem dX8_plays_67 : decode cX8_plays 67 = .ok (.istore_n 3, 1) := dk_62 (dk_at dksX8_plays_2 21 rfl rfl)
theorem dX8_plays_68 : decode cX8_plays 68 = .ok (.iload_n 3, 1) := dk_29 (dk_at dksX8_plays_2 22 rfl rfl)
theorem dX8_plays_69 : decode cX8_plays 69 = .ok (.aload_n 0, 1) := dk_42 (dk_at dksX8_plays_2 23 rfl rfl)
theorem dX8_plays_70 : decode cX8_plays 70 = .ok (.getfield 13, 3) := dk_180 0 13 (dk_at dksX8_plays_3 0 rfl rfl)
theorem dX8_plays_73 : decode cX8_plays 73 = .ok (.bipush 6, 2) := dk_16 6 (dk_at dksX8_plays_3 3 rfl rfl)
theorem dX8_plays_75 : decode cX8_plays 75 = .ok (.iaload, 1) := dk_46 (dk_at dksX8_plays_3 5 rfl rfl)
theorem dX8_plays_76 : decode cX8_plays 76 = .ok (.if_icmp .ge 51, 3) := dk_162 0 51 (dk_at dksX8_plays_3 6 rfl rfl)
theorem dX8_plays_79 : decode cX8_plays 79 = .ok (.aload_n 0, 1) := dk_42 (dk_at dksX8_plays_3 9 rfl rfl)
theorem dX8_plays_80 : decode cX8_plays 80 = .ok (.iload_n 3, 1) := dk_29 (dk_at dksX8_plays_3 10 rfl rfl)
theorem dX8_plays_81 : decode cX8_plays 81 = .ok (.invokevirtual 367, 3) := dk_182 1 111 (dk_at dksX8_plays_3 11 rfl rfl)
theorem dX8_plays_84 : decode cX8_plays 84 = .ok (.istore 4, 2) := dk_54 4 (dk_at dksX8_plays_3 14 rfl rfl)
theorem dX8_plays_86 : decode cX8_plays 86 = .ok (.iload_n 2, 1) := dk_28 (dk_at dksX8_plays_3 16 rfl rfl)
theorem dX8_plays_87 : decode cX8_plays 87 = .ok (.ifCond .ne 17, 3) := dk_154 0 17 (dk_at dksX8_plays_3 17 rfl rfl)
theorem dX8_plays_90 : decode cX8_plays 90 = .ok (.iload 4, 2) := dk_21 4 (dk_at dksX8_plays_3 20 rfl rfl)
theorem dX8_plays_92 : decode cX8_plays 92 = .ok (.aload_n 0, 1) := dk_42 (dk_at dksX8_plays_3 22 rfl rfl)
theorem dX8_plays_93 : decode cX8_plays 93 = .ok (.getfield 84, 3) := dk_180 0 84 (dk_at dksX8_plays_4 0 rfl rfl)
theorem dX8_plays_96 : decode cX8_plays 96 = .ok (.bipush 12, 2) := dk_16 12 (dk_at dksX8_plays_4 3 rfl rfl)
theorem dX8_plays_98 : decode cX8_plays 98 = .ok (.iload_n 3, 1) := dk_29 (dk_at dksX8_plays_4 5 rfl rfl)
theorem dX8_plays_99 : decode cX8_plays 99 = .ok (.iadd, 1) := dk_96 (dk_at dksX8_plays_4 6 rfl rfl)
theorem dX8_plays_100 : decode cX8_plays 100 = .ok (.iaload, 1) := dk_46 (dk_at dksX8_plays_4 7 rfl rfl)
theorem dX8_plays_101 : decode cX8_plays 101 = .ok (.if_icmp .eq 7, 3) := dk_159 0 7 (dk_at dksX8_plays_4 8 rfl rfl)
theorem dX8_plays_104 : decode cX8_plays 104 = .ok (.iconst 1, 1) := dk_4 (dk_at dksX8_plays_4 11 rfl rfl)
theorem dX8_plays_105 : decode cX8_plays 105 = .ok (.goto 4, 3) := dk_167 0 4 (dk_at dksX8_plays_4 12 rfl rfl)
theorem dX8_plays_108 : decode cX8_plays 108 = .ok (.iconst 0, 1) := dk_3 (dk_at dksX8_plays_4 15 rfl rfl)
theorem dX8_plays_109 : decode cX8_plays 109 = .ok (.istore_n 2, 1) := dk_61 (dk_at dksX8_plays_4 16 rfl rfl)
theorem dX8_plays_110 : decode cX8_plays 110 = .ok (.aload_n 0, 1) := dk_42 (dk_at dksX8_plays_4 17 rfl rfl)
theorem dX8_plays_111 : decode cX8_plays 111 = .ok (.getfield 84, 3) := dk_180 0 84 (dk_at dksX8_plays_4 18 rfl rfl)
theorem dX8_plays_114 : decode cX8_plays 114 = .ok (.bipush 12, 2) := dk_16 12 (dk_at dksX8_plays_4 21 rfl rfl)
theorem dX8_plays_116 : decode cX8_plays 116 = .ok (.iload_n 3, 1) := dk_29 (dk_at dksX8_plays_4 23 rfl rfl)
theorem dX8_plays_117 : decode cX8_plays 117 = .ok (.iadd, 1) := dk_96 (dk_at dksX8_plays_5 0 rfl rfl)
theorem dX8_plays_118 : decode cX8_plays 118 = .ok (.iload 4, 2) := dk_21 4 (dk_at dksX8_plays_5 1 rfl rfl)
theorem dX8_plays_120 : decode cX8_plays 120 = .ok (.iastore, 1) := dk_79 (dk_at dksX8_plays_5 3 rfl rfl)
theorem dX8_plays_121 : decode cX8_plays 121 = .ok (.iinc 3 1, 3) := dk_132 3 1 (dk_at dksX8_plays_5 4 rfl rfl)
theorem dX8_plays_124 : decode cX8_plays 124 = .ok (.goto (-56), 3) := dk_167 255 200 (dk_at dksX8_plays_5 7 rfl rfl)
theorem dX8_plays_127 : decode cX8_plays 127 = .ok (.aload_n 0, 1) := dk_42 (dk_at dksX8_plays_5 10 rfl rfl)
theorem dX8_plays_128 : decode cX8_plays 128 = .ok (.iload_n 2, 1) := dk_28 (dk_at dksX8_plays_5 11 rfl rfl)
theorem dX8_plays_129 : decode cX8_plays 129 = .ok (.ifCond .ne 7, 3) := dk_154 0 7 (dk_at dksX8_plays_5 12 rfl rfl)
theorem dX8_plays_132 : decode cX8_plays 132 = .ok (.iconst 1, 1) := dk_4 (dk_at dksX8_plays_5 15 rfl rfl)
theorem dX8_plays_133 : decode cX8_plays 133 = .ok (.goto 4, 3) := dk_167 0 4 (dk_at dksX8_plays_5 16 rfl rfl)
theorem dX8_plays_136 : decode cX8_plays 136 = .ok (.iconst 0, 1) := dk_3 (dk_at dksX8_plays_5 19 rfl rfl)
theorem dX8_plays_137 : decode cX8_plays 137 = .ok (.putfield 370, 3) := dk_181 1 114 (dk_at dksX8_plays_5 20 rfl rfl)
theorem dX8_plays_140 : decode cX8_plays 140 = .ok (.aload_n 0, 1) := dk_42 (dk_at dksX8_plays_5 23 rfl rfl)
theorem dX8_plays_141 : decode cX8_plays 141 = .ok (.getfield 370, 3) := dk_180 1 114 (dk_at dksX8_plays_6 0 rfl rfl)
theorem dX8_plays_144 : decode cX8_plays 144 = .ok (.istore_n 1, 1) := dk_60 (dk_at dksX8_plays_6 3 rfl rfl)
theorem dX8_plays_145 : decode cX8_plays 145 = .ok (.iconst 0, 1) := dk_3 (dk_at dksX8_plays_6 4 rfl rfl)
theorem dX8_plays_146 : decode cX8_plays 146 = .ok (.istore_n 3, 1) := dk_62 (dk_at dksX8_plays_6 5 rfl rfl)
theorem dX8_plays_147 : decode cX8_plays 147 = .ok (.iload_n 3, 1) := dk_29 (dk_at dksX8_plays_6 6 rfl rfl)
theorem dX8_plays_148 : decode cX8_plays 148 = .ok (.aload_n 0, 1) := dk_42 (dk_at dksX8_plays_6 7 rfl rfl)
theorem dX8_plays_149 : decode cX8_plays 149 = .ok (.getfield 373, 3) := dk_180 1 117 (dk_at dksX8_plays_6 8 rfl rfl)
theorem dX8_plays_152 : decode cX8_plays 152 = .ok (.if_icmp .ge 19, 3) := dk_162 0 19 (dk_at dksX8_plays_6 11 rfl rfl)
theorem dX8_plays_155 : decode cX8_plays 155 = .ok (.iload_n 1, 1) := dk_27 (dk_at dksX8_plays_6 14 rfl rfl)
theorem dX8_plays_156 : decode cX8_plays 156 = .ok (.ifCond .ne 15, 3) := dk_154 0 15 (dk_at dksX8_plays_6 15 rfl rfl)
theorem dX8_plays_159 : decode cX8_plays 159 = .ok (.aload_n 0, 1) := dk_42 (dk_at dksX8_plays_6 18 rfl rfl)
theorem dX8_plays_160 : decode cX8_plays 160 = .ok (.iload_n 3, 1) := dk_29 (dk_at dksX8_plays_6 19 rfl rfl)
theorem dX8_plays_161 : decode cX8_plays 161 = .ok (.invokevirtual 376, 3) := dk_182 1 120 (dk_at dksX8_plays_6 20 rfl rfl)
theorem dX8_plays_164 : decode cX8_plays 164 = .ok (.istore_n 1, 1) := dk_60 (dk_at dksX8_plays_6 23 rfl rfl)
theorem dX8_plays_165 : decode cX8_plays 165 = .ok (.iinc 3 1, 3) := dk_132 3 1 (dk_at dksX8_plays_7 0 rfl rfl)
theorem dX8_plays_168 : decode cX8_plays 168 = .ok (.goto (-21), 3) := dk_167 255 235 (dk_at dksX8_plays_7 3 rfl rfl)
theorem dX8_plays_171 : decode cX8_plays 171 = .ok (.iconst 0, 1) := dk_3 (dk_at dksX8_plays_7 6 rfl rfl)
theorem dX8_plays_172 : decode cX8_plays 172 = .ok (.istore_n 3, 1) := dk_62 (dk_at dksX8_plays_7 7 rfl rfl)
theorem dX8_plays_173 : decode cX8_plays 173 = .ok (.iload_n 3, 1) := dk_29 (dk_at dksX8_plays_7 8 rfl rfl)
theorem dX8_plays_174 : decode cX8_plays 174 = .ok (.bipush 12, 2) := dk_16 12 (dk_at dksX8_plays_7 9 rfl rfl)
theorem dX8_plays_176 : decode cX8_plays 176 = .ok (.if_icmp .ge 32, 3) := dk_162 0 32 (dk_at dksX8_plays_7 11 rfl rfl)
theorem dX8_plays_179 : decode cX8_plays 179 = .ok (.aload_n 0, 1) := dk_42 (dk_at dksX8_plays_7 14 rfl rfl)
theorem dX8_plays_180 : decode cX8_plays 180 = .ok (.getfield 96, 3) := dk_180 0 96 (dk_at dksX8_plays_7 15 rfl rfl)
theorem dX8_plays_183 : decode cX8_plays 183 = .ok (.bipush 12, 2) := dk_16 12 (dk_at dksX8_plays_7 18 rfl rfl)
theorem dX8_plays_185 : decode cX8_plays 185 = .ok (.aload_n 0, 1) := dk_42 (dk_at dksX8_plays_7 20 rfl rfl)
theorem dX8_plays_186 : decode cX8_plays 186 = .ok (.getfield 373, 3) := dk_180 1 117 (dk_at dksX8_plays_7 21 rfl rfl)
theorem dX8_plays_189 : decode cX8_plays 189 = .ok (.imul, 1) := dk_104 (dk_at dksX8_plays_8 0 rfl rfl)
theorem dX8_plays_190 : decode cX8_plays 190 = .ok (.iload_n 3, 1) := dk_29 (dk_at dksX8_plays_8 1 rfl rfl)
theorem dX8_plays_191 : decode cX8_plays 191 = .ok (.iadd, 1) := dk_96 (dk_at dksX8_plays_8 2 rfl rfl)
theorem dX8_plays_192 : decode cX8_plays 192 = .ok (.aload_n 0, 1) := dk_42 (dk_at dksX8_plays_8 3 rfl rfl)
theorem dX8_plays_193 : decode cX8_plays 193 = .ok (.getfield 84, 3) := dk_180 0 84 (dk_at dksX8_plays_8 4 rfl rfl)
theorem dX8_plays_196 : decode cX8_plays 196 = .ok (.bipush 12, 2) := dk_16 12 (dk_at dksX8_plays_8 7 rfl rfl)
theorem dX8_plays_198 : decode cX8_plays 198 = .ok (.iload_n 3, 1) := dk_29 (dk_at dksX8_plays_8 9 rfl rfl)
theorem dX8_plays_199 : decode cX8_plays 199 = .ok (.iadd, 1) := dk_96 (dk_at dksX8_plays_8 10 rfl rfl)
theorem dX8_plays_200 : decode cX8_plays 200 = .ok (.iaload, 1) := dk_46 (dk_at dksX8_plays_8 11 rfl rfl)
theorem dX8_plays_201 : decode cX8_plays 201 = .ok (.iastore, 1) := dk_79 (dk_at dksX8_plays_8 12 rfl rfl)
theorem dX8_plays_202 : decode cX8_plays 202 = .ok (.iinc 3 1, 3) := dk_132 3 1 (dk_at dksX8_plays_8 13 rfl rfl)
theorem dX8_plays_205 : decode cX8_plays 205 = .ok (.goto (-32), 3) := dk_167 255 224 (dk_at dksX8_plays_8 16 rfl rfl)
theorem dX8_plays_208 : decode cX8_plays 208 = .ok (.goto (-167), 3) := dk_167 255 89 (dk_at dksX8_plays_8 19 rfl rfl)
theorem dX8_plays_211 : decode cX8_plays 211 = .ok (.return_, 1) := dk_177 (dk_at dksX8_plays_8 22 rfl rfl)
abbrev cX8_isAs : ByteArray := prog_30_method_66_code
def yX8_isAs : MethodName := ⟨RX8, "isAs", "(I)Z"⟩
def dkwX8_isAs_1 : List UInt8 := [42, 180, 0, 84, 16, 12, 28, 96, 46, 159, 0, 5, 3, 172, 132, 2, 1, 167, 255, 217, 4, 172]
abbrev dktX8_isAs_1 : List UInt8 := dkwX8_isAs_1 ++ []
def dkwX8_isAs_0 : List UInt8 := [3, 61, 28, 42, 180, 0, 13, 16, 6, 46, 162, 0, 34, 42, 180, 0, 96, 16, 12, 27, 104, 28, 96, 46]
abbrev dktX8_isAs_0 : List UInt8 := dkwX8_isAs_0 ++ dktX8_isAs_1
theorem dksX8_isAs_0 : cX8_isAs.data.toList.drop 0 = dktX8_isAs_0 := by decide +kernel
theorem dksX8_isAs_1 : cX8_isAs.data.toList.drop 24 = dktX8_isAs_1 := dk_seg dksX8_isAs_0 24 rfl rfl
theorem dX8_isAs_0 : decode cX8_isAs 0 = .ok (.iconst 0, 1) := dk_3 (dk_at dksX8_isAs_0 0 rfl rfl)
theorem dX8_isAs_1 : decode cX8_isAs 1 = .ok (.istore_n 2, 1) := dk_61 (dk_at dksX8_isAs_0 1 rfl rfl)
theorem dX8_isAs_2 : decode cX8_isAs 2 = .ok (.iload_n 2, 1) := dk_28 (dk_at dksX8_isAs_0 2 rfl rfl)
theorem dX8_isAs_3 : decode cX8_isAs 3 = .ok (.aload_n 0, 1) := dk_42 (dk_at dksX8_isAs_0 3 rfl rfl)
theorem dX8_isAs_4 : decode cX8_isAs 4 = .ok (.getfield 13, 3) := dk_180 0 13 (dk_at dksX8_isAs_0 4 rfl rfl)
theorem dX8_isAs_7 : decode cX8_isAs 7 = .ok (.bipush 6, 2) := dk_16 6 (dk_at dksX8_isAs_0 7 rfl rfl)
theorem dX8_isAs_9 : decode cX8_isAs 9 = .ok (.iaload, 1) := dk_46 (dk_at dksX8_isAs_0 9 rfl rfl)
theorem dX8_isAs_10 : decode cX8_isAs 10 = .ok (.if_icmp .ge 34, 3) := dk_162 0 34 (dk_at dksX8_isAs_0 10 rfl rfl)
theorem dX8_isAs_13 : decode cX8_isAs 13 = .ok (.aload_n 0, 1) := dk_42 (dk_at dksX8_isAs_0 13 rfl rfl)
theorem dX8_isAs_14 : decode cX8_isAs 14 = .ok (.getfield 96, 3) := dk_180 0 96 (dk_at dksX8_isAs_0 14 rfl rfl)
theorem dX8_isAs_17 : decode cX8_isAs 17 = .ok (.bipush 12, 2) := dk_16 12 (dk_at dksX8_isAs_0 17 rfl rfl)
theorem dX8_isAs_19 : decode cX8_isAs 19 = .ok (.iload_n 1, 1) := dk_27 (dk_at dksX8_isAs_0 19 rfl rfl)
theorem dX8_isAs_20 : decode cX8_isAs 20 = .ok (.imul, 1) := dk_104 (dk_at dksX8_isAs_0 20 rfl rfl)
theorem dX8_isAs_21 : decode cX8_isAs 21 = .ok (.iload_n 2, 1) := dk_28 (dk_at dksX8_isAs_0 21 rfl rfl)
theorem dX8_isAs_22 : decode cX8_isAs 22 = .ok (.iadd, 1) := dk_96 (dk_at dksX8_isAs_0 22 rfl rfl)
theorem dX8_isAs_23 : decode cX8_isAs 23 = .ok (.iaload, 1) := dk_46 (dk_at dksX8_isAs_0 23 rfl rfl)
theorem dX8_isAs_24 : decode cX8_isAs 24 = .ok (.aload_n 0, 1) := dk_42 (dk_at dksX8_isAs_1 0 rfl rfl)
theorem dX8_isAs_25 : decode cX8_isAs 25 = .ok (.getfield 84, 3) := dk_180 0 84 (dk_at dksX8_isAs_1 1 rfl rfl)
theorem dX8_isAs_28 : decode cX8_isAs 28 = .ok (.bipush 12, 2) := dk_16 12 (dk_at dksX8_isAs_1 4 rfl rfl)
theorem dX8_isAs_30 : decode cX8_isAs 30 = .ok (.iload_n 2, 1) := dk_28 (dk_at dksX8_isAs_1 6 rfl rfl)
theorem dX8_isAs_31 : decode cX8_isAs 31 = .ok (.iadd, 1) := dk_96 (dk_at dksX8_isAs_1 7 rfl rfl)
theorem dX8_isAs_32 : decode cX8_isAs 32 = .ok (.iaload, 1) := dk_46 (dk_at dksX8_isAs_1 8 rfl rfl)
theorem dX8_isAs_33 : decode cX8_isAs 33 = .ok (.if_icmp .eq 5, 3) := dk_159 0 5 (dk_at dksX8_isAs_1 9 rfl rfl)
theorem dX8_isAs_36 : decode cX8_isAs 36 = .ok (.iconst 0, 1) := dk_3 (dk_at dksX8_isAs_1 12 rfl rfl)
theorem dX8_isAs_37 : decode cX8_isAs 37 = .ok (.ireturn, 1) := dk_172 (dk_at dksX8_isAs_1 13 rfl rfl)
theorem dX8_isAs_38 : decode cX8_isAs 38 = .ok (.iinc 2 1, 3) := dk_132 2 1 (dk_at dksX8_isAs_1 14 rfl rfl)
theorem dX8_isAs_41 : decode cX8_isAs 41 = .ok (.goto (-39), 3) := dk_167 255 217 (dk_at dksX8_isAs_1 17 rfl rfl)
theorem dX8_isAs_44 : decode cX8_isAs 44 = .ok (.iconst 1, 1) := dk_4 (dk_at dksX8_isAs_1 20 rfl rfl)
theorem dX8_isAs_45 : decode cX8_isAs 45 = .ok (.ireturn, 1) := dk_172 (dk_at dksX8_isAs_1 21 rfl rfl)
abbrev cX8_hole : ByteArray := prog_30_method_69_code
def yX8_hole : MethodName := ⟨RX8, "hole", "(I)I"⟩
def dkwX8_hole_3 : List UInt8 := [182, 1, 93, 28, 100, 172]
abbrev dktX8_hole_3 : List UInt8 := dkwX8_hole_3 ++ []
def dkwX8_hole_2 : List UInt8 := [61, 42, 42, 182, 1, 90, 4, 27, 120, 2, 130, 126, 182, 1, 96, 42, 2, 42, 180, 0, 26, 27, 46]
abbrev dktX8_hole_2 : List UInt8 := dkwX8_hole_2 ++ dktX8_hole_3
def dkwX8_hole_1 : List UInt8 := [160, 0, 5, 3, 172, 42, 42, 182, 1, 90, 182, 1, 96, 42, 2, 42, 180, 0, 26, 27, 46, 182, 1, 93]
abbrev dktX8_hole_1 : List UInt8 := dkwX8_hole_1 ++ dktX8_hole_2
def dkwX8_hole_0 : List UInt8 := [42, 42, 27, 182, 1, 41, 153, 0, 7, 3, 167, 0, 4, 4, 181, 0, 109, 42, 180, 0, 109, 4]
abbrev dktX8_hole_0 : List UInt8 := dkwX8_hole_0 ++ dktX8_hole_1
theorem dksX8_hole_0 : cX8_hole.data.toList.drop 0 = dktX8_hole_0 := by decide +kernel
theorem dksX8_hole_1 : cX8_hole.data.toList.drop 22 = dktX8_hole_1 := dk_seg dksX8_hole_0 22 rfl rfl
theorem dksX8_hole_2 : cX8_hole.data.toList.drop 46 = dktX8_hole_2 := dk_seg dksX8_hole_1 24 rfl rfl
theorem dksX8_hole_3 : cX8_hole.data.toList.drop 69 = dktX8_hole_3 := dk_seg dksX8_hole_2 23 rfl rfl
theorem dX8_hole_0 : decode cX8_hole 0 = .ok (.aload_n 0, 1) := dk_42 (dk_at dksX8_hole_0 0 rfl rfl)
theorem dX8_hole_1 : decode cX8_hole 1 = .ok (.aload_n 0, 1) := dk_42 (dk_at dksX8_hole_0 1 rfl rfl)
theorem dX8_hole_2 : decode cX8_hole 2 = .ok (.iload_n 1, 1) := dk_27 (dk_at dksX8_hole_0 2 rfl rfl)
theorem dX8_hole_3 : decode cX8_hole 3 = .ok (.invokevirtual 297, 3) := dk_182 1 41 (dk_at dksX8_hole_0 3 rfl rfl)
theorem dX8_hole_6 : decode cX8_hole 6 = .ok (.ifCond .eq 7, 3) := dk_153 0 7 (dk_at dksX8_hole_0 6 rfl rfl)
theorem dX8_hole_9 : decode cX8_hole 9 = .ok (.iconst 0, 1) := dk_3 (dk_at dksX8_hole_0 9 rfl rfl)
theorem dX8_hole_10 : decode cX8_hole 10 = .ok (.goto 4, 3) := dk_167 0 4 (dk_at dksX8_hole_0 10 rfl rfl)
theorem dX8_hole_13 : decode cX8_hole 13 = .ok (.iconst 1, 1) := dk_4 (dk_at dksX8_hole_0 13 rfl rfl)
theorem dX8_hole_14 : decode cX8_hole 14 = .ok (.putfield 109, 3) := dk_181 0 109 (dk_at dksX8_hole_0 14 rfl rfl)
theorem dX8_hole_17 : decode cX8_hole 17 = .ok (.aload_n 0, 1) := dk_42 (dk_at dksX8_hole_0 17 rfl rfl)
theorem dX8_hole_18 : decode cX8_hole 18 = .ok (.getfield 109, 3) := dk_180 0 109 (dk_at dksX8_hole_0 18 rfl rfl)
theorem dX8_hole_21 : decode cX8_hole 21 = .ok (.iconst 1, 1) := dk_4 (dk_at dksX8_hole_0 21 rfl rfl)
theorem dX8_hole_22 : decode cX8_hole 22 = .ok (.if_icmp .ne 5, 3) := dk_160 0 5 (dk_at dksX8_hole_1 0 rfl rfl)
theorem dX8_hole_25 : decode cX8_hole 25 = .ok (.iconst 0, 1) := dk_3 (dk_at dksX8_hole_1 3 rfl rfl)
theorem dX8_hole_26 : decode cX8_hole 26 = .ok (.ireturn, 1) := dk_172 (dk_at dksX8_hole_1 4 rfl rfl)
theorem dX8_hole_27 : decode cX8_hole 27 = .ok (.aload_n 0, 1) := dk_42 (dk_at dksX8_hole_1 5 rfl rfl)
theorem dX8_hole_28 : decode cX8_hole 28 = .ok (.aload_n 0, 1) := dk_42 (dk_at dksX8_hole_1 6 rfl rfl)
theorem dX8_hole_29 : decode cX8_hole 29 = .ok (.invokevirtual 346, 3) := dk_182 1 90 (dk_at dksX8_hole_1 7 rfl rfl)
theorem dX8_hole_32 : decode cX8_hole 32 = .ok (.invokevirtual 352, 3) := dk_182 1 96 (dk_at dksX8_hole_1 10 rfl rfl)
theorem dX8_hole_35 : decode cX8_hole 35 = .ok (.aload_n 0, 1) := dk_42 (dk_at dksX8_hole_1 13 rfl rfl)
theorem dX8_hole_36 : decode cX8_hole 36 = .ok (.iconst (-1), 1) := dk_2 (dk_at dksX8_hole_1 14 rfl rfl)
theorem dX8_hole_37 : decode cX8_hole 37 = .ok (.aload_n 0, 1) := dk_42 (dk_at dksX8_hole_1 15 rfl rfl)
theorem dX8_hole_38 : decode cX8_hole 38 = .ok (.getfield 26, 3) := dk_180 0 26 (dk_at dksX8_hole_1 16 rfl rfl)
theorem dX8_hole_41 : decode cX8_hole 41 = .ok (.iload_n 1, 1) := dk_27 (dk_at dksX8_hole_1 19 rfl rfl)
theorem dX8_hole_42 : decode cX8_hole 42 = .ok (.iaload, 1) := dk_46 (dk_at dksX8_hole_1 20 rfl rfl)
theorem dX8_hole_43 : decode cX8_hole 43 = .ok (.invokevirtual 349, 3) := dk_182 1 93 (dk_at dksX8_hole_1 21 rfl rfl)
theorem dX8_hole_46 : decode cX8_hole 46 = .ok (.istore_n 2, 1) := dk_61 (dk_at dksX8_hole_2 0 rfl rfl)
theorem dX8_hole_47 : decode cX8_hole 47 = .ok (.aload_n 0, 1) := dk_42 (dk_at dksX8_hole_2 1 rfl rfl)
theorem dX8_hole_48 : decode cX8_hole 48 = .ok (.aload_n 0, 1) := dk_42 (dk_at dksX8_hole_2 2 rfl rfl)
theorem dX8_hole_49 : decode cX8_hole 49 = .ok (.invokevirtual 346, 3) := dk_182 1 90 (dk_at dksX8_hole_2 3 rfl rfl)
theorem dX8_hole_52 : decode cX8_hole 52 = .ok (.iconst 1, 1) := dk_4 (dk_at dksX8_hole_2 6 rfl rfl)
theorem dX8_hole_53 : decode cX8_hole 53 = .ok (.iload_n 1, 1) := dk_27 (dk_at dksX8_hole_2 7 rfl rfl)
theorem dX8_hole_54 : decode cX8_hole 54 = .ok (.ishl, 1) := dk_120 (dk_at dksX8_hole_2 8 rfl rfl)
theorem dX8_hole_55 : decode cX8_hole 55 = .ok (.iconst (-1), 1) := dk_2 (dk_at dksX8_hole_2 9 rfl rfl)
theorem dX8_hole_56 : decode cX8_hole 56 = .ok (.ixor, 1) := dk_130 (dk_at dksX8_hole_2 10 rfl rfl)
theorem dX8_hole_57 : decode cX8_hole 57 = .ok (.iand, 1) := dk_126 (dk_at dksX8_hole_2 11 rfl rfl)
theorem dX8_hole_58 : decode cX8_hole 58 = .ok (.invokevirtual 352, 3) := dk_182 1 96 (dk_at dksX8_hole_2 12 rfl rfl)
theorem dX8_hole_61 : decode cX8_hole 61 = .ok (.aload_n 0, 1) := dk_42 (dk_at dksX8_hole_2 15 rfl rfl)
theorem dX8_hole_62 : decode cX8_hole 62 = .ok (.iconst (-1), 1) := dk_2 (dk_at dksX8_hole_2 16 rfl rfl)
theorem dX8_hole_63 : decode cX8_hole 63 = .ok (.aload_n 0, 1) := dk_42 (dk_at dksX8_hole_2 17 rfl rfl)
theorem dX8_hole_64 : decode cX8_hole 64 = .ok (.getfield 26, 3) := dk_180 0 26 (dk_at dksX8_hole_2 18 rfl rfl)
theorem dX8_hole_67 : decode cX8_hole 67 = .ok (.iload_n 1, 1) := dk_27 (dk_at dksX8_hole_2 21 rfl rfl)
theorem dX8_hole_68 : decode cX8_hole 68 = .ok (.iaload, 1) := dk_46 (dk_at dksX8_hole_2 22 rfl rfl)
theorem dX8_hole_69 : decode cX8_hole 69 = .ok (.invokevirtual 349, 3) := dk_182 1 93 (dk_at dksX8_hole_3 0 rfl rfl)
theorem dX8_hole_72 : decode cX8_hole 72 = .ok (.iload_n 2, 1) := dk_28 (dk_at dksX8_hole_3 3 rfl rfl)
theorem dX8_hole_73 : decode cX8_hole 73 = .ok (.isub, 1) := dk_100 (dk_at dksX8_hole_3 4 rfl rfl)
theorem dX8_hole_74 : decode cX8_hole 74 = .ok (.ireturn, 1) := dk_172 (dk_at dksX8_hole_3 5 rfl rfl)
abbrev cX8_first : ByteArray := prog_30_method_70_code
def yX8_first : MethodName := ⟨RX8, "first", "()I"⟩
def dkwX8_first_4 : List UInt8 := [163, 0, 6, 167, 0, 8, 29, 60, 21, 4, 61, 132, 3, 1, 167, 255, 162, 27, 172]
abbrev dktX8_first_4 : List UInt8 := dkwX8_first_4 ++ []
def dkwX8_first_3 : List UInt8 := [180, 0, 84, 16, 25, 29, 96, 3, 79, 42, 2, 2, 182, 1, 93, 54, 4, 27, 155, 0, 12, 21, 4, 28]
abbrev dktX8_first_3 : List UInt8 := dkwX8_first_3 ++ dktX8_first_4
def dkwX8_first_2 : List UInt8 := [167, 0, 57, 42, 180, 0, 84, 16, 25, 29, 96, 4, 79, 42, 42, 182, 1, 90, 182, 1, 96, 42]
abbrev dktX8_first_2 : List UInt8 := dkwX8_first_2 ++ dktX8_first_3
def dkwX8_first_1 : List UInt8 := [180, 0, 35, 29, 46, 6, 160, 0, 73, 42, 180, 0, 84, 16, 25, 29, 96, 46, 4, 160, 0, 6]
abbrev dktX8_first_1 : List UInt8 := dkwX8_first_1 ++ dktX8_first_2
def dkwX8_first_0 : List UInt8 := [42, 3, 181, 0, 109, 2, 60, 3, 61, 3, 62, 29, 42, 180, 0, 13, 16, 6, 46, 162, 0, 89, 42]
abbrev dktX8_first_0 : List UInt8 := dkwX8_first_0 ++ dktX8_first_1
theorem dksX8_first_0 : cX8_first.data.toList.drop 0 = dktX8_first_0 := by decide +kernel
theorem dksX8_first_1 : cX8_first.data.toList.drop 23 = dktX8_first_1 := dk_seg dksX8_first_0 23 rfl rfl
theorem dksX8_first_2 : cX8_first.data.toList.drop 45 = dktX8_first_2 := dk_seg dksX8_first_1 22 rfl rfl
theorem dksX8_first_3 : cX8_first.data.toList.drop 67 = dktX8_first_3 := dk_seg dksX8_first_2 22 rfl rfl
theorem dksX8_first_4 : cX8_first.data.toList.drop 91 = dktX8_first_4 := dk_seg dksX8_first_3 24 rfl rfl
theorem dX8_first_0 : decode cX8_first 0 = .ok (.aload_n 0, 1) := dk_42 (dk_at dksX8_first_0 0 rfl rfl)
theorem dX8_first_1 : decode cX8_first 1 = .ok (.iconst 0, 1) := dk_3 (dk_at dksX8_first_0 1 rfl rfl)
theorem dX8_first_2 : decode cX8_first 2 = .ok (.putfield 109, 3) := dk_181 0 109 (dk_at dksX8_first_0 2 rfl rfl)
theorem dX8_first_5 : decode cX8_first 5 = .ok (.iconst (-1), 1) := dk_2 (dk_at dksX8_first_0 5 rfl rfl)
theorem dX8_first_6 : decode cX8_first 6 = .ok (.istore_n 1, 1) := dk_60 (dk_at dksX8_first_0 6 rfl rfl)
theorem dX8_first_7 : decode cX8_first 7 = .ok (.iconst 0, 1) := dk_3 (dk_at dksX8_first_0 7 rfl rfl)
theorem dX8_first_8 : decode cX8_first 8 = .ok (.istore_n 2, 1) := dk_61 (dk_at dksX8_first_0 8 rfl rfl)
theorem dX8_first_9 : decode cX8_first 9 = .ok (.iconst 0, 1) := dk_3 (dk_at dksX8_first_0 9 rfl rfl)
theorem dX8_first_10 : decode cX8_first 10 = .ok (.istore_n 3, 1) := dk_62 (dk_at dksX8_first_0 10 rfl rfl)
theorem dX8_first_11 : decode cX8_first 11 = .ok (.iload_n 3, 1) := dk_29 (dk_at dksX8_first_0 11 rfl rfl)
theorem dX8_first_12 : decode cX8_first 12 = .ok (.aload_n 0, 1) := dk_42 (dk_at dksX8_first_0 12 rfl rfl)
theorem dX8_first_13 : decode cX8_first 13 = .ok (.getfield 13, 3) := dk_180 0 13 (dk_at dksX8_first_0 13 rfl rfl)
theorem dX8_first_16 : decode cX8_first 16 = .ok (.bipush 6, 2) := dk_16 6 (dk_at dksX8_first_0 16 rfl rfl)
theorem dX8_first_18 : decode cX8_first 18 = .ok (.iaload, 1) := dk_46 (dk_at dksX8_first_0 18 rfl rfl)
theorem dX8_first_19 : decode cX8_first 19 = .ok (.if_icmp .ge 89, 3) := dk_162 0 89 (dk_at dksX8_first_0 19 rfl rfl)
theorem dX8_first_22 : decode cX8_first 22 = .ok (.aload_n 0, 1) := dk_42 (dk_at dksX8_first_0 22 rfl rfl)
theorem dX8_first_23 : decode cX8_first 23 = .ok (.getfield 35, 3) := dk_180 0 35 (dk_at dksX8_first_1 0 rfl rfl)
theorem dX8_first_26 : decode cX8_first 26 = .ok (.iload_n 3, 1) := dk_29 (dk_at dksX8_first_1 3 rfl rfl)
theorem dX8_first_27 : decode cX8_first 27 = .ok (.iaload, 1) := dk_46 (dk_at dksX8_first_1 4 rfl rfl)
theorem dX8_first_28 : decode cX8_first 28 = .ok (.iconst 3, 1) := dk_6 (dk_at dksX8_first_1 5 rfl rfl)
theorem dX8_first_29 : decode cX8_first 29 = .ok (.if_icmp .ne 73, 3) := dk_160 0 73 (dk_at dksX8_first_1 6 rfl rfl)
theorem dX8_first_32 : decode cX8_first 32 = .ok (.aload_n 0, 1) := dk_42 (dk_at dksX8_first_1 9 rfl rfl)
theorem dX8_first_33 : decode cX8_first 33 = .ok (.getfield 84, 3) := dk_180 0 84 (dk_at dksX8_first_1 10 rfl rfl)
theorem dX8_first_36 : decode cX8_first 36 = .ok (.bipush 25, 2) := dk_16 25 (dk_at dksX8_first_1 13 rfl rfl)
theorem dX8_first_38 : decode cX8_first 38 = .ok (.iload_n 3, 1) := dk_29 (dk_at dksX8_first_1 15 rfl rfl)
theorem dX8_first_39 : decode cX8_first 39 = .ok (.iadd, 1) := dk_96 (dk_at dksX8_first_1 16 rfl rfl)
theorem dX8_first_40 : decode cX8_first 40 = .ok (.iaload, 1) := dk_46 (dk_at dksX8_first_1 17 rfl rfl)
theorem dX8_first_41 : decode cX8_first 41 = .ok (.iconst 1, 1) := dk_4 (dk_at dksX8_first_1 18 rfl rfl)
theorem dX8_first_42 : decode cX8_first 42 = .ok (.if_icmp .ne 6, 3) := dk_160 0 6 (dk_at dksX8_first_1 19 rfl rfl)
theorem dX8_first_45 : decode cX8_first 45 = .ok (.goto 57, 3) := dk_167 0 57 (dk_at dksX8_first_2 0 rfl rfl)
theorem dX8_first_48 : decode cX8_first 48 = .ok (.aload_n 0, 1) := dk_42 (dk_at dksX8_first_2 3 rfl rfl)
theorem dX8_first_49 : decode cX8_first 49 = .ok (.getfield 84, 3) := dk_180 0 84 (dk_at dksX8_first_2 4 rfl rfl)
theorem dX8_first_52 : decode cX8_first 52 = .ok (.bipush 25, 2) := dk_16 25 (dk_at dksX8_first_2 7 rfl rfl)
theorem dX8_first_54 : decode cX8_first 54 = .ok (.iload_n 3, 1) := dk_29 (dk_at dksX8_first_2 9 rfl rfl)
theorem dX8_first_55 : decode cX8_first 55 = .ok (.iadd, 1) := dk_96 (dk_at dksX8_first_2 10 rfl rfl)
theorem dX8_first_56 : decode cX8_first 56 = .ok (.iconst 1, 1) := dk_4 (dk_at dksX8_first_2 11 rfl rfl)
theorem dX8_first_57 : decode cX8_first 57 = .ok (.iastore, 1) := dk_79 (dk_at dksX8_first_2 12 rfl rfl)
theorem dX8_first_58 : decode cX8_first 58 = .ok (.aload_n 0, 1) := dk_42 (dk_at dksX8_first_2 13 rfl rfl)
theorem dX8_first_59 : decode cX8_first 59 = .ok (.aload_n 0, 1) := dk_42 (dk_at dksX8_first_2 14 rfl rfl)
theorem dX8_first_60 : decode cX8_first 60 = .ok (.invokevirtual 346, 3) := dk_182 1 90 (dk_at dksX8_first_2 15 rfl rfl)
theorem dX8_first_63 : decode cX8_first 63 = .ok (.invokevirtual 352, 3) := dk_182 1 96 (dk_at dksX8_first_2 18 rfl rfl)
theorem dX8_first_66 : decode cX8_first 66 = .ok (.aload_n 0, 1) := dk_42 (dk_at dksX8_first_2 21 rfl rfl)
theorem dX8_first_67 : decode cX8_first 67 = .ok (.getfield 84, 3) := dk_180 0 84 (dk_at dksX8_first_3 0 rfl rfl)
theorem dX8_first_70 : decode cX8_first 70 = .ok (.bipush 25, 2) := dk_16 25 (dk_at dksX8_first_3 3 rfl rfl)
theorem dX8_first_72 : decode cX8_first 72 = .ok (.iload_n 3, 1) := dk_29 (dk_at dksX8_first_3 5 rfl rfl)
theorem dX8_first_73 : decode cX8_first 73 = .ok (.iadd, 1) := dk_96 (dk_at dksX8_first_3 6 rfl rfl)
theorem dX8_first_74 : decode cX8_first 74 = .ok (.iconst 0, 1) := dk_3 (dk_at dksX8_first_3 7 rfl rfl)
theorem dX8_first_75 : decode cX8_first 75 = .ok (.iastore, 1) := dk_79 (dk_at dksX8_first_3 8 rfl rfl)
theorem dX8_first_76 : decode cX8_first 76 = .ok (.aload_n 0, 1) := dk_42 (dk_at dksX8_first_3 9 rfl rfl)
theorem dX8_first_77 : decode cX8_first 77 = .ok (.iconst (-1), 1) := dk_2 (dk_at dksX8_first_3 10 rfl rfl)
theorem dX8_first_78 : decode cX8_first 78 = .ok (.iconst (-1), 1) := dk_2 (dk_at dksX8_first_3 11 rfl rfl)
theorem dX8_first_79 : decode cX8_first 79 = .ok (.invokevirtual 349, 3) := dk_182 1 93 (dk_at dksX8_first_3 12 rfl rfl)
theorem dX8_first_82 : decode cX8_first 82 = .ok (.istore 4, 2) := dk_54 4 (dk_at dksX8_first_3 15 rfl rfl)
theorem dX8_first_84 : decode cX8_first 84 = .ok (.iload_n 1, 1) := dk_27 (dk_at dksX8_first_3 17 rfl rfl)
theorem dX8_first_85 : decode cX8_first 85 = .ok (.ifCond .lt 12, 3) := dk_155 0 12 (dk_at dksX8_first_3 18 rfl rfl)
theorem dX8_first_88 : decode cX8_first 88 = .ok (.iload 4, 2) := dk_21 4 (dk_at dksX8_first_3 21 rfl rfl)
theorem dX8_first_90 : decode cX8_first 90 = .ok (.iload_n 2, 1) := dk_28 (dk_at dksX8_first_3 23 rfl rfl)
theorem dX8_first_91 : decode cX8_first 91 = .ok (.if_icmp .gt 6, 3) := dk_163 0 6 (dk_at dksX8_first_4 0 rfl rfl)
theorem dX8_first_94 : decode cX8_first 94 = .ok (.goto 8, 3) := dk_167 0 8 (dk_at dksX8_first_4 3 rfl rfl)
theorem dX8_first_97 : decode cX8_first 97 = .ok (.iload_n 3, 1) := dk_29 (dk_at dksX8_first_4 6 rfl rfl)
theorem dX8_first_98 : decode cX8_first 98 = .ok (.istore_n 1, 1) := dk_60 (dk_at dksX8_first_4 7 rfl rfl)
theorem dX8_first_99 : decode cX8_first 99 = .ok (.iload 4, 2) := dk_21 4 (dk_at dksX8_first_4 8 rfl rfl)
theorem dX8_first_101 : decode cX8_first 101 = .ok (.istore_n 2, 1) := dk_61 (dk_at dksX8_first_4 10 rfl rfl)
theorem dX8_first_102 : decode cX8_first 102 = .ok (.iinc 3 1, 3) := dk_132 3 1 (dk_at dksX8_first_4 11 rfl rfl)
theorem dX8_first_105 : decode cX8_first 105 = .ok (.goto (-94), 3) := dk_167 255 162 (dk_at dksX8_first_4 14 rfl rfl)
theorem dX8_first_108 : decode cX8_first 108 = .ok (.iload_n 1, 1) := dk_27 (dk_at dksX8_first_4 17 rfl rfl)
theorem dX8_first_109 : decode cX8_first 109 = .ok (.ireturn, 1) := dk_172 (dk_at dksX8_first_4 18 rfl rfl)
abbrev cX8_share : ByteArray := prog_30_method_73_code
def yX8_share : MethodName := ⟨RX8, "share", "(II)I"⟩
def dkwX8_share_9 : List UInt8 := [184, 1, 136, 108, 172]
abbrev dktX8_share_9 : List UInt8 := dkwX8_share_9 ++ []
def dkwX8_share_8 : List UInt8 := [167, 255, 186, 29, 184, 1, 133, 54, 5, 28, 154, 0, 8, 21, 4, 167, 0, 5, 21, 5, 21, 4, 21, 5]
abbrev dktX8_share_8 : List UInt8 := dkwX8_share_8 ++ dktX8_share_9
def dkwX8_share_7 : List UInt8 := [184, 1, 133, 104, 29, 4, 100, 21, 5, 184, 1, 130, 100, 184, 1, 133, 104, 96, 54, 4, 132, 5, 1]
abbrev dktX8_share_7 : List UInt8 := dkwX8_share_7 ++ dktX8_share_8
def dkwX8_share_6 : List UInt8 := [180, 0, 99, 21, 5, 4, 27, 120, 128, 46, 42, 180, 0, 99, 21, 5, 46, 100, 21, 5, 184, 1, 130]
abbrev dktX8_share_6 : List UInt8 := dkwX8_share_6 ++ dktX8_share_7
def dkwX8_share_5 : List UInt8 := [21, 5, 4, 29, 120, 162, 0, 68, 21, 5, 27, 122, 4, 126, 4, 160, 0, 6, 167, 0, 49, 21, 4, 42]
abbrev dktX8_share_5 : List UInt8 := dkwX8_share_5 ++ dktX8_share_6
def dkwX8_share_4 : List UInt8 := [180, 0, 99, 21, 4, 42, 2, 2, 182, 1, 93, 79, 132, 4, 1, 167, 255, 182, 3, 54, 4, 3, 54, 5]
abbrev dktX8_share_4 : List UInt8 := dkwX8_share_4 ++ dktX8_share_5
def dkwX8_share_3 : List UInt8 := [182, 1, 47, 167, 0, 4, 3, 128, 54, 5, 132, 6, 1, 167, 255, 221, 42, 21, 5, 182, 1, 96, 42]
abbrev dktX8_share_3 : List UInt8 := dkwX8_share_3 ++ dktX8_share_4
def dkwX8_share_2 : List UInt8 := [21, 6, 29, 162, 0, 35, 21, 5, 21, 4, 21, 6, 122, 4, 126, 4, 160, 0, 12, 42, 21, 6]
abbrev dktX8_share_2 : List UInt8 := dkwX8_share_2 ++ dktX8_share_3
def dkwX8_share_1 : List UInt8 := [42, 180, 0, 13, 8, 46, 62, 3, 54, 4, 21, 4, 4, 29, 120, 162, 0, 72, 3, 54, 5, 3, 54, 6]
abbrev dktX8_share_1 : List UInt8 := dkwX8_share_1 ++ dktX8_share_2
def dkwX8_share_0 : List UInt8 := [42, 3, 181, 0, 109, 42, 27, 182, 1, 44, 153, 0, 12, 28, 3, 4, 184, 0, 235, 154, 0, 5, 2, 172]
abbrev dktX8_share_0 : List UInt8 := dkwX8_share_0 ++ dktX8_share_1
theorem dksX8_share_0 : cX8_share.data.toList.drop 0 = dktX8_share_0 := by decide +kernel
theorem dksX8_share_1 : cX8_share.data.toList.drop 24 = dktX8_share_1 := dk_seg dksX8_share_0 24 rfl rfl
theorem dksX8_share_2 : cX8_share.data.toList.drop 48 = dktX8_share_2 := dk_seg dksX8_share_1 24 rfl rfl
theorem dksX8_share_3 : cX8_share.data.toList.drop 70 = dktX8_share_3 := dk_seg dksX8_share_2 22 rfl rfl
theorem dksX8_share_4 : cX8_share.data.toList.drop 93 = dktX8_share_4 := dk_seg dksX8_share_3 23 rfl rfl
theorem dksX8_share_5 : cX8_share.data.toList.drop 117 = dktX8_share_5 := dk_seg dksX8_share_4 24 rfl rfl
theorem dksX8_share_6 : cX8_share.data.toList.drop 141 = dktX8_share_6 := dk_seg dksX8_share_5 24 rfl rfl
theorem dksX8_share_7 : cX8_share.data.toList.drop 164 = dktX8_share_7 := dk_seg dksX8_share_6 23 rfl rfl
theorem dksX8_share_8 : cX8_share.data.toList.drop 187 = dktX8_share_8 := dk_seg dksX8_share_7 23 rfl rfl
theorem dksX8_share_9 : cX8_share.data.toList.drop 211 = dktX8_share_9 := dk_seg dksX8_share_8 24 rfl rfl
theorem dX8_share_0 : decode cX8_share 0 = .ok (.aload_n 0, 1) := dk_42 (dk_at dksX8_share_0 0 rfl rfl)
theorem dX8_share_1 : decode cX8_share 1 = .ok (.iconst 0, 1) := dk_3 (dk_at dksX8_share_0 1 rfl rfl)
theorem dX8_share_2 : decode cX8_share 2 = .ok (.putfield 109, 3) := dk_181 0 109 (dk_at dksX8_share_0 2 rfl rfl)
theorem dX8_share_5 : decode cX8_share 5 = .ok (.aload_n 0, 1) := dk_42 (dk_at dksX8_share_0 5 rfl rfl)
theorem dX8_share_6 : decode cX8_share 6 = .ok (.iload_n 1, 1) := dk_27 (dk_at dksX8_share_0 6 rfl rfl)
theorem dX8_share_7 : decode cX8_share 7 = .ok (.invokevirtual 300, 3) := dk_182 1 44 (dk_at dksX8_share_0 7 rfl rfl)
theorem dX8_share_10 : decode cX8_share 10 = .ok (.ifCond .eq 12, 3) := dk_153 0 12 (dk_at dksX8_share_0 10 rfl rfl)
theorem dX8_share_13 : decode cX8_share 13 = .ok (.iload_n 2, 1) := dk_28 (dk_at dksX8_share_0 13 rfl rfl)
theorem dX8_share_14 : decode cX8_share 14 = .ok (.iconst 0, 1) := dk_3 (dk_at dksX8_share_0 14 rfl rfl)
theorem dX8_share_15 : decode cX8_share 15 = .ok (.iconst 1, 1) := dk_4 (dk_at dksX8_share_0 15 rfl rfl)
theorem dX8_share_16 : decode cX8_share 16 = .ok (.invokestatic 235, 3) := dk_184 0 235 (dk_at dksX8_share_0 16 rfl rfl)
theorem dX8_share_19 : decode cX8_share 19 = .ok (.ifCond .ne 5, 3) := dk_154 0 5 (dk_at dksX8_share_0 19 rfl rfl)
theorem dX8_share_22 : decode cX8_share 22 = .ok (.iconst (-1), 1) := dk_2 (dk_at dksX8_share_0 22 rfl rfl)
theorem dX8_share_23 : decode cX8_share 23 = .ok (.ireturn, 1) := dk_172 (dk_at dksX8_share_0 23 rfl rfl)
theorem dX8_share_24 : decode cX8_share 24 = .ok (.aload_n 0, 1) := dk_42 (dk_at dksX8_share_1 0 rfl rfl)
theorem dX8_share_25 : decode cX8_share 25 = .ok (.getfield 13, 3) := dk_180 0 13 (dk_at dksX8_share_1 1 rfl rfl)
theorem dX8_share_28 : decode cX8_share 28 = .ok (.iconst 5, 1) := dk_8 (dk_at dksX8_share_1 4 rfl rfl)
theorem dX8_share_29 : decode cX8_share 29 = .ok (.iaload, 1) := dk_46 (dk_at dksX8_share_1 5 rfl rfl)
theorem dX8_share_30 : decode cX8_share 30 = .ok (.istore_n 3, 1) := dk_62 (dk_at dksX8_share_1 6 rfl rfl)
theorem dX8_share_31 : decode cX8_share 31 = .ok (.iconst 0, 1) := dk_3 (dk_at dksX8_share_1 7 rfl rfl)
theorem dX8_share_32 : decode cX8_share 32 = .ok (.istore 4, 2) := dk_54 4 (dk_at dksX8_share_1 8 rfl rfl)
theorem dX8_share_34 : decode cX8_share 34 = .ok (.iload 4, 2) := dk_21 4 (dk_at dksX8_share_1 10 rfl rfl)
theorem dX8_share_36 : decode cX8_share 36 = .ok (.iconst 1, 1) := dk_4 (dk_at dksX8_share_1 12 rfl rfl)
theorem dX8_share_37 : decode cX8_share 37 = .ok (.iload_n 3, 1) := dk_29 (dk_at dksX8_share_1 13 rfl rfl)
theorem dX8_share_38 : decode cX8_share 38 = .ok (.ishl, 1) := dk_120 (dk_at dksX8_share_1 14 rfl rfl)
theorem dX8_share_39 : decode cX8_share 39 = .ok (.if_icmp .ge 72, 3) := dk_162 0 72 (dk_at dksX8_share_1 15 rfl rfl)
theorem dX8_share_42 : decode cX8_share 42 = .ok (.iconst 0, 1) := dk_3 (dk_at dksX8_share_1 18 rfl rfl)
theorem dX8_share_43 : decode cX8_share 43 = .ok (.istore 5, 2) := dk_54 5 (dk_at dksX8_share_1 19 rfl rfl)
theorem dX8_share_45 : decode cX8_share 45 = .ok (.iconst 0, 1) := dk_3 (dk_at dksX8_share_1 21 rfl rfl)
theorem dX8_share_46 : decode cX8_share 46 = .ok (.istore 6, 2) := dk_54 6 (dk_at dksX8_share_1 22 rfl rfl)
theorem dX8_share_48 : decode cX8_share 48 = .ok (.iload 6, 2) := dk_21 6 (dk_at dksX8_share_2 0 rfl rfl)
theorem dX8_share_50 : decode cX8_share 50 = .ok (.iload_n 3, 1) := dk_29 (dk_at dksX8_share_2 2 rfl rfl)
theorem dX8_share_51 : decode cX8_share 51 = .ok (.if_icmp .ge 35, 3) := dk_162 0 35 (dk_at dksX8_share_2 3 rfl rfl)
theorem dX8_share_54 : decode cX8_share 54 = .ok (.iload 5, 2) := dk_21 5 (dk_at dksX8_share_2 6 rfl rfl)
theorem dX8_share_56 : decode cX8_share 56 = .ok (.iload 4, 2) := dk_21 4 (dk_at dksX8_share_2 8 rfl rfl)
theorem dX8_share_58 : decode cX8_share 58 = .ok (.iload 6, 2) := dk_21 6 (dk_at dksX8_share_2 10 rfl rfl)
theorem dX8_share_60 : decode cX8_share 60 = .ok (.ishr, 1) := dk_122 (dk_at dksX8_share_2 12 rfl rfl)
theorem dX8_share_61 : decode cX8_share 61 = .ok (.iconst 1, 1) := dk_4 (dk_at dksX8_share_2 13 rfl rfl)
theorem dX8_share_62 : decode cX8_share 62 = .ok (.iand, 1) := dk_126 (dk_at dksX8_share_2 14 rfl rfl)
theorem dX8_share_63 : decode cX8_share 63 = .ok (.iconst 1, 1) := dk_4 (dk_at dksX8_share_2 15 rfl rfl)
theorem dX8_share_64 : decode cX8_share 64 = .ok (.if_icmp .ne 12, 3) := dk_160 0 12 (dk_at dksX8_share_2 16 rfl rfl)
theorem dX8_share_67 : decode cX8_share 67 = .ok (.aload_n 0, 1) := dk_42 (dk_at dksX8_share_2 19 rfl rfl)
theorem dX8_share_68 : decode cX8_share 68 = .ok (.iload 6, 2) := dk_21 6 (dk_at dksX8_share_2 20 rfl rfl)
theorem dX8_share_70 : decode cX8_share 70 = .ok (.invokevirtual 303, 3) := dk_182 1 47 (dk_at dksX8_share_3 0 rfl rfl)
theorem dX8_share_73 : decode cX8_share 73 = .ok (.goto 4, 3) := dk_167 0 4 (dk_at dksX8_share_3 3 rfl rfl)
theorem dX8_share_76 : decode cX8_share 76 = .ok (.iconst 0, 1) := dk_3 (dk_at dksX8_share_3 6 rfl rfl)
theorem dX8_share_77 : decode cX8_share 77 = .ok (.ior, 1) := dk_128 (dk_at dksX8_share_3 7 rfl rfl)
theorem dX8_share_78 : decode cX8_share 78 = .ok (.istore 5, 2) := dk_54 5 (dk_at dksX8_share_3 8 rfl rfl)
theorem dX8_share_80 : decode cX8_share 80 = .ok (.iinc 6 1, 3) := dk_132 6 1 (dk_at dksX8_share_3 10 rfl rfl)
theorem dX8_share_83 : decode cX8_share 83 = .ok (.goto (-35), 3) := dk_167 255 221 (dk_at dksX8_share_3 13 rfl rfl)
theorem dX8_share_86 : decode cX8_share 86 = .ok (.aload_n 0, 1) := dk_42 (dk_at dksX8_share_3 16 rfl rfl)
theorem dX8_share_87 : decode cX8_share 87 = .ok (.iload 5, 2) := dk_21 5 (dk_at dksX8_share_3 17 rfl rfl)
theorem dX8_share_89 : decode cX8_share 89 = .ok (.invokevirtual 352, 3) := dk_182 1 96 (dk_at dksX8_share_3 19 rfl rfl)
theorem dX8_share_92 : decode cX8_share 92 = .ok (.aload_n 0, 1) := dk_42 (dk_at dksX8_share_3 22 rfl rfl)
theorem dX8_share_93 : decode cX8_share 93 = .ok (.getfield 99, 3) := dk_180 0 99 (dk_at dksX8_share_4 0 rfl rfl)
theorem dX8_share_96 : decode cX8_share 96 = .ok (.iload 4, 2) := dk_21 4 (dk_at dksX8_share_4 3 rfl rfl)
theorem dX8_share_98 : decode cX8_share 98 = .ok (.aload_n 0, 1) := dk_42 (dk_at dksX8_share_4 5 rfl rfl)
theorem dX8_share_99 : decode cX8_share 99 = .ok (.iconst (-1), 1) := dk_2 (dk_at dksX8_share_4 6 rfl rfl)
theorem dX8_share_100 : decode cX8_share 100 = .ok (.iconst (-1), 1) := dk_2 (dk_at dksX8_share_4 7 rfl rfl)
theorem dX8_share_101 : decode cX8_share 101 = .ok (.invokevirtual 349, 3) := dk_182 1 93 (dk_at dksX8_share_4 8 rfl rfl)
theorem dX8_share_104 : decode cX8_share 104 = .ok (.iastore, 1) := dk_79 (dk_at dksX8_share_4 11 rfl rfl)
theorem dX8_share_105 : decode cX8_share 105 = .ok (.iinc 4 1, 3) := dk_132 4 1 (dk_at dksX8_share_4 12 rfl rfl)
theorem dX8_share_108 : decode cX8_share 108 = .ok (.goto (-74), 3) := dk_167 255 182 (dk_at dksX8_share_4 15 rfl rfl)
theorem dX8_share_111 : decode cX8_share 111 = .ok (.iconst 0, 1) := dk_3 (dk_at dksX8_share_4 18 rfl rfl)
theorem dX8_share_112 : decode cX8_share 112 = .ok (.istore 4, 2) := dk_54 4 (dk_at dksX8_share_4 19 rfl rfl)
theorem dX8_share_114 : decode cX8_share 114 = .ok (.iconst 0, 1) := dk_3 (dk_at dksX8_share_4 21 rfl rfl)
theorem dX8_share_115 : decode cX8_share 115 = .ok (.istore 5, 2) := dk_54 5 (dk_at dksX8_share_4 22 rfl rfl)
theorem dX8_share_117 : decode cX8_share 117 = .ok (.iload 5, 2) := dk_21 5 (dk_at dksX8_share_5 0 rfl rfl)
theorem dX8_share_119 : decode cX8_share 119 = .ok (.iconst 1, 1) := dk_4 (dk_at dksX8_share_5 2 rfl rfl)
theorem dX8_share_120 : decode cX8_share 120 = .ok (.iload_n 3, 1) := dk_29 (dk_at dksX8_share_5 3 rfl rfl)
theorem dX8_share_121 : decode cX8_share 121 = .ok (.ishl, 1) := dk_120 (dk_at dksX8_share_5 4 rfl rfl)
theorem dX8_share_122 : decode cX8_share 122 = .ok (.if_icmp .ge 68, 3) := dk_162 0 68 (dk_at dksX8_share_5 5 rfl rfl)
theorem dX8_share_125 : decode cX8_share 125 = .ok (.iload 5, 2) := dk_21 5 (dk_at dksX8_share_5 8 rfl rfl)
theorem dX8_share_127 : decode cX8_share 127 = .ok (.iload_n 1, 1) := dk_27 (dk_at dksX8_share_5 10 rfl rfl)
theorem dX8_share_128 : decode cX8_share 128 = .ok (.ishr, 1) := dk_122 (dk_at dksX8_share_5 11 rfl rfl)
theorem dX8_share_129 : decode cX8_share 129 = .ok (.iconst 1, 1) := dk_4 (dk_at dksX8_share_5 12 rfl rfl)
theorem dX8_share_130 : decode cX8_share 130 = .ok (.iand, 1) := dk_126 (dk_at dksX8_share_5 13 rfl rfl)
theorem dX8_share_131 : decode cX8_share 131 = .ok (.iconst 1, 1) := dk_4 (dk_at dksX8_share_5 14 rfl rfl)
theorem dX8_share_132 : decode cX8_share 132 = .ok (.if_icmp .ne 6, 3) := dk_160 0 6 (dk_at dksX8_share_5 15 rfl rfl)
theorem dX8_share_135 : decode cX8_share 135 = .ok (.goto 49, 3) := dk_167 0 49 (dk_at dksX8_share_5 18 rfl rfl)
theorem dX8_share_138 : decode cX8_share 138 = .ok (.iload 4, 2) := dk_21 4 (dk_at dksX8_share_5 21 rfl rfl)
theorem dX8_share_140 : decode cX8_share 140 = .ok (.aload_n 0, 1) := dk_42 (dk_at dksX8_share_5 23 rfl rfl)
theorem dX8_share_141 : decode cX8_share 141 = .ok (.getfield 99, 3) := dk_180 0 99 (dk_at dksX8_share_6 0 rfl rfl)
theorem dX8_share_144 : decode cX8_share 144 = .ok (.iload 5, 2) := dk_21 5 (dk_at dksX8_share_6 3 rfl rfl)
theorem dX8_share_146 : decode cX8_share 146 = .ok (.iconst 1, 1) := dk_4 (dk_at dksX8_share_6 5 rfl rfl)
theorem dX8_share_147 : decode cX8_share 147 = .ok (.iload_n 1, 1) := dk_27 (dk_at dksX8_share_6 6 rfl rfl)
theorem dX8_share_148 : decode cX8_share 148 = .ok (.ishl, 1) := dk_120 (dk_at dksX8_share_6 7 rfl rfl)
theorem dX8_share_149 : decode cX8_share 149 = .ok (.ior, 1) := dk_128 (dk_at dksX8_share_6 8 rfl rfl)
theorem dX8_share_150 : decode cX8_share 150 = .ok (.iaload, 1) := dk_46 (dk_at dksX8_share_6 9 rfl rfl)
theorem dX8_share_151 : decode cX8_share 151 = .ok (.aload_n 0, 1) := dk_42 (dk_at dksX8_share_6 10 rfl rfl)
theorem dX8_share_152 : decode cX8_share 152 = .ok (.getfield 99, 3) := dk_180 0 99 (dk_at dksX8_share_6 11 rfl rfl)
theorem dX8_share_155 : decode cX8_share 155 = .ok (.iload 5, 2) := dk_21 5 (dk_at dksX8_share_6 14 rfl rfl)
theorem dX8_share_157 : decode cX8_share 157 = .ok (.iaload, 1) := dk_46 (dk_at dksX8_share_6 16 rfl rfl)
theorem dX8_share_158 : decode cX8_share 158 = .ok (.isub, 1) := dk_100 (dk_at dksX8_share_6 17 rfl rfl)
theorem dX8_share_159 : decode cX8_share 159 = .ok (.iload 5, 2) := dk_21 5 (dk_at dksX8_share_6 18 rfl rfl)
theorem dX8_share_161 : decode cX8_share 161 = .ok (.invokestatic 386, 3) := dk_184 1 130 (dk_at dksX8_share_6 20 rfl rfl)
theorem dX8_share_164 : decode cX8_share 164 = .ok (.invokestatic 389, 3) := dk_184 1 133 (dk_at dksX8_share_7 0 rfl rfl)
theorem dX8_share_167 : decode cX8_share 167 = .ok (.imul, 1) := dk_104 (dk_at dksX8_share_7 3 rfl rfl)
theorem dX8_share_168 : decode cX8_share 168 = .ok (.iload_n 3, 1) := dk_29 (dk_at dksX8_share_7 4 rfl rfl)
theorem dX8_share_169 : decode cX8_share 169 = .ok (.iconst 1, 1) := dk_4 (dk_at dksX8_share_7 5 rfl rfl)
theorem dX8_share_170 : decode cX8_share 170 = .ok (.isub, 1) := dk_100 (dk_at dksX8_share_7 6 rfl rfl)
theorem dX8_share_171 : decode cX8_share 171 = .ok (.iload 5, 2) := dk_21 5 (dk_at dksX8_share_7 7 rfl rfl)
theorem dX8_share_173 : decode cX8_share 173 = .ok (.invokestatic 386, 3) := dk_184 1 130 (dk_at dksX8_share_7 9 rfl rfl)
theorem dX8_share_176 : decode cX8_share 176 = .ok (.isub, 1) := dk_100 (dk_at dksX8_share_7 12 rfl rfl)
theorem dX8_share_177 : decode cX8_share 177 = .ok (.invokestatic 389, 3) := dk_184 1 133 (dk_at dksX8_share_7 13 rfl rfl)
theorem dX8_share_180 : decode cX8_share 180 = .ok (.imul, 1) := dk_104 (dk_at dksX8_share_7 16 rfl rfl)
theorem dX8_share_181 : decode cX8_share 181 = .ok (.iadd, 1) := dk_96 (dk_at dksX8_share_7 17 rfl rfl)
theorem dX8_share_182 : decode cX8_share 182 = .ok (.istore 4, 2) := dk_54 4 (dk_at dksX8_share_7 18 rfl rfl)
theorem dX8_share_184 : decode cX8_share 184 = .ok (.iinc 5 1, 3) := dk_132 5 1 (dk_at dksX8_share_7 20 rfl rfl)
theorem dX8_share_187 : decode cX8_share 187 = .ok (.goto (-70), 3) := dk_167 255 186 (dk_at dksX8_share_8 0 rfl rfl)
theorem dX8_share_190 : decode cX8_share 190 = .ok (.iload_n 3, 1) := dk_29 (dk_at dksX8_share_8 3 rfl rfl)
theorem dX8_share_191 : decode cX8_share 191 = .ok (.invokestatic 389, 3) := dk_184 1 133 (dk_at dksX8_share_8 4 rfl rfl)
theorem dX8_share_194 : decode cX8_share 194 = .ok (.istore 5, 2) := dk_54 5 (dk_at dksX8_share_8 7 rfl rfl)
theorem dX8_share_196 : decode cX8_share 196 = .ok (.iload_n 2, 1) := dk_28 (dk_at dksX8_share_8 9 rfl rfl)
theorem dX8_share_197 : decode cX8_share 197 = .ok (.ifCond .ne 8, 3) := dk_154 0 8 (dk_at dksX8_share_8 10 rfl rfl)
theorem dX8_share_200 : decode cX8_share 200 = .ok (.iload 4, 2) := dk_21 4 (dk_at dksX8_share_8 13 rfl rfl)
theorem dX8_share_202 : decode cX8_share 202 = .ok (.goto 5, 3) := dk_167 0 5 (dk_at dksX8_share_8 15 rfl rfl)
theorem dX8_share_205 : decode cX8_share 205 = .ok (.iload 5, 2) := dk_21 5 (dk_at dksX8_share_8 18 rfl rfl)
theorem dX8_share_207 : decode cX8_share 207 = .ok (.iload 4, 2) := dk_21 4 (dk_at dksX8_share_8 20 rfl rfl)
theorem dX8_share_209 : decode cX8_share 209 = .ok (.iload 5, 2) := dk_21 5 (dk_at dksX8_share_8 22 rfl rfl)
theorem dX8_share_211 : decode cX8_share 211 = .ok (.invokestatic 392, 3) := dk_184 1 136 (dk_at dksX8_share_9 0 rfl rfl)
theorem dX8_share_214 : decode cX8_share 214 = .ok (.idiv, 1) := dk_108 (dk_at dksX8_share_9 3 rfl rfl)
theorem dX8_share_215 : decode cX8_share 215 = .ok (.ireturn, 1) := dk_172 (dk_at dksX8_share_9 4 rfl rfl)
abbrev cX8_bits : ByteArray := prog_30_method_72_code
def yX8_bits : MethodName := ⟨RX8, "bits", "(I)I"⟩
def dkwX8_bits_1 : List UInt8 := [27, 172]
abbrev dktX8_bits_1 : List UInt8 := dkwX8_bits_1 ++ []
def dkwX8_bits_0 : List UInt8 := [3, 60, 3, 61, 28, 16, 6, 162, 0, 17, 27, 26, 28, 122, 4, 126, 96, 60, 132, 2, 1, 167, 255, 239]
abbrev dktX8_bits_0 : List UInt8 := dkwX8_bits_0 ++ dktX8_bits_1
theorem dksX8_bits_0 : cX8_bits.data.toList.drop 0 = dktX8_bits_0 := by decide +kernel
theorem dksX8_bits_1 : cX8_bits.data.toList.drop 24 = dktX8_bits_1 := dk_seg dksX8_bits_0 24 rfl rfl
theorem dX8_bits_0 : decode cX8_bits 0 = .ok (.iconst 0, 1) := dk_3 (dk_at dksX8_bits_0 0 rfl rfl)
theorem dX8_bits_1 : decode cX8_bits 1 = .ok (.istore_n 1, 1) := dk_60 (dk_at dksX8_bits_0 1 rfl rfl)
theorem dX8_bits_2 : decode cX8_bits 2 = .ok (.iconst 0, 1) := dk_3 (dk_at dksX8_bits_0 2 rfl rfl)
theorem dX8_bits_3 : decode cX8_bits 3 = .ok (.istore_n 2, 1) := dk_61 (dk_at dksX8_bits_0 3 rfl rfl)
theorem dX8_bits_4 : decode cX8_bits 4 = .ok (.iload_n 2, 1) := dk_28 (dk_at dksX8_bits_0 4 rfl rfl)
theorem dX8_bits_5 : decode cX8_bits 5 = .ok (.bipush 6, 2) := dk_16 6 (dk_at dksX8_bits_0 5 rfl rfl)
theorem dX8_bits_7 : decode cX8_bits 7 = .ok (.if_icmp .ge 17, 3) := dk_162 0 17 (dk_at dksX8_bits_0 7 rfl rfl)
theorem dX8_bits_10 : decode cX8_bits 10 = .ok (.iload_n 1, 1) := dk_27 (dk_at dksX8_bits_0 10 rfl rfl)
theorem dX8_bits_11 : decode cX8_bits 11 = .ok (.iload_n 0, 1) := dk_26 (dk_at dksX8_bits_0 11 rfl rfl)
theorem dX8_bits_12 : decode cX8_bits 12 = .ok (.iload_n 2, 1) := dk_28 (dk_at dksX8_bits_0 12 rfl rfl)
theorem dX8_bits_13 : decode cX8_bits 13 = .ok (.ishr, 1) := dk_122 (dk_at dksX8_bits_0 13 rfl rfl)
theorem dX8_bits_14 : decode cX8_bits 14 = .ok (.iconst 1, 1) := dk_4 (dk_at dksX8_bits_0 14 rfl rfl)
theorem dX8_bits_15 : decode cX8_bits 15 = .ok (.iand, 1) := dk_126 (dk_at dksX8_bits_0 15 rfl rfl)
theorem dX8_bits_16 : decode cX8_bits 16 = .ok (.iadd, 1) := dk_96 (dk_at dksX8_bits_0 16 rfl rfl)
theorem dX8_bits_17 : decode cX8_bits 17 = .ok (.istore_n 1, 1) := dk_60 (dk_at dksX8_bits_0 17 rfl rfl)
theorem dX8_bits_18 : decode cX8_bits 18 = .ok (.iinc 2 1, 3) := dk_132 2 1 (dk_at dksX8_bits_0 18 rfl rfl)
theorem dX8_bits_21 : decode cX8_bits 21 = .ok (.goto (-17), 3) := dk_167 255 239 (dk_at dksX8_bits_0 21 rfl rfl)
theorem dX8_bits_24 : decode cX8_bits 24 = .ok (.iload_n 1, 1) := dk_27 (dk_at dksX8_bits_1 0 rfl rfl)
theorem dX8_bits_25 : decode cX8_bits 25 = .ok (.ireturn, 1) := dk_172 (dk_at dksX8_bits_1 1 rfl rfl)
abbrev cX8_orders : ByteArray := prog_30_method_71_code
def yX8_orders : MethodName := ⟨RX8, "orders", "(I)I"⟩
def dkwX8_orders_0 : List UInt8 := [4, 60, 5, 61, 28, 26, 163, 0, 13, 27, 28, 104, 60, 132, 2, 1, 167, 255, 244, 27, 172]
abbrev dktX8_orders_0 : List UInt8 := dkwX8_orders_0 ++ []
theorem dksX8_orders_0 : cX8_orders.data.toList.drop 0 = dktX8_orders_0 := by decide +kernel
theorem dX8_orders_0 : decode cX8_orders 0 = .ok (.iconst 1, 1) := dk_4 (dk_at dksX8_orders_0 0 rfl rfl)
theorem dX8_orders_1 : decode cX8_orders 1 = .ok (.istore_n 1, 1) := dk_60 (dk_at dksX8_orders_0 1 rfl rfl)
theorem dX8_orders_2 : decode cX8_orders 2 = .ok (.iconst 2, 1) := dk_5 (dk_at dksX8_orders_0 2 rfl rfl)
theorem dX8_orders_3 : decode cX8_orders 3 = .ok (.istore_n 2, 1) := dk_61 (dk_at dksX8_orders_0 3 rfl rfl)
theorem dX8_orders_4 : decode cX8_orders 4 = .ok (.iload_n 2, 1) := dk_28 (dk_at dksX8_orders_0 4 rfl rfl)
theorem dX8_orders_5 : decode cX8_orders 5 = .ok (.iload_n 0, 1) := dk_26 (dk_at dksX8_orders_0 5 rfl rfl)
theorem dX8_orders_6 : decode cX8_orders 6 = .ok (.if_icmp .gt 13, 3) := dk_163 0 13 (dk_at dksX8_orders_0 6 rfl rfl)
theorem dX8_orders_9 : decode cX8_orders 9 = .ok (.iload_n 1, 1) := dk_27 (dk_at dksX8_orders_0 9 rfl rfl)
theorem dX8_orders_10 : decode cX8_orders 10 = .ok (.iload_n 2, 1) := dk_28 (dk_at dksX8_orders_0 10 rfl rfl)
theorem dX8_orders_11 : decode cX8_orders 11 = .ok (.imul, 1) := dk_104 (dk_at dksX8_orders_0 11 rfl rfl)
theorem dX8_orders_12 : decode cX8_orders 12 = .ok (.istore_n 1, 1) := dk_60 (dk_at dksX8_orders_0 12 rfl rfl)
theorem dX8_orders_13 : decode cX8_orders 13 = .ok (.iinc 2 1, 3) := dk_132 2 1 (dk_at dksX8_orders_0 13 rfl rfl)
theorem dX8_orders_16 : decode cX8_orders 16 = .ok (.goto (-12), 3) := dk_167 255 244 (dk_at dksX8_orders_0 16 rfl rfl)
theorem dX8_orders_19 : decode cX8_orders 19 = .ok (.iload_n 1, 1) := dk_27 (dk_at dksX8_orders_0 19 rfl rfl)
theorem dX8_orders_20 : decode cX8_orders 20 = .ok (.ireturn, 1) := dk_172 (dk_at dksX8_orders_0 20 rfl rfl)
abbrev cX8_gcd : ByteArray := prog_30_method_4_code
def yX8_gcd : MethodName := ⟨RX8, "gcd", "(II)I"⟩
def dkwX8_gcd_1 : List UInt8 := [21, 4, 62, 167, 255, 242, 28, 172]
abbrev dktX8_gcd_1 : List UInt8 := dkwX8_gcd_1 ++ []
def dkwX8_gcd_0 : List UInt8 := [26, 156, 0, 8, 26, 116, 167, 0, 4, 26, 61, 27, 62, 29, 153, 0, 16, 28, 29, 112, 54, 4, 29, 61]
abbrev dktX8_gcd_0 : List UInt8 := dkwX8_gcd_0 ++ dktX8_gcd_1
theorem dksX8_gcd_0 : cX8_gcd.data.toList.drop 0 = dktX8_gcd_0 := by decide +kernel
theorem dksX8_gcd_1 : cX8_gcd.data.toList.drop 24 = dktX8_gcd_1 := dk_seg dksX8_gcd_0 24 rfl rfl
theorem dX8_gcd_0 : decode cX8_gcd 0 = .ok (.iload_n 0, 1) := dk_26 (dk_at dksX8_gcd_0 0 rfl rfl)
theorem dX8_gcd_1 : decode cX8_gcd 1 = .ok (.ifCond .ge 8, 3) := dk_156 0 8 (dk_at dksX8_gcd_0 1 rfl rfl)
theorem dX8_gcd_4 : decode cX8_gcd 4 = .ok (.iload_n 0, 1) := dk_26 (dk_at dksX8_gcd_0 4 rfl rfl)
theorem dX8_gcd_5 : decode cX8_gcd 5 = .ok (.ineg, 1) := dk_116 (dk_at dksX8_gcd_0 5 rfl rfl)
theorem dX8_gcd_6 : decode cX8_gcd 6 = .ok (.goto 4, 3) := dk_167 0 4 (dk_at dksX8_gcd_0 6 rfl rfl)
theorem dX8_gcd_9 : decode cX8_gcd 9 = .ok (.iload_n 0, 1) := dk_26 (dk_at dksX8_gcd_0 9 rfl rfl)
theorem dX8_gcd_10 : decode cX8_gcd 10 = .ok (.istore_n 2, 1) := dk_61 (dk_at dksX8_gcd_0 10 rfl rfl)
theorem dX8_gcd_11 : decode cX8_gcd 11 = .ok (.iload_n 1, 1) := dk_27 (dk_at dksX8_gcd_0 11 rfl rfl)
theorem dX8_gcd_12 : decode cX8_gcd 12 = .ok (.istore_n 3, 1) := dk_62 (dk_at dksX8_gcd_0 12 rfl rfl)
theorem dX8_gcd_13 : decode cX8_gcd 13 = .ok (.iload_n 3, 1) := dk_29 (dk_at dksX8_gcd_0 13 rfl rfl)
theorem dX8_gcd_14 : decode cX8_gcd 14 = .ok (.ifCond .eq 16, 3) := dk_153 0 16 (dk_at dksX8_gcd_0 14 rfl rfl)
theorem dX8_gcd_17 : decode cX8_gcd 17 = .ok (.iload_n 2, 1) := dk_28 (dk_at dksX8_gcd_0 17 rfl rfl)
theorem dX8_gcd_18 : decode cX8_gcd 18 = .ok (.iload_n 3, 1) := dk_29 (dk_at dksX8_gcd_0 18 rfl rfl)
theorem dX8_gcd_19 : decode cX8_gcd 19 = .ok (.irem, 1) := dk_112 (dk_at dksX8_gcd_0 19 rfl rfl)
theorem dX8_gcd_20 : decode cX8_gcd 20 = .ok (.istore 4, 2) := dk_54 4 (dk_at dksX8_gcd_0 20 rfl rfl)
theorem dX8_gcd_22 : decode cX8_gcd 22 = .ok (.iload_n 3, 1) := dk_29 (dk_at dksX8_gcd_0 22 rfl rfl)
theorem dX8_gcd_23 : decode cX8_gcd 23 = .ok (.istore_n 2, 1) := dk_61 (dk_at dksX8_gcd_0 23 rfl rfl)
theorem dX8_gcd_24 : decode cX8_gcd 24 = .ok (.iload 4, 2) := dk_21 4 (dk_at dksX8_gcd_1 0 rfl rfl)
theorem dX8_gcd_26 : decode cX8_gcd 26 = .ok (.istore_n 3, 1) := dk_62 (dk_at dksX8_gcd_1 2 rfl rfl)
theorem dX8_gcd_27 : decode cX8_gcd 27 = .ok (.goto (-14), 3) := dk_167 255 242 (dk_at dksX8_gcd_1 3 rfl rfl)
theorem dX8_gcd_30 : decode cX8_gcd 30 = .ok (.iload_n 2, 1) := dk_28 (dk_at dksX8_gcd_1 6 rfl rfl)
theorem dX8_gcd_31 : decode cX8_gcd 31 = .ok (.ireturn, 1) := dk_172 (dk_at dksX8_gcd_1 7 rfl rfl)
abbrev cX8_dry : ByteArray := prog_30_method_74_code
def yX8_dry : MethodName := ⟨RX8, "dry", "(I)I"⟩
def dkwX8_dry_4 : List UInt8 := [28, 172]
abbrev dktX8_dry_4 : List UInt8 := dkwX8_dry_4 ++ []
def dkwX8_dry_3 : List UInt8 := [167, 0, 4, 28, 61, 132, 3, 1, 167, 255, 208, 42, 180, 0, 87, 3, 42, 180, 0, 84, 3, 184, 1, 123]
abbrev dktX8_dry_3 : List UInt8 := dkwX8_dry_3 ++ dktX8_dry_4
def dkwX8_dry_2 : List UInt8 := [27, 96, 46, 54, 4, 42, 182, 1, 102, 42, 180, 0, 84, 16, 6, 27, 96, 46, 21, 4, 164, 0, 7, 29]
abbrev dktX8_dry_2 : List UInt8 := dkwX8_dry_2 ++ dktX8_dry_3
def dkwX8_dry_1 : List UInt8 := [3, 184, 1, 123, 2, 61, 4, 62, 29, 16, 100, 163, 0, 48, 28, 156, 0, 44, 42, 180, 0, 84, 16, 6]
abbrev dktX8_dry_1 : List UInt8 := dkwX8_dry_1 ++ dktX8_dry_2
def dkwX8_dry_0 : List UInt8 := [42, 3, 181, 0, 109, 42, 27, 182, 1, 44, 154, 0, 5, 2, 172, 42, 180, 0, 84, 3, 42, 180, 0, 87]
abbrev dktX8_dry_0 : List UInt8 := dkwX8_dry_0 ++ dktX8_dry_1
theorem dksX8_dry_0 : cX8_dry.data.toList.drop 0 = dktX8_dry_0 := by decide +kernel
theorem dksX8_dry_1 : cX8_dry.data.toList.drop 24 = dktX8_dry_1 := dk_seg dksX8_dry_0 24 rfl rfl
theorem dksX8_dry_2 : cX8_dry.data.toList.drop 48 = dktX8_dry_2 := dk_seg dksX8_dry_1 24 rfl rfl
theorem dksX8_dry_3 : cX8_dry.data.toList.drop 72 = dktX8_dry_3 := dk_seg dksX8_dry_2 24 rfl rfl
theorem dksX8_dry_4 : cX8_dry.data.toList.drop 96 = dktX8_dry_4 := dk_seg dksX8_dry_3 24 rfl rfl
theorem dX8_dry_0 : decode cX8_dry 0 = .ok (.aload_n 0, 1) := dk_42 (dk_at dksX8_dry_0 0 rfl rfl)
theorem dX8_dry_1 : decode cX8_dry 1 = .ok (.iconst 0, 1) := dk_3 (dk_at dksX8_dry_0 1 rfl rfl)
theorem dX8_dry_2 : decode cX8_dry 2 = .ok (.putfield 109, 3) := dk_181 0 109 (dk_at dksX8_dry_0 2 rfl rfl)
theorem dX8_dry_5 : decode cX8_dry 5 = .ok (.aload_n 0, 1) := dk_42 (dk_at dksX8_dry_0 5 rfl rfl)
theorem dX8_dry_6 : decode cX8_dry 6 = .ok (.iload_n 1, 1) := dk_27 (dk_at dksX8_dry_0 6 rfl rfl)
theorem dX8_dry_7 : decode cX8_dry 7 = .ok (.invokevirtual 300, 3) := dk_182 1 44 (dk_at dksX8_dry_0 7 rfl rfl)
theorem dX8_dry_10 : decode cX8_dry 10 = .ok (.ifCond .ne 5, 3) := dk_154 0 5 (dk_at dksX8_dry_0 10 rfl rfl)
theorem dX8_dry_13 : decode cX8_dry 13 = .ok (.iconst (-1), 1) := dk_2 (dk_at dksX8_dry_0 13 rfl rfl)
theorem dX8_dry_14 : decode cX8_dry 14 = .ok (.ireturn, 1) := dk_172 (dk_at dksX8_dry_0 14 rfl rfl)
theorem dX8_dry_15 : decode cX8_dry 15 = .ok (.aload_n 0, 1) := dk_42 (dk_at dksX8_dry_0 15 rfl rfl)
theorem dX8_dry_16 : decode cX8_dry 16 = .ok (.getfield 84, 3) := dk_180 0 84 (dk_at dksX8_dry_0 16 rfl rfl)
theorem dX8_dry_19 : decode cX8_dry 19 = .ok (.iconst 0, 1) := dk_3 (dk_at dksX8_dry_0 19 rfl rfl)
theorem dX8_dry_20 : decode cX8_dry 20 = .ok (.aload_n 0, 1) := dk_42 (dk_at dksX8_dry_0 20 rfl rfl)
theorem dX8_dry_21 : decode cX8_dry 21 = .ok (.getfield 87, 3) := dk_180 0 87 (dk_at dksX8_dry_0 21 rfl rfl)
theorem dX8_dry_24 : decode cX8_dry 24 = .ok (.iconst 0, 1) := dk_3 (dk_at dksX8_dry_1 0 rfl rfl)
theorem dX8_dry_25 : decode cX8_dry 25 = .ok (.invokestatic 379, 3) := dk_184 1 123 (dk_at dksX8_dry_1 1 rfl rfl)
theorem dX8_dry_28 : decode cX8_dry 28 = .ok (.iconst (-1), 1) := dk_2 (dk_at dksX8_dry_1 4 rfl rfl)
theorem dX8_dry_29 : decode cX8_dry 29 = .ok (.istore_n 2, 1) := dk_61 (dk_at dksX8_dry_1 5 rfl rfl)
theorem dX8_dry_30 : decode cX8_dry 30 = .ok (.iconst 1, 1) := dk_4 (dk_at dksX8_dry_1 6 rfl rfl)
theorem dX8_dry_31 : decode cX8_dry 31 = .ok (.istore_n 3, 1) := dk_62 (dk_at dksX8_dry_1 7 rfl rfl)
theorem dX8_dry_32 : decode cX8_dry 32 = .ok (.iload_n 3, 1) := dk_29 (dk_at dksX8_dry_1 8 rfl rfl)
theorem dX8_dry_33 : decode cX8_dry 33 = .ok (.bipush 100, 2) := dk_16 100 (dk_at dksX8_dry_1 9 rfl rfl)
theorem dX8_dry_35 : decode cX8_dry 35 = .ok (.if_icmp .gt 48, 3) := dk_163 0 48 (dk_at dksX8_dry_1 11 rfl rfl)
theorem dX8_dry_38 : decode cX8_dry 38 = .ok (.iload_n 2, 1) := dk_28 (dk_at dksX8_dry_1 14 rfl rfl)
theorem dX8_dry_39 : decode cX8_dry 39 = .ok (.ifCond .ge 44, 3) := dk_156 0 44 (dk_at dksX8_dry_1 15 rfl rfl)
theorem dX8_dry_42 : decode cX8_dry 42 = .ok (.aload_n 0, 1) := dk_42 (dk_at dksX8_dry_1 18 rfl rfl)
theorem dX8_dry_43 : decode cX8_dry 43 = .ok (.getfield 84, 3) := dk_180 0 84 (dk_at dksX8_dry_1 19 rfl rfl)
theorem dX8_dry_46 : decode cX8_dry 46 = .ok (.bipush 6, 2) := dk_16 6 (dk_at dksX8_dry_1 22 rfl rfl)
theorem dX8_dry_48 : decode cX8_dry 48 = .ok (.iload_n 1, 1) := dk_27 (dk_at dksX8_dry_2 0 rfl rfl)
theorem dX8_dry_49 : decode cX8_dry 49 = .ok (.iadd, 1) := dk_96 (dk_at dksX8_dry_2 1 rfl rfl)
theorem dX8_dry_50 : decode cX8_dry 50 = .ok (.iaload, 1) := dk_46 (dk_at dksX8_dry_2 2 rfl rfl)
theorem dX8_dry_51 : decode cX8_dry 51 = .ok (.istore 4, 2) := dk_54 4 (dk_at dksX8_dry_2 3 rfl rfl)
theorem dX8_dry_53 : decode cX8_dry 53 = .ok (.aload_n 0, 1) := dk_42 (dk_at dksX8_dry_2 5 rfl rfl)
theorem dX8_dry_54 : decode cX8_dry 54 = .ok (.invokevirtual 358, 3) := dk_182 1 102 (dk_at dksX8_dry_2 6 rfl rfl)
theorem dX8_dry_57 : decode cX8_dry 57 = .ok (.aload_n 0, 1) := dk_42 (dk_at dksX8_dry_2 9 rfl rfl)
theorem dX8_dry_58 : decode cX8_dry 58 = .ok (.getfield 84, 3) := dk_180 0 84 (dk_at dksX8_dry_2 10 rfl rfl)
theorem dX8_dry_61 : decode cX8_dry 61 = .ok (.bipush 6, 2) := dk_16 6 (dk_at dksX8_dry_2 13 rfl rfl)
theorem dX8_dry_63 : decode cX8_dry 63 = .ok (.iload_n 1, 1) := dk_27 (dk_at dksX8_dry_2 15 rfl rfl)
theorem dX8_dry_64 : decode cX8_dry 64 = .ok (.iadd, 1) := dk_96 (dk_at dksX8_dry_2 16 rfl rfl)
theorem dX8_dry_65 : decode cX8_dry 65 = .ok (.iaload, 1) := dk_46 (dk_at dksX8_dry_2 17 rfl rfl)
theorem dX8_dry_66 : decode cX8_dry 66 = .ok (.iload 4, 2) := dk_21 4 (dk_at dksX8_dry_2 18 rfl rfl)
theorem dX8_dry_68 : decode cX8_dry 68 = .ok (.if_icmp .le 7, 3) := dk_164 0 7 (dk_at dksX8_dry_2 20 rfl rfl)
theorem dX8_dry_71 : decode cX8_dry 71 = .ok (.iload_n 3, 1) := dk_29 (dk_at dksX8_dry_2 23 rfl rfl)
theorem dX8_dry_72 : decode cX8_dry 72 = .ok (.goto 4, 3) := dk_167 0 4 (dk_at dksX8_dry_3 0 rfl rfl)
theorem dX8_dry_75 : decode cX8_dry 75 = .ok (.iload_n 2, 1) := dk_28 (dk_at dksX8_dry_3 3 rfl rfl)
theorem dX8_dry_76 : decode cX8_dry 76 = .ok (.istore_n 2, 1) := dk_61 (dk_at dksX8_dry_3 4 rfl rfl)
theorem dX8_dry_77 : decode cX8_dry 77 = .ok (.iinc 3 1, 3) := dk_132 3 1 (dk_at dksX8_dry_3 5 rfl rfl)
theorem dX8_dry_80 : decode cX8_dry 80 = .ok (.goto (-48), 3) := dk_167 255 208 (dk_at dksX8_dry_3 8 rfl rfl)
theorem dX8_dry_83 : decode cX8_dry 83 = .ok (.aload_n 0, 1) := dk_42 (dk_at dksX8_dry_3 11 rfl rfl)
theorem dX8_dry_84 : decode cX8_dry 84 = .ok (.getfield 87, 3) := dk_180 0 87 (dk_at dksX8_dry_3 12 rfl rfl)
theorem dX8_dry_87 : decode cX8_dry 87 = .ok (.iconst 0, 1) := dk_3 (dk_at dksX8_dry_3 15 rfl rfl)
theorem dX8_dry_88 : decode cX8_dry 88 = .ok (.aload_n 0, 1) := dk_42 (dk_at dksX8_dry_3 16 rfl rfl)
theorem dX8_dry_89 : decode cX8_dry 89 = .ok (.getfield 84, 3) := dk_180 0 84 (dk_at dksX8_dry_3 17 rfl rfl)
theorem dX8_dry_92 : decode cX8_dry 92 = .ok (.iconst 0, 1) := dk_3 (dk_at dksX8_dry_3 20 rfl rfl)
theorem dX8_dry_93 : decode cX8_dry 93 = .ok (.invokestatic 379, 3) := dk_184 1 123 (dk_at dksX8_dry_3 21 rfl rfl)
theorem dX8_dry_96 : decode cX8_dry 96 = .ok (.iload_n 2, 1) := dk_28 (dk_at dksX8_dry_4 0 rfl rfl)
theorem dX8_dry_97 : decode cX8_dry 97 = .ok (.ireturn, 1) := dk_172 (dk_at dksX8_dry_4 1 rfl rfl)
abbrev cX8_stored : ByteArray := prog_30_method_75_code
def yX8_stored : MethodName := ⟨RX8, "stored", "(II)I"⟩
def dkwX8_stored_3 : List UInt8 := [180, 0, 84, 3, 184, 1, 123, 29, 172]
abbrev dktX8_stored_3 : List UInt8 := dkwX8_stored_3 ++ []
def dkwX8_stored_2 : List UInt8 := [182, 1, 102, 132, 3, 1, 167, 255, 244, 42, 180, 0, 84, 27, 46, 62, 42, 180, 0, 87, 3, 42]
abbrev dktX8_stored_2 : List UInt8 := dkwX8_stored_2 ++ dktX8_stored_3
def dkwX8_stored_1 : List UInt8 := [172, 42, 180, 0, 84, 3, 42, 180, 0, 87, 3, 184, 1, 123, 3, 62, 29, 28, 162, 0, 13, 42]
abbrev dktX8_stored_1 : List UInt8 := dkwX8_stored_1 ++ dktX8_stored_2
def dkwX8_stored_0 : List UInt8 := [42, 3, 181, 0, 109, 42, 27, 182, 1, 44, 153, 0, 13, 28, 3, 16, 100, 184, 0, 235, 154, 0, 5, 2]
abbrev dktX8_stored_0 : List UInt8 := dkwX8_stored_0 ++ dktX8_stored_1
theorem dksX8_stored_0 : cX8_stored.data.toList.drop 0 = dktX8_stored_0 := by decide +kernel
theorem dksX8_stored_1 : cX8_stored.data.toList.drop 24 = dktX8_stored_1 := dk_seg dksX8_stored_0 24 rfl rfl
theorem dksX8_stored_2 : cX8_stored.data.toList.drop 46 = dktX8_stored_2 := dk_seg dksX8_stored_1 22 rfl rfl
theorem dksX8_stored_3 : cX8_stored.data.toList.drop 68 = dktX8_stored_3 := dk_seg dksX8_stored_2 22 rfl rfl
theorem dX8_stored_0 : decode cX8_stored 0 = .ok (.aload_n 0, 1) := dk_42 (dk_at dksX8_stored_0 0 rfl rfl)
theorem dX8_stored_1 : decode cX8_stored 1 = .ok (.iconst 0, 1) := dk_3 (dk_at dksX8_stored_0 1 rfl rfl)
theorem dX8_stored_2 : decode cX8_stored 2 = .ok (.putfield 109, 3) := dk_181 0 109 (dk_at dksX8_stored_0 2 rfl rfl)
theorem dX8_stored_5 : decode cX8_stored 5 = .ok (.aload_n 0, 1) := dk_42 (dk_at dksX8_stored_0 5 rfl rfl)
theorem dX8_stored_6 : decode cX8_stored 6 = .ok (.iload_n 1, 1) := dk_27 (dk_at dksX8_stored_0 6 rfl rfl)
theorem dX8_stored_7 : decode cX8_stored 7 = .ok (.invokevirtual 300, 3) := dk_182 1 44 (dk_at dksX8_stored_0 7 rfl rfl)
theorem dX8_stored_10 : decode cX8_stored 10 = .ok (.ifCond .eq 13, 3) := dk_153 0 13 (dk_at dksX8_stored_0 10 rfl rfl)
theorem dX8_stored_13 : decode cX8_stored 13 = .ok (.iload_n 2, 1) := dk_28 (dk_at dksX8_stored_0 13 rfl rfl)
theorem dX8_stored_14 : decode cX8_stored 14 = .ok (.iconst 0, 1) := dk_3 (dk_at dksX8_stored_0 14 rfl rfl)
theorem dX8_stored_15 : decode cX8_stored 15 = .ok (.bipush 100, 2) := dk_16 100 (dk_at dksX8_stored_0 15 rfl rfl)
theorem dX8_stored_17 : decode cX8_stored 17 = .ok (.invokestatic 235, 3) := dk_184 0 235 (dk_at dksX8_stored_0 17 rfl rfl)
theorem dX8_stored_20 : decode cX8_stored 20 = .ok (.ifCond .ne 5, 3) := dk_154 0 5 (dk_at dksX8_stored_0 20 rfl rfl)
theorem dX8_stored_23 : decode cX8_stored 23 = .ok (.iconst (-1), 1) := dk_2 (dk_at dksX8_stored_0 23 rfl rfl)
theorem dX8_stored_24 : decode cX8_stored 24 = .ok (.ireturn, 1) := dk_172 (dk_at dksX8_stored_1 0 rfl rfl)
theorem dX8_stored_25 : decode cX8_stored 25 = .ok (.aload_n 0, 1) := dk_42 (dk_at dksX8_stored_1 1 rfl rfl)
theorem dX8_stored_26 : decode cX8_stored 26 = .ok (.getfield 84, 3) := dk_180 0 84 (dk_at dksX8_stored_1 2 rfl rfl)
theorem dX8_stored_29 : decode cX8_stored 29 = .ok (.iconst 0, 1) := dk_3 (dk_at dksX8_stored_1 5 rfl rfl)
theorem dX8_stored_30 : decode cX8_stored 30 = .ok (.aload_n 0, 1) := dk_42 (dk_at dksX8_stored_1 6 rfl rfl)
theorem dX8_stored_31 : decode cX8_stored 31 = .ok (.getfield 87, 3) := dk_180 0 87 (dk_at dksX8_stored_1 7 rfl rfl)
theorem dX8_stored_34 : decode cX8_stored 34 = .ok (.iconst 0, 1) := dk_3 (dk_at dksX8_stored_1 10 rfl rfl)
theorem dX8_stored_35 : decode cX8_stored 35 = .ok (.invokestatic 379, 3) := dk_184 1 123 (dk_at dksX8_stored_1 11 rfl rfl)
theorem dX8_stored_38 : decode cX8_stored 38 = .ok (.iconst 0, 1) := dk_3 (dk_at dksX8_stored_1 14 rfl rfl)
theorem dX8_stored_39 : decode cX8_stored 39 = .ok (.istore_n 3, 1) := dk_62 (dk_at dksX8_stored_1 15 rfl rfl)
theorem dX8_stored_40 : decode cX8_stored 40 = .ok (.iload_n 3, 1) := dk_29 (dk_at dksX8_stored_1 16 rfl rfl)
theorem dX8_stored_41 : decode cX8_stored 41 = .ok (.iload_n 2, 1) := dk_28 (dk_at dksX8_stored_1 17 rfl rfl)
theorem dX8_stored_42 : decode cX8_stored 42 = .ok (.if_icmp .ge 13, 3) := dk_162 0 13 (dk_at dksX8_stored_1 18 rfl rfl)
theorem dX8_stored_45 : decode cX8_stored 45 = .ok (.aload_n 0, 1) := dk_42 (dk_at dksX8_stored_1 21 rfl rfl)
theorem dX8_stored_46 : decode cX8_stored 46 = .ok (.invokevirtual 358, 3) := dk_182 1 102 (dk_at dksX8_stored_2 0 rfl rfl)
theorem dX8_stored_49 : decode cX8_stored 49 = .ok (.iinc 3 1, 3) := dk_132 3 1 (dk_at dksX8_stored_2 3 rfl rfl)
theorem dX8_stored_52 : decode cX8_stored 52 = .ok (.goto (-12), 3) := dk_167 255 244 (dk_at dksX8_stored_2 6 rfl rfl)
theorem dX8_stored_55 : decode cX8_stored 55 = .ok (.aload_n 0, 1) := dk_42 (dk_at dksX8_stored_2 9 rfl rfl)
theorem dX8_stored_56 : decode cX8_stored 56 = .ok (.getfield 84, 3) := dk_180 0 84 (dk_at dksX8_stored_2 10 rfl rfl)
theorem dX8_stored_59 : decode cX8_stored 59 = .ok (.iload_n 1, 1) := dk_27 (dk_at dksX8_stored_2 13 rfl rfl)
theorem dX8_stored_60 : decode cX8_stored 60 = .ok (.iaload, 1) := dk_46 (dk_at dksX8_stored_2 14 rfl rfl)
theorem dX8_stored_61 : decode cX8_stored 61 = .ok (.istore_n 3, 1) := dk_62 (dk_at dksX8_stored_2 15 rfl rfl)
theorem dX8_stored_62 : decode cX8_stored 62 = .ok (.aload_n 0, 1) := dk_42 (dk_at dksX8_stored_2 16 rfl rfl)
theorem dX8_stored_63 : decode cX8_stored 63 = .ok (.getfield 87, 3) := dk_180 0 87 (dk_at dksX8_stored_2 17 rfl rfl)
theorem dX8_stored_66 : decode cX8_stored 66 = .ok (.iconst 0, 1) := dk_3 (dk_at dksX8_stored_2 20 rfl rfl)
theorem dX8_stored_67 : decode cX8_stored 67 = .ok (.aload_n 0, 1) := dk_42 (dk_at dksX8_stored_2 21 rfl rfl)
theorem dX8_stored_68 : decode cX8_stored 68 = .ok (.getfield 84, 3) := dk_180 0 84 (dk_at dksX8_stored_3 0 rfl rfl)
theorem dX8_stored_71 : decode cX8_stored 71 = .ok (.iconst 0, 1) := dk_3 (dk_at dksX8_stored_3 3 rfl rfl)
theorem dX8_stored_72 : decode cX8_stored 72 = .ok (.invokestatic 379, 3) := dk_184 1 123 (dk_at dksX8_stored_3 4 rfl rfl)
theorem dX8_stored_75 : decode cX8_stored 75 = .ok (.iload_n 3, 1) := dk_29 (dk_at dksX8_stored_3 7 rfl rfl)
theorem dX8_stored_76 : decode cX8_stored 76 = .ok (.ireturn, 1) := dk_172 (dk_at dksX8_stored_3 8 rfl rfl)
abbrev cX8_jar : ByteArray := prog_30_method_76_code
def yX8_jar : MethodName := ⟨RX8, "jar", "(II)I"⟩
def dkwX8_jar_4 : List UInt8 := [172]
abbrev dktX8_jar_4 : List UInt8 := dkwX8_jar_4 ++ []
def dkwX8_jar_3 : List UInt8 := [104, 96, 4, 96, 28, 79, 42, 180, 0, 84, 16, 51, 92, 46, 4, 96, 79, 42, 180, 0, 84, 16, 51, 46]
abbrev dktX8_jar_3 : List UInt8 := dkwX8_jar_3 ++ dktX8_jar_4
def dkwX8_jar_2 : List UInt8 := [180, 0, 84, 16, 51, 46, 104, 96, 27, 79, 42, 180, 0, 84, 16, 52, 5, 42, 180, 0, 84, 16, 51, 46]
abbrev dktX8_jar_2 : List UInt8 := dkwX8_jar_2 ++ dktX8_jar_3
def dkwX8_jar_1 : List UInt8 := [42, 180, 0, 84, 16, 51, 46, 16, 8, 160, 0, 5, 2, 172, 42, 180, 0, 84, 16, 52, 5, 42]
abbrev dktX8_jar_1 : List UInt8 := dkwX8_jar_1 ++ dktX8_jar_2
def dkwX8_jar_0 : List UInt8 := [42, 3, 181, 0, 109, 42, 27, 182, 1, 41, 153, 0, 26, 28, 3, 19, 1, 139, 184, 0, 235, 153, 0, 15]
abbrev dktX8_jar_0 : List UInt8 := dkwX8_jar_0 ++ dktX8_jar_1
theorem dksX8_jar_0 : cX8_jar.data.toList.drop 0 = dktX8_jar_0 := by decide +kernel
theorem dksX8_jar_1 : cX8_jar.data.toList.drop 24 = dktX8_jar_1 := dk_seg dksX8_jar_0 24 rfl rfl
theorem dksX8_jar_2 : cX8_jar.data.toList.drop 46 = dktX8_jar_2 := dk_seg dksX8_jar_1 22 rfl rfl
theorem dksX8_jar_3 : cX8_jar.data.toList.drop 70 = dktX8_jar_3 := dk_seg dksX8_jar_2 24 rfl rfl
theorem dksX8_jar_4 : cX8_jar.data.toList.drop 94 = dktX8_jar_4 := dk_seg dksX8_jar_3 24 rfl rfl
theorem dX8_jar_0 : decode cX8_jar 0 = .ok (.aload_n 0, 1) := dk_42 (dk_at dksX8_jar_0 0 rfl rfl)
theorem dX8_jar_1 : decode cX8_jar 1 = .ok (.iconst 0, 1) := dk_3 (dk_at dksX8_jar_0 1 rfl rfl)
theorem dX8_jar_2 : decode cX8_jar 2 = .ok (.putfield 109, 3) := dk_181 0 109 (dk_at dksX8_jar_0 2 rfl rfl)
theorem dX8_jar_5 : decode cX8_jar 5 = .ok (.aload_n 0, 1) := dk_42 (dk_at dksX8_jar_0 5 rfl rfl)
theorem dX8_jar_6 : decode cX8_jar 6 = .ok (.iload_n 1, 1) := dk_27 (dk_at dksX8_jar_0 6 rfl rfl)
theorem dX8_jar_7 : decode cX8_jar 7 = .ok (.invokevirtual 297, 3) := dk_182 1 41 (dk_at dksX8_jar_0 7 rfl rfl)
theorem dX8_jar_10 : decode cX8_jar 10 = .ok (.ifCond .eq 26, 3) := dk_153 0 26 (dk_at dksX8_jar_0 10 rfl rfl)
theorem dX8_jar_13 : decode cX8_jar 13 = .ok (.iload_n 2, 1) := dk_28 (dk_at dksX8_jar_0 13 rfl rfl)
theorem dX8_jar_14 : decode cX8_jar 14 = .ok (.iconst 0, 1) := dk_3 (dk_at dksX8_jar_0 14 rfl rfl)
theorem dX8_jar_15 : decode cX8_jar 15 = .ok (.ldc_w 395, 3) := dk_19 1 139 (dk_at dksX8_jar_0 15 rfl rfl)
theorem dX8_jar_18 : decode cX8_jar 18 = .ok (.invokestatic 235, 3) := dk_184 0 235 (dk_at dksX8_jar_0 18 rfl rfl)
theorem dX8_jar_21 : decode cX8_jar 21 = .ok (.ifCond .eq 15, 3) := dk_153 0 15 (dk_at dksX8_jar_0 21 rfl rfl)
theorem dX8_jar_24 : decode cX8_jar 24 = .ok (.aload_n 0, 1) := dk_42 (dk_at dksX8_jar_1 0 rfl rfl)
theorem dX8_jar_25 : decode cX8_jar 25 = .ok (.getfield 84, 3) := dk_180 0 84 (dk_at dksX8_jar_1 1 rfl rfl)
theorem dX8_jar_28 : decode cX8_jar 28 = .ok (.bipush 51, 2) := dk_16 51 (dk_at dksX8_jar_1 4 rfl rfl)
theorem dX8_jar_30 : decode cX8_jar 30 = .ok (.iaload, 1) := dk_46 (dk_at dksX8_jar_1 6 rfl rfl)
theorem dX8_jar_31 : decode cX8_jar 31 = .ok (.bipush 8, 2) := dk_16 8 (dk_at dksX8_jar_1 7 rfl rfl)
theorem dX8_jar_33 : decode cX8_jar 33 = .ok (.if_icmp .ne 5, 3) := dk_160 0 5 (dk_at dksX8_jar_1 9 rfl rfl)
theorem dX8_jar_36 : decode cX8_jar 36 = .ok (.iconst (-1), 1) := dk_2 (dk_at dksX8_jar_1 12 rfl rfl)
theorem dX8_jar_37 : decode cX8_jar 37 = .ok (.ireturn, 1) := dk_172 (dk_at dksX8_jar_1 13 rfl rfl)
theorem dX8_jar_38 : decode cX8_jar 38 = .ok (.aload_n 0, 1) := dk_42 (dk_at dksX8_jar_1 14 rfl rfl)
theorem dX8_jar_39 : decode cX8_jar 39 = .ok (.getfield 84, 3) := dk_180 0 84 (dk_at dksX8_jar_1 15 rfl rfl)
theorem dX8_jar_42 : decode cX8_jar 42 = .ok (.bipush 52, 2) := dk_16 52 (dk_at dksX8_jar_1 18 rfl rfl)
theorem dX8_jar_44 : decode cX8_jar 44 = .ok (.iconst 2, 1) := dk_5 (dk_at dksX8_jar_1 20 rfl rfl)
theorem dX8_jar_45 : decode cX8_jar 45 = .ok (.aload_n 0, 1) := dk_42 (dk_at dksX8_jar_1 21 rfl rfl)
theorem dX8_jar_46 : decode cX8_jar 46 = .ok (.getfield 84, 3) := dk_180 0 84 (dk_at dksX8_jar_2 0 rfl rfl)
theorem dX8_jar_49 : decode cX8_jar 49 = .ok (.bipush 51, 2) := dk_16 51 (dk_at dksX8_jar_2 3 rfl rfl)
theorem dX8_jar_51 : decode cX8_jar 51 = .ok (.iaload, 1) := dk_46 (dk_at dksX8_jar_2 5 rfl rfl)
theorem dX8_jar_52 : decode cX8_jar 52 = .ok (.imul, 1) := dk_104 (dk_at dksX8_jar_2 6 rfl rfl)
theorem dX8_jar_53 : decode cX8_jar 53 = .ok (.iadd, 1) := dk_96 (dk_at dksX8_jar_2 7 rfl rfl)
theorem dX8_jar_54 : decode cX8_jar 54 = .ok (.iload_n 1, 1) := dk_27 (dk_at dksX8_jar_2 8 rfl rfl)
theorem dX8_jar_55 : decode cX8_jar 55 = .ok (.iastore, 1) := dk_79 (dk_at dksX8_jar_2 9 rfl rfl)
theorem dX8_jar_56 : decode cX8_jar 56 = .ok (.aload_n 0, 1) := dk_42 (dk_at dksX8_jar_2 10 rfl rfl)
theorem dX8_jar_57 : decode cX8_jar 57 = .ok (.getfield 84, 3) := dk_180 0 84 (dk_at dksX8_jar_2 11 rfl rfl)
theorem dX8_jar_60 : decode cX8_jar 60 = .ok (.bipush 52, 2) := dk_16 52 (dk_at dksX8_jar_2 14 rfl rfl)
theorem dX8_jar_62 : decode cX8_jar 62 = .ok (.iconst 2, 1) := dk_5 (dk_at dksX8_jar_2 16 rfl rfl)
theorem dX8_jar_63 : decode cX8_jar 63 = .ok (.aload_n 0, 1) := dk_42 (dk_at dksX8_jar_2 17 rfl rfl)
theorem dX8_jar_64 : decode cX8_jar 64 = .ok (.getfield 84, 3) := dk_180 0 84 (dk_at dksX8_jar_2 18 rfl rfl)
theorem dX8_jar_67 : decode cX8_jar 67 = .ok (.bipush 51, 2) := dk_16 51 (dk_at dksX8_jar_2 21 rfl rfl)
theorem dX8_jar_69 : decode cX8_jar 69 = .ok (.iaload, 1) := dk_46 (dk_at dksX8_jar_2 23 rfl rfl)
theorem dX8_jar_70 : decode cX8_jar 70 = .ok (.imul, 1) := dk_104 (dk_at dksX8_jar_3 0 rfl rfl)
theorem dX8_jar_71 : decode cX8_jar 71 = .ok (.iadd, 1) := dk_96 (dk_at dksX8_jar_3 1 rfl rfl)
theorem dX8_jar_72 : decode cX8_jar 72 = .ok (.iconst 1, 1) := dk_4 (dk_at dksX8_jar_3 2 rfl rfl)
theorem dX8_jar_73 : decode cX8_jar 73 = .ok (.iadd, 1) := dk_96 (dk_at dksX8_jar_3 3 rfl rfl)
theorem dX8_jar_74 : decode cX8_jar 74 = .ok (.iload_n 2, 1) := dk_28 (dk_at dksX8_jar_3 4 rfl rfl)
theorem dX8_jar_75 : decode cX8_jar 75 = .ok (.iastore, 1) := dk_79 (dk_at dksX8_jar_3 5 rfl rfl)
theorem dX8_jar_76 : decode cX8_jar 76 = .ok (.aload_n 0, 1) := dk_42 (dk_at dksX8_jar_3 6 rfl rfl)
theorem dX8_jar_77 : decode cX8_jar 77 = .ok (.getfield 84, 3) := dk_180 0 84 (dk_at dksX8_jar_3 7 rfl rfl)
theorem dX8_jar_80 : decode cX8_jar 80 = .ok (.bipush 51, 2) := dk_16 51 (dk_at dksX8_jar_3 10 rfl rfl)
theorem dX8_jar_82 : decode cX8_jar 82 = .ok (.dup2, 1) := dk_92 (dk_at dksX8_jar_3 12 rfl rfl)
theorem dX8_jar_83 : decode cX8_jar 83 = .ok (.iaload, 1) := dk_46 (dk_at dksX8_jar_3 13 rfl rfl)
theorem dX8_jar_84 : decode cX8_jar 84 = .ok (.iconst 1, 1) := dk_4 (dk_at dksX8_jar_3 14 rfl rfl)
theorem dX8_jar_85 : decode cX8_jar 85 = .ok (.iadd, 1) := dk_96 (dk_at dksX8_jar_3 15 rfl rfl)
theorem dX8_jar_86 : decode cX8_jar 86 = .ok (.iastore, 1) := dk_79 (dk_at dksX8_jar_3 16 rfl rfl)
theorem dX8_jar_87 : decode cX8_jar 87 = .ok (.aload_n 0, 1) := dk_42 (dk_at dksX8_jar_3 17 rfl rfl)
theorem dX8_jar_88 : decode cX8_jar 88 = .ok (.getfield 84, 3) := dk_180 0 84 (dk_at dksX8_jar_3 18 rfl rfl)
theorem dX8_jar_91 : decode cX8_jar 91 = .ok (.bipush 51, 2) := dk_16 51 (dk_at dksX8_jar_3 21 rfl rfl)
theorem dX8_jar_93 : decode cX8_jar 93 = .ok (.iaload, 1) := dk_46 (dk_at dksX8_jar_3 23 rfl rfl)
theorem dX8_jar_94 : decode cX8_jar 94 = .ok (.ireturn, 1) := dk_172 (dk_at dksX8_jar_4 0 rfl rfl)
abbrev cX8_clear : ByteArray := prog_30_method_77_code
def yX8_clear : MethodName := ⟨RX8, "clear", "()Z"⟩
def dkwX8_clear_0 : List UInt8 := [42, 3, 181, 0, 109, 42, 180, 0, 84, 16, 51, 3, 79, 4, 172]
abbrev dktX8_clear_0 : List UInt8 := dkwX8_clear_0 ++ []
theorem dksX8_clear_0 : cX8_clear.data.toList.drop 0 = dktX8_clear_0 := by decide +kernel
theorem dX8_clear_0 : decode cX8_clear 0 = .ok (.aload_n 0, 1) := dk_42 (dk_at dksX8_clear_0 0 rfl rfl)
theorem dX8_clear_1 : decode cX8_clear 1 = .ok (.iconst 0, 1) := dk_3 (dk_at dksX8_clear_0 1 rfl rfl)
theorem dX8_clear_2 : decode cX8_clear 2 = .ok (.putfield 109, 3) := dk_181 0 109 (dk_at dksX8_clear_0 2 rfl rfl)
theorem dX8_clear_5 : decode cX8_clear 5 = .ok (.aload_n 0, 1) := dk_42 (dk_at dksX8_clear_0 5 rfl rfl)
theorem dX8_clear_6 : decode cX8_clear 6 = .ok (.getfield 84, 3) := dk_180 0 84 (dk_at dksX8_clear_0 6 rfl rfl)
theorem dX8_clear_9 : decode cX8_clear 9 = .ok (.bipush 51, 2) := dk_16 51 (dk_at dksX8_clear_0 9 rfl rfl)
theorem dX8_clear_11 : decode cX8_clear 11 = .ok (.iconst 0, 1) := dk_3 (dk_at dksX8_clear_0 11 rfl rfl)
theorem dX8_clear_12 : decode cX8_clear 12 = .ok (.iastore, 1) := dk_79 (dk_at dksX8_clear_0 12 rfl rfl)
theorem dX8_clear_13 : decode cX8_clear 13 = .ok (.iconst 1, 1) := dk_4 (dk_at dksX8_clear_0 13 rfl rfl)
theorem dX8_clear_14 : decode cX8_clear 14 = .ok (.ireturn, 1) := dk_172 (dk_at dksX8_clear_0 14 rfl rfl)
abbrev cX8_winds : ByteArray := prog_30_method_79_code
def yX8_winds : MethodName := ⟨RX8, "winds", "()I"⟩
def dkwX8_winds_1 : List UInt8 := [154, 0, 7, 2, 167, 0, 8, 42, 2, 182, 1, 140, 172]
abbrev dktX8_winds_1 : List UInt8 := dkwX8_winds_1 ++ []
def dkwX8_winds_0 : List UInt8 := [42, 3, 181, 0, 109, 42, 180, 0, 13, 5, 46, 16, 6, 163, 0, 13, 42, 180, 0, 84, 16, 50, 46]
abbrev dktX8_winds_0 : List UInt8 := dkwX8_winds_0 ++ dktX8_winds_1
theorem dksX8_winds_0 : cX8_winds.data.toList.drop 0 = dktX8_winds_0 := by decide +kernel
theorem dksX8_winds_1 : cX8_winds.data.toList.drop 23 = dktX8_winds_1 := dk_seg dksX8_winds_0 23 rfl rfl
theorem dX8_winds_0 : decode cX8_winds 0 = .ok (.aload_n 0, 1) := dk_42 (dk_at dksX8_winds_0 0 rfl rfl)
theorem dX8_winds_1 : decode cX8_winds 1 = .ok (.iconst 0, 1) := dk_3 (dk_at dksX8_winds_0 1 rfl rfl)
theorem dX8_winds_2 : decode cX8_winds 2 = .ok (.putfield 109, 3) := dk_181 0 109 (dk_at dksX8_winds_0 2 rfl rfl)
theorem dX8_winds_5 : decode cX8_winds 5 = .ok (.aload_n 0, 1) := dk_42 (dk_at dksX8_winds_0 5 rfl rfl)
theorem dX8_winds_6 : decode cX8_winds 6 = .ok (.getfield 13, 3) := dk_180 0 13 (dk_at dksX8_winds_0 6 rfl rfl)
theorem dX8_winds_9 : decode cX8_winds 9 = .ok (.iconst 2, 1) := dk_5 (dk_at dksX8_winds_0 9 rfl rfl)
theorem dX8_winds_10 : decode cX8_winds 10 = .ok (.iaload, 1) := dk_46 (dk_at dksX8_winds_0 10 rfl rfl)
theorem dX8_winds_11 : decode cX8_winds 11 = .ok (.bipush 6, 2) := dk_16 6 (dk_at dksX8_winds_0 11 rfl rfl)
theorem dX8_winds_13 : decode cX8_winds 13 = .ok (.if_icmp .gt 13, 3) := dk_163 0 13 (dk_at dksX8_winds_0 13 rfl rfl)
theorem dX8_winds_16 : decode cX8_winds 16 = .ok (.aload_n 0, 1) := dk_42 (dk_at dksX8_winds_0 16 rfl rfl)
theorem dX8_winds_17 : decode cX8_winds 17 = .ok (.getfield 84, 3) := dk_180 0 84 (dk_at dksX8_winds_0 17 rfl rfl)
theorem dX8_winds_20 : decode cX8_winds 20 = .ok (.bipush 50, 2) := dk_16 50 (dk_at dksX8_winds_0 20 rfl rfl)
theorem dX8_winds_22 : decode cX8_winds 22 = .ok (.iaload, 1) := dk_46 (dk_at dksX8_winds_0 22 rfl rfl)
theorem dX8_winds_23 : decode cX8_winds 23 = .ok (.ifCond .ne 7, 3) := dk_154 0 7 (dk_at dksX8_winds_1 0 rfl rfl)
theorem dX8_winds_26 : decode cX8_winds 26 = .ok (.iconst (-1), 1) := dk_2 (dk_at dksX8_winds_1 3 rfl rfl)
theorem dX8_winds_27 : decode cX8_winds 27 = .ok (.goto 8, 3) := dk_167 0 8 (dk_at dksX8_winds_1 4 rfl rfl)
theorem dX8_winds_30 : decode cX8_winds 30 = .ok (.aload_n 0, 1) := dk_42 (dk_at dksX8_winds_1 7 rfl rfl)
theorem dX8_winds_31 : decode cX8_winds 31 = .ok (.iconst (-1), 1) := dk_2 (dk_at dksX8_winds_1 8 rfl rfl)
theorem dX8_winds_32 : decode cX8_winds 32 = .ok (.invokevirtual 396, 3) := dk_182 1 140 (dk_at dksX8_winds_1 9 rfl rfl)
theorem dX8_winds_35 : decode cX8_winds 35 = .ok (.ireturn, 1) := dk_172 (dk_at dksX8_winds_1 12 rfl rfl)
abbrev cX8_blowing : ByteArray := prog_30_method_78_code
def yX8_blowing : MethodName := ⟨RX8, "blowing", "(I)I"⟩
def dkwX8_blowing_8 : List UInt8 := [29, 167, 0, 4, 2, 172]
abbrev dktX8_blowing_8 : List UInt8 := dkwX8_blowing_8 ++ []
def dkwX8_blowing_7 : List UInt8 := [167, 0, 14, 29, 27, 160, 0, 6, 21, 4, 172, 132, 3, 1, 132, 4, 1, 167, 255, 101, 27, 156, 0, 7]
abbrev dktX8_blowing_7 : List UInt8 := dkwX8_blowing_7 ++ dktX8_blowing_8
def dkwX8_blowing_6 : List UInt8 := [96, 46, 160, 0, 7, 4, 167, 0, 4, 3, 54, 6, 132, 7, 1, 167, 255, 195, 21, 6, 154, 0, 6]
abbrev dktX8_blowing_6 : List UInt8 := dkwX8_blowing_6 ++ dktX8_blowing_7
def dkwX8_blowing_5 : List UInt8 := [180, 0, 84, 16, 52, 5, 21, 7, 104, 96, 46, 46, 42, 180, 0, 84, 16, 52, 5, 21, 7, 104, 96, 4]
abbrev dktX8_blowing_5 : List UInt8 := dkwX8_blowing_5 ++ dktX8_blowing_6
def dkwX8_blowing_4 : List UInt8 := [54, 7, 21, 7, 42, 180, 0, 84, 16, 51, 46, 162, 0, 55, 21, 6, 153, 0, 41, 42, 180, 0, 93, 42]
abbrev dktX8_blowing_4 : List UInt8 := dkwX8_blowing_4 ++ dktX8_blowing_5
def dkwX8_blowing_3 : List UInt8 := [100, 21, 5, 7, 112, 182, 1, 83, 21, 5, 7, 108, 54, 5, 132, 6, 1, 167, 255, 213, 4, 54, 6, 3]
abbrev dktX8_blowing_3 : List UInt8 := dkwX8_blowing_3 ++ dktX8_blowing_4
def dkwX8_blowing_2 : List UInt8 := [42, 180, 0, 13, 5, 46, 162, 0, 38, 42, 42, 182, 1, 90, 21, 6, 42, 180, 0, 84, 16, 50, 46, 4]
abbrev dktX8_blowing_2 : List UInt8 := dkwX8_blowing_2 ++ dktX8_blowing_3
def dkwX8_blowing_1 : List UInt8 := [3, 62, 3, 54, 4, 21, 4, 28, 162, 0, 155, 42, 182, 1, 77, 21, 4, 54, 5, 3, 54, 6, 21, 6]
abbrev dktX8_blowing_1 : List UInt8 := dkwX8_blowing_1 ++ dktX8_blowing_2
def dkwX8_blowing_0 : List UInt8 := [4, 61, 3, 62, 29, 42, 180, 0, 13, 5, 46, 162, 0, 13, 28, 7, 104, 61, 132, 3, 1, 167, 255, 239]
abbrev dktX8_blowing_0 : List UInt8 := dkwX8_blowing_0 ++ dktX8_blowing_1
theorem dksX8_blowing_0 : cX8_blowing.data.toList.drop 0 = dktX8_blowing_0 := by decide +kernel
theorem dksX8_blowing_1 : cX8_blowing.data.toList.drop 24 = dktX8_blowing_1 := dk_seg dksX8_blowing_0 24 rfl rfl
theorem dksX8_blowing_2 : cX8_blowing.data.toList.drop 48 = dktX8_blowing_2 := dk_seg dksX8_blowing_1 24 rfl rfl
theorem dksX8_blowing_3 : cX8_blowing.data.toList.drop 72 = dktX8_blowing_3 := dk_seg dksX8_blowing_2 24 rfl rfl
theorem dksX8_blowing_4 : cX8_blowing.data.toList.drop 96 = dktX8_blowing_4 := dk_seg dksX8_blowing_3 24 rfl rfl
theorem dksX8_blowing_5 : cX8_blowing.data.toList.drop 120 = dktX8_blowing_5 := dk_seg dksX8_blowing_4 24 rfl rfl
theorem dksX8_blowing_6 : cX8_blowing.data.toList.drop 144 = dktX8_blowing_6 := dk_seg dksX8_blowing_5 24 rfl rfl
theorem dksX8_blowing_7 : cX8_blowing.data.toList.drop 167 = dktX8_blowing_7 := dk_seg dksX8_blowing_6 23 rfl rfl
theorem dksX8_blowing_8 : cX8_blowing.data.toList.drop 191 = dktX8_blowing_8 := dk_seg dksX8_blowing_7 24 rfl rfl
theorem dX8_blowing_0 : decode cX8_blowing 0 = .ok (.iconst 1, 1) := dk_4 (dk_at dksX8_blowing_0 0 rfl rfl)
theorem dX8_blowing_1 : decode cX8_blowing 1 = .ok (.istore_n 2, 1) := dk_61 (dk_at dksX8_blowing_0 1 rfl rfl)
theorem dX8_blowing_2 : decode cX8_blowing 2 = .ok (.iconst 0, 1) := dk_3 (dk_at dksX8_blowing_0 2 rfl rfl)
theorem dX8_blowing_3 : decode cX8_blowing 3 = .ok (.istore_n 3, 1) := dk_62 (dk_at dksX8_blowing_0 3 rfl rfl)
theorem dX8_blowing_4 : decode cX8_blowing 4 = .ok (.iload_n 3, 1) := dk_29 (dk_at dksX8_blowing_0 4 rfl rfl)
theorem dX8_blowing_5 : decode cX8_blowing 5 = .ok (.aload_n 0, 1) := dk_42 (dk_at dksX8_blowing_0 5 rfl rfl)
theorem dX8_blowing_6 : decode cX8_blowing 6 = .ok (.getfield 13, 3) := dk_180 0 13 (dk_at dksX8_blowing_0 6 rfl rfl)
theorem dX8_blowing_9 : decode cX8_blowing 9 = .ok (.iconst 2, 1) := dk_5 (dk_at dksX8_blowing_0 9 rfl rfl)
theorem dX8_blowing_10 : decode cX8_blowing 10 = .ok (.iaload, 1) := dk_46 (dk_at dksX8_blowing_0 10 rfl rfl)
theorem dX8_blowing_11 : decode cX8_blowing 11 = .ok (.if_icmp .ge 13, 3) := dk_162 0 13 (dk_at dksX8_blowing_0 11 rfl rfl)
theorem dX8_blowing_14 : decode cX8_blowing 14 = .ok (.iload_n 2, 1) := dk_28 (dk_at dksX8_blowing_0 14 rfl rfl)
theorem dX8_blowing_15 : decode cX8_blowing 15 = .ok (.iconst 4, 1) := dk_7 (dk_at dksX8_blowing_0 15 rfl rfl)
theorem dX8_blowing_16 : decode cX8_blowing 16 = .ok (.imul, 1) := dk_104 (dk_at dksX8_blowing_0 16 rfl rfl)
theorem dX8_blowing_17 : decode cX8_blowing 17 = .ok (.istore_n 2, 1) := dk_61 (dk_at dksX8_blowing_0 17 rfl rfl)
theorem dX8_blowing_18 : decode cX8_blowing 18 = .ok (.iinc 3 1, 3) := dk_132 3 1 (dk_at dksX8_blowing_0 18 rfl rfl)
theorem dX8_blowing_21 : decode cX8_blowing 21 = .ok (.goto (-17), 3) := dk_167 255 239 (dk_at dksX8_blowing_0 21 rfl rfl)
theorem dX8_blowing_24 : decode cX8_blowing 24 = .ok (.iconst 0, 1) := dk_3 (dk_at dksX8_blowing_1 0 rfl rfl)
theorem dX8_blowing_25 : decode cX8_blowing 25 = .ok (.istore_n 3, 1) := dk_62 (dk_at dksX8_blowing_1 1 rfl rfl)
theorem dX8_blowing_26 : decode cX8_blowing 26 = .ok (.iconst 0, 1) := dk_3 (dk_at dksX8_blowing_1 2 rfl rfl)
theorem dX8_blowing_27 : decode cX8_blowing 27 = .ok (.istore 4, 2) := dk_54 4 (dk_at dksX8_blowing_1 3 rfl rfl)
theorem dX8_blowing_29 : decode cX8_blowing 29 = .ok (.iload 4, 2) := dk_21 4 (dk_at dksX8_blowing_1 5 rfl rfl)
theorem dX8_blowing_31 : decode cX8_blowing 31 = .ok (.iload_n 2, 1) := dk_28 (dk_at dksX8_blowing_1 7 rfl rfl)
theorem dX8_blowing_32 : decode cX8_blowing 32 = .ok (.if_icmp .ge 155, 3) := dk_162 0 155 (dk_at dksX8_blowing_1 8 rfl rfl)
theorem dX8_blowing_35 : decode cX8_blowing 35 = .ok (.aload_n 0, 1) := dk_42 (dk_at dksX8_blowing_1 11 rfl rfl)
theorem dX8_blowing_36 : decode cX8_blowing 36 = .ok (.invokevirtual 333, 3) := dk_182 1 77 (dk_at dksX8_blowing_1 12 rfl rfl)
theorem dX8_blowing_39 : decode cX8_blowing 39 = .ok (.iload 4, 2) := dk_21 4 (dk_at dksX8_blowing_1 15 rfl rfl)
theorem dX8_blowing_41 : decode cX8_blowing 41 = .ok (.istore 5, 2) := dk_54 5 (dk_at dksX8_blowing_1 17 rfl rfl)
theorem dX8_blowing_43 : decode cX8_blowing 43 = .ok (.iconst 0, 1) := dk_3 (dk_at dksX8_blowing_1 19 rfl rfl)
theorem dX8_blowing_44 : decode cX8_blowing 44 = .ok (.istore 6, 2) := dk_54 6 (dk_at dksX8_blowing_1 20 rfl rfl)
theorem dX8_blowing_46 : decode cX8_blowing 46 = .ok (.iload 6, 2) := dk_21 6 (dk_at dksX8_blowing_1 22 rfl rfl)
theorem dX8_blowing_48 : decode cX8_blowing 48 = .ok (.aload_n 0, 1) := dk_42 (dk_at dksX8_blowing_2 0 rfl rfl)
theorem dX8_blowing_49 : decode cX8_blowing 49 = .ok (.getfield 13, 3) := dk_180 0 13 (dk_at dksX8_blowing_2 1 rfl rfl)
theorem dX8_blowing_52 : decode cX8_blowing 52 = .ok (.iconst 2, 1) := dk_5 (dk_at dksX8_blowing_2 4 rfl rfl)
theorem dX8_blowing_53 : decode cX8_blowing 53 = .ok (.iaload, 1) := dk_46 (dk_at dksX8_blowing_2 5 rfl rfl)
theorem dX8_blowing_54 : decode cX8_blowing 54 = .ok (.if_icmp .ge 38, 3) := dk_162 0 38 (dk_at dksX8_blowing_2 6 rfl rfl)
theorem dX8_blowing_57 : decode cX8_blowing 57 = .ok (.aload_n 0, 1) := dk_42 (dk_at dksX8_blowing_2 9 rfl rfl)
theorem dX8_blowing_58 : decode cX8_blowing 58 = .ok (.aload_n 0, 1) := dk_42 (dk_at dksX8_blowing_2 10 rfl rfl)
theorem dX8_blowing_59 : decode cX8_blowing 59 = .ok (.invokevirtual 346, 3) := dk_182 1 90 (dk_at dksX8_blowing_2 11 rfl rfl)
theorem dX8_blowing_62 : decode cX8_blowing 62 = .ok (.iload 6, 2) := dk_21 6 (dk_at dksX8_blowing_2 14 rfl rfl)
theorem dX8_blowing_64 : decode cX8_blowing 64 = .ok (.aload_n 0, 1) := dk_42 (dk_at dksX8_blowing_2 16 rfl rfl)
theorem dX8_blowing_65 : decode cX8_blowing 65 = .ok (.getfield 84, 3) := dk_180 0 84 (dk_at dksX8_blowing_2 17 rfl rfl)
theorem dX8_blowing_68 : decode cX8_blowing 68 = .ok (.bipush 50, 2) := dk_16 50 (dk_at dksX8_blowing_2 20 rfl rfl)
theorem dX8_blowing_70 : decode cX8_blowing 70 = .ok (.iaload, 1) := dk_46 (dk_at dksX8_blowing_2 22 rfl rfl)
theorem dX8_blowing_71 : decode cX8_blowing 71 = .ok (.iconst 1, 1) := dk_4 (dk_at dksX8_blowing_2 23 rfl rfl)
theorem dX8_blowing_72 : decode cX8_blowing 72 = .ok (.isub, 1) := dk_100 (dk_at dksX8_blowing_3 0 rfl rfl)
theorem dX8_blowing_73 : decode cX8_blowing 73 = .ok (.iload 5, 2) := dk_21 5 (dk_at dksX8_blowing_3 1 rfl rfl)
theorem dX8_blowing_75 : decode cX8_blowing 75 = .ok (.iconst 4, 1) := dk_7 (dk_at dksX8_blowing_3 3 rfl rfl)
theorem dX8_blowing_76 : decode cX8_blowing 76 = .ok (.irem, 1) := dk_112 (dk_at dksX8_blowing_3 4 rfl rfl)
theorem dX8_blowing_77 : decode cX8_blowing 77 = .ok (.invokevirtual 339, 3) := dk_182 1 83 (dk_at dksX8_blowing_3 5 rfl rfl)
theorem dX8_blowing_80 : decode cX8_blowing 80 = .ok (.iload 5, 2) := dk_21 5 (dk_at dksX8_blowing_3 8 rfl rfl)
theorem dX8_blowing_82 : decode cX8_blowing 82 = .ok (.iconst 4, 1) := dk_7 (dk_at dksX8_blowing_3 10 rfl rfl)
theorem dX8_blowing_83 : decode cX8_blowing 83 = .ok (.idiv, 1) := dk_108 (dk_at dksX8_blowing_3 11 rfl rfl)
theorem dX8_blowing_84 : decode cX8_blowing 84 = .ok (.istore 5, 2) := dk_54 5 (dk_at dksX8_blowing_3 12 rfl rfl)
theorem dX8_blowing_86 : decode cX8_blowing 86 = .ok (.iinc 6 1, 3) := dk_132 6 1 (dk_at dksX8_blowing_3 14 rfl rfl)
theorem dX8_blowing_89 : decode cX8_blowing 89 = .ok (.goto (-43), 3) := dk_167 255 213 (dk_at dksX8_blowing_3 17 rfl rfl)
theorem dX8_blowing_92 : decode cX8_blowing 92 = .ok (.iconst 1, 1) := dk_4 (dk_at dksX8_blowing_3 20 rfl rfl)
theorem dX8_blowing_93 : decode cX8_blowing 93 = .ok (.istore 6, 2) := dk_54 6 (dk_at dksX8_blowing_3 21 rfl rfl)
theorem dX8_blowing_95 : decode cX8_blowing 95 = .ok (.iconst 0, 1) := dk_3 (dk_at dksX8_blowing_3 23 rfl rfl)
theorem dX8_blowing_96 : decode cX8_blowing 96 = .ok (.istore 7, 2) := dk_54 7 (dk_at dksX8_blowing_4 0 rfl rfl)
theorem dX8_blowing_98 : decode cX8_blowing 98 = .ok (.iload 7, 2) := dk_21 7 (dk_at dksX8_blowing_4 2 rfl rfl)
theorem dX8_blowing_100 : decode cX8_blowing 100 = .ok (.aload_n 0, 1) := dk_42 (dk_at dksX8_blowing_4 4 rfl rfl)
theorem dX8_blowing_101 : decode cX8_blowing 101 = .ok (.getfield 84, 3) := dk_180 0 84 (dk_at dksX8_blowing_4 5 rfl rfl)
theorem dX8_blowing_104 : decode cX8_blowing 104 = .ok (.bipush 51, 2) := dk_16 51 (dk_at dksX8_blowing_4 8 rfl rfl)
theorem dX8_blowing_106 : decode cX8_blowing 106 = .ok (.iaload, 1) := dk_46 (dk_at dksX8_blowing_4 10 rfl rfl)
theorem dX8_blowing_107 : decode cX8_blowing 107 = .ok (.if_icmp .ge 55, 3) := dk_162 0 55 (dk_at dksX8_blowing_4 11 rfl rfl)
theorem dX8_blowing_110 : decode cX8_blowing 110 = .ok (.iload 6, 2) := dk_21 6 (dk_at dksX8_blowing_4 14 rfl rfl)
theorem dX8_blowing_112 : decode cX8_blowing 112 = .ok (.ifCond .eq 41, 3) := dk_153 0 41 (dk_at dksX8_blowing_4 16 rfl rfl)
theorem dX8_blowing_115 : decode cX8_blowing 115 = .ok (.aload_n 0, 1) := dk_42 (dk_at dksX8_blowing_4 19 rfl rfl)
theorem dX8_blowing_116 : decode cX8_blowing 116 = .ok (.getfield 93, 3) := dk_180 0 93 (dk_at dksX8_blowing_4 20 rfl rfl)
theorem dX8_blowing_119 : decode cX8_blowing 119 = .ok (.aload_n 0, 1) := dk_42 (dk_at dksX8_blowing_4 23 rfl rfl)
theorem dX8_blowing_120 : decode cX8_blowing 120 = .ok (.getfield 84, 3) := dk_180 0 84 (dk_at dksX8_blowing_5 0 rfl rfl)
theorem dX8_blowing_123 : decode cX8_blowing 123 = .ok (.bipush 52, 2) := dk_16 52 (dk_at dksX8_blowing_5 3 rfl rfl)
theorem dX8_blowing_125 : decode cX8_blowing 125 = .ok (.iconst 2, 1) := dk_5 (dk_at dksX8_blowing_5 5 rfl rfl)
theorem dX8_blowing_126 : decode cX8_blowing 126 = .ok (.iload 7, 2) := dk_21 7 (dk_at dksX8_blowing_5 6 rfl rfl)
theorem dX8_blowing_128 : decode cX8_blowing 128 = .ok (.imul, 1) := dk_104 (dk_at dksX8_blowing_5 8 rfl rfl)
theorem dX8_blowing_129 : decode cX8_blowing 129 = .ok (.iadd, 1) := dk_96 (dk_at dksX8_blowing_5 9 rfl rfl)
theorem dX8_blowing_130 : decode cX8_blowing 130 = .ok (.iaload, 1) := dk_46 (dk_at dksX8_blowing_5 10 rfl rfl)
theorem dX8_blowing_131 : decode cX8_blowing 131 = .ok (.iaload, 1) := dk_46 (dk_at dksX8_blowing_5 11 rfl rfl)
theorem dX8_blowing_132 : decode cX8_blowing 132 = .ok (.aload_n 0, 1) := dk_42 (dk_at dksX8_blowing_5 12 rfl rfl)
theorem dX8_blowing_133 : decode cX8_blowing 133 = .ok (.getfield 84, 3) := dk_180 0 84 (dk_at dksX8_blowing_5 13 rfl rfl)
theorem dX8_blowing_136 : decode cX8_blowing 136 = .ok (.bipush 52, 2) := dk_16 52 (dk_at dksX8_blowing_5 16 rfl rfl)
theorem dX8_blowing_138 : decode cX8_blowing 138 = .ok (.iconst 2, 1) := dk_5 (dk_at dksX8_blowing_5 18 rfl rfl)
theorem dX8_blowing_139 : decode cX8_blowing 139 = .ok (.iload 7, 2) := dk_21 7 (dk_at dksX8_blowing_5 19 rfl rfl)
theorem dX8_blowing_141 : decode cX8_blowing 141 = .ok (.imul, 1) := dk_104 (dk_at dksX8_blowing_5 21 rfl rfl)
theorem dX8_blowing_142 : decode cX8_blowing 142 = .ok (.iadd, 1) := dk_96 (dk_at dksX8_blowing_5 22 rfl rfl)
theorem dX8_blowing_143 : decode cX8_blowing 143 = .ok (.iconst 1, 1) := dk_4 (dk_at dksX8_blowing_5 23 rfl rfl)
theorem dX8_blowing_144 : decode cX8_blowing 144 = .ok (.iadd, 1) := dk_96 (dk_at dksX8_blowing_6 0 rfl rfl)
theorem dX8_blowing_145 : decode cX8_blowing 145 = .ok (.iaload, 1) := dk_46 (dk_at dksX8_blowing_6 1 rfl rfl)
theorem dX8_blowing_146 : decode cX8_blowing 146 = .ok (.if_icmp .ne 7, 3) := dk_160 0 7 (dk_at dksX8_blowing_6 2 rfl rfl)
theorem dX8_blowing_149 : decode cX8_blowing 149 = .ok (.iconst 1, 1) := dk_4 (dk_at dksX8_blowing_6 5 rfl rfl)
theorem dX8_blowing_150 : decode cX8_blowing 150 = .ok (.goto 4, 3) := dk_167 0 4 (dk_at dksX8_blowing_6 6 rfl rfl)
theorem dX8_blowing_153 : decode cX8_blowing 153 = .ok (.iconst 0, 1) := dk_3 (dk_at dksX8_blowing_6 9 rfl rfl)
theorem dX8_blowing_154 : decode cX8_blowing 154 = .ok (.istore 6, 2) := dk_54 6 (dk_at dksX8_blowing_6 10 rfl rfl)
theorem dX8_blowing_156 : decode cX8_blowing 156 = .ok (.iinc 7 1, 3) := dk_132 7 1 (dk_at dksX8_blowing_6 12 rfl rfl)
theorem dX8_blowing_159 : decode cX8_blowing 159 = .ok (.goto (-61), 3) := dk_167 255 195 (dk_at dksX8_blowing_6 15 rfl rfl)
theorem dX8_blowing_162 : decode cX8_blowing 162 = .ok (.iload 6, 2) := dk_21 6 (dk_at dksX8_blowing_6 18 rfl rfl)
theorem dX8_blowing_164 : decode cX8_blowing 164 = .ok (.ifCond .ne 6, 3) := dk_154 0 6 (dk_at dksX8_blowing_6 20 rfl rfl)
theorem dX8_blowing_167 : decode cX8_blowing 167 = .ok (.goto 14, 3) := dk_167 0 14 (dk_at dksX8_blowing_7 0 rfl rfl)
theorem dX8_blowing_170 : decode cX8_blowing 170 = .ok (.iload_n 3, 1) := dk_29 (dk_at dksX8_blowing_7 3 rfl rfl)
theorem dX8_blowing_171 : decode cX8_blowing 171 = .ok (.iload_n 1, 1) := dk_27 (dk_at dksX8_blowing_7 4 rfl rfl)
theorem dX8_blowing_172 : decode cX8_blowing 172 = .ok (.if_icmp .ne 6, 3) := dk_160 0 6 (dk_at dksX8_blowing_7 5 rfl rfl)
theorem dX8_blowing_175 : decode cX8_blowing 175 = .ok (.iload 4, 2) := dk_21 4 (dk_at dksX8_blowing_7 8 rfl rfl)
theorem dX8_blowing_177 : decode cX8_blowing 177 = .ok (.ireturn, 1) := dk_172 (dk_at dksX8_blowing_7 10 rfl rfl)
theorem dX8_blowing_178 : decode cX8_blowing 178 = .ok (.iinc 3 1, 3) := dk_132 3 1 (dk_at dksX8_blowing_7 11 rfl rfl)
theorem dX8_blowing_181 : decode cX8_blowing 181 = .ok (.iinc 4 1, 3) := dk_132 4 1 (dk_at dksX8_blowing_7 14 rfl rfl)
theorem dX8_blowing_184 : decode cX8_blowing 184 = .ok (.goto (-155), 3) := dk_167 255 101 (dk_at dksX8_blowing_7 17 rfl rfl)
theorem dX8_blowing_187 : decode cX8_blowing 187 = .ok (.iload_n 1, 1) := dk_27 (dk_at dksX8_blowing_7 20 rfl rfl)
theorem dX8_blowing_188 : decode cX8_blowing 188 = .ok (.ifCond .ge 7, 3) := dk_156 0 7 (dk_at dksX8_blowing_7 21 rfl rfl)
theorem dX8_blowing_191 : decode cX8_blowing 191 = .ok (.iload_n 3, 1) := dk_29 (dk_at dksX8_blowing_8 0 rfl rfl)
theorem dX8_blowing_192 : decode cX8_blowing 192 = .ok (.goto 4, 3) := dk_167 0 4 (dk_at dksX8_blowing_8 1 rfl rfl)
theorem dX8_blowing_195 : decode cX8_blowing 195 = .ok (.iconst (-1), 1) := dk_2 (dk_at dksX8_blowing_8 4 rfl rfl)
theorem dX8_blowing_196 : decode cX8_blowing 196 = .ok (.ireturn, 1) := dk_172 (dk_at dksX8_blowing_8 5 rfl rfl)
abbrev cX8_windsAt : ByteArray := prog_30_method_80_code
def yX8_windsAt : MethodName := ⟨RX8, "windsAt", "(I)I"⟩
def dkwX8_windsAt_1 : List UInt8 := [153, 0, 7, 27, 156, 0, 7, 2, 167, 0, 8, 42, 27, 182, 1, 140, 172]
abbrev dktX8_windsAt_1 : List UInt8 := dkwX8_windsAt_1 ++ []
def dkwX8_windsAt_0 : List UInt8 := [42, 3, 181, 0, 109, 42, 180, 0, 13, 5, 46, 16, 6, 163, 0, 17, 42, 180, 0, 84, 16, 50, 46]
abbrev dktX8_windsAt_0 : List UInt8 := dkwX8_windsAt_0 ++ dktX8_windsAt_1
theorem dksX8_windsAt_0 : cX8_windsAt.data.toList.drop 0 = dktX8_windsAt_0 := by decide +kernel
theorem dksX8_windsAt_1 : cX8_windsAt.data.toList.drop 23 = dktX8_windsAt_1 := dk_seg dksX8_windsAt_0 23 rfl rfl
theorem dX8_windsAt_0 : decode cX8_windsAt 0 = .ok (.aload_n 0, 1) := dk_42 (dk_at dksX8_windsAt_0 0 rfl rfl)
theorem dX8_windsAt_1 : decode cX8_windsAt 1 = .ok (.iconst 0, 1) := dk_3 (dk_at dksX8_windsAt_0 1 rfl rfl)
theorem dX8_windsAt_2 : decode cX8_windsAt 2 = .ok (.putfield 109, 3) := dk_181 0 109 (dk_at dksX8_windsAt_0 2 rfl rfl)
theorem dX8_windsAt_5 : decode cX8_windsAt 5 = .ok (.aload_n 0, 1) := dk_42 (dk_at dksX8_windsAt_0 5 rfl rfl)
theorem dX8_windsAt_6 : decode cX8_windsAt 6 = .ok (.getfield 13, 3) := dk_180 0 13 (dk_at dksX8_windsAt_0 6 rfl rfl)
theorem dX8_windsAt_9 : decode cX8_windsAt 9 = .ok (.iconst 2, 1) := dk_5 (dk_at dksX8_windsAt_0 9 rfl rfl)
theorem dX8_windsAt_10 : decode cX8_windsAt 10 = .ok (.iaload, 1) := dk_46 (dk_at dksX8_windsAt_0 10 rfl rfl)
theorem dX8_windsAt_11 : decode cX8_windsAt 11 = .ok (.bipush 6, 2) := dk_16 6 (dk_at dksX8_windsAt_0 11 rfl rfl)
theorem dX8_windsAt_13 : decode cX8_windsAt 13 = .ok (.if_icmp .gt 17, 3) := dk_163 0 17 (dk_at dksX8_windsAt_0 13 rfl rfl)
theorem dX8_windsAt_16 : decode cX8_windsAt 16 = .ok (.aload_n 0, 1) := dk_42 (dk_at dksX8_windsAt_0 16 rfl rfl)
theorem dX8_windsAt_17 : decode cX8_windsAt 17 = .ok (.getfield 84, 3) := dk_180 0 84 (dk_at dksX8_windsAt_0 17 rfl rfl)
theorem dX8_windsAt_20 : decode cX8_windsAt 20 = .ok (.bipush 50, 2) := dk_16 50 (dk_at dksX8_windsAt_0 20 rfl rfl)
theorem dX8_windsAt_22 : decode cX8_windsAt 22 = .ok (.iaload, 1) := dk_46 (dk_at dksX8_windsAt_0 22 rfl rfl)
theorem dX8_windsAt_23 : decode cX8_windsAt 23 = .ok (.ifCond .eq 7, 3) := dk_153 0 7 (dk_at dksX8_windsAt_1 0 rfl rfl)
theorem dX8_windsAt_26 : decode cX8_windsAt 26 = .ok (.iload_n 1, 1) := dk_27 (dk_at dksX8_windsAt_1 3 rfl rfl)
theorem dX8_windsAt_27 : decode cX8_windsAt 27 = .ok (.ifCond .ge 7, 3) := dk_156 0 7 (dk_at dksX8_windsAt_1 4 rfl rfl)
theorem dX8_windsAt_30 : decode cX8_windsAt 30 = .ok (.iconst (-1), 1) := dk_2 (dk_at dksX8_windsAt_1 7 rfl rfl)
theorem dX8_windsAt_31 : decode cX8_windsAt 31 = .ok (.goto 8, 3) := dk_167 0 8 (dk_at dksX8_windsAt_1 8 rfl rfl)
theorem dX8_windsAt_34 : decode cX8_windsAt 34 = .ok (.aload_n 0, 1) := dk_42 (dk_at dksX8_windsAt_1 11 rfl rfl)
theorem dX8_windsAt_35 : decode cX8_windsAt 35 = .ok (.iload_n 1, 1) := dk_27 (dk_at dksX8_windsAt_1 12 rfl rfl)
theorem dX8_windsAt_36 : decode cX8_windsAt 36 = .ok (.invokevirtual 396, 3) := dk_182 1 140 (dk_at dksX8_windsAt_1 13 rfl rfl)
theorem dX8_windsAt_39 : decode cX8_windsAt 39 = .ok (.ireturn, 1) := dk_172 (dk_at dksX8_windsAt_1 16 rfl rfl)
abbrev cX8_lots : ByteArray := prog_30_method_82_code
def yX8_lots : MethodName := ⟨RX8, "lots", "(IIII)I"⟩
def dkwX8_lots_11 : List UInt8 := [184, 1, 123, 132, 6, 1, 167, 255, 65, 21, 5, 172]
abbrev dktX8_lots_11 : List UInt8 := dkwX8_lots_11 ++ []
def dkwX8_lots_10 : List UInt8 := [96, 46, 100, 96, 54, 5, 132, 7, 1, 167, 255, 201, 42, 180, 0, 87, 3, 42, 180, 0, 84, 3]
abbrev dktX8_lots_10 : List UInt8 := dkwX8_lots_10 ++ dktX8_lots_11
def dkwX8_lots_9 : List UInt8 := [21, 7, 46, 167, 0, 24, 42, 180, 0, 84, 16, 6, 21, 7, 96, 46, 42, 180, 0, 87, 16, 6, 21, 7]
abbrev dktX8_lots_9 : List UInt8 := dkwX8_lots_9 ++ dktX8_lots_10
def dkwX8_lots_8 : List UInt8 := [54, 7, 21, 7, 42, 180, 0, 13, 8, 46, 162, 0, 50, 21, 5, 21, 4, 154, 0, 13, 42, 180, 0, 84]
abbrev dktX8_lots_8 : List UInt8 := dkwX8_lots_8 ++ dktX8_lots_9
def dkwX8_lots_7 : List UInt8 := [182, 1, 80, 182, 1, 83, 132, 8, 1, 167, 255, 177, 42, 182, 1, 99, 132, 7, 1, 167, 255, 154, 3]
abbrev dktX8_lots_7 : List UInt8 := dkwX8_lots_7 ++ dktX8_lots_8
def dkwX8_lots_6 : List UInt8 := [21, 9, 153, 0, 11, 42, 7, 182, 1, 154, 167, 0, 16, 42, 21, 8, 42, 180, 0, 84, 16, 50, 46]
abbrev dktX8_lots_6 : List UInt8 := dkwX8_lots_6 ++ dktX8_lots_7
def dkwX8_lots_5 : List UInt8 := [162, 0, 7, 4, 167, 0, 4, 3, 54, 9, 42, 42, 182, 1, 90, 21, 8, 42, 180, 0, 84, 16, 50, 46]
abbrev dktX8_lots_5 : List UInt8 := dkwX8_lots_5 ++ dktX8_lots_6
def dkwX8_lots_4 : List UInt8 := [21, 8, 42, 180, 0, 13, 5, 46, 162, 0, 74, 42, 16, 10, 182, 1, 154, 42, 180, 0, 13, 7, 46]
abbrev dktX8_lots_4 : List UInt8 := dkwX8_lots_4 ++ dktX8_lots_5
def dkwX8_lots_3 : List UInt8 := [54, 6, 21, 6, 28, 162, 0, 191, 3, 54, 7, 21, 7, 29, 162, 0, 102, 42, 182, 1, 77, 3, 54, 8]
abbrev dktX8_lots_3 : List UInt8 := dkwX8_lots_3 ++ dktX8_lots_4
def dkwX8_lots_2 : List UInt8 := [172, 42, 27, 133, 181, 1, 143, 42, 180, 0, 84, 3, 42, 180, 0, 87, 3, 184, 1, 123, 3, 54, 5, 3]
abbrev dktX8_lots_2 : List UInt8 := dkwX8_lots_2 ++ dktX8_lots_3
def dkwX8_lots_1 : List UInt8 := [153, 0, 23, 29, 4, 16, 30, 184, 0, 235, 153, 0, 13, 21, 4, 3, 4, 184, 0, 235, 154, 0, 5, 2]
abbrev dktX8_lots_1 : List UInt8 := dkwX8_lots_1 ++ dktX8_lots_2
def dkwX8_lots_0 : List UInt8 := [42, 3, 181, 0, 109, 27, 3, 17, 39, 15, 184, 0, 235, 153, 0, 33, 28, 4, 16, 20, 184, 0, 235]
abbrev dktX8_lots_0 : List UInt8 := dkwX8_lots_0 ++ dktX8_lots_1
theorem dksX8_lots_0 : cX8_lots.data.toList.drop 0 = dktX8_lots_0 := by decide +kernel
theorem dksX8_lots_1 : cX8_lots.data.toList.drop 23 = dktX8_lots_1 := dk_seg dksX8_lots_0 23 rfl rfl
theorem dksX8_lots_2 : cX8_lots.data.toList.drop 47 = dktX8_lots_2 := dk_seg dksX8_lots_1 24 rfl rfl
theorem dksX8_lots_3 : cX8_lots.data.toList.drop 71 = dktX8_lots_3 := dk_seg dksX8_lots_2 24 rfl rfl
theorem dksX8_lots_4 : cX8_lots.data.toList.drop 95 = dktX8_lots_4 := dk_seg dksX8_lots_3 24 rfl rfl
theorem dksX8_lots_5 : cX8_lots.data.toList.drop 118 = dktX8_lots_5 := dk_seg dksX8_lots_4 23 rfl rfl
theorem dksX8_lots_6 : cX8_lots.data.toList.drop 142 = dktX8_lots_6 := dk_seg dksX8_lots_5 24 rfl rfl
theorem dksX8_lots_7 : cX8_lots.data.toList.drop 165 = dktX8_lots_7 := dk_seg dksX8_lots_6 23 rfl rfl
theorem dksX8_lots_8 : cX8_lots.data.toList.drop 188 = dktX8_lots_8 := dk_seg dksX8_lots_7 23 rfl rfl
theorem dksX8_lots_9 : cX8_lots.data.toList.drop 212 = dktX8_lots_9 := dk_seg dksX8_lots_8 24 rfl rfl
theorem dksX8_lots_10 : cX8_lots.data.toList.drop 236 = dktX8_lots_10 := dk_seg dksX8_lots_9 24 rfl rfl
theorem dksX8_lots_11 : cX8_lots.data.toList.drop 258 = dktX8_lots_11 := dk_seg dksX8_lots_10 22 rfl rfl
theorem dX8_lots_0 : decode cX8_lots 0 = .ok (.aload_n 0, 1) := dk_42 (dk_at dksX8_lots_0 0 rfl rfl)
theorem dX8_lots_1 : decode cX8_lots 1 = .ok (.iconst 0, 1) := dk_3 (dk_at dksX8_lots_0 1 rfl rfl)
theorem dX8_lots_2 : decode cX8_lots 2 = .ok (.putfield 109, 3) := dk_181 0 109 (dk_at dksX8_lots_0 2 rfl rfl)
theorem dX8_lots_5 : decode cX8_lots 5 = .ok (.iload_n 1, 1) := dk_27 (dk_at dksX8_lots_0 5 rfl rfl)
theorem dX8_lots_6 : decode cX8_lots 6 = .ok (.iconst 0, 1) := dk_3 (dk_at dksX8_lots_0 6 rfl rfl)
theorem dX8_lots_7 : decode cX8_lots 7 = .ok (.sipush 9999, 3) := dk_17 39 15 (dk_at dksX8_lots_0 7 rfl rfl)
theorem dX8_lots_10 : decode cX8_lots 10 = .ok (.invokestatic 235, 3) := dk_184 0 235 (dk_at dksX8_lots_0 10 rfl rfl)
theorem dX8_lots_13 : decode cX8_lots 13 = .ok (.ifCond .eq 33, 3) := dk_153 0 33 (dk_at dksX8_lots_0 13 rfl rfl)
theorem dX8_lots_16 : decode cX8_lots 16 = .ok (.iload_n 2, 1) := dk_28 (dk_at dksX8_lots_0 16 rfl rfl)
theorem dX8_lots_17 : decode cX8_lots 17 = .ok (.iconst 1, 1) := dk_4 (dk_at dksX8_lots_0 17 rfl rfl)
theorem dX8_lots_18 : decode cX8_lots 18 = .ok (.bipush 20, 2) := dk_16 20 (dk_at dksX8_lots_0 18 rfl rfl)
theorem dX8_lots_20 : decode cX8_lots 20 = .ok (.invokestatic 235, 3) := dk_184 0 235 (dk_at dksX8_lots_0 20 rfl rfl)
theorem dX8_lots_23 : decode cX8_lots 23 = .ok (.ifCond .eq 23, 3) := dk_153 0 23 (dk_at dksX8_lots_1 0 rfl rfl)
theorem dX8_lots_26 : decode cX8_lots 26 = .ok (.iload_n 3, 1) := dk_29 (dk_at dksX8_lots_1 3 rfl rfl)
theorem dX8_lots_27 : decode cX8_lots 27 = .ok (.iconst 1, 1) := dk_4 (dk_at dksX8_lots_1 4 rfl rfl)
theorem dX8_lots_28 : decode cX8_lots 28 = .ok (.bipush 30, 2) := dk_16 30 (dk_at dksX8_lots_1 5 rfl rfl)
theorem dX8_lots_30 : decode cX8_lots 30 = .ok (.invokestatic 235, 3) := dk_184 0 235 (dk_at dksX8_lots_1 7 rfl rfl)
theorem dX8_lots_33 : decode cX8_lots 33 = .ok (.ifCond .eq 13, 3) := dk_153 0 13 (dk_at dksX8_lots_1 10 rfl rfl)
theorem dX8_lots_36 : decode cX8_lots 36 = .ok (.iload 4, 2) := dk_21 4 (dk_at dksX8_lots_1 13 rfl rfl)
theorem dX8_lots_38 : decode cX8_lots 38 = .ok (.iconst 0, 1) := dk_3 (dk_at dksX8_lots_1 15 rfl rfl)
theorem dX8_lots_39 : decode cX8_lots 39 = .ok (.iconst 1, 1) := dk_4 (dk_at dksX8_lots_1 16 rfl rfl)
theorem dX8_lots_40 : decode cX8_lots 40 = .ok (.invokestatic 235, 3) := dk_184 0 235 (dk_at dksX8_lots_1 17 rfl rfl)
theorem dX8_lots_43 : decode cX8_lots 43 = .ok (.ifCond .ne 5, 3) := dk_154 0 5 (dk_at dksX8_lots_1 20 rfl rfl)
theorem dX8_lots_46 : decode cX8_lots 46 = .ok (.iconst (-1), 1) := dk_2 (dk_at dksX8_lots_1 23 rfl rfl)
theorem dX8_lots_47 : decode cX8_lots 47 = .ok (.ireturn, 1) := dk_172 (dk_at dksX8_lots_2 0 rfl rfl)
theorem dX8_lots_48 : decode cX8_lots 48 = .ok (.aload_n 0, 1) := dk_42 (dk_at dksX8_lots_2 1 rfl rfl)
theorem dX8_lots_49 : decode cX8_lots 49 = .ok (.iload_n 1, 1) := dk_27 (dk_at dksX8_lots_2 2 rfl rfl)
theorem dX8_lots_50 : decode cX8_lots 50 = .ok (.i2l, 1) := dk_133 (dk_at dksX8_lots_2 3 rfl rfl)
theorem dX8_lots_51 : decode cX8_lots 51 = .ok (.putfield 399, 3) := dk_181 1 143 (dk_at dksX8_lots_2 4 rfl rfl)
theorem dX8_lots_54 : decode cX8_lots 54 = .ok (.aload_n 0, 1) := dk_42 (dk_at dksX8_lots_2 7 rfl rfl)
theorem dX8_lots_55 : decode cX8_lots 55 = .ok (.getfield 84, 3) := dk_180 0 84 (dk_at dksX8_lots_2 8 rfl rfl)
theorem dX8_lots_58 : decode cX8_lots 58 = .ok (.iconst 0, 1) := dk_3 (dk_at dksX8_lots_2 11 rfl rfl)
theorem dX8_lots_59 : decode cX8_lots 59 = .ok (.aload_n 0, 1) := dk_42 (dk_at dksX8_lots_2 12 rfl rfl)
theorem dX8_lots_60 : decode cX8_lots 60 = .ok (.getfield 87, 3) := dk_180 0 87 (dk_at dksX8_lots_2 13 rfl rfl)
theorem dX8_lots_63 : decode cX8_lots 63 = .ok (.iconst 0, 1) := dk_3 (dk_at dksX8_lots_2 16 rfl rfl)
theorem dX8_lots_64 : decode cX8_lots 64 = .ok (.invokestatic 379, 3) := dk_184 1 123 (dk_at dksX8_lots_2 17 rfl rfl)
theorem dX8_lots_67 : decode cX8_lots 67 = .ok (.iconst 0, 1) := dk_3 (dk_at dksX8_lots_2 20 rfl rfl)
theorem dX8_lots_68 : decode cX8_lots 68 = .ok (.istore 5, 2) := dk_54 5 (dk_at dksX8_lots_2 21 rfl rfl)
theorem dX8_lots_70 : decode cX8_lots 70 = .ok (.iconst 0, 1) := dk_3 (dk_at dksX8_lots_2 23 rfl rfl)
theorem dX8_lots_71 : decode cX8_lots 71 = .ok (.istore 6, 2) := dk_54 6 (dk_at dksX8_lots_3 0 rfl rfl)
theorem dX8_lots_73 : decode cX8_lots 73 = .ok (.iload 6, 2) := dk_21 6 (dk_at dksX8_lots_3 2 rfl rfl)
theorem dX8_lots_75 : decode cX8_lots 75 = .ok (.iload_n 2, 1) := dk_28 (dk_at dksX8_lots_3 4 rfl rfl)
theorem dX8_lots_76 : decode cX8_lots 76 = .ok (.if_icmp .ge 191, 3) := dk_162 0 191 (dk_at dksX8_lots_3 5 rfl rfl)
theorem dX8_lots_79 : decode cX8_lots 79 = .ok (.iconst 0, 1) := dk_3 (dk_at dksX8_lots_3 8 rfl rfl)
theorem dX8_lots_80 : decode cX8_lots 80 = .ok (.istore 7, 2) := dk_54 7 (dk_at dksX8_lots_3 9 rfl rfl)
theorem dX8_lots_82 : decode cX8_lots 82 = .ok (.iload 7, 2) := dk_21 7 (dk_at dksX8_lots_3 11 rfl rfl)
theorem dX8_lots_84 : decode cX8_lots 84 = .ok (.iload_n 3, 1) := dk_29 (dk_at dksX8_lots_3 13 rfl rfl)
theorem dX8_lots_85 : decode cX8_lots 85 = .ok (.if_icmp .ge 102, 3) := dk_162 0 102 (dk_at dksX8_lots_3 14 rfl rfl)
theorem dX8_lots_88 : decode cX8_lots 88 = .ok (.aload_n 0, 1) := dk_42 (dk_at dksX8_lots_3 17 rfl rfl)
theorem dX8_lots_89 : decode cX8_lots 89 = .ok (.invokevirtual 333, 3) := dk_182 1 77 (dk_at dksX8_lots_3 18 rfl rfl)
theorem dX8_lots_92 : decode cX8_lots 92 = .ok (.iconst 0, 1) := dk_3 (dk_at dksX8_lots_3 21 rfl rfl)
theorem dX8_lots_93 : decode cX8_lots 93 = .ok (.istore 8, 2) := dk_54 8 (dk_at dksX8_lots_3 22 rfl rfl)
theorem dX8_lots_95 : decode cX8_lots 95 = .ok (.iload 8, 2) := dk_21 8 (dk_at dksX8_lots_4 0 rfl rfl)
theorem dX8_lots_97 : decode cX8_lots 97 = .ok (.aload_n 0, 1) := dk_42 (dk_at dksX8_lots_4 2 rfl rfl)
theorem dX8_lots_98 : decode cX8_lots 98 = .ok (.getfield 13, 3) := dk_180 0 13 (dk_at dksX8_lots_4 3 rfl rfl)
theorem dX8_lots_101 : decode cX8_lots 101 = .ok (.iconst 2, 1) := dk_5 (dk_at dksX8_lots_4 6 rfl rfl)
theorem dX8_lots_102 : decode cX8_lots 102 = .ok (.iaload, 1) := dk_46 (dk_at dksX8_lots_4 7 rfl rfl)
theorem dX8_lots_103 : decode cX8_lots 103 = .ok (.if_icmp .ge 74, 3) := dk_162 0 74 (dk_at dksX8_lots_4 8 rfl rfl)
theorem dX8_lots_106 : decode cX8_lots 106 = .ok (.aload_n 0, 1) := dk_42 (dk_at dksX8_lots_4 11 rfl rfl)
theorem dX8_lots_107 : decode cX8_lots 107 = .ok (.bipush 10, 2) := dk_16 10 (dk_at dksX8_lots_4 12 rfl rfl)
theorem dX8_lots_109 : decode cX8_lots 109 = .ok (.invokevirtual 410, 3) := dk_182 1 154 (dk_at dksX8_lots_4 14 rfl rfl)
theorem dX8_lots_112 : decode cX8_lots 112 = .ok (.aload_n 0, 1) := dk_42 (dk_at dksX8_lots_4 17 rfl rfl)
theorem dX8_lots_113 : decode cX8_lots 113 = .ok (.getfield 13, 3) := dk_180 0 13 (dk_at dksX8_lots_4 18 rfl rfl)
theorem dX8_lots_116 : decode cX8_lots 116 = .ok (.iconst 4, 1) := dk_7 (dk_at dksX8_lots_4 21 rfl rfl)
theorem dX8_lots_117 : decode cX8_lots 117 = .ok (.iaload, 1) := dk_46 (dk_at dksX8_lots_4 22 rfl rfl)
theorem dX8_lots_118 : decode cX8_lots 118 = .ok (.if_icmp .ge 7, 3) := dk_162 0 7 (dk_at dksX8_lots_5 0 rfl rfl)
theorem dX8_lots_121 : decode cX8_lots 121 = .ok (.iconst 1, 1) := dk_4 (dk_at dksX8_lots_5 3 rfl rfl)
theorem dX8_lots_122 : decode cX8_lots 122 = .ok (.goto 4, 3) := dk_167 0 4 (dk_at dksX8_lots_5 4 rfl rfl)
theorem dX8_lots_125 : decode cX8_lots 125 = .ok (.iconst 0, 1) := dk_3 (dk_at dksX8_lots_5 7 rfl rfl)
theorem dX8_lots_126 : decode cX8_lots 126 = .ok (.istore 9, 2) := dk_54 9 (dk_at dksX8_lots_5 8 rfl rfl)
theorem dX8_lots_128 : decode cX8_lots 128 = .ok (.aload_n 0, 1) := dk_42 (dk_at dksX8_lots_5 10 rfl rfl)
theorem dX8_lots_129 : decode cX8_lots 129 = .ok (.aload_n 0, 1) := dk_42 (dk_at dksX8_lots_5 11 rfl rfl)
theorem dX8_lots_130 : decode cX8_lots 130 = .ok (.invokevirtual 346, 3) := dk_182 1 90 (dk_at dksX8_lots_5 12 rfl rfl)
theorem dX8_lots_133 : decode cX8_lots 133 = .ok (.iload 8, 2) := dk_21 8 (dk_at dksX8_lots_5 15 rfl rfl)
theorem dX8_lots_135 : decode cX8_lots 135 = .ok (.aload_n 0, 1) := dk_42 (dk_at dksX8_lots_5 17 rfl rfl)
theorem dX8_lots_136 : decode cX8_lots 136 = .ok (.getfield 84, 3) := dk_180 0 84 (dk_at dksX8_lots_5 18 rfl rfl)
theorem dX8_lots_139 : decode cX8_lots 139 = .ok (.bipush 50, 2) := dk_16 50 (dk_at dksX8_lots_5 21 rfl rfl)
theorem dX8_lots_141 : decode cX8_lots 141 = .ok (.iaload, 1) := dk_46 (dk_at dksX8_lots_5 23 rfl rfl)
theorem dX8_lots_142 : decode cX8_lots 142 = .ok (.iload 9, 2) := dk_21 9 (dk_at dksX8_lots_6 0 rfl rfl)
theorem dX8_lots_144 : decode cX8_lots 144 = .ok (.ifCond .eq 11, 3) := dk_153 0 11 (dk_at dksX8_lots_6 2 rfl rfl)
theorem dX8_lots_147 : decode cX8_lots 147 = .ok (.aload_n 0, 1) := dk_42 (dk_at dksX8_lots_6 5 rfl rfl)
theorem dX8_lots_148 : decode cX8_lots 148 = .ok (.iconst 4, 1) := dk_7 (dk_at dksX8_lots_6 6 rfl rfl)
theorem dX8_lots_149 : decode cX8_lots 149 = .ok (.invokevirtual 410, 3) := dk_182 1 154 (dk_at dksX8_lots_6 7 rfl rfl)
theorem dX8_lots_152 : decode cX8_lots 152 = .ok (.goto 16, 3) := dk_167 0 16 (dk_at dksX8_lots_6 10 rfl rfl)
theorem dX8_lots_155 : decode cX8_lots 155 = .ok (.aload_n 0, 1) := dk_42 (dk_at dksX8_lots_6 13 rfl rfl)
theorem dX8_lots_156 : decode cX8_lots 156 = .ok (.iload 8, 2) := dk_21 8 (dk_at dksX8_lots_6 14 rfl rfl)
theorem dX8_lots_158 : decode cX8_lots 158 = .ok (.aload_n 0, 1) := dk_42 (dk_at dksX8_lots_6 16 rfl rfl)
theorem dX8_lots_159 : decode cX8_lots 159 = .ok (.getfield 84, 3) := dk_180 0 84 (dk_at dksX8_lots_6 17 rfl rfl)
theorem dX8_lots_162 : decode cX8_lots 162 = .ok (.bipush 50, 2) := dk_16 50 (dk_at dksX8_lots_6 20 rfl rfl)
theorem dX8_lots_164 : decode cX8_lots 164 = .ok (.iaload, 1) := dk_46 (dk_at dksX8_lots_6 22 rfl rfl)
theorem dX8_lots_165 : decode cX8_lots 165 = .ok (.invokevirtual 336, 3) := dk_182 1 80 (dk_at dksX8_lots_7 0 rfl rfl)
theorem dX8_lots_168 : decode cX8_lots 168 = .ok (.invokevirtual 339, 3) := dk_182 1 83 (dk_at dksX8_lots_7 3 rfl rfl)
theorem dX8_lots_171 : decode cX8_lots 171 = .ok (.iinc 8 1, 3) := dk_132 8 1 (dk_at dksX8_lots_7 6 rfl rfl)
theorem dX8_lots_174 : decode cX8_lots 174 = .ok (.goto (-79), 3) := dk_167 255 177 (dk_at dksX8_lots_7 9 rfl rfl)
theorem dX8_lots_177 : decode cX8_lots 177 = .ok (.aload_n 0, 1) := dk_42 (dk_at dksX8_lots_7 12 rfl rfl)
theorem dX8_lots_178 : decode cX8_lots 178 = .ok (.invokevirtual 355, 3) := dk_182 1 99 (dk_at dksX8_lots_7 13 rfl rfl)
theorem dX8_lots_181 : decode cX8_lots 181 = .ok (.iinc 7 1, 3) := dk_132 7 1 (dk_at dksX8_lots_7 16 rfl rfl)
theorem dX8_lots_184 : decode cX8_lots 184 = .ok (.goto (-102), 3) := dk_167 255 154 (dk_at dksX8_lots_7 19 rfl rfl)
theorem dX8_lots_187 : decode cX8_lots 187 = .ok (.iconst 0, 1) := dk_3 (dk_at dksX8_lots_7 22 rfl rfl)
theorem dX8_lots_188 : decode cX8_lots 188 = .ok (.istore 7, 2) := dk_54 7 (dk_at dksX8_lots_8 0 rfl rfl)
theorem dX8_lots_190 : decode cX8_lots 190 = .ok (.iload 7, 2) := dk_21 7 (dk_at dksX8_lots_8 2 rfl rfl)
theorem dX8_lots_192 : decode cX8_lots 192 = .ok (.aload_n 0, 1) := dk_42 (dk_at dksX8_lots_8 4 rfl rfl)
theorem dX8_lots_193 : decode cX8_lots 193 = .ok (.getfield 13, 3) := dk_180 0 13 (dk_at dksX8_lots_8 5 rfl rfl)
theorem dX8_lots_196 : decode cX8_lots 196 = .ok (.iconst 5, 1) := dk_8 (dk_at dksX8_lots_8 8 rfl rfl)
theorem dX8_lots_197 : decode cX8_lots 197 = .ok (.iaload, 1) := dk_46 (dk_at dksX8_lots_8 9 rfl rfl)
theorem dX8_lots_198 : decode cX8_lots 198 = .ok (.if_icmp .ge 50, 3) := dk_162 0 50 (dk_at dksX8_lots_8 10 rfl rfl)
theorem dX8_lots_201 : decode cX8_lots 201 = .ok (.iload 5, 2) := dk_21 5 (dk_at dksX8_lots_8 13 rfl rfl)
theorem dX8_lots_203 : decode cX8_lots 203 = .ok (.iload 4, 2) := dk_21 4 (dk_at dksX8_lots_8 15 rfl rfl)
theorem dX8_lots_205 : decode cX8_lots 205 = .ok (.ifCond .ne 13, 3) := dk_154 0 13 (dk_at dksX8_lots_8 17 rfl rfl)
theorem dX8_lots_208 : decode cX8_lots 208 = .ok (.aload_n 0, 1) := dk_42 (dk_at dksX8_lots_8 20 rfl rfl)
theorem dX8_lots_209 : decode cX8_lots 209 = .ok (.getfield 84, 3) := dk_180 0 84 (dk_at dksX8_lots_8 21 rfl rfl)
theorem dX8_lots_212 : decode cX8_lots 212 = .ok (.iload 7, 2) := dk_21 7 (dk_at dksX8_lots_9 0 rfl rfl)
theorem dX8_lots_214 : decode cX8_lots 214 = .ok (.iaload, 1) := dk_46 (dk_at dksX8_lots_9 2 rfl rfl)
theorem dX8_lots_215 : decode cX8_lots 215 = .ok (.goto 24, 3) := dk_167 0 24 (dk_at dksX8_lots_9 3 rfl rfl)
theorem dX8_lots_218 : decode cX8_lots 218 = .ok (.aload_n 0, 1) := dk_42 (dk_at dksX8_lots_9 6 rfl rfl)
theorem dX8_lots_219 : decode cX8_lots 219 = .ok (.getfield 84, 3) := dk_180 0 84 (dk_at dksX8_lots_9 7 rfl rfl)
theorem dX8_lots_222 : decode cX8_lots 222 = .ok (.bipush 6, 2) := dk_16 6 (dk_at dksX8_lots_9 10 rfl rfl)
theorem dX8_lots_224 : decode cX8_lots 224 = .ok (.iload 7, 2) := dk_21 7 (dk_at dksX8_lots_9 12 rfl rfl)
theorem dX8_lots_226 : decode cX8_lots 226 = .ok (.iadd, 1) := dk_96 (dk_at dksX8_lots_9 14 rfl rfl)
theorem dX8_lots_227 : decode cX8_lots 227 = .ok (.iaload, 1) := dk_46 (dk_at dksX8_lots_9 15 rfl rfl)
theorem dX8_lots_228 : decode cX8_lots 228 = .ok (.aload_n 0, 1) := dk_42 (dk_at dksX8_lots_9 16 rfl rfl)
theorem dX8_lots_229 : decode cX8_lots 229 = .ok (.getfield 87, 3) := dk_180 0 87 (dk_at dksX8_lots_9 17 rfl rfl)
theorem dX8_lots_232 : decode cX8_lots 232 = .ok (.bipush 6, 2) := dk_16 6 (dk_at dksX8_lots_9 20 rfl rfl)
theorem dX8_lots_234 : decode cX8_lots 234 = .ok (.iload 7, 2) := dk_21 7 (dk_at dksX8_lots_9 22 rfl rfl)
theorem dX8_lots_236 : decode cX8_lots 236 = .ok (.iadd, 1) := dk_96 (dk_at dksX8_lots_10 0 rfl rfl)
theorem dX8_lots_237 : decode cX8_lots 237 = .ok (.iaload, 1) := dk_46 (dk_at dksX8_lots_10 1 rfl rfl)
theorem dX8_lots_238 : decode cX8_lots 238 = .ok (.isub, 1) := dk_100 (dk_at dksX8_lots_10 2 rfl rfl)
theorem dX8_lots_239 : decode cX8_lots 239 = .ok (.iadd, 1) := dk_96 (dk_at dksX8_lots_10 3 rfl rfl)
theorem dX8_lots_240 : decode cX8_lots 240 = .ok (.istore 5, 2) := dk_54 5 (dk_at dksX8_lots_10 4 rfl rfl)
theorem dX8_lots_242 : decode cX8_lots 242 = .ok (.iinc 7 1, 3) := dk_132 7 1 (dk_at dksX8_lots_10 6 rfl rfl)
theorem dX8_lots_245 : decode cX8_lots 245 = .ok (.goto (-55), 3) := dk_167 255 201 (dk_at dksX8_lots_10 9 rfl rfl)
theorem dX8_lots_248 : decode cX8_lots 248 = .ok (.aload_n 0, 1) := dk_42 (dk_at dksX8_lots_10 12 rfl rfl)
theorem dX8_lots_249 : decode cX8_lots 249 = .ok (.getfield 87, 3) := dk_180 0 87 (dk_at dksX8_lots_10 13 rfl rfl)
theorem dX8_lots_252 : decode cX8_lots 252 = .ok (.iconst 0, 1) := dk_3 (dk_at dksX8_lots_10 16 rfl rfl)
theorem dX8_lots_253 : decode cX8_lots 253 = .ok (.aload_n 0, 1) := dk_42 (dk_at dksX8_lots_10 17 rfl rfl)
theorem dX8_lots_254 : decode cX8_lots 254 = .ok (.getfield 84, 3) := dk_180 0 84 (dk_at dksX8_lots_10 18 rfl rfl)
theorem dX8_lots_257 : decode cX8_lots 257 = .ok (.iconst 0, 1) := dk_3 (dk_at dksX8_lots_10 21 rfl rfl)
theorem dX8_lots_258 : decode cX8_lots 258 = .ok (.invokestatic 379, 3) := dk_184 1 123 (dk_at dksX8_lots_11 0 rfl rfl)
theorem dX8_lots_261 : decode cX8_lots 261 = .ok (.iinc 6 1, 3) := dk_132 6 1 (dk_at dksX8_lots_11 3 rfl rfl)
theorem dX8_lots_264 : decode cX8_lots 264 = .ok (.goto (-191), 3) := dk_167 255 65 (dk_at dksX8_lots_11 6 rfl rfl)
theorem dX8_lots_267 : decode cX8_lots 267 = .ok (.iload 5, 2) := dk_21 5 (dk_at dksX8_lots_11 9 rfl rfl)
theorem dX8_lots_269 : decode cX8_lots 269 = .ok (.ireturn, 1) := dk_172 (dk_at dksX8_lots_11 11 rfl rfl)
abbrev cX8_draws : ByteArray := prog_30_method_81_code
def yX8_draws : MethodName := ⟨RX8, "draws", "(I)I"⟩
def dkwX8_draws_1 : List UInt8 := [20, 1, 152, 109, 27, 133, 113, 136, 172]
abbrev dktX8_draws_1 : List UInt8 := dkwX8_draws_1 ++ []
def dkwX8_draws_0 : List UInt8 := [42, 42, 180, 1, 143, 20, 1, 146, 105, 20, 1, 148, 97, 20, 1, 150, 113, 181, 1, 143, 42, 180, 1, 143]
abbrev dktX8_draws_0 : List UInt8 := dkwX8_draws_0 ++ dktX8_draws_1
theorem dksX8_draws_0 : cX8_draws.data.toList.drop 0 = dktX8_draws_0 := by decide +kernel
theorem dksX8_draws_1 : cX8_draws.data.toList.drop 24 = dktX8_draws_1 := dk_seg dksX8_draws_0 24 rfl rfl
theorem dX8_draws_0 : decode cX8_draws 0 = .ok (.aload_n 0, 1) := dk_42 (dk_at dksX8_draws_0 0 rfl rfl)
theorem dX8_draws_1 : decode cX8_draws 1 = .ok (.aload_n 0, 1) := dk_42 (dk_at dksX8_draws_0 1 rfl rfl)
theorem dX8_draws_2 : decode cX8_draws 2 = .ok (.getfield 399, 3) := dk_180 1 143 (dk_at dksX8_draws_0 2 rfl rfl)
theorem dX8_draws_5 : decode cX8_draws 5 = .ok (.ldc2_w 402, 3) := dk_20 1 146 (dk_at dksX8_draws_0 5 rfl rfl)
theorem dX8_draws_8 : decode cX8_draws 8 = .ok (.lmul, 1) := dk_105 (dk_at dksX8_draws_0 8 rfl rfl)
theorem dX8_draws_9 : decode cX8_draws 9 = .ok (.ldc2_w 404, 3) := dk_20 1 148 (dk_at dksX8_draws_0 9 rfl rfl)
theorem dX8_draws_12 : decode cX8_draws 12 = .ok (.ladd, 1) := dk_97 (dk_at dksX8_draws_0 12 rfl rfl)
theorem dX8_draws_13 : decode cX8_draws 13 = .ok (.ldc2_w 406, 3) := dk_20 1 150 (dk_at dksX8_draws_0 13 rfl rfl)
theorem dX8_draws_16 : decode cX8_draws 16 = .ok (.lrem, 1) := dk_113 (dk_at dksX8_draws_0 16 rfl rfl)
theorem dX8_draws_17 : decode cX8_draws 17 = .ok (.putfield 399, 3) := dk_181 1 143 (dk_at dksX8_draws_0 17 rfl rfl)
theorem dX8_draws_20 : decode cX8_draws 20 = .ok (.aload_n 0, 1) := dk_42 (dk_at dksX8_draws_0 20 rfl rfl)
theorem dX8_draws_21 : decode cX8_draws 21 = .ok (.getfield 399, 3) := dk_180 1 143 (dk_at dksX8_draws_0 21 rfl rfl)
theorem dX8_draws_24 : decode cX8_draws 24 = .ok (.ldc2_w 408, 3) := dk_20 1 152 (dk_at dksX8_draws_1 0 rfl rfl)
theorem dX8_draws_27 : decode cX8_draws 27 = .ok (.ldiv, 1) := dk_109 (dk_at dksX8_draws_1 3 rfl rfl)
theorem dX8_draws_28 : decode cX8_draws 28 = .ok (.iload_n 1, 1) := dk_27 (dk_at dksX8_draws_1 4 rfl rfl)
theorem dX8_draws_29 : decode cX8_draws 29 = .ok (.i2l, 1) := dk_133 (dk_at dksX8_draws_1 5 rfl rfl)
theorem dX8_draws_30 : decode cX8_draws 30 = .ok (.lrem, 1) := dk_113 (dk_at dksX8_draws_1 6 rfl rfl)
theorem dX8_draws_31 : decode cX8_draws 31 = .ok (.l2i, 1) := dk_136 (dk_at dksX8_draws_1 7 rfl rfl)
theorem dX8_draws_32 : decode cX8_draws 32 = .ok (.ireturn, 1) := dk_172 (dk_at dksX8_draws_1 8 rfl rfl)
abbrev cX8_mark : ByteArray := prog_30_method_83_code
def yX8_mark : MethodName := ⟨RX8, "mark", "(IZ)Z"⟩
def dkwX8_mark_3 : List UInt8 := [182, 1, 37, 42, 180, 0, 84, 3, 42, 180, 0, 90, 16, 80, 27, 104, 184, 1, 123, 4, 172]
abbrev dktX8_mark_3 : List UInt8 := dkwX8_mark_3 ++ []
def dkwX8_mark_2 : List UInt8 := [42, 180, 0, 90, 16, 80, 27, 104, 42, 180, 0, 84, 3, 184, 1, 123, 4, 172, 42, 3, 5, 27, 96]
abbrev dktX8_mark_2 : List UInt8 := dkwX8_mark_2 ++ dktX8_mark_3
def dkwX8_mark_1 : List UInt8 := [154, 0, 5, 3, 172, 42, 180, 0, 102, 27, 4, 84, 28, 153, 0, 29, 42, 5, 27, 96, 3, 182, 1, 37]
abbrev dktX8_mark_1 : List UInt8 := dkwX8_mark_1 ++ dktX8_mark_2
def dkwX8_mark_0 : List UInt8 := [42, 3, 181, 0, 109, 27, 3, 6, 184, 0, 235, 153, 0, 16, 28, 153, 0, 14, 42, 180, 0, 102, 27, 51]
abbrev dktX8_mark_0 : List UInt8 := dkwX8_mark_0 ++ dktX8_mark_1
theorem dksX8_mark_0 : cX8_mark.data.toList.drop 0 = dktX8_mark_0 := by decide +kernel
theorem dksX8_mark_1 : cX8_mark.data.toList.drop 24 = dktX8_mark_1 := dk_seg dksX8_mark_0 24 rfl rfl
theorem dksX8_mark_2 : cX8_mark.data.toList.drop 48 = dktX8_mark_2 := dk_seg dksX8_mark_1 24 rfl rfl
theorem dksX8_mark_3 : cX8_mark.data.toList.drop 71 = dktX8_mark_3 := dk_seg dksX8_mark_2 23 rfl rfl
theorem dX8_mark_0 : decode cX8_mark 0 = .ok (.aload_n 0, 1) := dk_42 (dk_at dksX8_mark_0 0 rfl rfl)
theorem dX8_mark_1 : decode cX8_mark 1 = .ok (.iconst 0, 1) := dk_3 (dk_at dksX8_mark_0 1 rfl rfl)
theorem dX8_mark_2 : decode cX8_mark 2 = .ok (.putfield 109, 3) := dk_181 0 109 (dk_at dksX8_mark_0 2 rfl rfl)
theorem dX8_mark_5 : decode cX8_mark 5 = .ok (.iload_n 1, 1) := dk_27 (dk_at dksX8_mark_0 5 rfl rfl)
theorem dX8_mark_6 : decode cX8_mark 6 = .ok (.iconst 0, 1) := dk_3 (dk_at dksX8_mark_0 6 rfl rfl)
theorem dX8_mark_7 : decode cX8_mark 7 = .ok (.iconst 3, 1) := dk_6 (dk_at dksX8_mark_0 7 rfl rfl)
theorem dX8_mark_8 : decode cX8_mark 8 = .ok (.invokestatic 235, 3) := dk_184 0 235 (dk_at dksX8_mark_0 8 rfl rfl)
theorem dX8_mark_11 : decode cX8_mark 11 = .ok (.ifCond .eq 16, 3) := dk_153 0 16 (dk_at dksX8_mark_0 11 rfl rfl)
theorem dX8_mark_14 : decode cX8_mark 14 = .ok (.iload_n 2, 1) := dk_28 (dk_at dksX8_mark_0 14 rfl rfl)
theorem dX8_mark_15 : decode cX8_mark 15 = .ok (.ifCond .eq 14, 3) := dk_153 0 14 (dk_at dksX8_mark_0 15 rfl rfl)
theorem dX8_mark_18 : decode cX8_mark 18 = .ok (.aload_n 0, 1) := dk_42 (dk_at dksX8_mark_0 18 rfl rfl)
theorem dX8_mark_19 : decode cX8_mark 19 = .ok (.getfield 102, 3) := dk_180 0 102 (dk_at dksX8_mark_0 19 rfl rfl)
theorem dX8_mark_22 : decode cX8_mark 22 = .ok (.iload_n 1, 1) := dk_27 (dk_at dksX8_mark_0 22 rfl rfl)
theorem dX8_mark_23 : decode cX8_mark 23 = .ok (.baload, 1) := dk_51 (dk_at dksX8_mark_0 23 rfl rfl)
theorem dX8_mark_24 : decode cX8_mark 24 = .ok (.ifCond .ne 5, 3) := dk_154 0 5 (dk_at dksX8_mark_1 0 rfl rfl)
theorem dX8_mark_27 : decode cX8_mark 27 = .ok (.iconst 0, 1) := dk_3 (dk_at dksX8_mark_1 3 rfl rfl)
theorem dX8_mark_28 : decode cX8_mark 28 = .ok (.ireturn, 1) := dk_172 (dk_at dksX8_mark_1 4 rfl rfl)
theorem dX8_mark_29 : decode cX8_mark 29 = .ok (.aload_n 0, 1) := dk_42 (dk_at dksX8_mark_1 5 rfl rfl)
theorem dX8_mark_30 : decode cX8_mark 30 = .ok (.getfield 102, 3) := dk_180 0 102 (dk_at dksX8_mark_1 6 rfl rfl)
theorem dX8_mark_33 : decode cX8_mark 33 = .ok (.iload_n 1, 1) := dk_27 (dk_at dksX8_mark_1 9 rfl rfl)
theorem dX8_mark_34 : decode cX8_mark 34 = .ok (.iconst 1, 1) := dk_4 (dk_at dksX8_mark_1 10 rfl rfl)
theorem dX8_mark_35 : decode cX8_mark 35 = .ok (.bastore, 1) := dk_84 (dk_at dksX8_mark_1 11 rfl rfl)
theorem dX8_mark_36 : decode cX8_mark 36 = .ok (.iload_n 2, 1) := dk_28 (dk_at dksX8_mark_1 12 rfl rfl)
theorem dX8_mark_37 : decode cX8_mark 37 = .ok (.ifCond .eq 29, 3) := dk_153 0 29 (dk_at dksX8_mark_1 13 rfl rfl)
theorem dX8_mark_40 : decode cX8_mark 40 = .ok (.aload_n 0, 1) := dk_42 (dk_at dksX8_mark_1 16 rfl rfl)
theorem dX8_mark_41 : decode cX8_mark 41 = .ok (.iconst 2, 1) := dk_5 (dk_at dksX8_mark_1 17 rfl rfl)
theorem dX8_mark_42 : decode cX8_mark 42 = .ok (.iload_n 1, 1) := dk_27 (dk_at dksX8_mark_1 18 rfl rfl)
theorem dX8_mark_43 : decode cX8_mark 43 = .ok (.iadd, 1) := dk_96 (dk_at dksX8_mark_1 19 rfl rfl)
theorem dX8_mark_44 : decode cX8_mark 44 = .ok (.iconst 0, 1) := dk_3 (dk_at dksX8_mark_1 20 rfl rfl)
theorem dX8_mark_45 : decode cX8_mark 45 = .ok (.invokevirtual 293, 3) := dk_182 1 37 (dk_at dksX8_mark_1 21 rfl rfl)
theorem dX8_mark_48 : decode cX8_mark 48 = .ok (.aload_n 0, 1) := dk_42 (dk_at dksX8_mark_2 0 rfl rfl)
theorem dX8_mark_49 : decode cX8_mark 49 = .ok (.getfield 90, 3) := dk_180 0 90 (dk_at dksX8_mark_2 1 rfl rfl)
theorem dX8_mark_52 : decode cX8_mark 52 = .ok (.bipush 80, 2) := dk_16 80 (dk_at dksX8_mark_2 4 rfl rfl)
theorem dX8_mark_54 : decode cX8_mark 54 = .ok (.iload_n 1, 1) := dk_27 (dk_at dksX8_mark_2 6 rfl rfl)
theorem dX8_mark_55 : decode cX8_mark 55 = .ok (.imul, 1) := dk_104 (dk_at dksX8_mark_2 7 rfl rfl)
theorem dX8_mark_56 : decode cX8_mark 56 = .ok (.aload_n 0, 1) := dk_42 (dk_at dksX8_mark_2 8 rfl rfl)
theorem dX8_mark_57 : decode cX8_mark 57 = .ok (.getfield 84, 3) := dk_180 0 84 (dk_at dksX8_mark_2 9 rfl rfl)
theorem dX8_mark_60 : decode cX8_mark 60 = .ok (.iconst 0, 1) := dk_3 (dk_at dksX8_mark_2 12 rfl rfl)
theorem dX8_mark_61 : decode cX8_mark 61 = .ok (.invokestatic 379, 3) := dk_184 1 123 (dk_at dksX8_mark_2 13 rfl rfl)
theorem dX8_mark_64 : decode cX8_mark 64 = .ok (.iconst 1, 1) := dk_4 (dk_at dksX8_mark_2 16 rfl rfl)
theorem dX8_mark_65 : decode cX8_mark 65 = .ok (.ireturn, 1) := dk_172 (dk_at dksX8_mark_2 17 rfl rfl)
theorem dX8_mark_66 : decode cX8_mark 66 = .ok (.aload_n 0, 1) := dk_42 (dk_at dksX8_mark_2 18 rfl rfl)
theorem dX8_mark_67 : decode cX8_mark 67 = .ok (.iconst 0, 1) := dk_3 (dk_at dksX8_mark_2 19 rfl rfl)
theorem dX8_mark_68 : decode cX8_mark 68 = .ok (.iconst 2, 1) := dk_5 (dk_at dksX8_mark_2 20 rfl rfl)
theorem dX8_mark_69 : decode cX8_mark 69 = .ok (.iload_n 1, 1) := dk_27 (dk_at dksX8_mark_2 21 rfl rfl)
theorem dX8_mark_70 : decode cX8_mark 70 = .ok (.iadd, 1) := dk_96 (dk_at dksX8_mark_2 22 rfl rfl)
theorem dX8_mark_71 : decode cX8_mark 71 = .ok (.invokevirtual 293, 3) := dk_182 1 37 (dk_at dksX8_mark_3 0 rfl rfl)
theorem dX8_mark_74 : decode cX8_mark 74 = .ok (.aload_n 0, 1) := dk_42 (dk_at dksX8_mark_3 3 rfl rfl)
theorem dX8_mark_75 : decode cX8_mark 75 = .ok (.getfield 84, 3) := dk_180 0 84 (dk_at dksX8_mark_3 4 rfl rfl)
theorem dX8_mark_78 : decode cX8_mark 78 = .ok (.iconst 0, 1) := dk_3 (dk_at dksX8_mark_3 7 rfl rfl)
theorem dX8_mark_79 : decode cX8_mark 79 = .ok (.aload_n 0, 1) := dk_42 (dk_at dksX8_mark_3 8 rfl rfl)
theorem dX8_mark_80 : decode cX8_mark 80 = .ok (.getfield 90, 3) := dk_180 0 90 (dk_at dksX8_mark_3 9 rfl rfl)
theorem dX8_mark_83 : decode cX8_mark 83 = .ok (.bipush 80, 2) := dk_16 80 (dk_at dksX8_mark_3 12 rfl rfl)
theorem dX8_mark_85 : decode cX8_mark 85 = .ok (.iload_n 1, 1) := dk_27 (dk_at dksX8_mark_3 14 rfl rfl)
theorem dX8_mark_86 : decode cX8_mark 86 = .ok (.imul, 1) := dk_104 (dk_at dksX8_mark_3 15 rfl rfl)
theorem dX8_mark_87 : decode cX8_mark 87 = .ok (.invokestatic 379, 3) := dk_184 1 123 (dk_at dksX8_mark_3 16 rfl rfl)
theorem dX8_mark_90 : decode cX8_mark 90 = .ok (.iconst 1, 1) := dk_4 (dk_at dksX8_mark_3 19 rfl rfl)
theorem dX8_mark_91 : decode cX8_mark 91 = .ok (.ireturn, 1) := dk_172 (dk_at dksX8_mark_3 20 rfl rfl)
abbrev cX8_count : ByteArray := prog_30_method_84_code
def yX8_count : MethodName := ⟨RX8, "count", "(I)I"⟩
def dkwX8_count_5 : List UInt8 := [27, 16, 7, 160, 0, 12, 42, 180, 0, 13, 7, 46, 167, 0, 7, 42, 180, 0, 115, 172]
abbrev dktX8_count_5 : List UInt8 := dkwX8_count_5 ++ []
def dkwX8_count_4 : List UInt8 := [180, 0, 13, 5, 46, 167, 0, 38, 27, 16, 6, 160, 0, 13, 42, 180, 0, 84, 16, 51, 46, 167, 0, 22]
abbrev dktX8_count_4 : List UInt8 := dkwX8_count_4 ++ dktX8_count_5
def dkwX8_count_3 : List UInt8 := [172, 27, 7, 160, 0, 13, 42, 180, 0, 84, 16, 50, 46, 167, 0, 52, 27, 8, 160, 0, 12, 42]
abbrev dktX8_count_3 : List UInt8 := dkwX8_count_3 ++ dktX8_count_4
def dkwX8_count_2 : List UInt8 := [167, 0, 24, 27, 5, 160, 0, 12, 42, 180, 0, 13, 8, 46, 167, 0, 10, 42, 180, 0, 13, 16, 6, 46]
abbrev dktX8_count_2 : List UInt8 := dkwX8_count_2 ++ dktX8_count_3
def dkwX8_count_1 : List UInt8 := [154, 0, 12, 42, 180, 0, 13, 3, 46, 167, 0, 38, 27, 4, 160, 0, 12, 42, 180, 0, 13, 4, 46]
abbrev dktX8_count_1 : List UInt8 := dkwX8_count_1 ++ dktX8_count_2
def dkwX8_count_0 : List UInt8 := [42, 3, 181, 0, 109, 27, 3, 16, 8, 184, 0, 235, 154, 0, 5, 2, 172, 27, 7, 162, 0, 52, 27]
abbrev dktX8_count_0 : List UInt8 := dkwX8_count_0 ++ dktX8_count_1
theorem dksX8_count_0 : cX8_count.data.toList.drop 0 = dktX8_count_0 := by decide +kernel
theorem dksX8_count_1 : cX8_count.data.toList.drop 23 = dktX8_count_1 := dk_seg dksX8_count_0 23 rfl rfl
theorem dksX8_count_2 : cX8_count.data.toList.drop 46 = dktX8_count_2 := dk_seg dksX8_count_1 23 rfl rfl
theorem dksX8_count_3 : cX8_count.data.toList.drop 70 = dktX8_count_3 := dk_seg dksX8_count_2 24 rfl rfl
theorem dksX8_count_4 : cX8_count.data.toList.drop 92 = dktX8_count_4 := dk_seg dksX8_count_3 22 rfl rfl
theorem dksX8_count_5 : cX8_count.data.toList.drop 116 = dktX8_count_5 := dk_seg dksX8_count_4 24 rfl rfl
theorem dX8_count_0 : decode cX8_count 0 = .ok (.aload_n 0, 1) := dk_42 (dk_at dksX8_count_0 0 rfl rfl)
theorem dX8_count_1 : decode cX8_count 1 = .ok (.iconst 0, 1) := dk_3 (dk_at dksX8_count_0 1 rfl rfl)
theorem dX8_count_2 : decode cX8_count 2 = .ok (.putfield 109, 3) := dk_181 0 109 (dk_at dksX8_count_0 2 rfl rfl)
theorem dX8_count_5 : decode cX8_count 5 = .ok (.iload_n 1, 1) := dk_27 (dk_at dksX8_count_0 5 rfl rfl)
theorem dX8_count_6 : decode cX8_count 6 = .ok (.iconst 0, 1) := dk_3 (dk_at dksX8_count_0 6 rfl rfl)
theorem dX8_count_7 : decode cX8_count 7 = .ok (.bipush 8, 2) := dk_16 8 (dk_at dksX8_count_0 7 rfl rfl)
theorem dX8_count_9 : decode cX8_count 9 = .ok (.invokestatic 235, 3) := dk_184 0 235 (dk_at dksX8_count_0 9 rfl rfl)
theorem dX8_count_12 : decode cX8_count 12 = .ok (.ifCond .ne 5, 3) := dk_154 0 5 (dk_at dksX8_count_0 12 rfl rfl)
theorem dX8_count_15 : decode cX8_count 15 = .ok (.iconst (-1), 1) := dk_2 (dk_at dksX8_count_0 15 rfl rfl)
theorem dX8_count_16 : decode cX8_count 16 = .ok (.ireturn, 1) := dk_172 (dk_at dksX8_count_0 16 rfl rfl)
theorem dX8_count_17 : decode cX8_count 17 = .ok (.iload_n 1, 1) := dk_27 (dk_at dksX8_count_0 17 rfl rfl)
theorem dX8_count_18 : decode cX8_count 18 = .ok (.iconst 4, 1) := dk_7 (dk_at dksX8_count_0 18 rfl rfl)
theorem dX8_count_19 : decode cX8_count 19 = .ok (.if_icmp .ge 52, 3) := dk_162 0 52 (dk_at dksX8_count_0 19 rfl rfl)
theorem dX8_count_22 : decode cX8_count 22 = .ok (.iload_n 1, 1) := dk_27 (dk_at dksX8_count_0 22 rfl rfl)
theorem dX8_count_23 : decode cX8_count 23 = .ok (.ifCond .ne 12, 3) := dk_154 0 12 (dk_at dksX8_count_1 0 rfl rfl)
theorem dX8_count_26 : decode cX8_count 26 = .ok (.aload_n 0, 1) := dk_42 (dk_at dksX8_count_1 3 rfl rfl)
theorem dX8_count_27 : decode cX8_count 27 = .ok (.getfield 13, 3) := dk_180 0 13 (dk_at dksX8_count_1 4 rfl rfl)
theorem dX8_count_30 : decode cX8_count 30 = .ok (.iconst 0, 1) := dk_3 (dk_at dksX8_count_1 7 rfl rfl)
theorem dX8_count_31 : decode cX8_count 31 = .ok (.iaload, 1) := dk_46 (dk_at dksX8_count_1 8 rfl rfl)
theorem dX8_count_32 : decode cX8_count 32 = .ok (.goto 38, 3) := dk_167 0 38 (dk_at dksX8_count_1 9 rfl rfl)
theorem dX8_count_35 : decode cX8_count 35 = .ok (.iload_n 1, 1) := dk_27 (dk_at dksX8_count_1 12 rfl rfl)
theorem dX8_count_36 : decode cX8_count 36 = .ok (.iconst 1, 1) := dk_4 (dk_at dksX8_count_1 13 rfl rfl)
theorem dX8_count_37 : decode cX8_count 37 = .ok (.if_icmp .ne 12, 3) := dk_160 0 12 (dk_at dksX8_count_1 14 rfl rfl)
theorem dX8_count_40 : decode cX8_count 40 = .ok (.aload_n 0, 1) := dk_42 (dk_at dksX8_count_1 17 rfl rfl)
theorem dX8_count_41 : decode cX8_count 41 = .ok (.getfield 13, 3) := dk_180 0 13 (dk_at dksX8_count_1 18 rfl rfl)
theorem dX8_count_44 : decode cX8_count 44 = .ok (.iconst 1, 1) := dk_4 (dk_at dksX8_count_1 21 rfl rfl)
theorem dX8_count_45 : decode cX8_count 45 = .ok (.iaload, 1) := dk_46 (dk_at dksX8_count_1 22 rfl rfl)
theorem dX8_count_46 : decode cX8_count 46 = .ok (.goto 24, 3) := dk_167 0 24 (dk_at dksX8_count_2 0 rfl rfl)
theorem dX8_count_49 : decode cX8_count 49 = .ok (.iload_n 1, 1) := dk_27 (dk_at dksX8_count_2 3 rfl rfl)
theorem dX8_count_50 : decode cX8_count 50 = .ok (.iconst 2, 1) := dk_5 (dk_at dksX8_count_2 4 rfl rfl)
theorem dX8_count_51 : decode cX8_count 51 = .ok (.if_icmp .ne 12, 3) := dk_160 0 12 (dk_at dksX8_count_2 5 rfl rfl)
theorem dX8_count_54 : decode cX8_count 54 = .ok (.aload_n 0, 1) := dk_42 (dk_at dksX8_count_2 8 rfl rfl)
theorem dX8_count_55 : decode cX8_count 55 = .ok (.getfield 13, 3) := dk_180 0 13 (dk_at dksX8_count_2 9 rfl rfl)
theorem dX8_count_58 : decode cX8_count 58 = .ok (.iconst 5, 1) := dk_8 (dk_at dksX8_count_2 12 rfl rfl)
theorem dX8_count_59 : decode cX8_count 59 = .ok (.iaload, 1) := dk_46 (dk_at dksX8_count_2 13 rfl rfl)
theorem dX8_count_60 : decode cX8_count 60 = .ok (.goto 10, 3) := dk_167 0 10 (dk_at dksX8_count_2 14 rfl rfl)
theorem dX8_count_63 : decode cX8_count 63 = .ok (.aload_n 0, 1) := dk_42 (dk_at dksX8_count_2 17 rfl rfl)
theorem dX8_count_64 : decode cX8_count 64 = .ok (.getfield 13, 3) := dk_180 0 13 (dk_at dksX8_count_2 18 rfl rfl)
theorem dX8_count_67 : decode cX8_count 67 = .ok (.bipush 6, 2) := dk_16 6 (dk_at dksX8_count_2 21 rfl rfl)
theorem dX8_count_69 : decode cX8_count 69 = .ok (.iaload, 1) := dk_46 (dk_at dksX8_count_2 23 rfl rfl)
theorem dX8_count_70 : decode cX8_count 70 = .ok (.ireturn, 1) := dk_172 (dk_at dksX8_count_3 0 rfl rfl)
theorem dX8_count_71 : decode cX8_count 71 = .ok (.iload_n 1, 1) := dk_27 (dk_at dksX8_count_3 1 rfl rfl)
theorem dX8_count_72 : decode cX8_count 72 = .ok (.iconst 4, 1) := dk_7 (dk_at dksX8_count_3 2 rfl rfl)
theorem dX8_count_73 : decode cX8_count 73 = .ok (.if_icmp .ne 13, 3) := dk_160 0 13 (dk_at dksX8_count_3 3 rfl rfl)
theorem dX8_count_76 : decode cX8_count 76 = .ok (.aload_n 0, 1) := dk_42 (dk_at dksX8_count_3 6 rfl rfl)
theorem dX8_count_77 : decode cX8_count 77 = .ok (.getfield 84, 3) := dk_180 0 84 (dk_at dksX8_count_3 7 rfl rfl)
theorem dX8_count_80 : decode cX8_count 80 = .ok (.bipush 50, 2) := dk_16 50 (dk_at dksX8_count_3 10 rfl rfl)
theorem dX8_count_82 : decode cX8_count 82 = .ok (.iaload, 1) := dk_46 (dk_at dksX8_count_3 12 rfl rfl)
theorem dX8_count_83 : decode cX8_count 83 = .ok (.goto 52, 3) := dk_167 0 52 (dk_at dksX8_count_3 13 rfl rfl)
theorem dX8_count_86 : decode cX8_count 86 = .ok (.iload_n 1, 1) := dk_27 (dk_at dksX8_count_3 16 rfl rfl)
theorem dX8_count_87 : decode cX8_count 87 = .ok (.iconst 5, 1) := dk_8 (dk_at dksX8_count_3 17 rfl rfl)
theorem dX8_count_88 : decode cX8_count 88 = .ok (.if_icmp .ne 12, 3) := dk_160 0 12 (dk_at dksX8_count_3 18 rfl rfl)
theorem dX8_count_91 : decode cX8_count 91 = .ok (.aload_n 0, 1) := dk_42 (dk_at dksX8_count_3 21 rfl rfl)
theorem dX8_count_92 : decode cX8_count 92 = .ok (.getfield 13, 3) := dk_180 0 13 (dk_at dksX8_count_4 0 rfl rfl)
theorem dX8_count_95 : decode cX8_count 95 = .ok (.iconst 2, 1) := dk_5 (dk_at dksX8_count_4 3 rfl rfl)
theorem dX8_count_96 : decode cX8_count 96 = .ok (.iaload, 1) := dk_46 (dk_at dksX8_count_4 4 rfl rfl)
theorem dX8_count_97 : decode cX8_count 97 = .ok (.goto 38, 3) := dk_167 0 38 (dk_at dksX8_count_4 5 rfl rfl)
theorem dX8_count_100 : decode cX8_count 100 = .ok (.iload_n 1, 1) := dk_27 (dk_at dksX8_count_4 8 rfl rfl)
theorem dX8_count_101 : decode cX8_count 101 = .ok (.bipush 6, 2) := dk_16 6 (dk_at dksX8_count_4 9 rfl rfl)
theorem dX8_count_103 : decode cX8_count 103 = .ok (.if_icmp .ne 13, 3) := dk_160 0 13 (dk_at dksX8_count_4 11 rfl rfl)
theorem dX8_count_106 : decode cX8_count 106 = .ok (.aload_n 0, 1) := dk_42 (dk_at dksX8_count_4 14 rfl rfl)
theorem dX8_count_107 : decode cX8_count 107 = .ok (.getfield 84, 3) := dk_180 0 84 (dk_at dksX8_count_4 15 rfl rfl)
theorem dX8_count_110 : decode cX8_count 110 = .ok (.bipush 51, 2) := dk_16 51 (dk_at dksX8_count_4 18 rfl rfl)
theorem dX8_count_112 : decode cX8_count 112 = .ok (.iaload, 1) := dk_46 (dk_at dksX8_count_4 20 rfl rfl)
theorem dX8_count_113 : decode cX8_count 113 = .ok (.goto 22, 3) := dk_167 0 22 (dk_at dksX8_count_4 21 rfl rfl)
theorem dX8_count_116 : decode cX8_count 116 = .ok (.iload_n 1, 1) := dk_27 (dk_at dksX8_count_5 0 rfl rfl)
theorem dX8_count_117 : decode cX8_count 117 = .ok (.bipush 7, 2) := dk_16 7 (dk_at dksX8_count_5 1 rfl rfl)
theorem dX8_count_119 : decode cX8_count 119 = .ok (.if_icmp .ne 12, 3) := dk_160 0 12 (dk_at dksX8_count_5 3 rfl rfl)
theorem dX8_count_122 : decode cX8_count 122 = .ok (.aload_n 0, 1) := dk_42 (dk_at dksX8_count_5 6 rfl rfl)
theorem dX8_count_123 : decode cX8_count 123 = .ok (.getfield 13, 3) := dk_180 0 13 (dk_at dksX8_count_5 7 rfl rfl)
theorem dX8_count_126 : decode cX8_count 126 = .ok (.iconst 4, 1) := dk_7 (dk_at dksX8_count_5 10 rfl rfl)
theorem dX8_count_127 : decode cX8_count 127 = .ok (.iaload, 1) := dk_46 (dk_at dksX8_count_5 11 rfl rfl)
theorem dX8_count_128 : decode cX8_count 128 = .ok (.goto 7, 3) := dk_167 0 7 (dk_at dksX8_count_5 12 rfl rfl)
theorem dX8_count_131 : decode cX8_count 131 = .ok (.aload_n 0, 1) := dk_42 (dk_at dksX8_count_5 15 rfl rfl)
theorem dX8_count_132 : decode cX8_count 132 = .ok (.getfield 115, 3) := dk_180 0 115 (dk_at dksX8_count_5 16 rfl rfl)
theorem dX8_count_135 : decode cX8_count 135 = .ok (.ireturn, 1) := dk_172 (dk_at dksX8_count_5 19 rfl rfl)
theorem q105 : (Jvm.Cond.initialized "FogNetsModel") ∈ lw_all := lw_g (lw_at lw_m1 13 rfl) rfl
theorem q886 : (Jvm.Cond.selects "FogNetsModel" ({ cls := "java/lang/Object", name := "getClass", desc := "()Ljava/lang/Class;" } : Jvm.MethodName) ({ cls := "java/lang/Object", name := "getClass", desc := "()Ljava/lang/Class;" } : Jvm.MethodName)) ∈ lw_all := lw_g (lw_at lw_m4 74 rfl) rfl
theorem q1539 : (Jvm.Cond.instantiable "FogNetsModel" (47 : Nat)) ∈ lw_all := lw_g (lw_at lw_m7 7 rfl) rfl
theorem q1541 : (Jvm.Cond.instanceMethod ({ cls := "FogNetsModel", name := "<init>", desc := "()V" } : Jvm.MethodName)) ∈ lw_all := lw_g (lw_at lw_m7 9 rfl) rfl
theorem q1542 : (Jvm.Cond.code ({ cls := "FogNetsModel", name := "<init>", desc := "()V" } : Jvm.MethodName) prog_30_method_1_code (1 : Nat) (Option.none : Option Jvm.ClassFile.FieldType)) ∈ lw_all := lw_g (lw_at lw_m7 10 rfl) rfl
theorem q1543 : (Jvm.Cond.methodLink "FogNetsModel" (1 : Nat) ({ cls := "java/lang/Object", name := "<init>", desc := "()V" } : Jvm.MethodName)) ∈ lw_all := lw_g (lw_at lw_m7 11 rfl) rfl
theorem q1544 : (Jvm.Cond.methodLink "FogNetsModel" (105 : Nat) ({ cls := "FogNetsModel", name := "plain", desc := "(I)V" } : Jvm.MethodName)) ∈ lw_all := lw_g (lw_at lw_m7 12 rfl) rfl
theorem q1545 : (Jvm.Cond.privateMethod ({ cls := "FogNetsModel", name := "plain", desc := "(I)V" } : Jvm.MethodName)) ∈ lw_tbl := lw_at lw_m7 13 rfl
theorem q1546 : (Jvm.Cond.instanceMethod ({ cls := "FogNetsModel", name := "plain", desc := "(I)V" } : Jvm.MethodName)) ∈ lw_all := lw_g (lw_at lw_m7 14 rfl) rfl
theorem q1547 : (Jvm.Cond.code ({ cls := "FogNetsModel", name := "plain", desc := "(I)V" } : Jvm.MethodName) prog_30_method_11_code (3 : Nat) (Option.none : Option Jvm.ClassFile.FieldType)) ∈ lw_all := lw_g (lw_at lw_m7 15 rfl) rfl
theorem q1548 : (Jvm.Cond.fieldLink "FogNetsModel" (109 : Nat) "FogNetsModel" "thrown" "I") ∈ lw_all := lw_g (lw_at lw_m7 16 rfl) rfl
theorem q1549 : (Jvm.Cond.fieldLink "FogNetsModel" (115 : Nat) "FogNetsModel" "taped" "I") ∈ lw_all := lw_g (lw_at lw_m7 17 rfl) rfl
theorem q1550 : (Jvm.Cond.fieldLink "FogNetsModel" (7 : Nat) "FogNetsModel" "tape" "[I") ∈ lw_all := lw_g (lw_at lw_m7 18 rfl) rfl
theorem q1551 : (Jvm.Cond.fieldLink "FogNetsModel" (118 : Nat) "FogNetsModel" "size" "I") ∈ lw_all := lw_g (lw_at lw_m7 19 rfl) rfl
theorem q1552 : (Jvm.Cond.fieldLink "FogNetsModel" (121 : Nat) "FogNetsModel" "place" "I") ∈ lw_all := lw_g (lw_at lw_m7 20 rfl) rfl
theorem q1553 : (Jvm.Cond.fieldLink "FogNetsModel" (124 : Nat) "FogNetsModel" "begin" "I") ∈ lw_all := lw_g (lw_at lw_m7 21 rfl) rfl
theorem q1554 : (Jvm.Cond.fieldLink "FogNetsModel" (134 : Nat) "FogNetsModel" "token" "I") ∈ lw_all := lw_g (lw_at lw_m7 22 rfl) rfl
theorem q1555 : (Jvm.Cond.fieldLink "FogNetsModel" (127 : Nat) "FogNetsModel" "word" "J") ∈ lw_all := lw_g (lw_at lw_m7 23 rfl) rfl
theorem q1556 : (Jvm.Cond.fieldLink "FogNetsModel" (131 : Nat) "FogNetsModel" "told" "I") ∈ lw_all := lw_g (lw_at lw_m7 24 rfl) rfl
theorem q1557 : (Jvm.Cond.fieldLink "FogNetsModel" (145 : Nat) "FogNetsModel" "wrong" "I") ∈ lw_all := lw_g (lw_at lw_m7 25 rfl) rfl
theorem q1558 : (Jvm.Cond.fieldLink "FogNetsModel" (13 : Nat) "FogNetsModel" "ridge" "[I") ∈ lw_all := lw_g (lw_at lw_m7 26 rfl) rfl
theorem q1559 : (Jvm.Cond.fieldLink "FogNetsModel" (16 : Nat) "FogNetsModel" "thirst" "[I") ∈ lw_all := lw_g (lw_at lw_m7 27 rfl) rfl
theorem q1560 : (Jvm.Cond.fieldLink "FogNetsModel" (19 : Nat) "FogNetsModel" "tankAt" "[I") ∈ lw_all := lw_g (lw_at lw_m7 28 rfl) rfl
theorem q1561 : (Jvm.Cond.fieldLink "FogNetsModel" (22 : Nat) "FogNetsModel" "names" "[J") ∈ lw_all := lw_g (lw_at lw_m7 29 rfl) rfl
theorem q1562 : (Jvm.Cond.fieldLink "FogNetsModel" (26 : Nat) "FogNetsModel" "villageOf" "[I") ∈ lw_all := lw_g (lw_at lw_m7 30 rfl) rfl
theorem q1563 : (Jvm.Cond.fieldLink "FogNetsModel" (29 : Nat) "FogNetsModel" "placeAt" "[I") ∈ lw_all := lw_g (lw_at lw_m7 31 rfl) rfl
theorem q1564 : (Jvm.Cond.fieldLink "FogNetsModel" (32 : Nat) "FogNetsModel" "mesh" "[I") ∈ lw_all := lw_g (lw_at lw_m7 32 rfl) rfl
theorem q1565 : (Jvm.Cond.fieldLink "FogNetsModel" (35 : Nat) "FogNetsModel" "kind" "[I") ∈ lw_all := lw_g (lw_at lw_m7 33 rfl) rfl
theorem q1566 : (Jvm.Cond.fieldLink "FogNetsModel" (38 : Nat) "FogNetsModel" "lineFrom" "[I") ∈ lw_all := lw_g (lw_at lw_m7 34 rfl) rfl
theorem q1567 : (Jvm.Cond.fieldLink "FogNetsModel" (41 : Nat) "FogNetsModel" "lineTo" "[I") ∈ lw_all := lw_g (lw_at lw_m7 35 rfl) rfl
theorem q1568 : (Jvm.Cond.fieldLink "FogNetsModel" (44 : Nat) "FogNetsModel" "codes" "[I") ∈ lw_all := lw_g (lw_at lw_m7 36 rfl) rfl
theorem q1569 : (Jvm.Cond.fieldLink "FogNetsModel" (148 : Nat) "FogNetsModel" "code" "I") ∈ lw_all := lw_g (lw_at lw_m7 37 rfl) rfl
theorem q1570 : (Jvm.Cond.fieldLink "FogNetsModel" (242 : Nat) "FogNetsModel" "isTold" "I") ∈ lw_all := lw_g (lw_at lw_m7 38 rfl) rfl
theorem q1571 : (Jvm.Cond.fieldLink "FogNetsModel" (155 : Nat) "FogNetsModel" "isFog" "Z") ∈ lw_all := lw_g (lw_at lw_m7 39 rfl) rfl
theorem q1572 : (Jvm.Cond.fieldLink "FogNetsModel" (47 : Nat) "FogNetsModel" "opened" "[I") ∈ lw_all := lw_g (lw_at lw_m7 40 rfl) rfl
theorem q1573 : (Jvm.Cond.fieldLink "FogNetsModel" (50 : Nat) "FogNetsModel" "compared" "[Z") ∈ lw_all := lw_g (lw_at lw_m7 41 rfl) rfl
theorem q1574 : (Jvm.Cond.fieldLink "FogNetsModel" (54 : Nat) "FogNetsModel" "kept" "[I") ∈ lw_all := lw_g (lw_at lw_m7 42 rfl) rfl
theorem q1575 : (Jvm.Cond.fieldLink "FogNetsModel" (57 : Nat) "FogNetsModel" "keptBy" "[I") ∈ lw_all := lw_g (lw_at lw_m7 43 rfl) rfl
theorem q1576 : (Jvm.Cond.fieldLink "FogNetsModel" (60 : Nat) "FogNetsModel" "ahead" "[I") ∈ lw_all := lw_g (lw_at lw_m7 44 rfl) rfl
theorem q1577 : (Jvm.Cond.fieldLink "FogNetsModel" (63 : Nat) "FogNetsModel" "against" "[I") ∈ lw_all := lw_g (lw_at lw_m7 45 rfl) rfl
theorem q1578 : (Jvm.Cond.fieldLink "FogNetsModel" (66 : Nat) "FogNetsModel" "sum" "[I") ∈ lw_all := lw_g (lw_at lw_m7 46 rfl) rfl
theorem q1579 : (Jvm.Cond.fieldLink "FogNetsModel" (69 : Nat) "FogNetsModel" "sumBy" "[I") ∈ lw_all := lw_g (lw_at lw_m7 47 rfl) rfl
theorem q1580 : (Jvm.Cond.fieldLink "FogNetsModel" (72 : Nat) "FogNetsModel" "term" "[I") ∈ lw_all := lw_g (lw_at lw_m7 48 rfl) rfl
theorem q1581 : (Jvm.Cond.fieldLink "FogNetsModel" (75 : Nat) "FogNetsModel" "termBy" "[I") ∈ lw_all := lw_g (lw_at lw_m7 49 rfl) rfl
theorem q1582 : (Jvm.Cond.fieldLink "FogNetsModel" (78 : Nat) "FogNetsModel" "byNot" "[I") ∈ lw_all := lw_g (lw_at lw_m7 50 rfl) rfl
theorem q1583 : (Jvm.Cond.fieldLink "FogNetsModel" (81 : Nat) "FogNetsModel" "valueOf" "[I") ∈ lw_all := lw_g (lw_at lw_m7 51 rfl) rfl
theorem q1584 : (Jvm.Cond.fieldLink "FogNetsModel" (239 : Nat) "FogNetsModel" "given" "I") ∈ lw_all := lw_g (lw_at lw_m7 52 rfl) rfl
theorem q1585 : (Jvm.Cond.fieldLink "FogNetsModel" (84 : Nat) "FogNetsModel" "s" "[I") ∈ lw_all := lw_g (lw_at lw_m7 53 rfl) rfl
theorem q1586 : (Jvm.Cond.fieldLink "FogNetsModel" (87 : Nat) "FogNetsModel" "aside" "[I") ∈ lw_all := lw_g (lw_at lw_m7 54 rfl) rfl
theorem q1587 : (Jvm.Cond.fieldLink "FogNetsModel" (90 : Nat) "FogNetsModel" "marked" "[I") ∈ lw_all := lw_g (lw_at lw_m7 55 rfl) rfl
theorem q1588 : (Jvm.Cond.fieldLink "FogNetsModel" (93 : Nat) "FogNetsModel" "takes" "[I") ∈ lw_all := lw_g (lw_at lw_m7 56 rfl) rfl
theorem q1589 : (Jvm.Cond.fieldLink "FogNetsModel" (96 : Nat) "FogNetsModel" "been" "[I") ∈ lw_all := lw_g (lw_at lw_m7 57 rfl) rfl
theorem q1590 : (Jvm.Cond.fieldLink "FogNetsModel" (373 : Nat) "FogNetsModel" "playedRounds" "I") ∈ lw_all := lw_g (lw_at lw_m7 58 rfl) rfl
theorem q1591 : (Jvm.Cond.fieldLink "FogNetsModel" (370 : Nat) "FogNetsModel" "isRest" "Z") ∈ lw_all := lw_g (lw_at lw_m7 59 rfl) rfl
theorem q1592 : (Jvm.Cond.fieldLink "FogNetsModel" (99 : Nat) "FogNetsModel" "worthOf" "[I") ∈ lw_all := lw_g (lw_at lw_m7 60 rfl) rfl
theorem q1593 : (Jvm.Cond.fieldLink "FogNetsModel" (399 : Nat) "FogNetsModel" "g" "J") ∈ lw_all := lw_g (lw_at lw_m7 61 rfl) rfl
theorem q1594 : (Jvm.Cond.fieldLink "FogNetsModel" (102 : Nat) "FogNetsModel" "isLaid" "[Z") ∈ lw_all := lw_g (lw_at lw_m7 62 rfl) rfl
theorem q1595 : (Jvm.Cond.lays "FogNetsModel" "FogNetsModel" "thrown" "I") ∈ lw_all := lw_g (lw_at lw_m7 63 rfl) rfl
theorem q1596 : (Jvm.Cond.soleField "FogNetsModel" "thrown") ∈ lw_all := lw_g (lw_at lw_m7 64 rfl) rfl
theorem q1597 : (Jvm.Cond.lays "FogNetsModel" "FogNetsModel" "taped" "I") ∈ lw_all := lw_g (lw_at lw_m7 65 rfl) rfl
theorem q1598 : (Jvm.Cond.soleField "FogNetsModel" "taped") ∈ lw_all := lw_g (lw_at lw_m7 66 rfl) rfl
theorem q1599 : (Jvm.Cond.laysFinal "FogNetsModel" "FogNetsModel" "tape" "[I") ∈ lw_all := lw_g (lw_at lw_m7 67 rfl) rfl
theorem q1600 : (Jvm.Cond.soleField "FogNetsModel" "tape") ∈ lw_all := lw_g (lw_at lw_m7 68 rfl) rfl
theorem q1601 : (Jvm.Cond.lays "FogNetsModel" "FogNetsModel" "size" "I") ∈ lw_all := lw_g (lw_at lw_m7 69 rfl) rfl
theorem q1602 : (Jvm.Cond.soleField "FogNetsModel" "size") ∈ lw_all := lw_g (lw_at lw_m7 70 rfl) rfl
theorem q1603 : (Jvm.Cond.lays "FogNetsModel" "FogNetsModel" "place" "I") ∈ lw_all := lw_g (lw_at lw_m7 71 rfl) rfl
theorem q1604 : (Jvm.Cond.soleField "FogNetsModel" "place") ∈ lw_all := lw_g (lw_at lw_m7 72 rfl) rfl
theorem q1605 : (Jvm.Cond.lays "FogNetsModel" "FogNetsModel" "begin" "I") ∈ lw_all := lw_g (lw_at lw_m7 73 rfl) rfl
theorem q1606 : (Jvm.Cond.soleField "FogNetsModel" "begin") ∈ lw_all := lw_g (lw_at lw_m7 74 rfl) rfl
theorem q1607 : (Jvm.Cond.lays "FogNetsModel" "FogNetsModel" "token" "I") ∈ lw_all := lw_g (lw_at lw_m7 75 rfl) rfl
theorem q1608 : (Jvm.Cond.soleField "FogNetsModel" "token") ∈ lw_all := lw_g (lw_at lw_m7 76 rfl) rfl
theorem q1609 : (Jvm.Cond.lays "FogNetsModel" "FogNetsModel" "word" "J") ∈ lw_all := lw_g (lw_at lw_m7 77 rfl) rfl
theorem q1610 : (Jvm.Cond.soleField "FogNetsModel" "word") ∈ lw_all := lw_g (lw_at lw_m7 78 rfl) rfl
theorem q1611 : (Jvm.Cond.lays "FogNetsModel" "FogNetsModel" "told" "I") ∈ lw_all := lw_g (lw_at lw_m7 79 rfl) rfl
theorem q1612 : (Jvm.Cond.soleField "FogNetsModel" "told") ∈ lw_all := lw_g (lw_at lw_m7 80 rfl) rfl
theorem q1613 : (Jvm.Cond.lays "FogNetsModel" "FogNetsModel" "wrong" "I") ∈ lw_all := lw_g (lw_at lw_m7 81 rfl) rfl
theorem q1614 : (Jvm.Cond.soleField "FogNetsModel" "wrong") ∈ lw_all := lw_g (lw_at lw_m7 82 rfl) rfl
theorem q1615 : (Jvm.Cond.laysFinal "FogNetsModel" "FogNetsModel" "ridge" "[I") ∈ lw_all := lw_g (lw_at lw_m7 83 rfl) rfl
theorem q1616 : (Jvm.Cond.soleField "FogNetsModel" "ridge") ∈ lw_all := lw_g (lw_at lw_m7 84 rfl) rfl
theorem q1617 : (Jvm.Cond.laysFinal "FogNetsModel" "FogNetsModel" "thirst" "[I") ∈ lw_all := lw_g (lw_at lw_m7 85 rfl) rfl
theorem q1618 : (Jvm.Cond.soleField "FogNetsModel" "thirst") ∈ lw_all := lw_g (lw_at lw_m7 86 rfl) rfl
theorem q1619 : (Jvm.Cond.laysFinal "FogNetsModel" "FogNetsModel" "tankAt" "[I") ∈ lw_all := lw_g (lw_at lw_m7 87 rfl) rfl
theorem q1620 : (Jvm.Cond.soleField "FogNetsModel" "tankAt") ∈ lw_all := lw_g (lw_at lw_m7 88 rfl) rfl
theorem q1621 : (Jvm.Cond.laysFinal "FogNetsModel" "FogNetsModel" "names" "[J") ∈ lw_all := lw_g (lw_at lw_m7 89 rfl) rfl
theorem q1622 : (Jvm.Cond.soleField "FogNetsModel" "names") ∈ lw_all := lw_g (lw_at lw_m7 90 rfl) rfl
theorem q1623 : (Jvm.Cond.laysFinal "FogNetsModel" "FogNetsModel" "villageOf" "[I") ∈ lw_all := lw_g (lw_at lw_m7 91 rfl) rfl
theorem q1624 : (Jvm.Cond.soleField "FogNetsModel" "villageOf") ∈ lw_all := lw_g (lw_at lw_m7 92 rfl) rfl
theorem q1625 : (Jvm.Cond.laysFinal "FogNetsModel" "FogNetsModel" "placeAt" "[I") ∈ lw_all := lw_g (lw_at lw_m7 93 rfl) rfl
theorem q1626 : (Jvm.Cond.soleField "FogNetsModel" "placeAt") ∈ lw_all := lw_g (lw_at lw_m7 94 rfl) rfl
theorem q1627 : (Jvm.Cond.laysFinal "FogNetsModel" "FogNetsModel" "mesh" "[I") ∈ lw_all := lw_g (lw_at lw_m7 95 rfl) rfl
theorem q1628 : (Jvm.Cond.soleField "FogNetsModel" "mesh") ∈ lw_all := lw_g (lw_at lw_m7 96 rfl) rfl
theorem q1629 : (Jvm.Cond.laysFinal "FogNetsModel" "FogNetsModel" "kind" "[I") ∈ lw_all := lw_g (lw_at lw_m7 97 rfl) rfl
theorem q1630 : (Jvm.Cond.soleField "FogNetsModel" "kind") ∈ lw_all := lw_g (lw_at lw_m7 98 rfl) rfl
theorem q1631 : (Jvm.Cond.laysFinal "FogNetsModel" "FogNetsModel" "lineFrom" "[I") ∈ lw_all := lw_g (lw_at lw_m7 99 rfl) rfl
theorem q1632 : (Jvm.Cond.soleField "FogNetsModel" "lineFrom") ∈ lw_all := lw_g (lw_at lw_m7 100 rfl) rfl
theorem q1633 : (Jvm.Cond.laysFinal "FogNetsModel" "FogNetsModel" "lineTo" "[I") ∈ lw_all := lw_g (lw_at lw_m7 101 rfl) rfl
theorem q1634 : (Jvm.Cond.soleField "FogNetsModel" "lineTo") ∈ lw_all := lw_g (lw_at lw_m7 102 rfl) rfl
theorem q1635 : (Jvm.Cond.laysFinal "FogNetsModel" "FogNetsModel" "codes" "[I") ∈ lw_all := lw_g (lw_at lw_m7 103 rfl) rfl
theorem q1636 : (Jvm.Cond.soleField "FogNetsModel" "codes") ∈ lw_all := lw_g (lw_at lw_m7 104 rfl) rfl
theorem q1637 : (Jvm.Cond.lays "FogNetsModel" "FogNetsModel" "code" "I") ∈ lw_all := lw_g (lw_at lw_m7 105 rfl) rfl
theorem q1638 : (Jvm.Cond.soleField "FogNetsModel" "code") ∈ lw_all := lw_g (lw_at lw_m7 106 rfl) rfl
theorem q1639 : (Jvm.Cond.lays "FogNetsModel" "FogNetsModel" "isTold" "I") ∈ lw_all := lw_g (lw_at lw_m7 107 rfl) rfl
theorem q1640 : (Jvm.Cond.soleField "FogNetsModel" "isTold") ∈ lw_all := lw_g (lw_at lw_m7 108 rfl) rfl
theorem q1641 : (Jvm.Cond.lays "FogNetsModel" "FogNetsModel" "isFog" "Z") ∈ lw_all := lw_g (lw_at lw_m7 109 rfl) rfl
theorem q1642 : (Jvm.Cond.soleField "FogNetsModel" "isFog") ∈ lw_all := lw_g (lw_at lw_m7 110 rfl) rfl
theorem q1643 : (Jvm.Cond.laysFinal "FogNetsModel" "FogNetsModel" "opened" "[I") ∈ lw_all := lw_g (lw_at lw_m7 111 rfl) rfl
theorem q1644 : (Jvm.Cond.soleField "FogNetsModel" "opened") ∈ lw_all := lw_g (lw_at lw_m7 112 rfl) rfl
theorem q1645 : (Jvm.Cond.laysFinal "FogNetsModel" "FogNetsModel" "compared" "[Z") ∈ lw_all := lw_g (lw_at lw_m7 113 rfl) rfl
theorem q1646 : (Jvm.Cond.soleField "FogNetsModel" "compared") ∈ lw_all := lw_g (lw_at lw_m7 114 rfl) rfl
theorem q1647 : (Jvm.Cond.laysFinal "FogNetsModel" "FogNetsModel" "kept" "[I") ∈ lw_all := lw_g (lw_at lw_m7 115 rfl) rfl
theorem q1648 : (Jvm.Cond.soleField "FogNetsModel" "kept") ∈ lw_all := lw_g (lw_at lw_m7 116 rfl) rfl
theorem q1649 : (Jvm.Cond.laysFinal "FogNetsModel" "FogNetsModel" "keptBy" "[I") ∈ lw_all := lw_g (lw_at lw_m7 117 rfl) rfl
theorem q1650 : (Jvm.Cond.soleField "FogNetsModel" "keptBy") ∈ lw_all := lw_g (lw_at lw_m7 118 rfl) rfl
theorem q1651 : (Jvm.Cond.laysFinal "FogNetsModel" "FogNetsModel" "ahead" "[I") ∈ lw_all := lw_g (lw_at lw_m7 119 rfl) rfl
theorem q1652 : (Jvm.Cond.soleField "FogNetsModel" "ahead") ∈ lw_all := lw_g (lw_at lw_m7 120 rfl) rfl
theorem q1653 : (Jvm.Cond.laysFinal "FogNetsModel" "FogNetsModel" "against" "[I") ∈ lw_all := lw_g (lw_at lw_m7 121 rfl) rfl
theorem q1654 : (Jvm.Cond.soleField "FogNetsModel" "against") ∈ lw_all := lw_g (lw_at lw_m7 122 rfl) rfl
theorem q1655 : (Jvm.Cond.laysFinal "FogNetsModel" "FogNetsModel" "sum" "[I") ∈ lw_all := lw_g (lw_at lw_m7 123 rfl) rfl
theorem q1656 : (Jvm.Cond.soleField "FogNetsModel" "sum") ∈ lw_all := lw_g (lw_at lw_m7 124 rfl) rfl
theorem q1657 : (Jvm.Cond.laysFinal "FogNetsModel" "FogNetsModel" "sumBy" "[I") ∈ lw_all := lw_g (lw_at lw_m7 125 rfl) rfl
theorem q1658 : (Jvm.Cond.soleField "FogNetsModel" "sumBy") ∈ lw_all := lw_g (lw_at lw_m7 126 rfl) rfl
theorem q1659 : (Jvm.Cond.laysFinal "FogNetsModel" "FogNetsModel" "term" "[I") ∈ lw_all := lw_g (lw_at lw_m7 127 rfl) rfl
theorem q1660 : (Jvm.Cond.soleField "FogNetsModel" "term") ∈ lw_all := lw_g (lw_at lw_m7 128 rfl) rfl
theorem q1661 : (Jvm.Cond.laysFinal "FogNetsModel" "FogNetsModel" "termBy" "[I") ∈ lw_all := lw_g (lw_at lw_m7 129 rfl) rfl
theorem q1662 : (Jvm.Cond.soleField "FogNetsModel" "termBy") ∈ lw_all := lw_g (lw_at lw_m7 130 rfl) rfl
theorem q1663 : (Jvm.Cond.laysFinal "FogNetsModel" "FogNetsModel" "byNot" "[I") ∈ lw_all := lw_g (lw_at lw_m7 131 rfl) rfl
theorem q1664 : (Jvm.Cond.soleField "FogNetsModel" "byNot") ∈ lw_all := lw_g (lw_at lw_m7 132 rfl) rfl
theorem q1665 : (Jvm.Cond.laysFinal "FogNetsModel" "FogNetsModel" "valueOf" "[I") ∈ lw_all := lw_g (lw_at lw_m7 133 rfl) rfl
theorem q1666 : (Jvm.Cond.soleField "FogNetsModel" "valueOf") ∈ lw_all := lw_g (lw_at lw_m7 134 rfl) rfl
theorem q1667 : (Jvm.Cond.lays "FogNetsModel" "FogNetsModel" "given" "I") ∈ lw_all := lw_g (lw_at lw_m7 135 rfl) rfl
theorem q1668 : (Jvm.Cond.soleField "FogNetsModel" "given") ∈ lw_all := lw_g (lw_at lw_m7 136 rfl) rfl
theorem q1669 : (Jvm.Cond.laysFinal "FogNetsModel" "FogNetsModel" "s" "[I") ∈ lw_all := lw_g (lw_at lw_m7 137 rfl) rfl
theorem q1670 : (Jvm.Cond.soleField "FogNetsModel" "s") ∈ lw_all := lw_g (lw_at lw_m7 138 rfl) rfl
theorem q1671 : (Jvm.Cond.laysFinal "FogNetsModel" "FogNetsModel" "aside" "[I") ∈ lw_all := lw_g (lw_at lw_m7 139 rfl) rfl
theorem q1672 : (Jvm.Cond.soleField "FogNetsModel" "aside") ∈ lw_all := lw_g (lw_at lw_m7 140 rfl) rfl
theorem q1673 : (Jvm.Cond.laysFinal "FogNetsModel" "FogNetsModel" "marked" "[I") ∈ lw_all := lw_g (lw_at lw_m7 141 rfl) rfl
theorem q1674 : (Jvm.Cond.soleField "FogNetsModel" "marked") ∈ lw_all := lw_g (lw_at lw_m7 142 rfl) rfl
theorem q1675 : (Jvm.Cond.laysFinal "FogNetsModel" "FogNetsModel" "takes" "[I") ∈ lw_all := lw_g (lw_at lw_m7 143 rfl) rfl
theorem q1676 : (Jvm.Cond.soleField "FogNetsModel" "takes") ∈ lw_all := lw_g (lw_at lw_m7 144 rfl) rfl
theorem q1677 : (Jvm.Cond.laysFinal "FogNetsModel" "FogNetsModel" "been" "[I") ∈ lw_all := lw_g (lw_at lw_m7 145 rfl) rfl
theorem q1678 : (Jvm.Cond.soleField "FogNetsModel" "been") ∈ lw_all := lw_g (lw_at lw_m7 146 rfl) rfl
theorem q1679 : (Jvm.Cond.lays "FogNetsModel" "FogNetsModel" "playedRounds" "I") ∈ lw_all := lw_g (lw_at lw_m7 147 rfl) rfl
theorem q1680 : (Jvm.Cond.soleField "FogNetsModel" "playedRounds") ∈ lw_all := lw_g (lw_at lw_m7 148 rfl) rfl
theorem q1681 : (Jvm.Cond.lays "FogNetsModel" "FogNetsModel" "isRest" "Z") ∈ lw_all := lw_g (lw_at lw_m7 149 rfl) rfl
theorem q1682 : (Jvm.Cond.soleField "FogNetsModel" "isRest") ∈ lw_all := lw_g (lw_at lw_m7 150 rfl) rfl
theorem q1683 : (Jvm.Cond.laysFinal "FogNetsModel" "FogNetsModel" "worthOf" "[I") ∈ lw_all := lw_g (lw_at lw_m7 151 rfl) rfl
theorem q1684 : (Jvm.Cond.soleField "FogNetsModel" "worthOf") ∈ lw_all := lw_g (lw_at lw_m7 152 rfl) rfl
theorem q1685 : (Jvm.Cond.lays "FogNetsModel" "FogNetsModel" "g" "J") ∈ lw_all := lw_g (lw_at lw_m7 153 rfl) rfl
theorem q1686 : (Jvm.Cond.soleField "FogNetsModel" "g") ∈ lw_all := lw_g (lw_at lw_m7 154 rfl) rfl
theorem q1687 : (Jvm.Cond.laysFinal "FogNetsModel" "FogNetsModel" "isLaid" "[Z") ∈ lw_all := lw_g (lw_at lw_m7 155 rfl) rfl
theorem q1688 : (Jvm.Cond.soleField "FogNetsModel" "isLaid") ∈ lw_all := lw_g (lw_at lw_m7 156 rfl) rfl
theorem q1689 : (Jvm.Cond.superclass "FogNetsModel" "java/lang/Object") ∈ lw_all := lw_g (lw_at lw_m7 157 rfl) rfl
theorem q1691 : (Jvm.Cond.instanceMethod ({ cls := "FogNetsModel", name := "thrown", desc := "()I" } : Jvm.MethodName)) ∈ lw_all := lw_g (lw_at lw_m7 159 rfl) rfl
theorem q1692 : (Jvm.Cond.selects "FogNetsModel" ({ cls := "FogNetsModel", name := "thrown", desc := "()I" } : Jvm.MethodName) ({ cls := "FogNetsModel", name := "thrown", desc := "()I" } : Jvm.MethodName)) ∈ lw_all := lw_g (lw_at lw_m7 160 rfl) rfl
theorem q1693 : (Jvm.Cond.code ({ cls := "FogNetsModel", name := "thrown", desc := "()I" } : Jvm.MethodName) prog_30_method_2_code (1 : Nat) (Option.some Jvm.ClassFile.FieldType.int)) ∈ lw_all := lw_g (lw_at lw_m7 161 rfl) rfl
theorem q1695 : (Jvm.Cond.instanceMethod ({ cls := "FogNetsModel", name := "feed", desc := "(JJJ)I" } : Jvm.MethodName)) ∈ lw_all := lw_g (lw_at lw_m7 163 rfl) rfl
theorem q1696 : (Jvm.Cond.selects "FogNetsModel" ({ cls := "FogNetsModel", name := "feed", desc := "(JJJ)I" } : Jvm.MethodName) ({ cls := "FogNetsModel", name := "feed", desc := "(JJJ)I" } : Jvm.MethodName)) ∈ lw_all := lw_g (lw_at lw_m7 164 rfl) rfl
theorem q1697 : (Jvm.Cond.code ({ cls := "FogNetsModel", name := "feed", desc := "(JJJ)I" } : Jvm.MethodName) prog_30_method_5_code (11 : Nat) (Option.some Jvm.ClassFile.FieldType.int)) ∈ lw_all := lw_g (lw_at lw_m7 165 rfl) rfl
theorem q1698 : (Jvm.Cond.constantLong "FogNetsModel" (113 : Nat) (255 : Int64)) ∈ lw_all := lw_g (lw_at lw_m7 166 rfl) rfl
theorem q1700 : (Jvm.Cond.instanceMethod ({ cls := "FogNetsModel", name := "ridge", desc := "()I" } : Jvm.MethodName)) ∈ lw_all := lw_g (lw_at lw_m7 168 rfl) rfl
theorem q1701 : (Jvm.Cond.selects "FogNetsModel" ({ cls := "FogNetsModel", name := "ridge", desc := "()I" } : Jvm.MethodName) ({ cls := "FogNetsModel", name := "ridge", desc := "()I" } : Jvm.MethodName)) ∈ lw_all := lw_g (lw_at lw_m7 169 rfl) rfl
theorem q1702 : (Jvm.Cond.code ({ cls := "FogNetsModel", name := "ridge", desc := "()I" } : Jvm.MethodName) prog_30_method_35_code (2 : Nat) (Option.some Jvm.ClassFile.FieldType.int)) ∈ lw_all := lw_g (lw_at lw_m7 170 rfl) rfl
theorem q1703 : (Jvm.Cond.methodLink "FogNetsModel" (290 : Nat) ({ cls := "FogNetsModel", name := "readsAll", desc := "()Z" } : Jvm.MethodName)) ∈ lw_all := lw_g (lw_at lw_m7 171 rfl) rfl
theorem q1704 : (Jvm.Cond.privateMethod ({ cls := "FogNetsModel", name := "readsAll", desc := "()Z" } : Jvm.MethodName)) ∈ lw_tbl := lw_at lw_m7 172 rfl
theorem q1705 : (Jvm.Cond.instanceMethod ({ cls := "FogNetsModel", name := "readsAll", desc := "()Z" } : Jvm.MethodName)) ∈ lw_all := lw_g (lw_at lw_m7 173 rfl) rfl
theorem q1706 : (Jvm.Cond.code ({ cls := "FogNetsModel", name := "readsAll", desc := "()Z" } : Jvm.MethodName) prog_30_method_31_code (2 : Nat) (Option.some Jvm.ClassFile.FieldType.boolean)) ∈ lw_all := lw_g (lw_at lw_m7 174 rfl) rfl
theorem q1707 : (Jvm.Cond.methodLink "FogNetsModel" (183 : Nat) ({ cls := "FogNetsModel", name := "nextToken", desc := "()V" } : Jvm.MethodName)) ∈ lw_all := lw_g (lw_at lw_m7 175 rfl) rfl
theorem q1708 : (Jvm.Cond.privateMethod ({ cls := "FogNetsModel", name := "nextToken", desc := "()V" } : Jvm.MethodName)) ∈ lw_tbl := lw_at lw_m7 176 rfl
theorem q1709 : (Jvm.Cond.instanceMethod ({ cls := "FogNetsModel", name := "nextToken", desc := "()V" } : Jvm.MethodName)) ∈ lw_all := lw_g (lw_at lw_m7 177 rfl) rfl
theorem q1710 : (Jvm.Cond.code ({ cls := "FogNetsModel", name := "nextToken", desc := "()V" } : Jvm.MethodName) prog_30_method_7_code (2 : Nat) (Option.none : Option Jvm.ClassFile.FieldType)) ∈ lw_all := lw_g (lw_at lw_m7 178 rfl) rfl
theorem q1711 : (Jvm.Cond.methodLink "FogNetsModel" (137 : Nat) ({ cls := "FogNetsModel", name := "signAt", desc := "(I)I" } : Jvm.MethodName)) ∈ lw_all := lw_g (lw_at lw_m7 179 rfl) rfl
theorem q1712 : (Jvm.Cond.privateMethod ({ cls := "FogNetsModel", name := "signAt", desc := "(I)I" } : Jvm.MethodName)) ∈ lw_tbl := lw_at lw_m7 180 rfl
theorem q1713 : (Jvm.Cond.instanceMethod ({ cls := "FogNetsModel", name := "signAt", desc := "(I)I" } : Jvm.MethodName)) ∈ lw_all := lw_g (lw_at lw_m7 181 rfl) rfl
theorem q1714 : (Jvm.Cond.code ({ cls := "FogNetsModel", name := "signAt", desc := "(I)I" } : Jvm.MethodName) prog_30_method_6_code (2 : Nat) (Option.some Jvm.ClassFile.FieldType.int)) ∈ lw_all := lw_g (lw_at lw_m7 182 rfl) rfl
theorem q1715 : (Jvm.Cond.constantLong "FogNetsModel" (141 : Nat) (27 : Int64)) ∈ lw_all := lw_g (lw_at lw_m7 183 rfl) rfl
theorem q1716 : (Jvm.Cond.constantLong "FogNetsModel" (143 : Nat) (96 : Int64)) ∈ lw_all := lw_g (lw_at lw_m7 184 rfl) rfl
theorem q1717 : (Jvm.Cond.constantLong "FogNetsModel" (199 : Nat) (3369766 : Int64)) ∈ lw_all := lw_g (lw_at lw_m7 185 rfl) rfl
theorem q1718 : (Jvm.Cond.methodLink "FogNetsModel" (169 : Nat) ({ cls := "FogNetsModel", name := "isWord", desc := "(J)Z" } : Jvm.MethodName)) ∈ lw_all := lw_g (lw_at lw_m7 186 rfl) rfl
theorem q1719 : (Jvm.Cond.privateMethod ({ cls := "FogNetsModel", name := "isWord", desc := "(J)Z" } : Jvm.MethodName)) ∈ lw_tbl := lw_at lw_m7 187 rfl
theorem q1720 : (Jvm.Cond.instanceMethod ({ cls := "FogNetsModel", name := "isWord", desc := "(J)Z" } : Jvm.MethodName)) ∈ lw_all := lw_g (lw_at lw_m7 188 rfl) rfl
theorem q1721 : (Jvm.Cond.code ({ cls := "FogNetsModel", name := "isWord", desc := "(J)Z" } : Jvm.MethodName) prog_30_method_8_code (3 : Nat) (Option.some Jvm.ClassFile.FieldType.boolean)) ∈ lw_all := lw_g (lw_at lw_m7 189 rfl) rfl
theorem q1722 : (Jvm.Cond.methodLink "FogNetsModel" (271 : Nat) ({ cls := "FogNetsModel", name := "readsField", desc := "()Z" } : Jvm.MethodName)) ∈ lw_all := lw_g (lw_at lw_m7 190 rfl) rfl
theorem q1723 : (Jvm.Cond.privateMethod ({ cls := "FogNetsModel", name := "readsField", desc := "()Z" } : Jvm.MethodName)) ∈ lw_tbl := lw_at lw_m7 191 rfl
theorem q1724 : (Jvm.Cond.instanceMethod ({ cls := "FogNetsModel", name := "readsField", desc := "()Z" } : Jvm.MethodName)) ∈ lw_all := lw_g (lw_at lw_m7 192 rfl) rfl
theorem q1725 : (Jvm.Cond.code ({ cls := "FogNetsModel", name := "readsField", desc := "()Z" } : Jvm.MethodName) prog_30_method_25_code (1 : Nat) (Option.some Jvm.ClassFile.FieldType.boolean)) ∈ lw_all := lw_g (lw_at lw_m7 193 rfl) rfl
theorem q1726 : (Jvm.Cond.methodLink "FogNetsModel" (245 : Nat) ({ cls := "FogNetsModel", name := "isTwice", desc := "(I)Z" } : Jvm.MethodName)) ∈ lw_all := lw_g (lw_at lw_m7 194 rfl) rfl
theorem q1727 : (Jvm.Cond.privateMethod ({ cls := "FogNetsModel", name := "isTwice", desc := "(I)Z" } : Jvm.MethodName)) ∈ lw_tbl := lw_at lw_m7 195 rfl
theorem q1728 : (Jvm.Cond.instanceMethod ({ cls := "FogNetsModel", name := "isTwice", desc := "(I)Z" } : Jvm.MethodName)) ∈ lw_all := lw_g (lw_at lw_m7 196 rfl) rfl
theorem q1729 : (Jvm.Cond.code ({ cls := "FogNetsModel", name := "isTwice", desc := "(I)Z" } : Jvm.MethodName) prog_30_method_24_code (2 : Nat) (Option.some Jvm.ClassFile.FieldType.boolean)) ∈ lw_all := lw_g (lw_at lw_m7 197 rfl) rfl
theorem q1730 : (Jvm.Cond.methodLink "FogNetsModel" (177 : Nat) ({ cls := "FogNetsModel", name := "fails", desc := "(I)Z" } : Jvm.MethodName)) ∈ lw_all := lw_g (lw_at lw_m7 198 rfl) rfl
theorem q1731 : (Jvm.Cond.privateMethod ({ cls := "FogNetsModel", name := "fails", desc := "(I)Z" } : Jvm.MethodName)) ∈ lw_tbl := lw_at lw_m7 199 rfl
theorem q1732 : (Jvm.Cond.instanceMethod ({ cls := "FogNetsModel", name := "fails", desc := "(I)Z" } : Jvm.MethodName)) ∈ lw_all := lw_g (lw_at lw_m7 200 rfl) rfl
theorem q1733 : (Jvm.Cond.code ({ cls := "FogNetsModel", name := "fails", desc := "(I)Z" } : Jvm.MethodName) prog_30_method_10_code (2 : Nat) (Option.some Jvm.ClassFile.FieldType.boolean)) ∈ lw_all := lw_g (lw_at lw_m7 201 rfl) rfl
theorem q1734 : (Jvm.Cond.methodLink "FogNetsModel" (248 : Nat) ({ cls := "FogNetsModel", name := "needsNumber", desc := "(II)Z" } : Jvm.MethodName)) ∈ lw_all := lw_g (lw_at lw_m7 202 rfl) rfl
theorem q1735 : (Jvm.Cond.privateMethod ({ cls := "FogNetsModel", name := "needsNumber", desc := "(II)Z" } : Jvm.MethodName)) ∈ lw_tbl := lw_at lw_m7 203 rfl
theorem q1736 : (Jvm.Cond.instanceMethod ({ cls := "FogNetsModel", name := "needsNumber", desc := "(II)Z" } : Jvm.MethodName)) ∈ lw_all := lw_g (lw_at lw_m7 204 rfl) rfl
theorem q1737 : (Jvm.Cond.code ({ cls := "FogNetsModel", name := "needsNumber", desc := "(II)Z" } : Jvm.MethodName) prog_30_method_21_code (3 : Nat) (Option.some Jvm.ClassFile.FieldType.boolean)) ∈ lw_all := lw_g (lw_at lw_m7 205 rfl) rfl
theorem q1738 : (Jvm.Cond.methodLink "FogNetsModel" (235 : Nat) ({ cls := "FogNetsModel", name := "within", desc := "(III)Z" } : Jvm.MethodName)) ∈ lw_all := lw_g (lw_at lw_m7 206 rfl) rfl
theorem q1739 : (Jvm.Cond.static ({ cls := "FogNetsModel", name := "within", desc := "(III)Z" } : Jvm.MethodName)) ∈ lw_all := lw_g (lw_at lw_m7 207 rfl) rfl
theorem q1740 : (Jvm.Cond.code ({ cls := "FogNetsModel", name := "within", desc := "(III)Z" } : Jvm.MethodName) prog_30_method_3_code (3 : Nat) (Option.some Jvm.ClassFile.FieldType.boolean)) ∈ lw_all := lw_g (lw_at lw_m7 208 rfl) rfl
theorem q1741 : (Jvm.Cond.methodLink "FogNetsModel" (252 : Nat) ({ cls := "FogNetsModel", name := "ends", desc := "()Z" } : Jvm.MethodName)) ∈ lw_all := lw_g (lw_at lw_m7 209 rfl) rfl
theorem q1742 : (Jvm.Cond.privateMethod ({ cls := "FogNetsModel", name := "ends", desc := "()Z" } : Jvm.MethodName)) ∈ lw_tbl := lw_at lw_m7 210 rfl
theorem q1743 : (Jvm.Cond.instanceMethod ({ cls := "FogNetsModel", name := "ends", desc := "()Z" } : Jvm.MethodName)) ∈ lw_all := lw_g (lw_at lw_m7 211 rfl) rfl
theorem q1744 : (Jvm.Cond.code ({ cls := "FogNetsModel", name := "ends", desc := "()Z" } : Jvm.MethodName) prog_30_method_23_code (1 : Nat) (Option.some Jvm.ClassFile.FieldType.boolean)) ∈ lw_all := lw_g (lw_at lw_m7 212 rfl) rfl
theorem q1745 : (Jvm.Cond.methodLink "FogNetsModel" (173 : Nat) ({ cls := "FogNetsModel", name := "isSign", desc := "(I)Z" } : Jvm.MethodName)) ∈ lw_all := lw_g (lw_at lw_m7 213 rfl) rfl
theorem q1746 : (Jvm.Cond.privateMethod ({ cls := "FogNetsModel", name := "isSign", desc := "(I)Z" } : Jvm.MethodName)) ∈ lw_tbl := lw_at lw_m7 214 rfl
theorem q1747 : (Jvm.Cond.instanceMethod ({ cls := "FogNetsModel", name := "isSign", desc := "(I)Z" } : Jvm.MethodName)) ∈ lw_all := lw_g (lw_at lw_m7 215 rfl) rfl
theorem q1748 : (Jvm.Cond.code ({ cls := "FogNetsModel", name := "isSign", desc := "(I)Z" } : Jvm.MethodName) prog_30_method_9_code (2 : Nat) (Option.some Jvm.ClassFile.FieldType.boolean)) ∈ lw_all := lw_g (lw_at lw_m7 216 rfl) rfl
theorem q1749 : (Jvm.Cond.constantLong "FogNetsModel" (201 : Nat) (4562587 : Int64)) ∈ lw_all := lw_g (lw_at lw_m7 217 rfl) rfl
theorem q1750 : (Jvm.Cond.methodLink "FogNetsModel" (274 : Nat) ({ cls := "FogNetsModel", name := "readsOne", desc := "(III)Z" } : Jvm.MethodName)) ∈ lw_all := lw_g (lw_at lw_m7 218 rfl) rfl
theorem q1751 : (Jvm.Cond.privateMethod ({ cls := "FogNetsModel", name := "readsOne", desc := "(III)Z" } : Jvm.MethodName)) ∈ lw_tbl := lw_at lw_m7 219 rfl
theorem q1752 : (Jvm.Cond.instanceMethod ({ cls := "FogNetsModel", name := "readsOne", desc := "(III)Z" } : Jvm.MethodName)) ∈ lw_all := lw_g (lw_at lw_m7 220 rfl) rfl
theorem q1753 : (Jvm.Cond.code ({ cls := "FogNetsModel", name := "readsOne", desc := "(III)Z" } : Jvm.MethodName) prog_30_method_26_code (4 : Nat) (Option.some Jvm.ClassFile.FieldType.boolean)) ∈ lw_all := lw_g (lw_at lw_m7 221 rfl) rfl
theorem q1754 : (Jvm.Cond.constantLong "FogNetsModel" (203 : Nat) (3074 : Int64)) ∈ lw_all := lw_g (lw_at lw_m7 222 rfl) rfl
theorem q1755 : (Jvm.Cond.constantLong "FogNetsModel" (205 : Nat) (11055682 : Int64)) ∈ lw_all := lw_g (lw_at lw_m7 223 rfl) rfl
theorem q1756 : (Jvm.Cond.constantLong "FogNetsModel" (207 : Nat) (459652 : Int64)) ∈ lw_all := lw_g (lw_at lw_m7 224 rfl) rfl
theorem q1757 : (Jvm.Cond.methodLink "FogNetsModel" (277 : Nat) ({ cls := "FogNetsModel", name := "readsLaw", desc := "(I)Z" } : Jvm.MethodName)) ∈ lw_all := lw_g (lw_at lw_m7 225 rfl) rfl
theorem q1758 : (Jvm.Cond.privateMethod ({ cls := "FogNetsModel", name := "readsLaw", desc := "(I)Z" } : Jvm.MethodName)) ∈ lw_tbl := lw_at lw_m7 226 rfl
theorem q1759 : (Jvm.Cond.instanceMethod ({ cls := "FogNetsModel", name := "readsLaw", desc := "(I)Z" } : Jvm.MethodName)) ∈ lw_all := lw_g (lw_at lw_m7 227 rfl) rfl
theorem q1760 : (Jvm.Cond.code ({ cls := "FogNetsModel", name := "readsLaw", desc := "(I)Z" } : Jvm.MethodName) prog_30_method_27_code (2 : Nat) (Option.some Jvm.ClassFile.FieldType.boolean)) ∈ lw_all := lw_g (lw_at lw_m7 228 rfl) rfl
theorem q1761 : (Jvm.Cond.methodLink "FogNetsModel" (256 : Nat) ({ cls := "FogNetsModel", name := "reads", desc := "()Z" } : Jvm.MethodName)) ∈ lw_all := lw_g (lw_at lw_m7 229 rfl) rfl
theorem q1762 : (Jvm.Cond.privateMethod ({ cls := "FogNetsModel", name := "reads", desc := "()Z" } : Jvm.MethodName)) ∈ lw_tbl := lw_at lw_m7 230 rfl
theorem q1763 : (Jvm.Cond.instanceMethod ({ cls := "FogNetsModel", name := "reads", desc := "()Z" } : Jvm.MethodName)) ∈ lw_all := lw_g (lw_at lw_m7 231 rfl) rfl
theorem q1764 : (Jvm.Cond.code ({ cls := "FogNetsModel", name := "reads", desc := "()Z" } : Jvm.MethodName) prog_30_method_14_code (6 : Nat) (Option.some Jvm.ClassFile.FieldType.boolean)) ∈ lw_all := lw_g (lw_at lw_m7 232 rfl) rfl
theorem q1765 : (Jvm.Cond.methodLink "FogNetsModel" (163 : Nat) ({ cls := "FogNetsModel", name := "fact", desc := "()I" } : Jvm.MethodName)) ∈ lw_all := lw_g (lw_at lw_m7 233 rfl) rfl
theorem q1766 : (Jvm.Cond.privateMethod ({ cls := "FogNetsModel", name := "fact", desc := "()I" } : Jvm.MethodName)) ∈ lw_tbl := lw_at lw_m7 234 rfl
theorem q1767 : (Jvm.Cond.instanceMethod ({ cls := "FogNetsModel", name := "fact", desc := "()I" } : Jvm.MethodName)) ∈ lw_all := lw_g (lw_at lw_m7 235 rfl) rfl
theorem q1768 : (Jvm.Cond.code ({ cls := "FogNetsModel", name := "fact", desc := "()I" } : Jvm.MethodName) prog_30_method_13_code (1 : Nat) (Option.some Jvm.ClassFile.FieldType.int)) ∈ lw_all := lw_g (lw_at lw_m7 236 rfl) rfl
theorem q1769 : (Jvm.Cond.constantLong "FogNetsModel" (151 : Nat) (168984 : Int64)) ∈ lw_all := lw_g (lw_at lw_m7 237 rfl) rfl
theorem q1770 : (Jvm.Cond.constantLong "FogNetsModel" (153 : Nat) (7622660 : Int64)) ∈ lw_all := lw_g (lw_at lw_m7 238 rfl) rfl
theorem q1771 : (Jvm.Cond.constantLong "FogNetsModel" (159 : Nat) (243140 : Int64)) ∈ lw_all := lw_g (lw_at lw_m7 239 rfl) rfl
theorem q1772 : (Jvm.Cond.constantLong "FogNetsModel" (161 : Nat) (16819 : Int64)) ∈ lw_all := lw_g (lw_at lw_m8 0 rfl) rfl
theorem q1773 : (Jvm.Cond.constantLong "FogNetsModel" (167 : Nat) (10631 : Int64)) ∈ lw_all := lw_g (lw_at lw_m8 1 rfl) rfl
theorem q1774 : (Jvm.Cond.methodLink "FogNetsModel" (180 : Nat) ({ cls := "FogNetsModel", name := "puts", desc := "(I)V" } : Jvm.MethodName)) ∈ lw_all := lw_g (lw_at lw_m8 2 rfl) rfl
theorem q1775 : (Jvm.Cond.privateMethod ({ cls := "FogNetsModel", name := "puts", desc := "(I)V" } : Jvm.MethodName)) ∈ lw_tbl := lw_at lw_m8 3 rfl
theorem q1776 : (Jvm.Cond.instanceMethod ({ cls := "FogNetsModel", name := "puts", desc := "(I)V" } : Jvm.MethodName)) ∈ lw_all := lw_g (lw_at lw_m8 4 rfl) rfl
theorem q1777 : (Jvm.Cond.code ({ cls := "FogNetsModel", name := "puts", desc := "(I)V" } : Jvm.MethodName) prog_30_method_12_code (2 : Nat) (Option.none : Option Jvm.ClassFile.FieldType)) ∈ lw_all := lw_g (lw_at lw_m8 5 rfl) rfl
theorem q1778 : (Jvm.Cond.constantLong "FogNetsModel" (186 : Nat) (1111 : Int64)) ∈ lw_all := lw_g (lw_at lw_m8 6 rfl) rfl
theorem q1779 : (Jvm.Cond.constantLong "FogNetsModel" (188 : Nat) (423 : Int64)) ∈ lw_all := lw_g (lw_at lw_m8 7 rfl) rfl
theorem q1780 : (Jvm.Cond.constantLong "FogNetsModel" (209 : Nat) (4786 : Int64)) ∈ lw_all := lw_g (lw_at lw_m8 8 rfl) rfl
theorem q1781 : (Jvm.Cond.constantLong "FogNetsModel" (211 : Nat) (8659005332 : Int64)) ∈ lw_all := lw_g (lw_at lw_m8 9 rfl) rfl
theorem q1782 : (Jvm.Cond.methodLink "FogNetsModel" (280 : Nat) ({ cls := "FogNetsModel", name := "readsVillage", desc := "()Z" } : Jvm.MethodName)) ∈ lw_all := lw_g (lw_at lw_m8 10 rfl) rfl
theorem q1783 : (Jvm.Cond.privateMethod ({ cls := "FogNetsModel", name := "readsVillage", desc := "()Z" } : Jvm.MethodName)) ∈ lw_tbl := lw_at lw_m8 11 rfl
theorem q1784 : (Jvm.Cond.instanceMethod ({ cls := "FogNetsModel", name := "readsVillage", desc := "()Z" } : Jvm.MethodName)) ∈ lw_all := lw_g (lw_at lw_m8 12 rfl) rfl
theorem q1785 : (Jvm.Cond.code ({ cls := "FogNetsModel", name := "readsVillage", desc := "()Z" } : Jvm.MethodName) prog_30_method_28_code (2 : Nat) (Option.some Jvm.ClassFile.FieldType.boolean)) ∈ lw_all := lw_g (lw_at lw_m8 13 rfl) rfl
theorem q1786 : (Jvm.Cond.methodLink "FogNetsModel" (259 : Nat) ({ cls := "FogNetsModel", name := "isKept", desc := "()Z" } : Jvm.MethodName)) ∈ lw_all := lw_g (lw_at lw_m8 14 rfl) rfl
theorem q1787 : (Jvm.Cond.privateMethod ({ cls := "FogNetsModel", name := "isKept", desc := "()Z" } : Jvm.MethodName)) ∈ lw_tbl := lw_at lw_m8 15 rfl
theorem q1788 : (Jvm.Cond.instanceMethod ({ cls := "FogNetsModel", name := "isKept", desc := "()Z" } : Jvm.MethodName)) ∈ lw_all := lw_g (lw_at lw_m8 16 rfl) rfl
theorem q1789 : (Jvm.Cond.code ({ cls := "FogNetsModel", name := "isKept", desc := "()Z" } : Jvm.MethodName) prog_30_method_19_code (1 : Nat) (Option.some Jvm.ClassFile.FieldType.boolean)) ∈ lw_all := lw_g (lw_at lw_m8 17 rfl) rfl
theorem q1790 : (Jvm.Cond.constantLong "FogNetsModel" (213 : Nat) (291420470 : Int64)) ∈ lw_all := lw_g (lw_at lw_m8 18 rfl) rfl
theorem q1791 : (Jvm.Cond.constantLong "FogNetsModel" (215 : Nat) (394778 : Int64)) ∈ lw_all := lw_g (lw_at lw_m8 19 rfl) rfl
theorem q1792 : (Jvm.Cond.constantLong "FogNetsModel" (217 : Nat) (10361 : Int64)) ∈ lw_all := lw_g (lw_at lw_m8 20 rfl) rfl
theorem q1793 : (Jvm.Cond.constantLong "FogNetsModel" (219 : Nat) (47 : Int64)) ∈ lw_all := lw_g (lw_at lw_m8 21 rfl) rfl
theorem q1794 : (Jvm.Cond.constantLong "FogNetsModel" (221 : Nat) (260045 : Int64)) ∈ lw_all := lw_g (lw_at lw_m8 22 rfl) rfl
theorem q1795 : (Jvm.Cond.constantLong "FogNetsModel" (223 : Nat) (8740238 : Int64)) ∈ lw_all := lw_g (lw_at lw_m8 23 rfl) rfl
theorem q1796 : (Jvm.Cond.constantLong "FogNetsModel" (225 : Nat) (277246561 : Int64)) ∈ lw_all := lw_g (lw_at lw_m8 24 rfl) rfl
theorem q1797 : (Jvm.Cond.constantLong "FogNetsModel" (227 : Nat) (1253278 : Int64)) ∈ lw_all := lw_g (lw_at lw_m8 25 rfl) rfl
theorem q1798 : (Jvm.Cond.constantLong "FogNetsModel" (229 : Nat) (405095 : Int64)) ∈ lw_all := lw_g (lw_at lw_m8 26 rfl) rfl
theorem q1799 : (Jvm.Cond.constantLong "FogNetsModel" (231 : Nat) (10419413 : Int64)) ∈ lw_all := lw_g (lw_at lw_m8 27 rfl) rfl
theorem q1800 : (Jvm.Cond.constantLong "FogNetsModel" (233 : Nat) (164222 : Int64)) ∈ lw_all := lw_g (lw_at lw_m8 28 rfl) rfl
theorem q1801 : (Jvm.Cond.methodLink "FogNetsModel" (262 : Nat) ({ cls := "FogNetsModel", name := "villageNamed", desc := "()I" } : Jvm.MethodName)) ∈ lw_all := lw_g (lw_at lw_m8 29 rfl) rfl
theorem q1802 : (Jvm.Cond.privateMethod ({ cls := "FogNetsModel", name := "villageNamed", desc := "()I" } : Jvm.MethodName)) ∈ lw_tbl := lw_at lw_m8 30 rfl
theorem q1803 : (Jvm.Cond.instanceMethod ({ cls := "FogNetsModel", name := "villageNamed", desc := "()I" } : Jvm.MethodName)) ∈ lw_all := lw_g (lw_at lw_m8 31 rfl) rfl
theorem q1804 : (Jvm.Cond.code ({ cls := "FogNetsModel", name := "villageNamed", desc := "()I" } : Jvm.MethodName) prog_30_method_20_code (2 : Nat) (Option.some Jvm.ClassFile.FieldType.int)) ∈ lw_all := lw_g (lw_at lw_m8 32 rfl) rfl
theorem q1805 : (Jvm.Cond.methodLink "FogNetsModel" (265 : Nat) ({ cls := "FogNetsModel", name := "needsWord", desc := "(J)Z" } : Jvm.MethodName)) ∈ lw_all := lw_g (lw_at lw_m8 33 rfl) rfl
theorem q1806 : (Jvm.Cond.privateMethod ({ cls := "FogNetsModel", name := "needsWord", desc := "(J)Z" } : Jvm.MethodName)) ∈ lw_tbl := lw_at lw_m8 34 rfl
theorem q1807 : (Jvm.Cond.instanceMethod ({ cls := "FogNetsModel", name := "needsWord", desc := "(J)Z" } : Jvm.MethodName)) ∈ lw_all := lw_g (lw_at lw_m8 35 rfl) rfl
theorem q1808 : (Jvm.Cond.code ({ cls := "FogNetsModel", name := "needsWord", desc := "(J)Z" } : Jvm.MethodName) prog_30_method_22_code (3 : Nat) (Option.some Jvm.ClassFile.FieldType.boolean)) ∈ lw_all := lw_g (lw_at lw_m8 36 rfl) rfl
theorem q1809 : (Jvm.Cond.methodLink "FogNetsModel" (283 : Nat) ({ cls := "FogNetsModel", name := "readsNet", desc := "()Z" } : Jvm.MethodName)) ∈ lw_all := lw_g (lw_at lw_m8 37 rfl) rfl
theorem q1810 : (Jvm.Cond.privateMethod ({ cls := "FogNetsModel", name := "readsNet", desc := "()Z" } : Jvm.MethodName)) ∈ lw_tbl := lw_at lw_m8 38 rfl
theorem q1811 : (Jvm.Cond.instanceMethod ({ cls := "FogNetsModel", name := "readsNet", desc := "()Z" } : Jvm.MethodName)) ∈ lw_all := lw_g (lw_at lw_m8 39 rfl) rfl
theorem q1812 : (Jvm.Cond.code ({ cls := "FogNetsModel", name := "readsNet", desc := "()Z" } : Jvm.MethodName) prog_30_method_30_code (3 : Nat) (Option.some Jvm.ClassFile.FieldType.boolean)) ∈ lw_all := lw_g (lw_at lw_m8 40 rfl) rfl
theorem q1813 : (Jvm.Cond.methodLink "FogNetsModel" (268 : Nat) ({ cls := "FogNetsModel", name := "kindAt", desc := "()I" } : Jvm.MethodName)) ∈ lw_all := lw_g (lw_at lw_m8 41 rfl) rfl
theorem q1814 : (Jvm.Cond.privateMethod ({ cls := "FogNetsModel", name := "kindAt", desc := "()I" } : Jvm.MethodName)) ∈ lw_tbl := lw_at lw_m8 42 rfl
theorem q1815 : (Jvm.Cond.instanceMethod ({ cls := "FogNetsModel", name := "kindAt", desc := "()I" } : Jvm.MethodName)) ∈ lw_all := lw_g (lw_at lw_m8 43 rfl) rfl
theorem q1816 : (Jvm.Cond.code ({ cls := "FogNetsModel", name := "kindAt", desc := "()I" } : Jvm.MethodName) prog_30_method_29_code (1 : Nat) (Option.some Jvm.ClassFile.FieldType.int)) ∈ lw_all := lw_g (lw_at lw_m8 44 rfl) rfl
theorem q1817 : (Jvm.Cond.methodLink "FogNetsModel" (293 : Nat) ({ cls := "FogNetsModel", name := "lays", desc := "(II)V" } : Jvm.MethodName)) ∈ lw_all := lw_g (lw_at lw_m8 45 rfl) rfl
theorem q1818 : (Jvm.Cond.privateMethod ({ cls := "FogNetsModel", name := "lays", desc := "(II)V" } : Jvm.MethodName)) ∈ lw_tbl := lw_at lw_m8 46 rfl
theorem q1819 : (Jvm.Cond.instanceMethod ({ cls := "FogNetsModel", name := "lays", desc := "(II)V" } : Jvm.MethodName)) ∈ lw_all := lw_g (lw_at lw_m8 47 rfl) rfl
theorem q1820 : (Jvm.Cond.code ({ cls := "FogNetsModel", name := "lays", desc := "(II)V" } : Jvm.MethodName) prog_30_method_33_code (4 : Nat) (Option.none : Option Jvm.ClassFile.FieldType)) ∈ lw_all := lw_g (lw_at lw_m8 48 rfl) rfl
theorem q1821 : (Jvm.Cond.methodLink "FogNetsModel" (286 : Nat) ({ cls := "FogNetsModel", name := "moves", desc := "([IIII)V" } : Jvm.MethodName)) ∈ lw_all := lw_g (lw_at lw_m8 49 rfl) rfl
theorem q1822 : (Jvm.Cond.static ({ cls := "FogNetsModel", name := "moves", desc := "([IIII)V" } : Jvm.MethodName)) ∈ lw_all := lw_g (lw_at lw_m8 50 rfl) rfl
theorem q1823 : (Jvm.Cond.code ({ cls := "FogNetsModel", name := "moves", desc := "([IIII)V" } : Jvm.MethodName) prog_30_method_32_code (5 : Nat) (Option.none : Option Jvm.ClassFile.FieldType)) ∈ lw_all := lw_g (lw_at lw_m8 51 rfl) rfl
theorem q1825 : (Jvm.Cond.instanceMethod ({ cls := "FogNetsModel", name := "net", desc := "(II)I" } : Jvm.MethodName)) ∈ lw_all := lw_g (lw_at lw_m8 53 rfl) rfl
theorem q1826 : (Jvm.Cond.selects "FogNetsModel" ({ cls := "FogNetsModel", name := "net", desc := "(II)I" } : Jvm.MethodName) ({ cls := "FogNetsModel", name := "net", desc := "(II)I" } : Jvm.MethodName)) ∈ lw_all := lw_g (lw_at lw_m8 54 rfl) rfl
theorem q1827 : (Jvm.Cond.code ({ cls := "FogNetsModel", name := "net", desc := "(II)I" } : Jvm.MethodName) prog_30_method_40_code (3 : Nat) (Option.some Jvm.ClassFile.FieldType.int)) ∈ lw_all := lw_g (lw_at lw_m8 55 rfl) rfl
theorem q1828 : (Jvm.Cond.methodLink "FogNetsModel" (297 : Nat) ({ cls := "FogNetsModel", name := "isNet", desc := "(I)Z" } : Jvm.MethodName)) ∈ lw_all := lw_g (lw_at lw_m8 56 rfl) rfl
theorem q1829 : (Jvm.Cond.privateMethod ({ cls := "FogNetsModel", name := "isNet", desc := "(I)Z" } : Jvm.MethodName)) ∈ lw_tbl := lw_at lw_m8 57 rfl
theorem q1830 : (Jvm.Cond.instanceMethod ({ cls := "FogNetsModel", name := "isNet", desc := "(I)Z" } : Jvm.MethodName)) ∈ lw_all := lw_g (lw_at lw_m8 58 rfl) rfl
theorem q1831 : (Jvm.Cond.code ({ cls := "FogNetsModel", name := "isNet", desc := "(I)Z" } : Jvm.MethodName) prog_30_method_36_code (2 : Nat) (Option.some Jvm.ClassFile.FieldType.boolean)) ∈ lw_all := lw_g (lw_at lw_m8 59 rfl) rfl
theorem q1833 : (Jvm.Cond.instanceMethod ({ cls := "FogNetsModel", name := "village", desc := "(II)I" } : Jvm.MethodName)) ∈ lw_all := lw_g (lw_at lw_m8 61 rfl) rfl
theorem q1834 : (Jvm.Cond.selects "FogNetsModel" ({ cls := "FogNetsModel", name := "village", desc := "(II)I" } : Jvm.MethodName) ({ cls := "FogNetsModel", name := "village", desc := "(II)I" } : Jvm.MethodName)) ∈ lw_all := lw_g (lw_at lw_m8 62 rfl) rfl
theorem q1835 : (Jvm.Cond.code ({ cls := "FogNetsModel", name := "village", desc := "(II)I" } : Jvm.MethodName) prog_30_method_42_code (3 : Nat) (Option.some Jvm.ClassFile.FieldType.int)) ∈ lw_all := lw_g (lw_at lw_m8 63 rfl) rfl
theorem q1836 : (Jvm.Cond.methodLink "FogNetsModel" (300 : Nat) ({ cls := "FogNetsModel", name := "isVillage", desc := "(I)Z" } : Jvm.MethodName)) ∈ lw_all := lw_g (lw_at lw_m8 64 rfl) rfl
theorem q1837 : (Jvm.Cond.privateMethod ({ cls := "FogNetsModel", name := "isVillage", desc := "(I)Z" } : Jvm.MethodName)) ∈ lw_tbl := lw_at lw_m8 65 rfl
theorem q1838 : (Jvm.Cond.instanceMethod ({ cls := "FogNetsModel", name := "isVillage", desc := "(I)Z" } : Jvm.MethodName)) ∈ lw_all := lw_g (lw_at lw_m8 66 rfl) rfl
theorem q1839 : (Jvm.Cond.code ({ cls := "FogNetsModel", name := "isVillage", desc := "(I)Z" } : Jvm.MethodName) prog_30_method_37_code (2 : Nat) (Option.some Jvm.ClassFile.FieldType.boolean)) ∈ lw_all := lw_g (lw_at lw_m8 67 rfl) rfl
theorem q1840 : (Jvm.Cond.methodLink "FogNetsModel" (303 : Nat) ({ cls := "FogNetsModel", name := "netsOf", desc := "(I)I" } : Jvm.MethodName)) ∈ lw_all := lw_g (lw_at lw_m8 68 rfl) rfl
theorem q1841 : (Jvm.Cond.privateMethod ({ cls := "FogNetsModel", name := "netsOf", desc := "(I)I" } : Jvm.MethodName)) ∈ lw_tbl := lw_at lw_m8 69 rfl
theorem q1842 : (Jvm.Cond.instanceMethod ({ cls := "FogNetsModel", name := "netsOf", desc := "(I)I" } : Jvm.MethodName)) ∈ lw_all := lw_g (lw_at lw_m8 70 rfl) rfl
theorem q1843 : (Jvm.Cond.code ({ cls := "FogNetsModel", name := "netsOf", desc := "(I)I" } : Jvm.MethodName) prog_30_method_41_code (4 : Nat) (Option.some Jvm.ClassFile.FieldType.int)) ∈ lw_all := lw_g (lw_at lw_m8 71 rfl) rfl
theorem q1845 : (Jvm.Cond.instanceMethod ({ cls := "FogNetsModel", name := "wind", desc := "(I)I" } : Jvm.MethodName)) ∈ lw_all := lw_g (lw_at lw_m8 73 rfl) rfl
theorem q1846 : (Jvm.Cond.selects "FogNetsModel" ({ cls := "FogNetsModel", name := "wind", desc := "(I)I" } : Jvm.MethodName) ({ cls := "FogNetsModel", name := "wind", desc := "(I)I" } : Jvm.MethodName)) ∈ lw_all := lw_g (lw_at lw_m8 74 rfl) rfl
theorem q1847 : (Jvm.Cond.code ({ cls := "FogNetsModel", name := "wind", desc := "(I)I" } : Jvm.MethodName) prog_30_method_54_code (2 : Nat) (Option.some Jvm.ClassFile.FieldType.int)) ∈ lw_all := lw_g (lw_at lw_m8 75 rfl) rfl
theorem q1848 : (Jvm.Cond.methodLink "FogNetsModel" (343 : Nat) ({ cls := "FogNetsModel", name := "isHour", desc := "(I)Z" } : Jvm.MethodName)) ∈ lw_all := lw_g (lw_at lw_m8 76 rfl) rfl
theorem q1849 : (Jvm.Cond.privateMethod ({ cls := "FogNetsModel", name := "isHour", desc := "(I)Z" } : Jvm.MethodName)) ∈ lw_tbl := lw_at lw_m8 77 rfl
theorem q1850 : (Jvm.Cond.instanceMethod ({ cls := "FogNetsModel", name := "isHour", desc := "(I)Z" } : Jvm.MethodName)) ∈ lw_all := lw_g (lw_at lw_m8 78 rfl) rfl
theorem q1851 : (Jvm.Cond.code ({ cls := "FogNetsModel", name := "isHour", desc := "(I)Z" } : Jvm.MethodName) prog_30_method_38_code (2 : Nat) (Option.some Jvm.ClassFile.FieldType.boolean)) ∈ lw_all := lw_g (lw_at lw_m8 79 rfl) rfl
theorem q1852 : (Jvm.Cond.methodLink "FogNetsModel" (336 : Nat) ({ cls := "FogNetsModel", name := "windAt", desc := "(II)I" } : Jvm.MethodName)) ∈ lw_all := lw_g (lw_at lw_m8 80 rfl) rfl
theorem q1853 : (Jvm.Cond.privateMethod ({ cls := "FogNetsModel", name := "windAt", desc := "(II)I" } : Jvm.MethodName)) ∈ lw_tbl := lw_at lw_m8 81 rfl
theorem q1854 : (Jvm.Cond.instanceMethod ({ cls := "FogNetsModel", name := "windAt", desc := "(II)I" } : Jvm.MethodName)) ∈ lw_all := lw_g (lw_at lw_m8 82 rfl) rfl
theorem q1855 : (Jvm.Cond.code ({ cls := "FogNetsModel", name := "windAt", desc := "(II)I" } : Jvm.MethodName) prog_30_method_43_code (3 : Nat) (Option.some Jvm.ClassFile.FieldType.int)) ∈ lw_all := lw_g (lw_at lw_m8 83 rfl) rfl
theorem q1856 : (Jvm.Cond.methodLink "FogNetsModel" (306 : Nat) ({ cls := "FogNetsModel", name := "worked", desc := "(I)I" } : Jvm.MethodName)) ∈ lw_all := lw_g (lw_at lw_m8 84 rfl) rfl
theorem q1857 : (Jvm.Cond.privateMethod ({ cls := "FogNetsModel", name := "worked", desc := "(I)I" } : Jvm.MethodName)) ∈ lw_tbl := lw_at lw_m8 85 rfl
theorem q1858 : (Jvm.Cond.instanceMethod ({ cls := "FogNetsModel", name := "worked", desc := "(I)I" } : Jvm.MethodName)) ∈ lw_all := lw_g (lw_at lw_m8 86 rfl) rfl
theorem q1859 : (Jvm.Cond.code ({ cls := "FogNetsModel", name := "worked", desc := "(I)I" } : Jvm.MethodName) prog_30_method_18_code (6 : Nat) (Option.some Jvm.ClassFile.FieldType.int)) ∈ lw_all := lw_g (lw_at lw_m8 87 rfl) rfl
theorem q1860 : (Jvm.Cond.methodLink "FogNetsModel" (193 : Nat) ({ cls := "FogNetsModel", name := "opens", desc := "(I)V" } : Jvm.MethodName)) ∈ lw_all := lw_g (lw_at lw_m8 88 rfl) rfl
theorem q1861 : (Jvm.Cond.privateMethod ({ cls := "FogNetsModel", name := "opens", desc := "(I)V" } : Jvm.MethodName)) ∈ lw_tbl := lw_at lw_m8 89 rfl
theorem q1862 : (Jvm.Cond.instanceMethod ({ cls := "FogNetsModel", name := "opens", desc := "(I)V" } : Jvm.MethodName)) ∈ lw_all := lw_g (lw_at lw_m8 90 rfl) rfl
theorem q1863 : (Jvm.Cond.code ({ cls := "FogNetsModel", name := "opens", desc := "(I)V" } : Jvm.MethodName) prog_30_method_15_code (2 : Nat) (Option.none : Option Jvm.ClassFile.FieldType)) ∈ lw_all := lw_g (lw_at lw_m8 91 rfl) rfl
theorem q1864 : (Jvm.Cond.methodLink "FogNetsModel" (190 : Nat) ({ cls := "FogNetsModel", name := "sums", desc := "(I)V" } : Jvm.MethodName)) ∈ lw_all := lw_g (lw_at lw_m8 92 rfl) rfl
theorem q1865 : (Jvm.Cond.privateMethod ({ cls := "FogNetsModel", name := "sums", desc := "(I)V" } : Jvm.MethodName)) ∈ lw_tbl := lw_at lw_m8 93 rfl
theorem q1866 : (Jvm.Cond.instanceMethod ({ cls := "FogNetsModel", name := "sums", desc := "(I)V" } : Jvm.MethodName)) ∈ lw_all := lw_g (lw_at lw_m8 94 rfl) rfl
theorem q1867 : (Jvm.Cond.code ({ cls := "FogNetsModel", name := "sums", desc := "(I)V" } : Jvm.MethodName) prog_30_method_16_code (2 : Nat) (Option.none : Option Jvm.ClassFile.FieldType)) ∈ lw_all := lw_g (lw_at lw_m8 95 rfl) rfl
theorem q1868 : (Jvm.Cond.methodLink "FogNetsModel" (196 : Nat) ({ cls := "FogNetsModel", name := "tests", desc := "(I)V" } : Jvm.MethodName)) ∈ lw_all := lw_g (lw_at lw_m8 96 rfl) rfl
theorem q1869 : (Jvm.Cond.privateMethod ({ cls := "FogNetsModel", name := "tests", desc := "(I)V" } : Jvm.MethodName)) ∈ lw_tbl := lw_at lw_m8 97 rfl
theorem q1870 : (Jvm.Cond.instanceMethod ({ cls := "FogNetsModel", name := "tests", desc := "(I)V" } : Jvm.MethodName)) ∈ lw_all := lw_g (lw_at lw_m8 98 rfl) rfl
theorem q1871 : (Jvm.Cond.code ({ cls := "FogNetsModel", name := "tests", desc := "(I)V" } : Jvm.MethodName) prog_30_method_17_code (3 : Nat) (Option.none : Option Jvm.ClassFile.FieldType)) ∈ lw_all := lw_g (lw_at lw_m8 99 rfl) rfl
theorem q1873 : (Jvm.Cond.instanceMethod ({ cls := "FogNetsModel", name := "bank", desc := "(III)I" } : Jvm.MethodName)) ∈ lw_all := lw_g (lw_at lw_m8 101 rfl) rfl
theorem q1874 : (Jvm.Cond.selects "FogNetsModel" ({ cls := "FogNetsModel", name := "bank", desc := "(III)I" } : Jvm.MethodName) ({ cls := "FogNetsModel", name := "bank", desc := "(III)I" } : Jvm.MethodName)) ∈ lw_all := lw_g (lw_at lw_m8 102 rfl) rfl
theorem q1875 : (Jvm.Cond.code ({ cls := "FogNetsModel", name := "bank", desc := "(III)I" } : Jvm.MethodName) prog_30_method_55_code (5 : Nat) (Option.some Jvm.ClassFile.FieldType.int)) ∈ lw_all := lw_g (lw_at lw_m8 103 rfl) rfl
theorem q1876 : (Jvm.Cond.methodLink "FogNetsModel" (326 : Nat) ({ cls := "FogNetsModel", name := "lines", desc := "(I)I" } : Jvm.MethodName)) ∈ lw_all := lw_g (lw_at lw_m8 104 rfl) rfl
theorem q1877 : (Jvm.Cond.privateMethod ({ cls := "FogNetsModel", name := "lines", desc := "(I)I" } : Jvm.MethodName)) ∈ lw_tbl := lw_at lw_m8 105 rfl
theorem q1878 : (Jvm.Cond.instanceMethod ({ cls := "FogNetsModel", name := "lines", desc := "(I)I" } : Jvm.MethodName)) ∈ lw_all := lw_g (lw_at lw_m8 106 rfl) rfl
theorem q1879 : (Jvm.Cond.code ({ cls := "FogNetsModel", name := "lines", desc := "(I)I" } : Jvm.MethodName) prog_30_method_47_code (2 : Nat) (Option.some Jvm.ClassFile.FieldType.int)) ∈ lw_all := lw_g (lw_at lw_m8 107 rfl) rfl
theorem q1880 : (Jvm.Cond.methodLink "FogNetsModel" (315 : Nat) ({ cls := "FogNetsModel", name := "bankOf", desc := "(IIII)I" } : Jvm.MethodName)) ∈ lw_all := lw_g (lw_at lw_m8 108 rfl) rfl
theorem q1881 : (Jvm.Cond.privateMethod ({ cls := "FogNetsModel", name := "bankOf", desc := "(IIII)I" } : Jvm.MethodName)) ∈ lw_tbl := lw_at lw_m8 109 rfl
theorem q1882 : (Jvm.Cond.instanceMethod ({ cls := "FogNetsModel", name := "bankOf", desc := "(IIII)I" } : Jvm.MethodName)) ∈ lw_all := lw_g (lw_at lw_m8 110 rfl) rfl
theorem q1883 : (Jvm.Cond.code ({ cls := "FogNetsModel", name := "bankOf", desc := "(IIII)I" } : Jvm.MethodName) prog_30_method_44_code (6 : Nat) (Option.some Jvm.ClassFile.FieldType.int)) ∈ lw_all := lw_g (lw_at lw_m8 111 rfl) rfl
theorem q1884 : (Jvm.Cond.methodLink "FogNetsModel" (309 : Nat) ({ cls := "java/lang/Math", name := "min", desc := "(II)I" } : Jvm.MethodName)) ∈ lw_all := lw_g (lw_at lw_m8 112 rfl) rfl
theorem q1885 : (Jvm.Cond.methodLink "FogNetsModel" (346 : Nat) ({ cls := "FogNetsModel", name := "all", desc := "()I" } : Jvm.MethodName)) ∈ lw_all := lw_g (lw_at lw_m8 113 rfl) rfl
theorem q1886 : (Jvm.Cond.privateMethod ({ cls := "FogNetsModel", name := "all", desc := "()I" } : Jvm.MethodName)) ∈ lw_tbl := lw_at lw_m8 114 rfl
theorem q1887 : (Jvm.Cond.instanceMethod ({ cls := "FogNetsModel", name := "all", desc := "()I" } : Jvm.MethodName)) ∈ lw_all := lw_g (lw_at lw_m8 115 rfl) rfl
theorem q1888 : (Jvm.Cond.code ({ cls := "FogNetsModel", name := "all", desc := "()I" } : Jvm.MethodName) prog_30_method_52_code (1 : Nat) (Option.some Jvm.ClassFile.FieldType.int)) ∈ lw_all := lw_g (lw_at lw_m8 116 rfl) rfl
theorem q1889 : (Jvm.Cond.methodLink "FogNetsModel" (329 : Nat) ({ cls := "FogNetsModel", name := "passes", desc := "(IIIII)I" } : Jvm.MethodName)) ∈ lw_all := lw_g (lw_at lw_m8 117 rfl) rfl
theorem q1890 : (Jvm.Cond.privateMethod ({ cls := "FogNetsModel", name := "passes", desc := "(IIIII)I" } : Jvm.MethodName)) ∈ lw_tbl := lw_at lw_m8 118 rfl
theorem q1891 : (Jvm.Cond.instanceMethod ({ cls := "FogNetsModel", name := "passes", desc := "(IIIII)I" } : Jvm.MethodName)) ∈ lw_all := lw_g (lw_at lw_m8 119 rfl) rfl
theorem q1892 : (Jvm.Cond.code ({ cls := "FogNetsModel", name := "passes", desc := "(IIIII)I" } : Jvm.MethodName) prog_30_method_48_code (12 : Nat) (Option.some Jvm.ClassFile.FieldType.int)) ∈ lw_all := lw_g (lw_at lw_m8 120 rfl) rfl
theorem q1893 : (Jvm.Cond.methodLink "FogNetsModel" (319 : Nat) ({ cls := "FogNetsModel", name := "netAt", desc := "(II)I" } : Jvm.MethodName)) ∈ lw_all := lw_g (lw_at lw_m8 121 rfl) rfl
theorem q1894 : (Jvm.Cond.privateMethod ({ cls := "FogNetsModel", name := "netAt", desc := "(II)I" } : Jvm.MethodName)) ∈ lw_tbl := lw_at lw_m8 122 rfl
theorem q1895 : (Jvm.Cond.instanceMethod ({ cls := "FogNetsModel", name := "netAt", desc := "(II)I" } : Jvm.MethodName)) ∈ lw_all := lw_g (lw_at lw_m8 123 rfl) rfl
theorem q1896 : (Jvm.Cond.code ({ cls := "FogNetsModel", name := "netAt", desc := "(II)I" } : Jvm.MethodName) prog_30_method_45_code (4 : Nat) (Option.some Jvm.ClassFile.FieldType.int)) ∈ lw_all := lw_g (lw_at lw_m8 124 rfl) rfl
theorem q1897 : (Jvm.Cond.methodLink "FogNetsModel" (322 : Nat) ({ cls := "FogNetsModel", name := "taken", desc := "(III)I" } : Jvm.MethodName)) ∈ lw_all := lw_g (lw_at lw_m8 125 rfl) rfl
theorem q1898 : (Jvm.Cond.privateMethod ({ cls := "FogNetsModel", name := "taken", desc := "(III)I" } : Jvm.MethodName)) ∈ lw_tbl := lw_at lw_m8 126 rfl
theorem q1899 : (Jvm.Cond.instanceMethod ({ cls := "FogNetsModel", name := "taken", desc := "(III)I" } : Jvm.MethodName)) ∈ lw_all := lw_g (lw_at lw_m8 127 rfl) rfl
theorem q1900 : (Jvm.Cond.code ({ cls := "FogNetsModel", name := "taken", desc := "(III)I" } : Jvm.MethodName) prog_30_method_46_code (6 : Nat) (Option.some Jvm.ClassFile.FieldType.int)) ∈ lw_all := lw_g (lw_at lw_m8 128 rfl) rfl
theorem q1902 : (Jvm.Cond.instanceMethod ({ cls := "FogNetsModel", name := "nights", desc := "(I)I" } : Jvm.MethodName)) ∈ lw_all := lw_g (lw_at lw_m8 130 rfl) rfl
theorem q1903 : (Jvm.Cond.selects "FogNetsModel" ({ cls := "FogNetsModel", name := "nights", desc := "(I)I" } : Jvm.MethodName) ({ cls := "FogNetsModel", name := "nights", desc := "(I)I" } : Jvm.MethodName)) ∈ lw_all := lw_g (lw_at lw_m8 131 rfl) rfl
theorem q1904 : (Jvm.Cond.code ({ cls := "FogNetsModel", name := "nights", desc := "(I)I" } : Jvm.MethodName) prog_30_method_58_code (3 : Nat) (Option.some Jvm.ClassFile.FieldType.int)) ∈ lw_all := lw_g (lw_at lw_m8 132 rfl) rfl
theorem q1905 : (Jvm.Cond.methodLink "FogNetsModel" (358 : Nat) ({ cls := "FogNetsModel", name := "night", desc := "()V" } : Jvm.MethodName)) ∈ lw_all := lw_g (lw_at lw_m8 133 rfl) rfl
theorem q1906 : (Jvm.Cond.privateMethod ({ cls := "FogNetsModel", name := "night", desc := "()V" } : Jvm.MethodName)) ∈ lw_tbl := lw_at lw_m8 134 rfl
theorem q1907 : (Jvm.Cond.instanceMethod ({ cls := "FogNetsModel", name := "night", desc := "()V" } : Jvm.MethodName)) ∈ lw_all := lw_g (lw_at lw_m8 135 rfl) rfl
theorem q1908 : (Jvm.Cond.code ({ cls := "FogNetsModel", name := "night", desc := "()V" } : Jvm.MethodName) prog_30_method_57_code (1 : Nat) (Option.none : Option Jvm.ClassFile.FieldType)) ∈ lw_all := lw_g (lw_at lw_m8 136 rfl) rfl
theorem q1909 : (Jvm.Cond.methodLink "FogNetsModel" (352 : Nat) ({ cls := "FogNetsModel", name := "goes", desc := "(I)V" } : Jvm.MethodName)) ∈ lw_all := lw_g (lw_at lw_m8 137 rfl) rfl
theorem q1910 : (Jvm.Cond.privateMethod ({ cls := "FogNetsModel", name := "goes", desc := "(I)V" } : Jvm.MethodName)) ∈ lw_tbl := lw_at lw_m8 138 rfl
theorem q1911 : (Jvm.Cond.instanceMethod ({ cls := "FogNetsModel", name := "goes", desc := "(I)V" } : Jvm.MethodName)) ∈ lw_all := lw_g (lw_at lw_m8 139 rfl) rfl
theorem q1912 : (Jvm.Cond.code ({ cls := "FogNetsModel", name := "goes", desc := "(I)V" } : Jvm.MethodName) prog_30_method_51_code (3 : Nat) (Option.none : Option Jvm.ClassFile.FieldType)) ∈ lw_all := lw_g (lw_at lw_m8 140 rfl) rfl
theorem q1913 : (Jvm.Cond.methodLink "FogNetsModel" (333 : Nat) ({ cls := "FogNetsModel", name := "clears", desc := "()V" } : Jvm.MethodName)) ∈ lw_all := lw_g (lw_at lw_m8 141 rfl) rfl
theorem q1914 : (Jvm.Cond.privateMethod ({ cls := "FogNetsModel", name := "clears", desc := "()V" } : Jvm.MethodName)) ∈ lw_tbl := lw_at lw_m8 142 rfl
theorem q1915 : (Jvm.Cond.instanceMethod ({ cls := "FogNetsModel", name := "clears", desc := "()V" } : Jvm.MethodName)) ∈ lw_all := lw_g (lw_at lw_m8 143 rfl) rfl
theorem q1916 : (Jvm.Cond.code ({ cls := "FogNetsModel", name := "clears", desc := "()V" } : Jvm.MethodName) prog_30_method_49_code (2 : Nat) (Option.none : Option Jvm.ClassFile.FieldType)) ∈ lw_all := lw_g (lw_at lw_m8 144 rfl) rfl
theorem q1917 : (Jvm.Cond.methodLink "FogNetsModel" (339 : Nat) ({ cls := "FogNetsModel", name := "blows", desc := "(IIII)V" } : Jvm.MethodName)) ∈ lw_all := lw_g (lw_at lw_m8 145 rfl) rfl
theorem q1918 : (Jvm.Cond.privateMethod ({ cls := "FogNetsModel", name := "blows", desc := "(IIII)V" } : Jvm.MethodName)) ∈ lw_tbl := lw_at lw_m8 146 rfl
theorem q1919 : (Jvm.Cond.instanceMethod ({ cls := "FogNetsModel", name := "blows", desc := "(IIII)V" } : Jvm.MethodName)) ∈ lw_all := lw_g (lw_at lw_m8 147 rfl) rfl
theorem q1920 : (Jvm.Cond.code ({ cls := "FogNetsModel", name := "blows", desc := "(IIII)V" } : Jvm.MethodName) prog_30_method_50_code (6 : Nat) (Option.none : Option Jvm.ClassFile.FieldType)) ∈ lw_all := lw_g (lw_at lw_m8 148 rfl) rfl
theorem q1921 : (Jvm.Cond.methodLink "FogNetsModel" (355 : Nat) ({ cls := "FogNetsModel", name := "ends0", desc := "()V" } : Jvm.MethodName)) ∈ lw_all := lw_g (lw_at lw_m8 149 rfl) rfl
theorem q1922 : (Jvm.Cond.privateMethod ({ cls := "FogNetsModel", name := "ends0", desc := "()V" } : Jvm.MethodName)) ∈ lw_tbl := lw_at lw_m8 150 rfl
theorem q1923 : (Jvm.Cond.instanceMethod ({ cls := "FogNetsModel", name := "ends0", desc := "()V" } : Jvm.MethodName)) ∈ lw_all := lw_g (lw_at lw_m8 151 rfl) rfl
theorem q1924 : (Jvm.Cond.code ({ cls := "FogNetsModel", name := "ends0", desc := "()V" } : Jvm.MethodName) prog_30_method_56_code (3 : Nat) (Option.none : Option Jvm.ClassFile.FieldType)) ∈ lw_all := lw_g (lw_at lw_m8 152 rfl) rfl
theorem q1925 : (Jvm.Cond.methodLink "FogNetsModel" (349 : Nat) ({ cls := "FogNetsModel", name := "yielded", desc := "(II)I" } : Jvm.MethodName)) ∈ lw_all := lw_g (lw_at lw_m8 153 rfl) rfl
theorem q1926 : (Jvm.Cond.privateMethod ({ cls := "FogNetsModel", name := "yielded", desc := "(II)I" } : Jvm.MethodName)) ∈ lw_tbl := lw_at lw_m8 154 rfl
theorem q1927 : (Jvm.Cond.instanceMethod ({ cls := "FogNetsModel", name := "yielded", desc := "(II)I" } : Jvm.MethodName)) ∈ lw_all := lw_g (lw_at lw_m8 155 rfl) rfl
theorem q1928 : (Jvm.Cond.code ({ cls := "FogNetsModel", name := "yielded", desc := "(II)I" } : Jvm.MethodName) prog_30_method_53_code (6 : Nat) (Option.some Jvm.ClassFile.FieldType.int)) ∈ lw_all := lw_g (lw_at lw_m8 156 rfl) rfl
theorem q1930 : (Jvm.Cond.instanceMethod ({ cls := "FogNetsModel", name := "mend", desc := "(IZ)Z" } : Jvm.MethodName)) ∈ lw_all := lw_g (lw_at lw_m8 158 rfl) rfl
theorem q1931 : (Jvm.Cond.selects "FogNetsModel" ({ cls := "FogNetsModel", name := "mend", desc := "(IZ)Z" } : Jvm.MethodName) ({ cls := "FogNetsModel", name := "mend", desc := "(IZ)Z" } : Jvm.MethodName)) ∈ lw_all := lw_g (lw_at lw_m8 159 rfl) rfl
theorem q1932 : (Jvm.Cond.code ({ cls := "FogNetsModel", name := "mend", desc := "(IZ)Z" } : Jvm.MethodName) prog_30_method_59_code (3 : Nat) (Option.some Jvm.ClassFile.FieldType.boolean)) ∈ lw_all := lw_g (lw_at lw_m8 160 rfl) rfl
theorem q1934 : (Jvm.Cond.instanceMethod ({ cls := "FogNetsModel", name := "move", desc := "(II)Z" } : Jvm.MethodName)) ∈ lw_all := lw_g (lw_at lw_m8 162 rfl) rfl
theorem q1935 : (Jvm.Cond.selects "FogNetsModel" ({ cls := "FogNetsModel", name := "move", desc := "(II)Z" } : Jvm.MethodName) ({ cls := "FogNetsModel", name := "move", desc := "(II)Z" } : Jvm.MethodName)) ∈ lw_all := lw_g (lw_at lw_m8 163 rfl) rfl
theorem q1936 : (Jvm.Cond.code ({ cls := "FogNetsModel", name := "move", desc := "(II)Z" } : Jvm.MethodName) prog_30_method_60_code (3 : Nat) (Option.some Jvm.ClassFile.FieldType.boolean)) ∈ lw_all := lw_g (lw_at lw_m8 164 rfl) rfl
theorem q1937 : (Jvm.Cond.methodLink "FogNetsModel" (361 : Nat) ({ cls := "FogNetsModel", name := "isPlace", desc := "(I)Z" } : Jvm.MethodName)) ∈ lw_all := lw_g (lw_at lw_m8 165 rfl) rfl
theorem q1938 : (Jvm.Cond.privateMethod ({ cls := "FogNetsModel", name := "isPlace", desc := "(I)Z" } : Jvm.MethodName)) ∈ lw_tbl := lw_at lw_m8 166 rfl
theorem q1939 : (Jvm.Cond.instanceMethod ({ cls := "FogNetsModel", name := "isPlace", desc := "(I)Z" } : Jvm.MethodName)) ∈ lw_all := lw_g (lw_at lw_m8 167 rfl) rfl
theorem q1940 : (Jvm.Cond.code ({ cls := "FogNetsModel", name := "isPlace", desc := "(I)Z" } : Jvm.MethodName) prog_30_method_39_code (2 : Nat) (Option.some Jvm.ClassFile.FieldType.boolean)) ∈ lw_all := lw_g (lw_at lw_m8 168 rfl) rfl
theorem q1942 : (Jvm.Cond.instanceMethod ({ cls := "FogNetsModel", name := "yields", desc := "(I)I" } : Jvm.MethodName)) ∈ lw_all := lw_g (lw_at lw_m8 170 rfl) rfl
theorem q1943 : (Jvm.Cond.selects "FogNetsModel" ({ cls := "FogNetsModel", name := "yields", desc := "(I)I" } : Jvm.MethodName) ({ cls := "FogNetsModel", name := "yields", desc := "(I)I" } : Jvm.MethodName)) ∈ lw_all := lw_g (lw_at lw_m8 171 rfl) rfl
theorem q1944 : (Jvm.Cond.code ({ cls := "FogNetsModel", name := "yields", desc := "(I)I" } : Jvm.MethodName) prog_30_method_61_code (2 : Nat) (Option.some Jvm.ClassFile.FieldType.int)) ∈ lw_all := lw_g (lw_at lw_m8 172 rfl) rfl
theorem q1946 : (Jvm.Cond.instanceMethod ({ cls := "FogNetsModel", name := "place", desc := "(IIIII)I" } : Jvm.MethodName)) ∈ lw_all := lw_g (lw_at lw_m8 174 rfl) rfl
theorem q1947 : (Jvm.Cond.selects "FogNetsModel" ({ cls := "FogNetsModel", name := "place", desc := "(IIIII)I" } : Jvm.MethodName) ({ cls := "FogNetsModel", name := "place", desc := "(IIIII)I" } : Jvm.MethodName)) ∈ lw_all := lw_g (lw_at lw_m8 175 rfl) rfl
theorem q1948 : (Jvm.Cond.code ({ cls := "FogNetsModel", name := "place", desc := "(IIIII)I" } : Jvm.MethodName) prog_30_method_63_code (10 : Nat) (Option.some Jvm.ClassFile.FieldType.int)) ∈ lw_all := lw_g (lw_at lw_m8 176 rfl) rfl
theorem q1949 : (Jvm.Cond.methodLink "FogNetsModel" (364 : Nat) ({ cls := "FogNetsModel", name := "asked", desc := "(II)I" } : Jvm.MethodName)) ∈ lw_all := lw_g (lw_at lw_m8 177 rfl) rfl
theorem q1950 : (Jvm.Cond.privateMethod ({ cls := "FogNetsModel", name := "asked", desc := "(II)I" } : Jvm.MethodName)) ∈ lw_tbl := lw_at lw_m8 178 rfl
theorem q1951 : (Jvm.Cond.instanceMethod ({ cls := "FogNetsModel", name := "asked", desc := "(II)I" } : Jvm.MethodName)) ∈ lw_all := lw_g (lw_at lw_m8 179 rfl) rfl
theorem q1952 : (Jvm.Cond.code ({ cls := "FogNetsModel", name := "asked", desc := "(II)I" } : Jvm.MethodName) prog_30_method_62_code (3 : Nat) (Option.some Jvm.ClassFile.FieldType.int)) ∈ lw_all := lw_g (lw_at lw_m8 180 rfl) rfl
theorem q1954 : (Jvm.Cond.instanceMethod ({ cls := "FogNetsModel", name := "restless", desc := "()I" } : Jvm.MethodName)) ∈ lw_all := lw_g (lw_at lw_m8 182 rfl) rfl
theorem q1955 : (Jvm.Cond.selects "FogNetsModel" ({ cls := "FogNetsModel", name := "restless", desc := "()I" } : Jvm.MethodName) ({ cls := "FogNetsModel", name := "restless", desc := "()I" } : Jvm.MethodName)) ∈ lw_all := lw_g (lw_at lw_m8 183 rfl) rfl
theorem q1956 : (Jvm.Cond.code ({ cls := "FogNetsModel", name := "restless", desc := "()I" } : Jvm.MethodName) prog_30_method_65_code (3 : Nat) (Option.some Jvm.ClassFile.FieldType.int)) ∈ lw_all := lw_g (lw_at lw_m8 184 rfl) rfl
theorem q1957 : (Jvm.Cond.methodLink "FogNetsModel" (367 : Nat) ({ cls := "FogNetsModel", name := "betterAt", desc := "(I)I" } : Jvm.MethodName)) ∈ lw_all := lw_g (lw_at lw_m8 185 rfl) rfl
theorem q1958 : (Jvm.Cond.privateMethod ({ cls := "FogNetsModel", name := "betterAt", desc := "(I)I" } : Jvm.MethodName)) ∈ lw_tbl := lw_at lw_m8 186 rfl
theorem q1959 : (Jvm.Cond.instanceMethod ({ cls := "FogNetsModel", name := "betterAt", desc := "(I)I" } : Jvm.MethodName)) ∈ lw_all := lw_g (lw_at lw_m8 187 rfl) rfl
theorem q1960 : (Jvm.Cond.code ({ cls := "FogNetsModel", name := "betterAt", desc := "(I)I" } : Jvm.MethodName) prog_30_method_64_code (7 : Nat) (Option.some Jvm.ClassFile.FieldType.int)) ∈ lw_all := lw_g (lw_at lw_m8 188 rfl) rfl
theorem q1962 : (Jvm.Cond.instanceMethod ({ cls := "FogNetsModel", name := "played", desc := "(I)I" } : Jvm.MethodName)) ∈ lw_all := lw_g (lw_at lw_m8 190 rfl) rfl
theorem q1963 : (Jvm.Cond.selects "FogNetsModel" ({ cls := "FogNetsModel", name := "played", desc := "(I)I" } : Jvm.MethodName) ({ cls := "FogNetsModel", name := "played", desc := "(I)I" } : Jvm.MethodName)) ∈ lw_all := lw_g (lw_at lw_m8 191 rfl) rfl
theorem q1964 : (Jvm.Cond.code ({ cls := "FogNetsModel", name := "played", desc := "(I)I" } : Jvm.MethodName) prog_30_method_68_code (3 : Nat) (Option.some Jvm.ClassFile.FieldType.int)) ∈ lw_all := lw_g (lw_at lw_m8 192 rfl) rfl
theorem q1965 : (Jvm.Cond.methodLink "FogNetsModel" (379 : Nat) ({ cls := "FogNetsModel", name := "copies", desc := "([II[II)V" } : Jvm.MethodName)) ∈ lw_all := lw_g (lw_at lw_m8 193 rfl) rfl
theorem q1966 : (Jvm.Cond.static ({ cls := "FogNetsModel", name := "copies", desc := "([II[II)V" } : Jvm.MethodName)) ∈ lw_all := lw_g (lw_at lw_m8 194 rfl) rfl
theorem q1967 : (Jvm.Cond.code ({ cls := "FogNetsModel", name := "copies", desc := "([II[II)V" } : Jvm.MethodName) prog_30_method_34_code (5 : Nat) (Option.none : Option Jvm.ClassFile.FieldType)) ∈ lw_all := lw_g (lw_at lw_m8 195 rfl) rfl
theorem q1968 : (Jvm.Cond.methodLink "FogNetsModel" (383 : Nat) ({ cls := "FogNetsModel", name := "plays", desc := "()V" } : Jvm.MethodName)) ∈ lw_all := lw_g (lw_at lw_m8 196 rfl) rfl
theorem q1969 : (Jvm.Cond.privateMethod ({ cls := "FogNetsModel", name := "plays", desc := "()V" } : Jvm.MethodName)) ∈ lw_tbl := lw_at lw_m8 197 rfl
theorem q1970 : (Jvm.Cond.instanceMethod ({ cls := "FogNetsModel", name := "plays", desc := "()V" } : Jvm.MethodName)) ∈ lw_all := lw_g (lw_at lw_m8 198 rfl) rfl
theorem q1971 : (Jvm.Cond.code ({ cls := "FogNetsModel", name := "plays", desc := "()V" } : Jvm.MethodName) prog_30_method_67_code (5 : Nat) (Option.none : Option Jvm.ClassFile.FieldType)) ∈ lw_all := lw_g (lw_at lw_m8 199 rfl) rfl
theorem q1972 : (Jvm.Cond.methodLink "FogNetsModel" (376 : Nat) ({ cls := "FogNetsModel", name := "isAs", desc := "(I)Z" } : Jvm.MethodName)) ∈ lw_all := lw_g (lw_at lw_m8 200 rfl) rfl
theorem q1973 : (Jvm.Cond.privateMethod ({ cls := "FogNetsModel", name := "isAs", desc := "(I)Z" } : Jvm.MethodName)) ∈ lw_tbl := lw_at lw_m8 201 rfl
theorem q1974 : (Jvm.Cond.instanceMethod ({ cls := "FogNetsModel", name := "isAs", desc := "(I)Z" } : Jvm.MethodName)) ∈ lw_all := lw_g (lw_at lw_m8 202 rfl) rfl
theorem q1975 : (Jvm.Cond.code ({ cls := "FogNetsModel", name := "isAs", desc := "(I)Z" } : Jvm.MethodName) prog_30_method_66_code (3 : Nat) (Option.some Jvm.ClassFile.FieldType.boolean)) ∈ lw_all := lw_g (lw_at lw_m8 203 rfl) rfl
theorem q1977 : (Jvm.Cond.instanceMethod ({ cls := "FogNetsModel", name := "hole", desc := "(I)I" } : Jvm.MethodName)) ∈ lw_all := lw_g (lw_at lw_m8 205 rfl) rfl
theorem q1978 : (Jvm.Cond.selects "FogNetsModel" ({ cls := "FogNetsModel", name := "hole", desc := "(I)I" } : Jvm.MethodName) ({ cls := "FogNetsModel", name := "hole", desc := "(I)I" } : Jvm.MethodName)) ∈ lw_all := lw_g (lw_at lw_m8 206 rfl) rfl
theorem q1979 : (Jvm.Cond.code ({ cls := "FogNetsModel", name := "hole", desc := "(I)I" } : Jvm.MethodName) prog_30_method_69_code (3 : Nat) (Option.some Jvm.ClassFile.FieldType.int)) ∈ lw_all := lw_g (lw_at lw_m8 207 rfl) rfl
theorem q1981 : (Jvm.Cond.instanceMethod ({ cls := "FogNetsModel", name := "first", desc := "()I" } : Jvm.MethodName)) ∈ lw_all := lw_g (lw_at lw_m8 209 rfl) rfl
theorem q1982 : (Jvm.Cond.selects "FogNetsModel" ({ cls := "FogNetsModel", name := "first", desc := "()I" } : Jvm.MethodName) ({ cls := "FogNetsModel", name := "first", desc := "()I" } : Jvm.MethodName)) ∈ lw_all := lw_g (lw_at lw_m8 210 rfl) rfl
theorem q1983 : (Jvm.Cond.code ({ cls := "FogNetsModel", name := "first", desc := "()I" } : Jvm.MethodName) prog_30_method_70_code (5 : Nat) (Option.some Jvm.ClassFile.FieldType.int)) ∈ lw_all := lw_g (lw_at lw_m8 211 rfl) rfl
theorem q1985 : (Jvm.Cond.instanceMethod ({ cls := "FogNetsModel", name := "share", desc := "(II)I" } : Jvm.MethodName)) ∈ lw_all := lw_g (lw_at lw_m8 213 rfl) rfl
theorem q1986 : (Jvm.Cond.selects "FogNetsModel" ({ cls := "FogNetsModel", name := "share", desc := "(II)I" } : Jvm.MethodName) ({ cls := "FogNetsModel", name := "share", desc := "(II)I" } : Jvm.MethodName)) ∈ lw_all := lw_g (lw_at lw_m8 214 rfl) rfl
theorem q1987 : (Jvm.Cond.code ({ cls := "FogNetsModel", name := "share", desc := "(II)I" } : Jvm.MethodName) prog_30_method_73_code (7 : Nat) (Option.some Jvm.ClassFile.FieldType.int)) ∈ lw_all := lw_g (lw_at lw_m8 215 rfl) rfl
theorem q1988 : (Jvm.Cond.methodLink "FogNetsModel" (386 : Nat) ({ cls := "FogNetsModel", name := "bits", desc := "(I)I" } : Jvm.MethodName)) ∈ lw_all := lw_g (lw_at lw_m8 216 rfl) rfl
theorem q1989 : (Jvm.Cond.static ({ cls := "FogNetsModel", name := "bits", desc := "(I)I" } : Jvm.MethodName)) ∈ lw_all := lw_g (lw_at lw_m8 217 rfl) rfl
theorem q1990 : (Jvm.Cond.code ({ cls := "FogNetsModel", name := "bits", desc := "(I)I" } : Jvm.MethodName) prog_30_method_72_code (3 : Nat) (Option.some Jvm.ClassFile.FieldType.int)) ∈ lw_all := lw_g (lw_at lw_m8 218 rfl) rfl
theorem q1991 : (Jvm.Cond.methodLink "FogNetsModel" (389 : Nat) ({ cls := "FogNetsModel", name := "orders", desc := "(I)I" } : Jvm.MethodName)) ∈ lw_all := lw_g (lw_at lw_m8 219 rfl) rfl
theorem q1992 : (Jvm.Cond.static ({ cls := "FogNetsModel", name := "orders", desc := "(I)I" } : Jvm.MethodName)) ∈ lw_all := lw_g (lw_at lw_m8 220 rfl) rfl
theorem q1993 : (Jvm.Cond.code ({ cls := "FogNetsModel", name := "orders", desc := "(I)I" } : Jvm.MethodName) prog_30_method_71_code (3 : Nat) (Option.some Jvm.ClassFile.FieldType.int)) ∈ lw_all := lw_g (lw_at lw_m8 221 rfl) rfl
theorem q1994 : (Jvm.Cond.methodLink "FogNetsModel" (392 : Nat) ({ cls := "FogNetsModel", name := "gcd", desc := "(II)I" } : Jvm.MethodName)) ∈ lw_all := lw_g (lw_at lw_m8 222 rfl) rfl
theorem q1995 : (Jvm.Cond.static ({ cls := "FogNetsModel", name := "gcd", desc := "(II)I" } : Jvm.MethodName)) ∈ lw_all := lw_g (lw_at lw_m8 223 rfl) rfl
theorem q1996 : (Jvm.Cond.code ({ cls := "FogNetsModel", name := "gcd", desc := "(II)I" } : Jvm.MethodName) prog_30_method_4_code (5 : Nat) (Option.some Jvm.ClassFile.FieldType.int)) ∈ lw_all := lw_g (lw_at lw_m8 224 rfl) rfl
theorem q1998 : (Jvm.Cond.instanceMethod ({ cls := "FogNetsModel", name := "dry", desc := "(I)I" } : Jvm.MethodName)) ∈ lw_all := lw_g (lw_at lw_m8 226 rfl) rfl
theorem q1999 : (Jvm.Cond.selects "FogNetsModel" ({ cls := "FogNetsModel", name := "dry", desc := "(I)I" } : Jvm.MethodName) ({ cls := "FogNetsModel", name := "dry", desc := "(I)I" } : Jvm.MethodName)) ∈ lw_all := lw_g (lw_at lw_m8 227 rfl) rfl
theorem q2000 : (Jvm.Cond.code ({ cls := "FogNetsModel", name := "dry", desc := "(I)I" } : Jvm.MethodName) prog_30_method_74_code (5 : Nat) (Option.some Jvm.ClassFile.FieldType.int)) ∈ lw_all := lw_g (lw_at lw_m8 228 rfl) rfl
theorem q2002 : (Jvm.Cond.instanceMethod ({ cls := "FogNetsModel", name := "stored", desc := "(II)I" } : Jvm.MethodName)) ∈ lw_all := lw_g (lw_at lw_m8 230 rfl) rfl
theorem q2003 : (Jvm.Cond.selects "FogNetsModel" ({ cls := "FogNetsModel", name := "stored", desc := "(II)I" } : Jvm.MethodName) ({ cls := "FogNetsModel", name := "stored", desc := "(II)I" } : Jvm.MethodName)) ∈ lw_all := lw_g (lw_at lw_m8 231 rfl) rfl
theorem q2004 : (Jvm.Cond.code ({ cls := "FogNetsModel", name := "stored", desc := "(II)I" } : Jvm.MethodName) prog_30_method_75_code (4 : Nat) (Option.some Jvm.ClassFile.FieldType.int)) ∈ lw_all := lw_g (lw_at lw_m8 232 rfl) rfl
theorem q2006 : (Jvm.Cond.instanceMethod ({ cls := "FogNetsModel", name := "jar", desc := "(II)I" } : Jvm.MethodName)) ∈ lw_all := lw_g (lw_at lw_m8 234 rfl) rfl
theorem q2007 : (Jvm.Cond.selects "FogNetsModel" ({ cls := "FogNetsModel", name := "jar", desc := "(II)I" } : Jvm.MethodName) ({ cls := "FogNetsModel", name := "jar", desc := "(II)I" } : Jvm.MethodName)) ∈ lw_all := lw_g (lw_at lw_m8 235 rfl) rfl
theorem q2008 : (Jvm.Cond.code ({ cls := "FogNetsModel", name := "jar", desc := "(II)I" } : Jvm.MethodName) prog_30_method_76_code (3 : Nat) (Option.some Jvm.ClassFile.FieldType.int)) ∈ lw_all := lw_g (lw_at lw_m8 236 rfl) rfl
theorem q2009 : (Jvm.Cond.constant "FogNetsModel" (395 : Nat) (99999 : Int32)) ∈ lw_all := lw_g (lw_at lw_m8 237 rfl) rfl
theorem q2011 : (Jvm.Cond.instanceMethod ({ cls := "FogNetsModel", name := "clear", desc := "()Z" } : Jvm.MethodName)) ∈ lw_all := lw_g (lw_at lw_m8 239 rfl) rfl
theorem q2012 : (Jvm.Cond.selects "FogNetsModel" ({ cls := "FogNetsModel", name := "clear", desc := "()Z" } : Jvm.MethodName) ({ cls := "FogNetsModel", name := "clear", desc := "()Z" } : Jvm.MethodName)) ∈ lw_all := lw_g (lw_at lw_m9 0 rfl) rfl
theorem q2013 : (Jvm.Cond.code ({ cls := "FogNetsModel", name := "clear", desc := "()Z" } : Jvm.MethodName) prog_30_method_77_code (1 : Nat) (Option.some Jvm.ClassFile.FieldType.boolean)) ∈ lw_all := lw_g (lw_at lw_m9 1 rfl) rfl
theorem q2015 : (Jvm.Cond.instanceMethod ({ cls := "FogNetsModel", name := "winds", desc := "()I" } : Jvm.MethodName)) ∈ lw_all := lw_g (lw_at lw_m9 3 rfl) rfl
theorem q2016 : (Jvm.Cond.selects "FogNetsModel" ({ cls := "FogNetsModel", name := "winds", desc := "()I" } : Jvm.MethodName) ({ cls := "FogNetsModel", name := "winds", desc := "()I" } : Jvm.MethodName)) ∈ lw_all := lw_g (lw_at lw_m9 4 rfl) rfl
theorem q2017 : (Jvm.Cond.code ({ cls := "FogNetsModel", name := "winds", desc := "()I" } : Jvm.MethodName) prog_30_method_79_code (1 : Nat) (Option.some Jvm.ClassFile.FieldType.int)) ∈ lw_all := lw_g (lw_at lw_m9 5 rfl) rfl
theorem q2018 : (Jvm.Cond.methodLink "FogNetsModel" (396 : Nat) ({ cls := "FogNetsModel", name := "blowing", desc := "(I)I" } : Jvm.MethodName)) ∈ lw_all := lw_g (lw_at lw_m9 6 rfl) rfl
theorem q2019 : (Jvm.Cond.privateMethod ({ cls := "FogNetsModel", name := "blowing", desc := "(I)I" } : Jvm.MethodName)) ∈ lw_tbl := lw_at lw_m9 7 rfl
theorem q2020 : (Jvm.Cond.instanceMethod ({ cls := "FogNetsModel", name := "blowing", desc := "(I)I" } : Jvm.MethodName)) ∈ lw_all := lw_g (lw_at lw_m9 8 rfl) rfl
theorem q2021 : (Jvm.Cond.code ({ cls := "FogNetsModel", name := "blowing", desc := "(I)I" } : Jvm.MethodName) prog_30_method_78_code (8 : Nat) (Option.some Jvm.ClassFile.FieldType.int)) ∈ lw_all := lw_g (lw_at lw_m9 9 rfl) rfl
theorem q2023 : (Jvm.Cond.instanceMethod ({ cls := "FogNetsModel", name := "windsAt", desc := "(I)I" } : Jvm.MethodName)) ∈ lw_all := lw_g (lw_at lw_m9 11 rfl) rfl
theorem q2024 : (Jvm.Cond.selects "FogNetsModel" ({ cls := "FogNetsModel", name := "windsAt", desc := "(I)I" } : Jvm.MethodName) ({ cls := "FogNetsModel", name := "windsAt", desc := "(I)I" } : Jvm.MethodName)) ∈ lw_all := lw_g (lw_at lw_m9 12 rfl) rfl
theorem q2025 : (Jvm.Cond.code ({ cls := "FogNetsModel", name := "windsAt", desc := "(I)I" } : Jvm.MethodName) prog_30_method_80_code (2 : Nat) (Option.some Jvm.ClassFile.FieldType.int)) ∈ lw_all := lw_g (lw_at lw_m9 13 rfl) rfl
theorem q2027 : (Jvm.Cond.instanceMethod ({ cls := "FogNetsModel", name := "lots", desc := "(IIII)I" } : Jvm.MethodName)) ∈ lw_all := lw_g (lw_at lw_m9 15 rfl) rfl
theorem q2028 : (Jvm.Cond.selects "FogNetsModel" ({ cls := "FogNetsModel", name := "lots", desc := "(IIII)I" } : Jvm.MethodName) ({ cls := "FogNetsModel", name := "lots", desc := "(IIII)I" } : Jvm.MethodName)) ∈ lw_all := lw_g (lw_at lw_m9 16 rfl) rfl
theorem q2029 : (Jvm.Cond.code ({ cls := "FogNetsModel", name := "lots", desc := "(IIII)I" } : Jvm.MethodName) prog_30_method_82_code (10 : Nat) (Option.some Jvm.ClassFile.FieldType.int)) ∈ lw_all := lw_g (lw_at lw_m9 17 rfl) rfl
theorem q2030 : (Jvm.Cond.methodLink "FogNetsModel" (410 : Nat) ({ cls := "FogNetsModel", name := "draws", desc := "(I)I" } : Jvm.MethodName)) ∈ lw_all := lw_g (lw_at lw_m9 18 rfl) rfl
theorem q2031 : (Jvm.Cond.privateMethod ({ cls := "FogNetsModel", name := "draws", desc := "(I)I" } : Jvm.MethodName)) ∈ lw_tbl := lw_at lw_m9 19 rfl
theorem q2032 : (Jvm.Cond.instanceMethod ({ cls := "FogNetsModel", name := "draws", desc := "(I)I" } : Jvm.MethodName)) ∈ lw_all := lw_g (lw_at lw_m9 20 rfl) rfl
theorem q2033 : (Jvm.Cond.code ({ cls := "FogNetsModel", name := "draws", desc := "(I)I" } : Jvm.MethodName) prog_30_method_81_code (2 : Nat) (Option.some Jvm.ClassFile.FieldType.int)) ∈ lw_all := lw_g (lw_at lw_m9 21 rfl) rfl
theorem q2034 : (Jvm.Cond.constantLong "FogNetsModel" (402 : Nat) (1103515245 : Int64)) ∈ lw_all := lw_g (lw_at lw_m9 22 rfl) rfl
theorem q2035 : (Jvm.Cond.constantLong "FogNetsModel" (404 : Nat) (12345 : Int64)) ∈ lw_all := lw_g (lw_at lw_m9 23 rfl) rfl
theorem q2036 : (Jvm.Cond.constantLong "FogNetsModel" (406 : Nat) (2147483648 : Int64)) ∈ lw_all := lw_g (lw_at lw_m9 24 rfl) rfl
theorem q2037 : (Jvm.Cond.constantLong "FogNetsModel" (408 : Nat) (65536 : Int64)) ∈ lw_all := lw_g (lw_at lw_m9 25 rfl) rfl
theorem q2039 : (Jvm.Cond.instanceMethod ({ cls := "FogNetsModel", name := "mark", desc := "(IZ)Z" } : Jvm.MethodName)) ∈ lw_all := lw_g (lw_at lw_m9 27 rfl) rfl
theorem q2040 : (Jvm.Cond.selects "FogNetsModel" ({ cls := "FogNetsModel", name := "mark", desc := "(IZ)Z" } : Jvm.MethodName) ({ cls := "FogNetsModel", name := "mark", desc := "(IZ)Z" } : Jvm.MethodName)) ∈ lw_all := lw_g (lw_at lw_m9 28 rfl) rfl
theorem q2041 : (Jvm.Cond.code ({ cls := "FogNetsModel", name := "mark", desc := "(IZ)Z" } : Jvm.MethodName) prog_30_method_83_code (3 : Nat) (Option.some Jvm.ClassFile.FieldType.boolean)) ∈ lw_all := lw_g (lw_at lw_m9 29 rfl) rfl
theorem q2043 : (Jvm.Cond.instanceMethod ({ cls := "FogNetsModel", name := "count", desc := "(I)I" } : Jvm.MethodName)) ∈ lw_all := lw_g (lw_at lw_m9 31 rfl) rfl
theorem q2044 : (Jvm.Cond.selects "FogNetsModel" ({ cls := "FogNetsModel", name := "count", desc := "(I)I" } : Jvm.MethodName) ({ cls := "FogNetsModel", name := "count", desc := "(I)I" } : Jvm.MethodName)) ∈ lw_all := lw_g (lw_at lw_m9 32 rfl) rfl
theorem q2045 : (Jvm.Cond.code ({ cls := "FogNetsModel", name := "count", desc := "(I)I" } : Jvm.MethodName) prog_30_method_84_code (2 : Nat) (Option.some Jvm.ClassFile.FieldType.int)) ∈ lw_all := lw_g (lw_at lw_m9 33 rfl) rfl
theorem q2072 : (Jvm.Cond.castable "FogNetsModel" "java/lang/Object") ∈ lw_tbl := lw_at lw_m9 60 rfl
theorem in_X8 : ∀ w ∈ wsX80, w ∈ lw_all := lw_in wsX80 [1595, 1597, 1599, 1601, 1603, 1605, 1607, 1609, 1611, 1613, 1615, 1617, 1619, 1621, 1623, 1625, 1627, 1629, 1631, 1633, 1635, 1637, 1639, 1641, 1643, 1645, 1647, 1649, 1651, 1653, 1655, 1657, 1659, 1661, 1663, 1665, 1667, 1669, 1671, 1673, 1675, 1677, 1679, 1681, 1683, 1685, 1687] (by decide +kernel) (by decide +kernel)
