/-! FogNets -/
set_option maxRecDepth 100000
def RX1 : String := "FogNets"
def TX1 : u_T := fun k => match k with
  | 0 => ("FogNets", "reader", "LFogNets$Reader;", true)
  | 1 => ("FogNets", "ridge", "LFogNets$Ridge;", false)
  | 2 => ("FogNets", "hung", "LFogNets$Hung;", true)
  | 3 => ("FogNets", "tanks", "LFogNets$Tanks;", true)
  | 4 => ("FogNets", "night", "I", false)
  | 5 => ("FogNets", "lastTook", "[I", true)
  | 6 => ("FogNets", "jars", "Ljava/util/ArrayList;", true)
  | 7 => ("FogNets", "sky", "LFogNets$Sky;", true)
  | 8 => ("FogNets", "trial", "LFogNets$Hung;", true)
  | 9 => ("FogNets", "later", "LFogNets$Tanks;", true)
  | 10 => ("FogNets", "worth", "[I", true)
  | 11 => ("FogNets", "takenBy", "[I", true)
  | 12 => ("FogNets", "g", "J", false)
  | _ => ("FogNets", "marks", "[LFogNets$Mark;", true)
def tyX1 : Nat → FieldType := fun k => match k with
  | 0 => .object "FogNets$Reader"
  | 1 => .object "FogNets$Ridge"
  | 2 => .object "FogNets$Hung"
  | 3 => .object "FogNets$Tanks"
  | 4 => .int
  | 5 => .array .int
  | 6 => .object "java/util/ArrayList"
  | 7 => .object "FogNets$Sky"
  | 8 => .object "FogNets$Hung"
  | 9 => .object "FogNets$Tanks"
  | 10 => .array .int
  | 11 => .array .int
  | 12 => .long
  | _ => .array (.object "FogNets$Mark")
abbrev wsX10 : List Cond := u_ws RX1 TX1 14
set_option maxRecDepth 100000 in
theorem nmX1 : ∀ a, a < 14 → ∀ b, b < 14 → a ≠ b → (TX1 a).2.1 ≠ (TX1 b).2.1 := by decide +kernel
set_option maxRecDepth 100000 in
theorem tyX1_ok : ∀ k, k < 14 → parseFieldDescriptor (TX1 k).2.2.1 = some (tyX1 k) := by decide +kernel
abbrev cX1_init : ByteArray := prog_1_method_4_code
def yX1_init : MethodName := ⟨RX1, "<init>", "()V"⟩
def dkwX1_init_5 : List UInt8 := [181, 0, 84, 42, 7, 189, 0, 87, 181, 0, 89, 42, 180, 0, 46, 42, 180, 0, 39, 182, 0, 93, 177]
abbrev dktX1_init_5 : List UInt8 := dkwX1_init_5 ++ []
def dkwX1_init_4 : List UInt8 := [187, 0, 50, 89, 183, 0, 52, 181, 0, 78, 42, 16, 64, 188, 10, 181, 0, 81, 42, 17, 1, 32, 188, 10]
abbrev dktX1_init_4 : List UInt8 := dkwX1_init_4 ++ dktX1_init_5
def dkwX1_init_3 : List UInt8 := [187, 0, 68, 89, 183, 0, 70, 181, 0, 71, 42, 187, 0, 43, 89, 183, 0, 45, 181, 0, 75, 42]
abbrev dktX1_init_3 : List UInt8 := dkwX1_init_3 ++ dktX1_init_4
def dkwX1_init_2 : List UInt8 := [181, 0, 53, 42, 16, 12, 188, 10, 181, 0, 57, 42, 187, 0, 61, 89, 183, 0, 63, 181, 0, 64, 42]
abbrev dktX1_init_2 : List UInt8 := dkwX1_init_2 ++ dktX1_init_3
def dkwX1_init_1 : List UInt8 := [181, 0, 39, 42, 187, 0, 43, 89, 183, 0, 45, 181, 0, 46, 42, 187, 0, 50, 89, 183, 0, 52]
abbrev dktX1_init_1 : List UInt8 := dkwX1_init_1 ++ dktX1_init_2
def dkwX1_init_0 : List UInt8 := [42, 183, 0, 22, 42, 187, 0, 27, 89, 183, 0, 29, 181, 0, 30, 42, 187, 0, 36, 89, 183, 0, 38]
abbrev dktX1_init_0 : List UInt8 := dkwX1_init_0 ++ dktX1_init_1
theorem dksX1_init_0 : cX1_init.data.toList.drop 0 = dktX1_init_0 := by decide +kernel
theorem dksX1_init_1 : cX1_init.data.toList.drop 23 = dktX1_init_1 := dk_seg dksX1_init_0 23 rfl rfl
theorem dksX1_init_2 : cX1_init.data.toList.drop 45 = dktX1_init_2 := dk_seg dksX1_init_1 22 rfl rfl
theorem dksX1_init_3 : cX1_init.data.toList.drop 68 = dktX1_init_3 := dk_seg dksX1_init_2 23 rfl rfl
theorem dksX1_init_4 : cX1_init.data.toList.drop 90 = dktX1_init_4 := dk_seg dksX1_init_3 22 rfl rfl
theorem dksX1_init_5 : cX1_init.data.toList.drop 114 = dktX1_init_5 := dk_seg dksX1_init_4 24 rfl rfl
theorem dX1_init_0 : decode cX1_init 0 = .ok (.aload_n 0, 1) := dk_42 (dk_at dksX1_init_0 0 rfl rfl)
theorem dX1_init_1 : decode cX1_init 1 = .ok (.invokespecial 22, 3) := dk_183 0 22 (dk_at dksX1_init_0 1 rfl rfl)
theorem dX1_init_4 : decode cX1_init 4 = .ok (.aload_n 0, 1) := dk_42 (dk_at dksX1_init_0 4 rfl rfl)
theorem dX1_init_5 : decode cX1_init 5 = .ok (.new 27, 3) := dk_187 0 27 (dk_at dksX1_init_0 5 rfl rfl)
theorem dX1_init_8 : decode cX1_init 8 = .ok (.dup, 1) := dk_89 (dk_at dksX1_init_0 8 rfl rfl)
theorem dX1_init_9 : decode cX1_init 9 = .ok (.invokespecial 29, 3) := dk_183 0 29 (dk_at dksX1_init_0 9 rfl rfl)
theorem dX1_init_12 : decode cX1_init 12 = .ok (.putfield 30, 3) := dk_181 0 30 (dk_at dksX1_init_0 12 rfl rfl)
theorem dX1_init_15 : decode cX1_init 15 = .ok (.aload_n 0, 1) := dk_42 (dk_at dksX1_init_0 15 rfl rfl)
theorem dX1_init_16 : decode cX1_init 16 = .ok (.new 36, 3) := dk_187 0 36 (dk_at dksX1_init_0 16 rfl rfl)
theorem dX1_init_19 : decode cX1_init 19 = .ok (.dup, 1) := dk_89 (dk_at dksX1_init_0 19 rfl rfl)
theorem dX1_init_20 : decode cX1_init 20 = .ok (.invokespecial 38, 3) := dk_183 0 38 (dk_at dksX1_init_0 20 rfl rfl)
theorem dX1_init_23 : decode cX1_init 23 = .ok (.putfield 39, 3) := dk_181 0 39 (dk_at dksX1_init_1 0 rfl rfl)
theorem dX1_init_26 : decode cX1_init 26 = .ok (.aload_n 0, 1) := dk_42 (dk_at dksX1_init_1 3 rfl rfl)
theorem dX1_init_27 : decode cX1_init 27 = .ok (.new 43, 3) := dk_187 0 43 (dk_at dksX1_init_1 4 rfl rfl)
theorem dX1_init_30 : decode cX1_init 30 = .ok (.dup, 1) := dk_89 (dk_at dksX1_init_1 7 rfl rfl)
theorem dX1_init_31 : decode cX1_init 31 = .ok (.invokespecial 45, 3) := dk_183 0 45 (dk_at dksX1_init_1 8 rfl rfl)
theorem dX1_init_34 : decode cX1_init 34 = .ok (.putfield 46, 3) := dk_181 0 46 (dk_at dksX1_init_1 11 rfl rfl)
theorem dX1_init_37 : decode cX1_init 37 = .ok (.aload_n 0, 1) := dk_42 (dk_at dksX1_init_1 14 rfl rfl)
theorem dX1_init_38 : decode cX1_init 38 = .ok (.new 50, 3) := dk_187 0 50 (dk_at dksX1_init_1 15 rfl rfl)
theorem dX1_init_41 : decode cX1_init 41 = .ok (.dup, 1) := dk_89 (dk_at dksX1_init_1 18 rfl rfl)
theorem dX1_init_42 : decode cX1_init 42 = .ok (.invokespecial 52, 3) := dk_183 0 52 (dk_at dksX1_init_1 19 rfl rfl)
theorem dX1_init_45 : decode cX1_init 45 = .ok (.putfield 53, 3) := dk_181 0 53 (dk_at dksX1_init_2 0 rfl rfl)
theorem dX1_init_48 : decode cX1_init 48 = .ok (.aload_n 0, 1) := dk_42 (dk_at dksX1_init_2 3 rfl rfl)
theorem dX1_init_49 : decode cX1_init 49 = .ok (.bipush 12, 2) := dk_16 12 (dk_at dksX1_init_2 4 rfl rfl)
theorem dX1_init_51 : decode cX1_init 51 = .ok (.newarray .int, 2) := dk_188_10 (dk_at dksX1_init_2 6 rfl rfl)
theorem dX1_init_53 : decode cX1_init 53 = .ok (.putfield 57, 3) := dk_181 0 57 (dk_at dksX1_init_2 8 rfl rfl)
theorem dX1_init_56 : decode cX1_init 56 = .ok (.aload_n 0, 1) := dk_42 (dk_at dksX1_init_2 11 rfl rfl)
theorem dX1_init_57 : decode cX1_init 57 = .ok (.new 61, 3) := dk_187 0 61 (dk_at dksX1_init_2 12 rfl rfl)
theorem dX1_init_60 : decode cX1_init 60 = .ok (.dup, 1) := dk_89 (dk_at dksX1_init_2 15 rfl rfl)
theorem dX1_init_61 : decode cX1_init 61 = .ok (.invokespecial 63, 3) := dk_183 0 63 (dk_at dksX1_init_2 16 rfl rfl)
theorem dX1_init_64 : decode cX1_init 64 = .ok (.putfield 64, 3) := dk_181 0 64 (dk_at dksX1_init_2 19 rfl rfl)
theorem dX1_init_67 : decode cX1_init 67 = .ok (.aload_n 0, 1) := dk_42 (dk_at dksX1_init_2 22 rfl rfl)
theorem dX1_init_68 : decode cX1_init 68 = .ok (.new 68, 3) := dk_187 0 68 (dk_at dksX1_init_3 0 rfl rfl)
theorem dX1_init_71 : decode cX1_init 71 = .ok (.dup, 1) := dk_89 (dk_at dksX1_init_3 3 rfl rfl)
theorem dX1_init_72 : decode cX1_init 72 = .ok (.invokespecial 70, 3) := dk_183 0 70 (dk_at dksX1_init_3 4 rfl rfl)
theorem dX1_init_75 : decode cX1_init 75 = .ok (.putfield 71, 3) := dk_181 0 71 (dk_at dksX1_init_3 7 rfl rfl)
theorem dX1_init_78 : decode cX1_init 78 = .ok (.aload_n 0, 1) := dk_42 (dk_at dksX1_init_3 10 rfl rfl)
theorem dX1_init_79 : decode cX1_init 79 = .ok (.new 43, 3) := dk_187 0 43 (dk_at dksX1_init_3 11 rfl rfl)
theorem dX1_init_82 : decode cX1_init 82 = .ok (.dup, 1) := dk_89 (dk_at dksX1_init_3 14 rfl rfl)
theorem dX1_init_83 : decode cX1_init 83 = .ok (.invokespecial 45, 3) := dk_183 0 45 (dk_at dksX1_init_3 15 rfl rfl)
theorem dX1_init_86 : decode cX1_init 86 = .ok (.putfield 75, 3) := dk_181 0 75 (dk_at dksX1_init_3 18 rfl rfl)
theorem dX1_init_89 : decode cX1_init 89 = .ok (.aload_n 0, 1) := dk_42 (dk_at dksX1_init_3 21 rfl rfl)
theorem dX1_init_90 : decode cX1_init 90 = .ok (.new 50, 3) := dk_187 0 50 (dk_at dksX1_init_4 0 rfl rfl)
theorem dX1_init_93 : decode cX1_init 93 = .ok (.dup, 1) := dk_89 (dk_at dksX1_init_4 3 rfl rfl)
theorem dX1_init_94 : decode cX1_init 94 = .ok (.invokespecial 52, 3) := dk_183 0 52 (dk_at dksX1_init_4 4 rfl rfl)
theorem dX1_init_97 : decode cX1_init 97 = .ok (.putfield 78, 3) := dk_181 0 78 (dk_at dksX1_init_4 7 rfl rfl)
theorem dX1_init_100 : decode cX1_init 100 = .ok (.aload_n 0, 1) := dk_42 (dk_at dksX1_init_4 10 rfl rfl)
theorem dX1_init_101 : decode cX1_init 101 = .ok (.bipush 64, 2) := dk_16 64 (dk_at dksX1_init_4 11 rfl rfl)
theorem dX1_init_103 : decode cX1_init 103 = .ok (.newarray .int, 2) := dk_188_10 (dk_at dksX1_init_4 13 rfl rfl)
theorem dX1_init_105 : decode cX1_init 105 = .ok (.putfield 81, 3) := dk_181 0 81 (dk_at dksX1_init_4 15 rfl rfl)
theorem dX1_init_108 : decode cX1_init 108 = .ok (.aload_n 0, 1) := dk_42 (dk_at dksX1_init_4 18 rfl rfl)
theorem dX1_init_109 : decode cX1_init 109 = .ok (.sipush 288, 3) := dk_17 1 32 (dk_at dksX1_init_4 19 rfl rfl)
theorem dX1_init_112 : decode cX1_init 112 = .ok (.newarray .int, 2) := dk_188_10 (dk_at dksX1_init_4 22 rfl rfl)
theorem dX1_init_114 : decode cX1_init 114 = .ok (.putfield 84, 3) := dk_181 0 84 (dk_at dksX1_init_5 0 rfl rfl)
theorem dX1_init_117 : decode cX1_init 117 = .ok (.aload_n 0, 1) := dk_42 (dk_at dksX1_init_5 3 rfl rfl)
theorem dX1_init_118 : decode cX1_init 118 = .ok (.iconst 4, 1) := dk_7 (dk_at dksX1_init_5 4 rfl rfl)
theorem dX1_init_119 : decode cX1_init 119 = .ok (.anewarray 87, 3) := dk_189 0 87 (dk_at dksX1_init_5 5 rfl rfl)
theorem dX1_init_122 : decode cX1_init 122 = .ok (.putfield 89, 3) := dk_181 0 89 (dk_at dksX1_init_5 8 rfl rfl)
theorem dX1_init_125 : decode cX1_init 125 = .ok (.aload_n 0, 1) := dk_42 (dk_at dksX1_init_5 11 rfl rfl)
theorem dX1_init_126 : decode cX1_init 126 = .ok (.getfield 46, 3) := dk_180 0 46 (dk_at dksX1_init_5 12 rfl rfl)
theorem dX1_init_129 : decode cX1_init 129 = .ok (.aload_n 0, 1) := dk_42 (dk_at dksX1_init_5 15 rfl rfl)
theorem dX1_init_130 : decode cX1_init 130 = .ok (.getfield 39, 3) := dk_180 0 39 (dk_at dksX1_init_5 16 rfl rfl)
theorem dX1_init_133 : decode cX1_init 133 = .ok (.invokevirtual 93, 3) := dk_182 0 93 (dk_at dksX1_init_5 19 rfl rfl)
theorem dX1_init_136 : decode cX1_init 136 = .ok (.return_, 1) := dk_177 (dk_at dksX1_init_5 22 rfl rfl)
abbrev cX1_feed : ByteArray := prog_1_method_5_code
def yX1_feed : MethodName := ⟨RX1, "feed", "(JJJ)I"⟩
def dkwX1_feed_1 : List UInt8 := [182, 0, 97, 42, 180, 0, 30, 180, 0, 101, 172]
abbrev dktX1_feed_1 : List UInt8 := dkwX1_feed_1 ++ []
def dkwX1_feed_0 : List UInt8 := [42, 180, 0, 30, 31, 182, 0, 97, 42, 180, 0, 30, 33, 182, 0, 97, 42, 180, 0, 30, 22, 5]
abbrev dktX1_feed_0 : List UInt8 := dkwX1_feed_0 ++ dktX1_feed_1
theorem dksX1_feed_0 : cX1_feed.data.toList.drop 0 = dktX1_feed_0 := by decide +kernel
theorem dksX1_feed_1 : cX1_feed.data.toList.drop 22 = dktX1_feed_1 := dk_seg dksX1_feed_0 22 rfl rfl
theorem dX1_feed_0 : decode cX1_feed 0 = .ok (.aload_n 0, 1) := dk_42 (dk_at dksX1_feed_0 0 rfl rfl)
theorem dX1_feed_1 : decode cX1_feed 1 = .ok (.getfield 30, 3) := dk_180 0 30 (dk_at dksX1_feed_0 1 rfl rfl)
theorem dX1_feed_4 : decode cX1_feed 4 = .ok (.lload_n 1, 1) := dk_31 (dk_at dksX1_feed_0 4 rfl rfl)
theorem dX1_feed_5 : decode cX1_feed 5 = .ok (.invokevirtual 97, 3) := dk_182 0 97 (dk_at dksX1_feed_0 5 rfl rfl)
theorem dX1_feed_8 : decode cX1_feed 8 = .ok (.aload_n 0, 1) := dk_42 (dk_at dksX1_feed_0 8 rfl rfl)
theorem dX1_feed_9 : decode cX1_feed 9 = .ok (.getfield 30, 3) := dk_180 0 30 (dk_at dksX1_feed_0 9 rfl rfl)
theorem dX1_feed_12 : decode cX1_feed 12 = .ok (.lload_n 3, 1) := dk_33 (dk_at dksX1_feed_0 12 rfl rfl)
theorem dX1_feed_13 : decode cX1_feed 13 = .ok (.invokevirtual 97, 3) := dk_182 0 97 (dk_at dksX1_feed_0 13 rfl rfl)
theorem dX1_feed_16 : decode cX1_feed 16 = .ok (.aload_n 0, 1) := dk_42 (dk_at dksX1_feed_0 16 rfl rfl)
theorem dX1_feed_17 : decode cX1_feed 17 = .ok (.getfield 30, 3) := dk_180 0 30 (dk_at dksX1_feed_0 17 rfl rfl)
theorem dX1_feed_20 : decode cX1_feed 20 = .ok (.lload 5, 2) := dk_22 5 (dk_at dksX1_feed_0 20 rfl rfl)
theorem dX1_feed_22 : decode cX1_feed 22 = .ok (.invokevirtual 97, 3) := dk_182 0 97 (dk_at dksX1_feed_1 0 rfl rfl)
theorem dX1_feed_25 : decode cX1_feed 25 = .ok (.aload_n 0, 1) := dk_42 (dk_at dksX1_feed_1 3 rfl rfl)
theorem dX1_feed_26 : decode cX1_feed 26 = .ok (.getfield 30, 3) := dk_180 0 30 (dk_at dksX1_feed_1 4 rfl rfl)
theorem dX1_feed_29 : decode cX1_feed 29 = .ok (.getfield 101, 3) := dk_180 0 101 (dk_at dksX1_feed_1 7 rfl rfl)
theorem dX1_feed_32 : decode cX1_feed 32 = .ok (.ireturn, 1) := dk_172 (dk_at dksX1_feed_1 10 rfl rfl)
abbrev cX1_within : ByteArray := prog_1_method_1_code
def yX1_within : MethodName := ⟨RX1, "within", "(III)Z"⟩
def dkwX1_within_0 : List UInt8 := [26, 27, 161, 0, 12, 26, 28, 163, 0, 7, 4, 167, 0, 4, 3, 172]
abbrev dktX1_within_0 : List UInt8 := dkwX1_within_0 ++ []
theorem dksX1_within_0 : cX1_within.data.toList.drop 0 = dktX1_within_0 := by decide +kernel
theorem dX1_within_0 : decode cX1_within 0 = .ok (.iload_n 0, 1) := dk_26 (dk_at dksX1_within_0 0 rfl rfl)
theorem dX1_within_1 : decode cX1_within 1 = .ok (.iload_n 1, 1) := dk_27 (dk_at dksX1_within_0 1 rfl rfl)
theorem dX1_within_2 : decode cX1_within 2 = .ok (.if_icmp .lt 12, 3) := dk_161 0 12 (dk_at dksX1_within_0 2 rfl rfl)
theorem dX1_within_5 : decode cX1_within 5 = .ok (.iload_n 0, 1) := dk_26 (dk_at dksX1_within_0 5 rfl rfl)
theorem dX1_within_6 : decode cX1_within 6 = .ok (.iload_n 2, 1) := dk_28 (dk_at dksX1_within_0 6 rfl rfl)
theorem dX1_within_7 : decode cX1_within 7 = .ok (.if_icmp .gt 7, 3) := dk_163 0 7 (dk_at dksX1_within_0 7 rfl rfl)
theorem dX1_within_10 : decode cX1_within 10 = .ok (.iconst 1, 1) := dk_4 (dk_at dksX1_within_0 10 rfl rfl)
theorem dX1_within_11 : decode cX1_within 11 = .ok (.goto 4, 3) := dk_167 0 4 (dk_at dksX1_within_0 11 rfl rfl)
theorem dX1_within_14 : decode cX1_within 14 = .ok (.iconst 0, 1) := dk_3 (dk_at dksX1_within_0 14 rfl rfl)
theorem dX1_within_15 : decode cX1_within 15 = .ok (.ireturn, 1) := dk_172 (dk_at dksX1_within_0 15 rfl rfl)
abbrev cX1_ridge : ByteArray := prog_1_method_6_code
def yX1_ridge : MethodName := ⟨RX1, "ridge", "()I"⟩
def dkwX1_ridge_3 : List UInt8 := [180, 0, 117, 172]
abbrev dktX1_ridge_3 : List UInt8 := dkwX1_ridge_3 ++ []
def dkwX1_ridge_2 : List UInt8 := [180, 0, 57, 27, 3, 79, 132, 1, 1, 167, 255, 240, 42, 180, 0, 64, 182, 0, 112, 3, 172, 76, 43]
abbrev dktX1_ridge_2 : List UInt8 := dkwX1_ridge_2 ++ dktX1_ridge_3
def dkwX1_ridge_1 : List UInt8 := [180, 0, 53, 42, 180, 0, 39, 182, 0, 108, 42, 3, 181, 0, 109, 3, 60, 27, 16, 12, 162, 0, 16, 42]
abbrev dktX1_ridge_1 : List UInt8 := dkwX1_ridge_1 ++ dktX1_ridge_2
def dkwX1_ridge_0 : List UInt8 := [42, 42, 180, 0, 30, 182, 0, 105, 181, 0, 39, 42, 180, 0, 46, 42, 180, 0, 39, 182, 0, 93, 42]
abbrev dktX1_ridge_0 : List UInt8 := dkwX1_ridge_0 ++ dktX1_ridge_1
theorem dksX1_ridge_0 : cX1_ridge.data.toList.drop 0 = dktX1_ridge_0 := by decide +kernel
theorem dksX1_ridge_1 : cX1_ridge.data.toList.drop 23 = dktX1_ridge_1 := dk_seg dksX1_ridge_0 23 rfl rfl
theorem dksX1_ridge_2 : cX1_ridge.data.toList.drop 47 = dktX1_ridge_2 := dk_seg dksX1_ridge_1 24 rfl rfl
theorem dksX1_ridge_3 : cX1_ridge.data.toList.drop 70 = dktX1_ridge_3 := dk_seg dksX1_ridge_2 23 rfl rfl
theorem dX1_ridge_0 : decode cX1_ridge 0 = .ok (.aload_n 0, 1) := dk_42 (dk_at dksX1_ridge_0 0 rfl rfl)
theorem dX1_ridge_1 : decode cX1_ridge 1 = .ok (.aload_n 0, 1) := dk_42 (dk_at dksX1_ridge_0 1 rfl rfl)
theorem dX1_ridge_2 : decode cX1_ridge 2 = .ok (.getfield 30, 3) := dk_180 0 30 (dk_at dksX1_ridge_0 2 rfl rfl)
theorem dX1_ridge_5 : decode cX1_ridge 5 = .ok (.invokevirtual 105, 3) := dk_182 0 105 (dk_at dksX1_ridge_0 5 rfl rfl)
theorem dX1_ridge_8 : decode cX1_ridge 8 = .ok (.putfield 39, 3) := dk_181 0 39 (dk_at dksX1_ridge_0 8 rfl rfl)
theorem dX1_ridge_11 : decode cX1_ridge 11 = .ok (.aload_n 0, 1) := dk_42 (dk_at dksX1_ridge_0 11 rfl rfl)
theorem dX1_ridge_12 : decode cX1_ridge 12 = .ok (.getfield 46, 3) := dk_180 0 46 (dk_at dksX1_ridge_0 12 rfl rfl)
theorem dX1_ridge_15 : decode cX1_ridge 15 = .ok (.aload_n 0, 1) := dk_42 (dk_at dksX1_ridge_0 15 rfl rfl)
theorem dX1_ridge_16 : decode cX1_ridge 16 = .ok (.getfield 39, 3) := dk_180 0 39 (dk_at dksX1_ridge_0 16 rfl rfl)
theorem dX1_ridge_19 : decode cX1_ridge 19 = .ok (.invokevirtual 93, 3) := dk_182 0 93 (dk_at dksX1_ridge_0 19 rfl rfl)
theorem dX1_ridge_22 : decode cX1_ridge 22 = .ok (.aload_n 0, 1) := dk_42 (dk_at dksX1_ridge_0 22 rfl rfl)
theorem dX1_ridge_23 : decode cX1_ridge 23 = .ok (.getfield 53, 3) := dk_180 0 53 (dk_at dksX1_ridge_1 0 rfl rfl)
theorem dX1_ridge_26 : decode cX1_ridge 26 = .ok (.aload_n 0, 1) := dk_42 (dk_at dksX1_ridge_1 3 rfl rfl)
theorem dX1_ridge_27 : decode cX1_ridge 27 = .ok (.getfield 39, 3) := dk_180 0 39 (dk_at dksX1_ridge_1 4 rfl rfl)
theorem dX1_ridge_30 : decode cX1_ridge 30 = .ok (.invokevirtual 108, 3) := dk_182 0 108 (dk_at dksX1_ridge_1 7 rfl rfl)
theorem dX1_ridge_33 : decode cX1_ridge 33 = .ok (.aload_n 0, 1) := dk_42 (dk_at dksX1_ridge_1 10 rfl rfl)
theorem dX1_ridge_34 : decode cX1_ridge 34 = .ok (.iconst 0, 1) := dk_3 (dk_at dksX1_ridge_1 11 rfl rfl)
theorem dX1_ridge_35 : decode cX1_ridge 35 = .ok (.putfield 109, 3) := dk_181 0 109 (dk_at dksX1_ridge_1 12 rfl rfl)
theorem dX1_ridge_38 : decode cX1_ridge 38 = .ok (.iconst 0, 1) := dk_3 (dk_at dksX1_ridge_1 15 rfl rfl)
theorem dX1_ridge_39 : decode cX1_ridge 39 = .ok (.istore_n 1, 1) := dk_60 (dk_at dksX1_ridge_1 16 rfl rfl)
theorem dX1_ridge_40 : decode cX1_ridge 40 = .ok (.iload_n 1, 1) := dk_27 (dk_at dksX1_ridge_1 17 rfl rfl)
theorem dX1_ridge_41 : decode cX1_ridge 41 = .ok (.bipush 12, 2) := dk_16 12 (dk_at dksX1_ridge_1 18 rfl rfl)
theorem dX1_ridge_43 : decode cX1_ridge 43 = .ok (.if_icmp .ge 16, 3) := dk_162 0 16 (dk_at dksX1_ridge_1 20 rfl rfl)
theorem dX1_ridge_46 : decode cX1_ridge 46 = .ok (.aload_n 0, 1) := dk_42 (dk_at dksX1_ridge_1 23 rfl rfl)
theorem dX1_ridge_47 : decode cX1_ridge 47 = .ok (.getfield 57, 3) := dk_180 0 57 (dk_at dksX1_ridge_2 0 rfl rfl)
theorem dX1_ridge_50 : decode cX1_ridge 50 = .ok (.iload_n 1, 1) := dk_27 (dk_at dksX1_ridge_2 3 rfl rfl)
theorem dX1_ridge_51 : decode cX1_ridge 51 = .ok (.iconst 0, 1) := dk_3 (dk_at dksX1_ridge_2 4 rfl rfl)
theorem dX1_ridge_52 : decode cX1_ridge 52 = .ok (.iastore, 1) := dk_79 (dk_at dksX1_ridge_2 5 rfl rfl)
theorem dX1_ridge_53 : decode cX1_ridge 53 = .ok (.iinc 1 1, 3) := dk_132 1 1 (dk_at dksX1_ridge_2 6 rfl rfl)
theorem dX1_ridge_56 : decode cX1_ridge 56 = .ok (.goto (-16), 3) := dk_167 255 240 (dk_at dksX1_ridge_2 9 rfl rfl)
theorem dX1_ridge_59 : decode cX1_ridge 59 = .ok (.aload_n 0, 1) := dk_42 (dk_at dksX1_ridge_2 12 rfl rfl)
theorem dX1_ridge_60 : decode cX1_ridge 60 = .ok (.getfield 64, 3) := dk_180 0 64 (dk_at dksX1_ridge_2 13 rfl rfl)
theorem dX1_ridge_63 : decode cX1_ridge 63 = .ok (.invokevirtual 112, 3) := dk_182 0 112 (dk_at dksX1_ridge_2 16 rfl rfl)
theorem dX1_ridge_66 : decode cX1_ridge 66 = .ok (.iconst 0, 1) := dk_3 (dk_at dksX1_ridge_2 19 rfl rfl)
theorem dX1_ridge_67 : decode cX1_ridge 67 = .ok (.ireturn, 1) := dk_172 (dk_at dksX1_ridge_2 20 rfl rfl)
theorem dX1_ridge_68 : decode cX1_ridge 68 = .ok (.astore_n 1, 1) := dk_76 (dk_at dksX1_ridge_2 21 rfl rfl)
theorem dX1_ridge_69 : decode cX1_ridge 69 = .ok (.aload_n 1, 1) := dk_43 (dk_at dksX1_ridge_2 22 rfl rfl)
theorem dX1_ridge_70 : decode cX1_ridge 70 = .ok (.getfield 117, 3) := dk_180 0 117 (dk_at dksX1_ridge_3 0 rfl rfl)
theorem dX1_ridge_73 : decode cX1_ridge 73 = .ok (.ireturn, 1) := dk_172 (dk_at dksX1_ridge_3 3 rfl rfl)
abbrev cX1_net : ByteArray := prog_1_method_3_code
def yX1_net : MethodName := ⟨RX1, "net", "(III)LFogNets$Net;"⟩
def dkwX1_net_4 : List UInt8 := [183, 0, 18, 176, 187, 0, 19, 89, 27, 28, 183, 0, 21, 176]
abbrev dktX1_net_4 : List UInt8 := dkwX1_net_4 ++ []
def dkwX1_net_3 : List UInt8 := [27, 28, 183, 0, 12, 176, 187, 0, 13, 89, 27, 28, 183, 0, 15, 176, 187, 0, 16, 89, 27, 28]
abbrev dktX1_net_3 : List UInt8 := dkwX1_net_3 ++ dktX1_net_4
def dkwX1_net_2 : List UInt8 := [187, 0, 1, 89, 27, 28, 183, 0, 3, 176, 187, 0, 7, 89, 27, 28, 183, 0, 9, 176, 187, 0, 10, 89]
abbrev dktX1_net_2 : List UInt8 := dkwX1_net_2 ++ dktX1_net_3
def dkwX1_net_1 : List UInt8 := [170, 0, 0, 0, 0, 0, 85, 0, 0, 0, 1, 0, 0, 0, 5, 0, 0, 0, 35, 0, 0, 0, 45, 0, 0, 0, 55, 0, 0, 0, 65, 0, 0, 0, 75]
abbrev dktX1_net_1 : List UInt8 := dkwX1_net_1 ++ dktX1_net_2
def dkwX1_net_0 : List UInt8 := [26]
abbrev dktX1_net_0 : List UInt8 := dkwX1_net_0 ++ dktX1_net_1
theorem dksX1_net_0 : cX1_net.data.toList.drop 0 = dktX1_net_0 := by decide +kernel
theorem dksX1_net_1 : cX1_net.data.toList.drop 1 = dktX1_net_1 := dk_seg dksX1_net_0 1 rfl rfl
theorem dksX1_net_2 : cX1_net.data.toList.drop 36 = dktX1_net_2 := dk_seg dksX1_net_1 35 rfl rfl
theorem dksX1_net_3 : cX1_net.data.toList.drop 60 = dktX1_net_3 := dk_seg dksX1_net_2 24 rfl rfl
theorem dksX1_net_4 : cX1_net.data.toList.drop 82 = dktX1_net_4 := dk_seg dksX1_net_3 22 rfl rfl
theorem dX1_net_0 : decode cX1_net 0 = .ok (.iload_n 0, 1) := dk_26 (dk_at dksX1_net_0 0 rfl rfl)
theorem dX1_net_1 : decode cX1_net 1 = .ok (.tableswitch 85 1 5 #[35, 45, 55, 65, 75], 35) := by decide +kernel
theorem dX1_net_36 : decode cX1_net 36 = .ok (.new 1, 3) := dk_187 0 1 (dk_at dksX1_net_2 0 rfl rfl)
theorem dX1_net_39 : decode cX1_net 39 = .ok (.dup, 1) := dk_89 (dk_at dksX1_net_2 3 rfl rfl)
theorem dX1_net_40 : decode cX1_net 40 = .ok (.iload_n 1, 1) := dk_27 (dk_at dksX1_net_2 4 rfl rfl)
theorem dX1_net_41 : decode cX1_net 41 = .ok (.iload_n 2, 1) := dk_28 (dk_at dksX1_net_2 5 rfl rfl)
theorem dX1_net_42 : decode cX1_net 42 = .ok (.invokespecial 3, 3) := dk_183 0 3 (dk_at dksX1_net_2 6 rfl rfl)
theorem dX1_net_45 : decode cX1_net 45 = .ok (.areturn, 1) := dk_176 (dk_at dksX1_net_2 9 rfl rfl)
theorem dX1_net_46 : decode cX1_net 46 = .ok (.new 7, 3) := dk_187 0 7 (dk_at dksX1_net_2 10 rfl rfl)
theorem dX1_net_49 : decode cX1_net 49 = .ok (.dup, 1) := dk_89 (dk_at dksX1_net_2 13 rfl rfl)
theorem dX1_net_50 : decode cX1_net 50 = .ok (.iload_n 1, 1) := dk_27 (dk_at dksX1_net_2 14 rfl rfl)
theorem dX1_net_51 : decode cX1_net 51 = .ok (.iload_n 2, 1) := dk_28 (dk_at dksX1_net_2 15 rfl rfl)
theorem dX1_net_52 : decode cX1_net 52 = .ok (.invokespecial 9, 3) := dk_183 0 9 (dk_at dksX1_net_2 16 rfl rfl)
theorem dX1_net_55 : decode cX1_net 55 = .ok (.areturn, 1) := dk_176 (dk_at dksX1_net_2 19 rfl rfl)
theorem dX1_net_56 : decode cX1_net 56 = .ok (.new 10, 3) := dk_187 0 10 (dk_at dksX1_net_2 20 rfl rfl)
theorem dX1_net_59 : decode cX1_net 59 = .ok (.dup, 1) := dk_89 (dk_at dksX1_net_2 23 rfl rfl)
theorem dX1_net_60 : decode cX1_net 60 = .ok (.iload_n 1, 1) := dk_27 (dk_at dksX1_net_3 0 rfl rfl)
theorem dX1_net_61 : decode cX1_net 61 = .ok (.iload_n 2, 1) := dk_28 (dk_at dksX1_net_3 1 rfl rfl)
theorem dX1_net_62 : decode cX1_net 62 = .ok (.invokespecial 12, 3) := dk_183 0 12 (dk_at dksX1_net_3 2 rfl rfl)
theorem dX1_net_65 : decode cX1_net 65 = .ok (.areturn, 1) := dk_176 (dk_at dksX1_net_3 5 rfl rfl)
theorem dX1_net_66 : decode cX1_net 66 = .ok (.new 13, 3) := dk_187 0 13 (dk_at dksX1_net_3 6 rfl rfl)
theorem dX1_net_69 : decode cX1_net 69 = .ok (.dup, 1) := dk_89 (dk_at dksX1_net_3 9 rfl rfl)
theorem dX1_net_70 : decode cX1_net 70 = .ok (.iload_n 1, 1) := dk_27 (dk_at dksX1_net_3 10 rfl rfl)
theorem dX1_net_71 : decode cX1_net 71 = .ok (.iload_n 2, 1) := dk_28 (dk_at dksX1_net_3 11 rfl rfl)
theorem dX1_net_72 : decode cX1_net 72 = .ok (.invokespecial 15, 3) := dk_183 0 15 (dk_at dksX1_net_3 12 rfl rfl)
theorem dX1_net_75 : decode cX1_net 75 = .ok (.areturn, 1) := dk_176 (dk_at dksX1_net_3 15 rfl rfl)
theorem dX1_net_76 : decode cX1_net 76 = .ok (.new 16, 3) := dk_187 0 16 (dk_at dksX1_net_3 16 rfl rfl)
theorem dX1_net_79 : decode cX1_net 79 = .ok (.dup, 1) := dk_89 (dk_at dksX1_net_3 19 rfl rfl)
theorem dX1_net_80 : decode cX1_net 80 = .ok (.iload_n 1, 1) := dk_27 (dk_at dksX1_net_3 20 rfl rfl)
theorem dX1_net_81 : decode cX1_net 81 = .ok (.iload_n 2, 1) := dk_28 (dk_at dksX1_net_3 21 rfl rfl)
theorem dX1_net_82 : decode cX1_net 82 = .ok (.invokespecial 18, 3) := dk_183 0 18 (dk_at dksX1_net_4 0 rfl rfl)
theorem dX1_net_85 : decode cX1_net 85 = .ok (.areturn, 1) := dk_176 (dk_at dksX1_net_4 3 rfl rfl)
theorem dX1_net_86 : decode cX1_net 86 = .ok (.new 19, 3) := dk_187 0 19 (dk_at dksX1_net_4 4 rfl rfl)
theorem dX1_net_89 : decode cX1_net 89 = .ok (.dup, 1) := dk_89 (dk_at dksX1_net_4 7 rfl rfl)
theorem dX1_net_90 : decode cX1_net 90 = .ok (.iload_n 1, 1) := dk_27 (dk_at dksX1_net_4 8 rfl rfl)
theorem dX1_net_91 : decode cX1_net 91 = .ok (.iload_n 2, 1) := dk_28 (dk_at dksX1_net_4 9 rfl rfl)
theorem dX1_net_92 : decode cX1_net 92 = .ok (.invokespecial 21, 3) := dk_183 0 21 (dk_at dksX1_net_4 10 rfl rfl)
theorem dX1_net_95 : decode cX1_net 95 = .ok (.areturn, 1) := dk_176 (dk_at dksX1_net_4 13 rfl rfl)
abbrev cX1_net_2 : ByteArray := prog_1_method_10_code
def yX1_net_2 : MethodName := ⟨RX1, "net", "(II)I"⟩
def dkwX1_net_2_4 : List UInt8 := [172, 2, 172]
abbrev dktX1_net_2_4 : List UInt8 := dkwX1_net_2_4 ++ []
def dkwX1_net_2_3 : List UInt8 := [172, 42, 180, 0, 46, 27, 182, 0, 157, 153, 0, 7, 4, 167, 0, 4, 3, 172, 42, 180, 0, 57, 27, 46]
abbrev dktX1_net_2_3 : List UInt8 := dkwX1_net_2_3 ++ dktX1_net_2_4
def dkwX1_net_2_2 : List UInt8 := [45, 180, 0, 145, 172, 42, 180, 0, 46, 180, 0, 148, 27, 46, 172, 45, 180, 0, 151, 172, 45, 182, 0, 154]
abbrev dktX1_net_2_2 : List UInt8 := dkwX1_net_2_2 ++ dktX1_net_2_3
def dkwX1_net_2_1 : List UInt8 := [170, 0, 0, 0, 0, 0, 88, 0, 0, 0, 0, 0, 0, 0, 5, 0, 0, 0, 39, 0, 0, 0, 44, 0, 0, 0, 54, 0, 0, 0, 59, 0, 0, 0, 64, 0, 0, 0, 81]
abbrev dktX1_net_2_1 : List UInt8 := dkwX1_net_2_1 ++ dktX1_net_2_2
def dkwX1_net_2_0 : List UInt8 := [42, 27, 182, 0, 137, 154, 0, 5, 2, 172, 42, 180, 0, 46, 180, 0, 141, 27, 50, 78, 28]
abbrev dktX1_net_2_0 : List UInt8 := dkwX1_net_2_0 ++ dktX1_net_2_1
theorem dksX1_net_2_0 : cX1_net_2.data.toList.drop 0 = dktX1_net_2_0 := by decide +kernel
theorem dksX1_net_2_1 : cX1_net_2.data.toList.drop 21 = dktX1_net_2_1 := dk_seg dksX1_net_2_0 21 rfl rfl
theorem dksX1_net_2_2 : cX1_net_2.data.toList.drop 60 = dktX1_net_2_2 := dk_seg dksX1_net_2_1 39 rfl rfl
theorem dksX1_net_2_3 : cX1_net_2.data.toList.drop 84 = dktX1_net_2_3 := dk_seg dksX1_net_2_2 24 rfl rfl
theorem dksX1_net_2_4 : cX1_net_2.data.toList.drop 108 = dktX1_net_2_4 := dk_seg dksX1_net_2_3 24 rfl rfl
theorem dX1_net_2_0 : decode cX1_net_2 0 = .ok (.aload_n 0, 1) := dk_42 (dk_at dksX1_net_2_0 0 rfl rfl)
theorem dX1_net_2_1 : decode cX1_net_2 1 = .ok (.iload_n 1, 1) := dk_27 (dk_at dksX1_net_2_0 1 rfl rfl)
theorem dX1_net_2_2 : decode cX1_net_2 2 = .ok (.invokevirtual 137, 3) := dk_182 0 137 (dk_at dksX1_net_2_0 2 rfl rfl)
theorem dX1_net_2_5 : decode cX1_net_2 5 = .ok (.ifCond .ne 5, 3) := dk_154 0 5 (dk_at dksX1_net_2_0 5 rfl rfl)
theorem dX1_net_2_8 : decode cX1_net_2 8 = .ok (.iconst (-1), 1) := dk_2 (dk_at dksX1_net_2_0 8 rfl rfl)
theorem dX1_net_2_9 : decode cX1_net_2 9 = .ok (.ireturn, 1) := dk_172 (dk_at dksX1_net_2_0 9 rfl rfl)
theorem dX1_net_2_10 : decode cX1_net_2 10 = .ok (.aload_n 0, 1) := dk_42 (dk_at dksX1_net_2_0 10 rfl rfl)
theorem dX1_net_2_11 : decode cX1_net_2 11 = .ok (.getfield 46, 3) := dk_180 0 46 (dk_at dksX1_net_2_0 11 rfl rfl)
theorem dX1_net_2_14 : decode cX1_net_2 14 = .ok (.getfield 141, 3) := dk_180 0 141 (dk_at dksX1_net_2_0 14 rfl rfl)
theorem dX1_net_2_17 : decode cX1_net_2 17 = .ok (.iload_n 1, 1) := dk_27 (dk_at dksX1_net_2_0 17 rfl rfl)
theorem dX1_net_2_18 : decode cX1_net_2 18 = .ok (.aaload, 1) := dk_50 (dk_at dksX1_net_2_0 18 rfl rfl)
theorem dX1_net_2_19 : decode cX1_net_2 19 = .ok (.astore_n 3, 1) := dk_78 (dk_at dksX1_net_2_0 19 rfl rfl)
theorem dX1_net_2_20 : decode cX1_net_2 20 = .ok (.iload_n 2, 1) := dk_28 (dk_at dksX1_net_2_0 20 rfl rfl)
theorem dX1_net_2_21 : decode cX1_net_2 21 = .ok (.tableswitch 88 0 5 #[39, 44, 54, 59, 64, 81], 39) := by decide +kernel
theorem dX1_net_2_60 : decode cX1_net_2 60 = .ok (.aload_n 3, 1) := dk_45 (dk_at dksX1_net_2_2 0 rfl rfl)
theorem dX1_net_2_61 : decode cX1_net_2 61 = .ok (.getfield 145, 3) := dk_180 0 145 (dk_at dksX1_net_2_2 1 rfl rfl)
theorem dX1_net_2_64 : decode cX1_net_2 64 = .ok (.ireturn, 1) := dk_172 (dk_at dksX1_net_2_2 4 rfl rfl)
theorem dX1_net_2_65 : decode cX1_net_2 65 = .ok (.aload_n 0, 1) := dk_42 (dk_at dksX1_net_2_2 5 rfl rfl)
theorem dX1_net_2_66 : decode cX1_net_2 66 = .ok (.getfield 46, 3) := dk_180 0 46 (dk_at dksX1_net_2_2 6 rfl rfl)
theorem dX1_net_2_69 : decode cX1_net_2 69 = .ok (.getfield 148, 3) := dk_180 0 148 (dk_at dksX1_net_2_2 9 rfl rfl)
theorem dX1_net_2_72 : decode cX1_net_2 72 = .ok (.iload_n 1, 1) := dk_27 (dk_at dksX1_net_2_2 12 rfl rfl)
theorem dX1_net_2_73 : decode cX1_net_2 73 = .ok (.iaload, 1) := dk_46 (dk_at dksX1_net_2_2 13 rfl rfl)
theorem dX1_net_2_74 : decode cX1_net_2 74 = .ok (.ireturn, 1) := dk_172 (dk_at dksX1_net_2_2 14 rfl rfl)
theorem dX1_net_2_75 : decode cX1_net_2 75 = .ok (.aload_n 3, 1) := dk_45 (dk_at dksX1_net_2_2 15 rfl rfl)
theorem dX1_net_2_76 : decode cX1_net_2 76 = .ok (.getfield 151, 3) := dk_180 0 151 (dk_at dksX1_net_2_2 16 rfl rfl)
theorem dX1_net_2_79 : decode cX1_net_2 79 = .ok (.ireturn, 1) := dk_172 (dk_at dksX1_net_2_2 19 rfl rfl)
theorem dX1_net_2_80 : decode cX1_net_2 80 = .ok (.aload_n 3, 1) := dk_45 (dk_at dksX1_net_2_2 20 rfl rfl)
theorem dX1_net_2_81 : decode cX1_net_2 81 = .ok (.invokevirtual 154, 3) := dk_182 0 154 (dk_at dksX1_net_2_2 21 rfl rfl)
theorem dX1_net_2_84 : decode cX1_net_2 84 = .ok (.ireturn, 1) := dk_172 (dk_at dksX1_net_2_3 0 rfl rfl)
theorem dX1_net_2_85 : decode cX1_net_2 85 = .ok (.aload_n 0, 1) := dk_42 (dk_at dksX1_net_2_3 1 rfl rfl)
theorem dX1_net_2_86 : decode cX1_net_2 86 = .ok (.getfield 46, 3) := dk_180 0 46 (dk_at dksX1_net_2_3 2 rfl rfl)
theorem dX1_net_2_89 : decode cX1_net_2 89 = .ok (.iload_n 1, 1) := dk_27 (dk_at dksX1_net_2_3 5 rfl rfl)
theorem dX1_net_2_90 : decode cX1_net_2 90 = .ok (.invokevirtual 157, 3) := dk_182 0 157 (dk_at dksX1_net_2_3 6 rfl rfl)
theorem dX1_net_2_93 : decode cX1_net_2 93 = .ok (.ifCond .eq 7, 3) := dk_153 0 7 (dk_at dksX1_net_2_3 9 rfl rfl)
theorem dX1_net_2_96 : decode cX1_net_2 96 = .ok (.iconst 1, 1) := dk_4 (dk_at dksX1_net_2_3 12 rfl rfl)
theorem dX1_net_2_97 : decode cX1_net_2 97 = .ok (.goto 4, 3) := dk_167 0 4 (dk_at dksX1_net_2_3 13 rfl rfl)
theorem dX1_net_2_100 : decode cX1_net_2 100 = .ok (.iconst 0, 1) := dk_3 (dk_at dksX1_net_2_3 16 rfl rfl)
theorem dX1_net_2_101 : decode cX1_net_2 101 = .ok (.ireturn, 1) := dk_172 (dk_at dksX1_net_2_3 17 rfl rfl)
theorem dX1_net_2_102 : decode cX1_net_2 102 = .ok (.aload_n 0, 1) := dk_42 (dk_at dksX1_net_2_3 18 rfl rfl)
theorem dX1_net_2_103 : decode cX1_net_2 103 = .ok (.getfield 57, 3) := dk_180 0 57 (dk_at dksX1_net_2_3 19 rfl rfl)
theorem dX1_net_2_106 : decode cX1_net_2 106 = .ok (.iload_n 1, 1) := dk_27 (dk_at dksX1_net_2_3 22 rfl rfl)
theorem dX1_net_2_107 : decode cX1_net_2 107 = .ok (.iaload, 1) := dk_46 (dk_at dksX1_net_2_3 23 rfl rfl)
theorem dX1_net_2_108 : decode cX1_net_2 108 = .ok (.ireturn, 1) := dk_172 (dk_at dksX1_net_2_4 0 rfl rfl)
theorem dX1_net_2_109 : decode cX1_net_2 109 = .ok (.iconst (-1), 1) := dk_2 (dk_at dksX1_net_2_4 1 rfl rfl)
theorem dX1_net_2_110 : decode cX1_net_2 110 = .ok (.ireturn, 1) := dk_172 (dk_at dksX1_net_2_4 2 rfl rfl)
abbrev cX1_isNet : ByteArray := prog_1_method_7_code
def yX1_isNet : MethodName := ⟨RX1, "isNet", "(I)Z"⟩
def dkwX1_isNet_0 : List UInt8 := [27, 3, 42, 180, 0, 46, 180, 0, 120, 4, 100, 184, 0, 123, 172]
abbrev dktX1_isNet_0 : List UInt8 := dkwX1_isNet_0 ++ []
theorem dksX1_isNet_0 : cX1_isNet.data.toList.drop 0 = dktX1_isNet_0 := by decide +kernel
theorem dX1_isNet_0 : decode cX1_isNet 0 = .ok (.iload_n 1, 1) := dk_27 (dk_at dksX1_isNet_0 0 rfl rfl)
theorem dX1_isNet_1 : decode cX1_isNet 1 = .ok (.iconst 0, 1) := dk_3 (dk_at dksX1_isNet_0 1 rfl rfl)
theorem dX1_isNet_2 : decode cX1_isNet 2 = .ok (.aload_n 0, 1) := dk_42 (dk_at dksX1_isNet_0 2 rfl rfl)
theorem dX1_isNet_3 : decode cX1_isNet 3 = .ok (.getfield 46, 3) := dk_180 0 46 (dk_at dksX1_isNet_0 3 rfl rfl)
theorem dX1_isNet_6 : decode cX1_isNet 6 = .ok (.getfield 120, 3) := dk_180 0 120 (dk_at dksX1_isNet_0 6 rfl rfl)
theorem dX1_isNet_9 : decode cX1_isNet 9 = .ok (.iconst 1, 1) := dk_4 (dk_at dksX1_isNet_0 9 rfl rfl)
theorem dX1_isNet_10 : decode cX1_isNet 10 = .ok (.isub, 1) := dk_100 (dk_at dksX1_isNet_0 10 rfl rfl)
theorem dX1_isNet_11 : decode cX1_isNet 11 = .ok (.invokestatic 123, 3) := dk_184 0 123 (dk_at dksX1_isNet_0 11 rfl rfl)
theorem dX1_isNet_14 : decode cX1_isNet 14 = .ok (.ireturn, 1) := dk_172 (dk_at dksX1_isNet_0 14 rfl rfl)
abbrev cX1_village : ByteArray := prog_1_method_11_code
def yX1_village : MethodName := ⟨RX1, "village", "(II)I"⟩
def dkwX1_village_5 : List UInt8 := [180, 0, 169, 27, 46, 172, 29, 172, 2, 172]
abbrev dktX1_village_5 : List UInt8 := dkwX1_village_5 ++ []
def dkwX1_village_4 : List UInt8 := [42, 180, 0, 39, 180, 0, 163, 27, 46, 172, 42, 180, 0, 53, 180, 0, 166, 27, 46, 172, 42, 180, 0, 53]
abbrev dktX1_village_4 : List UInt8 := dkwX1_village_4 ++ dktX1_village_5
def dkwX1_village_3 : List UInt8 := [170, 0, 0, 0, 0, 62, 0, 0, 0, 0, 0, 0, 0, 3, 0, 0, 0, 30, 0, 0, 0, 40, 0, 0, 0, 50, 0, 0, 0, 60]
abbrev dktX1_village_3 : List UInt8 := dkwX1_village_3 ++ dktX1_village_4
def dkwX1_village_2 : List UInt8 := [120, 128, 62, 132, 4, 1, 167, 255, 217, 28]
abbrev dktX1_village_2 : List UInt8 := dkwX1_village_2 ++ dktX1_village_3
def dkwX1_village_1 : List UInt8 := [162, 0, 33, 42, 180, 0, 46, 180, 0, 141, 21, 4, 50, 180, 0, 145, 27, 160, 0, 10, 29, 4, 21, 4]
abbrev dktX1_village_1 : List UInt8 := dkwX1_village_1 ++ dktX1_village_2
def dkwX1_village_0 : List UInt8 := [42, 27, 182, 0, 160, 154, 0, 5, 2, 172, 3, 62, 3, 54, 4, 21, 4, 42, 180, 0, 46, 180, 0, 120]
abbrev dktX1_village_0 : List UInt8 := dkwX1_village_0 ++ dktX1_village_1
theorem dksX1_village_0 : cX1_village.data.toList.drop 0 = dktX1_village_0 := by decide +kernel
theorem dksX1_village_1 : cX1_village.data.toList.drop 24 = dktX1_village_1 := dk_seg dksX1_village_0 24 rfl rfl
theorem dksX1_village_2 : cX1_village.data.toList.drop 48 = dktX1_village_2 := dk_seg dksX1_village_1 24 rfl rfl
theorem dksX1_village_3 : cX1_village.data.toList.drop 58 = dktX1_village_3 := dk_seg dksX1_village_2 10 rfl rfl
theorem dksX1_village_4 : cX1_village.data.toList.drop 88 = dktX1_village_4 := dk_seg dksX1_village_3 30 rfl rfl
theorem dksX1_village_5 : cX1_village.data.toList.drop 112 = dktX1_village_5 := dk_seg dksX1_village_4 24 rfl rfl
theorem dX1_village_0 : decode cX1_village 0 = .ok (.aload_n 0, 1) := dk_42 (dk_at dksX1_village_0 0 rfl rfl)
theorem dX1_village_1 : decode cX1_village 1 = .ok (.iload_n 1, 1) := dk_27 (dk_at dksX1_village_0 1 rfl rfl)
theorem dX1_village_2 : decode cX1_village 2 = .ok (.invokevirtual 160, 3) := dk_182 0 160 (dk_at dksX1_village_0 2 rfl rfl)
theorem dX1_village_5 : decode cX1_village 5 = .ok (.ifCond .ne 5, 3) := dk_154 0 5 (dk_at dksX1_village_0 5 rfl rfl)
theorem dX1_village_8 : decode cX1_village 8 = .ok (.iconst (-1), 1) := dk_2 (dk_at dksX1_village_0 8 rfl rfl)
theorem dX1_village_9 : decode cX1_village 9 = .ok (.ireturn, 1) := dk_172 (dk_at dksX1_village_0 9 rfl rfl)
theorem dX1_village_10 : decode cX1_village 10 = .ok (.iconst 0, 1) := dk_3 (dk_at dksX1_village_0 10 rfl rfl)
theorem dX1_village_11 : decode cX1_village 11 = .ok (.istore_n 3, 1) := dk_62 (dk_at dksX1_village_0 11 rfl rfl)
theorem dX1_village_12 : decode cX1_village 12 = .ok (.iconst 0, 1) := dk_3 (dk_at dksX1_village_0 12 rfl rfl)
theorem dX1_village_13 : decode cX1_village 13 = .ok (.istore 4, 2) := dk_54 4 (dk_at dksX1_village_0 13 rfl rfl)
theorem dX1_village_15 : decode cX1_village 15 = .ok (.iload 4, 2) := dk_21 4 (dk_at dksX1_village_0 15 rfl rfl)
theorem dX1_village_17 : decode cX1_village 17 = .ok (.aload_n 0, 1) := dk_42 (dk_at dksX1_village_0 17 rfl rfl)
theorem dX1_village_18 : decode cX1_village 18 = .ok (.getfield 46, 3) := dk_180 0 46 (dk_at dksX1_village_0 18 rfl rfl)
theorem dX1_village_21 : decode cX1_village 21 = .ok (.getfield 120, 3) := dk_180 0 120 (dk_at dksX1_village_0 21 rfl rfl)
theorem dX1_village_24 : decode cX1_village 24 = .ok (.if_icmp .ge 33, 3) := dk_162 0 33 (dk_at dksX1_village_1 0 rfl rfl)
theorem dX1_village_27 : decode cX1_village 27 = .ok (.aload_n 0, 1) := dk_42 (dk_at dksX1_village_1 3 rfl rfl)
theorem dX1_village_28 : decode cX1_village 28 = .ok (.getfield 46, 3) := dk_180 0 46 (dk_at dksX1_village_1 4 rfl rfl)
theorem dX1_village_31 : decode cX1_village 31 = .ok (.getfield 141, 3) := dk_180 0 141 (dk_at dksX1_village_1 7 rfl rfl)
theorem dX1_village_34 : decode cX1_village 34 = .ok (.iload 4, 2) := dk_21 4 (dk_at dksX1_village_1 10 rfl rfl)
theorem dX1_village_36 : decode cX1_village 36 = .ok (.aaload, 1) := dk_50 (dk_at dksX1_village_1 12 rfl rfl)
theorem dX1_village_37 : decode cX1_village 37 = .ok (.getfield 145, 3) := dk_180 0 145 (dk_at dksX1_village_1 13 rfl rfl)
theorem dX1_village_40 : decode cX1_village 40 = .ok (.iload_n 1, 1) := dk_27 (dk_at dksX1_village_1 16 rfl rfl)
theorem dX1_village_41 : decode cX1_village 41 = .ok (.if_icmp .ne 10, 3) := dk_160 0 10 (dk_at dksX1_village_1 17 rfl rfl)
theorem dX1_village_44 : decode cX1_village 44 = .ok (.iload_n 3, 1) := dk_29 (dk_at dksX1_village_1 20 rfl rfl)
theorem dX1_village_45 : decode cX1_village 45 = .ok (.iconst 1, 1) := dk_4 (dk_at dksX1_village_1 21 rfl rfl)
theorem dX1_village_46 : decode cX1_village 46 = .ok (.iload 4, 2) := dk_21 4 (dk_at dksX1_village_1 22 rfl rfl)
theorem dX1_village_48 : decode cX1_village 48 = .ok (.ishl, 1) := dk_120 (dk_at dksX1_village_2 0 rfl rfl)
theorem dX1_village_49 : decode cX1_village 49 = .ok (.ior, 1) := dk_128 (dk_at dksX1_village_2 1 rfl rfl)
theorem dX1_village_50 : decode cX1_village 50 = .ok (.istore_n 3, 1) := dk_62 (dk_at dksX1_village_2 2 rfl rfl)
theorem dX1_village_51 : decode cX1_village 51 = .ok (.iinc 4 1, 3) := dk_132 4 1 (dk_at dksX1_village_2 3 rfl rfl)
theorem dX1_village_54 : decode cX1_village 54 = .ok (.goto (-39), 3) := dk_167 255 217 (dk_at dksX1_village_2 6 rfl rfl)
theorem dX1_village_57 : decode cX1_village 57 = .ok (.iload_n 2, 1) := dk_28 (dk_at dksX1_village_2 9 rfl rfl)
theorem dX1_village_58 : decode cX1_village 58 = .ok (.tableswitch 62 0 3 #[30, 40, 50, 60], 30) := by decide +kernel
theorem dX1_village_88 : decode cX1_village 88 = .ok (.aload_n 0, 1) := dk_42 (dk_at dksX1_village_4 0 rfl rfl)
theorem dX1_village_89 : decode cX1_village 89 = .ok (.getfield 39, 3) := dk_180 0 39 (dk_at dksX1_village_4 1 rfl rfl)
theorem dX1_village_92 : decode cX1_village 92 = .ok (.getfield 163, 3) := dk_180 0 163 (dk_at dksX1_village_4 4 rfl rfl)
theorem dX1_village_95 : decode cX1_village 95 = .ok (.iload_n 1, 1) := dk_27 (dk_at dksX1_village_4 7 rfl rfl)
theorem dX1_village_96 : decode cX1_village 96 = .ok (.iaload, 1) := dk_46 (dk_at dksX1_village_4 8 rfl rfl)
theorem dX1_village_97 : decode cX1_village 97 = .ok (.ireturn, 1) := dk_172 (dk_at dksX1_village_4 9 rfl rfl)
theorem dX1_village_98 : decode cX1_village 98 = .ok (.aload_n 0, 1) := dk_42 (dk_at dksX1_village_4 10 rfl rfl)
theorem dX1_village_99 : decode cX1_village 99 = .ok (.getfield 53, 3) := dk_180 0 53 (dk_at dksX1_village_4 11 rfl rfl)
theorem dX1_village_102 : decode cX1_village 102 = .ok (.getfield 166, 3) := dk_180 0 166 (dk_at dksX1_village_4 14 rfl rfl)
theorem dX1_village_105 : decode cX1_village 105 = .ok (.iload_n 1, 1) := dk_27 (dk_at dksX1_village_4 17 rfl rfl)
theorem dX1_village_106 : decode cX1_village 106 = .ok (.iaload, 1) := dk_46 (dk_at dksX1_village_4 18 rfl rfl)
theorem dX1_village_107 : decode cX1_village 107 = .ok (.ireturn, 1) := dk_172 (dk_at dksX1_village_4 19 rfl rfl)
theorem dX1_village_108 : decode cX1_village 108 = .ok (.aload_n 0, 1) := dk_42 (dk_at dksX1_village_4 20 rfl rfl)
theorem dX1_village_109 : decode cX1_village 109 = .ok (.getfield 53, 3) := dk_180 0 53 (dk_at dksX1_village_4 21 rfl rfl)
theorem dX1_village_112 : decode cX1_village 112 = .ok (.getfield 169, 3) := dk_180 0 169 (dk_at dksX1_village_5 0 rfl rfl)
theorem dX1_village_115 : decode cX1_village 115 = .ok (.iload_n 1, 1) := dk_27 (dk_at dksX1_village_5 3 rfl rfl)
theorem dX1_village_116 : decode cX1_village 116 = .ok (.iaload, 1) := dk_46 (dk_at dksX1_village_5 4 rfl rfl)
theorem dX1_village_117 : decode cX1_village 117 = .ok (.ireturn, 1) := dk_172 (dk_at dksX1_village_5 5 rfl rfl)
theorem dX1_village_118 : decode cX1_village 118 = .ok (.iload_n 3, 1) := dk_29 (dk_at dksX1_village_5 6 rfl rfl)
theorem dX1_village_119 : decode cX1_village 119 = .ok (.ireturn, 1) := dk_172 (dk_at dksX1_village_5 7 rfl rfl)
theorem dX1_village_120 : decode cX1_village 120 = .ok (.iconst (-1), 1) := dk_2 (dk_at dksX1_village_5 8 rfl rfl)
theorem dX1_village_121 : decode cX1_village 121 = .ok (.ireturn, 1) := dk_172 (dk_at dksX1_village_5 9 rfl rfl)
abbrev cX1_isVillage : ByteArray := prog_1_method_8_code
def yX1_isVillage : MethodName := ⟨RX1, "isVillage", "(I)Z"⟩
def dkwX1_isVillage_0 : List UInt8 := [27, 3, 42, 180, 0, 39, 180, 0, 127, 182, 0, 130, 4, 100, 184, 0, 123, 172]
abbrev dktX1_isVillage_0 : List UInt8 := dkwX1_isVillage_0 ++ []
theorem dksX1_isVillage_0 : cX1_isVillage.data.toList.drop 0 = dktX1_isVillage_0 := by decide +kernel
theorem dX1_isVillage_0 : decode cX1_isVillage 0 = .ok (.iload_n 1, 1) := dk_27 (dk_at dksX1_isVillage_0 0 rfl rfl)
theorem dX1_isVillage_1 : decode cX1_isVillage 1 = .ok (.iconst 0, 1) := dk_3 (dk_at dksX1_isVillage_0 1 rfl rfl)
theorem dX1_isVillage_2 : decode cX1_isVillage 2 = .ok (.aload_n 0, 1) := dk_42 (dk_at dksX1_isVillage_0 2 rfl rfl)
theorem dX1_isVillage_3 : decode cX1_isVillage 3 = .ok (.getfield 39, 3) := dk_180 0 39 (dk_at dksX1_isVillage_0 3 rfl rfl)
theorem dX1_isVillage_6 : decode cX1_isVillage 6 = .ok (.getfield 127, 3) := dk_180 0 127 (dk_at dksX1_isVillage_0 6 rfl rfl)
theorem dX1_isVillage_9 : decode cX1_isVillage 9 = .ok (.invokevirtual 130, 3) := dk_182 0 130 (dk_at dksX1_isVillage_0 9 rfl rfl)
theorem dX1_isVillage_12 : decode cX1_isVillage 12 = .ok (.iconst 1, 1) := dk_4 (dk_at dksX1_isVillage_0 12 rfl rfl)
theorem dX1_isVillage_13 : decode cX1_isVillage 13 = .ok (.isub, 1) := dk_100 (dk_at dksX1_isVillage_0 13 rfl rfl)
theorem dX1_isVillage_14 : decode cX1_isVillage 14 = .ok (.invokestatic 123, 3) := dk_184 0 123 (dk_at dksX1_isVillage_0 14 rfl rfl)
theorem dX1_isVillage_17 : decode cX1_isVillage 17 = .ok (.ireturn, 1) := dk_172 (dk_at dksX1_isVillage_0 17 rfl rfl)
abbrev cX1_wind : ByteArray := prog_1_method_12_code
def yX1_wind : MethodName := ⟨RX1, "wind", "(I)I"⟩
def dkwX1_wind_1 : List UInt8 := [172]
abbrev dktX1_wind_1 : List UInt8 := dkwX1_wind_1 ++ []
def dkwX1_wind_0 : List UInt8 := [42, 27, 182, 0, 172, 153, 0, 18, 42, 180, 0, 39, 42, 180, 0, 109, 27, 182, 0, 175, 167, 0, 4, 2]
abbrev dktX1_wind_0 : List UInt8 := dkwX1_wind_0 ++ dktX1_wind_1
theorem dksX1_wind_0 : cX1_wind.data.toList.drop 0 = dktX1_wind_0 := by decide +kernel
theorem dksX1_wind_1 : cX1_wind.data.toList.drop 24 = dktX1_wind_1 := dk_seg dksX1_wind_0 24 rfl rfl
theorem dX1_wind_0 : decode cX1_wind 0 = .ok (.aload_n 0, 1) := dk_42 (dk_at dksX1_wind_0 0 rfl rfl)
theorem dX1_wind_1 : decode cX1_wind 1 = .ok (.iload_n 1, 1) := dk_27 (dk_at dksX1_wind_0 1 rfl rfl)
theorem dX1_wind_2 : decode cX1_wind 2 = .ok (.invokevirtual 172, 3) := dk_182 0 172 (dk_at dksX1_wind_0 2 rfl rfl)
theorem dX1_wind_5 : decode cX1_wind 5 = .ok (.ifCond .eq 18, 3) := dk_153 0 18 (dk_at dksX1_wind_0 5 rfl rfl)
theorem dX1_wind_8 : decode cX1_wind 8 = .ok (.aload_n 0, 1) := dk_42 (dk_at dksX1_wind_0 8 rfl rfl)
theorem dX1_wind_9 : decode cX1_wind 9 = .ok (.getfield 39, 3) := dk_180 0 39 (dk_at dksX1_wind_0 9 rfl rfl)
theorem dX1_wind_12 : decode cX1_wind 12 = .ok (.aload_n 0, 1) := dk_42 (dk_at dksX1_wind_0 12 rfl rfl)
theorem dX1_wind_13 : decode cX1_wind 13 = .ok (.getfield 109, 3) := dk_180 0 109 (dk_at dksX1_wind_0 13 rfl rfl)
theorem dX1_wind_16 : decode cX1_wind 16 = .ok (.iload_n 1, 1) := dk_27 (dk_at dksX1_wind_0 16 rfl rfl)
theorem dX1_wind_17 : decode cX1_wind 17 = .ok (.invokevirtual 175, 3) := dk_182 0 175 (dk_at dksX1_wind_0 17 rfl rfl)
theorem dX1_wind_20 : decode cX1_wind 20 = .ok (.goto 4, 3) := dk_167 0 4 (dk_at dksX1_wind_0 20 rfl rfl)
theorem dX1_wind_23 : decode cX1_wind 23 = .ok (.iconst (-1), 1) := dk_2 (dk_at dksX1_wind_0 23 rfl rfl)
theorem dX1_wind_24 : decode cX1_wind 24 = .ok (.ireturn, 1) := dk_172 (dk_at dksX1_wind_1 0 rfl rfl)
abbrev cX1_isHour : ByteArray := prog_1_method_9_code
def yX1_isHour : MethodName := ⟨RX1, "isHour", "(I)Z"⟩
def dkwX1_isHour_0 : List UInt8 := [27, 3, 42, 180, 0, 39, 180, 0, 134, 4, 100, 184, 0, 123, 172]
abbrev dktX1_isHour_0 : List UInt8 := dkwX1_isHour_0 ++ []
theorem dksX1_isHour_0 : cX1_isHour.data.toList.drop 0 = dktX1_isHour_0 := by decide +kernel
theorem dX1_isHour_0 : decode cX1_isHour 0 = .ok (.iload_n 1, 1) := dk_27 (dk_at dksX1_isHour_0 0 rfl rfl)
theorem dX1_isHour_1 : decode cX1_isHour 1 = .ok (.iconst 0, 1) := dk_3 (dk_at dksX1_isHour_0 1 rfl rfl)
theorem dX1_isHour_2 : decode cX1_isHour 2 = .ok (.aload_n 0, 1) := dk_42 (dk_at dksX1_isHour_0 2 rfl rfl)
theorem dX1_isHour_3 : decode cX1_isHour 3 = .ok (.getfield 39, 3) := dk_180 0 39 (dk_at dksX1_isHour_0 3 rfl rfl)
theorem dX1_isHour_6 : decode cX1_isHour 6 = .ok (.getfield 134, 3) := dk_180 0 134 (dk_at dksX1_isHour_0 6 rfl rfl)
theorem dX1_isHour_9 : decode cX1_isHour 9 = .ok (.iconst 1, 1) := dk_4 (dk_at dksX1_isHour_0 9 rfl rfl)
theorem dX1_isHour_10 : decode cX1_isHour 10 = .ok (.isub, 1) := dk_100 (dk_at dksX1_isHour_0 10 rfl rfl)
theorem dX1_isHour_11 : decode cX1_isHour 11 = .ok (.invokestatic 123, 3) := dk_184 0 123 (dk_at dksX1_isHour_0 11 rfl rfl)
theorem dX1_isHour_14 : decode cX1_isHour 14 = .ok (.ireturn, 1) := dk_172 (dk_at dksX1_isHour_0 14 rfl rfl)
abbrev cX1_bank : ByteArray := prog_1_method_13_code
def yX1_bank : MethodName := ⟨RX1, "bank", "(III)I"⟩
def dkwX1_bank_4 : List UInt8 := [28, 21, 5, 27, 182, 0, 191, 172]
abbrev dktX1_bank_4 : List UInt8 := dkwX1_bank_4 ++ []
def dkwX1_bank_3 : List UInt8 := [54, 5, 29, 154, 0, 8, 21, 5, 167, 0, 23, 42, 180, 0, 75, 42, 180, 0, 46, 182, 0, 187, 21, 4]
abbrev dktX1_bank_3 : List UInt8 := dkwX1_bank_3 ++ dktX1_bank_4
def dkwX1_bank_2 : List UInt8 := [184, 0, 123, 154, 0, 5, 2, 172, 42, 180, 0, 39, 42, 180, 0, 109, 27, 28, 21, 4, 182, 0, 183]
abbrev dktX1_bank_2 : List UInt8 := dkwX1_bank_2 ++ dktX1_bank_3
def dkwX1_bank_1 : List UInt8 := [180, 0, 109, 27, 182, 0, 175, 54, 4, 28, 3, 42, 180, 0, 39, 21, 4, 182, 0, 179, 4, 100]
abbrev dktX1_bank_1 : List UInt8 := dkwX1_bank_1 ++ dktX1_bank_2
def dkwX1_bank_0 : List UInt8 := [42, 27, 182, 0, 172, 153, 0, 12, 29, 3, 4, 184, 0, 123, 154, 0, 5, 2, 172, 42, 180, 0, 39, 42]
abbrev dktX1_bank_0 : List UInt8 := dkwX1_bank_0 ++ dktX1_bank_1
theorem dksX1_bank_0 : cX1_bank.data.toList.drop 0 = dktX1_bank_0 := by decide +kernel
theorem dksX1_bank_1 : cX1_bank.data.toList.drop 24 = dktX1_bank_1 := dk_seg dksX1_bank_0 24 rfl rfl
theorem dksX1_bank_2 : cX1_bank.data.toList.drop 46 = dktX1_bank_2 := dk_seg dksX1_bank_1 22 rfl rfl
theorem dksX1_bank_3 : cX1_bank.data.toList.drop 69 = dktX1_bank_3 := dk_seg dksX1_bank_2 23 rfl rfl
theorem dksX1_bank_4 : cX1_bank.data.toList.drop 93 = dktX1_bank_4 := dk_seg dksX1_bank_3 24 rfl rfl
theorem dX1_bank_0 : decode cX1_bank 0 = .ok (.aload_n 0, 1) := dk_42 (dk_at dksX1_bank_0 0 rfl rfl)
theorem dX1_bank_1 : decode cX1_bank 1 = .ok (.iload_n 1, 1) := dk_27 (dk_at dksX1_bank_0 1 rfl rfl)
theorem dX1_bank_2 : decode cX1_bank 2 = .ok (.invokevirtual 172, 3) := dk_182 0 172 (dk_at dksX1_bank_0 2 rfl rfl)
theorem dX1_bank_5 : decode cX1_bank 5 = .ok (.ifCond .eq 12, 3) := dk_153 0 12 (dk_at dksX1_bank_0 5 rfl rfl)
theorem dX1_bank_8 : decode cX1_bank 8 = .ok (.iload_n 3, 1) := dk_29 (dk_at dksX1_bank_0 8 rfl rfl)
theorem dX1_bank_9 : decode cX1_bank 9 = .ok (.iconst 0, 1) := dk_3 (dk_at dksX1_bank_0 9 rfl rfl)
theorem dX1_bank_10 : decode cX1_bank 10 = .ok (.iconst 1, 1) := dk_4 (dk_at dksX1_bank_0 10 rfl rfl)
theorem dX1_bank_11 : decode cX1_bank 11 = .ok (.invokestatic 123, 3) := dk_184 0 123 (dk_at dksX1_bank_0 11 rfl rfl)
theorem dX1_bank_14 : decode cX1_bank 14 = .ok (.ifCond .ne 5, 3) := dk_154 0 5 (dk_at dksX1_bank_0 14 rfl rfl)
theorem dX1_bank_17 : decode cX1_bank 17 = .ok (.iconst (-1), 1) := dk_2 (dk_at dksX1_bank_0 17 rfl rfl)
theorem dX1_bank_18 : decode cX1_bank 18 = .ok (.ireturn, 1) := dk_172 (dk_at dksX1_bank_0 18 rfl rfl)
theorem dX1_bank_19 : decode cX1_bank 19 = .ok (.aload_n 0, 1) := dk_42 (dk_at dksX1_bank_0 19 rfl rfl)
theorem dX1_bank_20 : decode cX1_bank 20 = .ok (.getfield 39, 3) := dk_180 0 39 (dk_at dksX1_bank_0 20 rfl rfl)
theorem dX1_bank_23 : decode cX1_bank 23 = .ok (.aload_n 0, 1) := dk_42 (dk_at dksX1_bank_0 23 rfl rfl)
theorem dX1_bank_24 : decode cX1_bank 24 = .ok (.getfield 109, 3) := dk_180 0 109 (dk_at dksX1_bank_1 0 rfl rfl)
theorem dX1_bank_27 : decode cX1_bank 27 = .ok (.iload_n 1, 1) := dk_27 (dk_at dksX1_bank_1 3 rfl rfl)
theorem dX1_bank_28 : decode cX1_bank 28 = .ok (.invokevirtual 175, 3) := dk_182 0 175 (dk_at dksX1_bank_1 4 rfl rfl)
theorem dX1_bank_31 : decode cX1_bank 31 = .ok (.istore 4, 2) := dk_54 4 (dk_at dksX1_bank_1 7 rfl rfl)
theorem dX1_bank_33 : decode cX1_bank 33 = .ok (.iload_n 2, 1) := dk_28 (dk_at dksX1_bank_1 9 rfl rfl)
theorem dX1_bank_34 : decode cX1_bank 34 = .ok (.iconst 0, 1) := dk_3 (dk_at dksX1_bank_1 10 rfl rfl)
theorem dX1_bank_35 : decode cX1_bank 35 = .ok (.aload_n 0, 1) := dk_42 (dk_at dksX1_bank_1 11 rfl rfl)
theorem dX1_bank_36 : decode cX1_bank 36 = .ok (.getfield 39, 3) := dk_180 0 39 (dk_at dksX1_bank_1 12 rfl rfl)
theorem dX1_bank_39 : decode cX1_bank 39 = .ok (.iload 4, 2) := dk_21 4 (dk_at dksX1_bank_1 15 rfl rfl)
theorem dX1_bank_41 : decode cX1_bank 41 = .ok (.invokevirtual 179, 3) := dk_182 0 179 (dk_at dksX1_bank_1 17 rfl rfl)
theorem dX1_bank_44 : decode cX1_bank 44 = .ok (.iconst 1, 1) := dk_4 (dk_at dksX1_bank_1 20 rfl rfl)
theorem dX1_bank_45 : decode cX1_bank 45 = .ok (.isub, 1) := dk_100 (dk_at dksX1_bank_1 21 rfl rfl)
theorem dX1_bank_46 : decode cX1_bank 46 = .ok (.invokestatic 123, 3) := dk_184 0 123 (dk_at dksX1_bank_2 0 rfl rfl)
theorem dX1_bank_49 : decode cX1_bank 49 = .ok (.ifCond .ne 5, 3) := dk_154 0 5 (dk_at dksX1_bank_2 3 rfl rfl)
theorem dX1_bank_52 : decode cX1_bank 52 = .ok (.iconst (-1), 1) := dk_2 (dk_at dksX1_bank_2 6 rfl rfl)
theorem dX1_bank_53 : decode cX1_bank 53 = .ok (.ireturn, 1) := dk_172 (dk_at dksX1_bank_2 7 rfl rfl)
theorem dX1_bank_54 : decode cX1_bank 54 = .ok (.aload_n 0, 1) := dk_42 (dk_at dksX1_bank_2 8 rfl rfl)
theorem dX1_bank_55 : decode cX1_bank 55 = .ok (.getfield 39, 3) := dk_180 0 39 (dk_at dksX1_bank_2 9 rfl rfl)
theorem dX1_bank_58 : decode cX1_bank 58 = .ok (.aload_n 0, 1) := dk_42 (dk_at dksX1_bank_2 12 rfl rfl)
theorem dX1_bank_59 : decode cX1_bank 59 = .ok (.getfield 109, 3) := dk_180 0 109 (dk_at dksX1_bank_2 13 rfl rfl)
theorem dX1_bank_62 : decode cX1_bank 62 = .ok (.iload_n 1, 1) := dk_27 (dk_at dksX1_bank_2 16 rfl rfl)
theorem dX1_bank_63 : decode cX1_bank 63 = .ok (.iload_n 2, 1) := dk_28 (dk_at dksX1_bank_2 17 rfl rfl)
theorem dX1_bank_64 : decode cX1_bank 64 = .ok (.iload 4, 2) := dk_21 4 (dk_at dksX1_bank_2 18 rfl rfl)
theorem dX1_bank_66 : decode cX1_bank 66 = .ok (.invokevirtual 183, 3) := dk_182 0 183 (dk_at dksX1_bank_2 20 rfl rfl)
theorem dX1_bank_69 : decode cX1_bank 69 = .ok (.istore 5, 2) := dk_54 5 (dk_at dksX1_bank_3 0 rfl rfl)
theorem dX1_bank_71 : decode cX1_bank 71 = .ok (.iload_n 3, 1) := dk_29 (dk_at dksX1_bank_3 2 rfl rfl)
theorem dX1_bank_72 : decode cX1_bank 72 = .ok (.ifCond .ne 8, 3) := dk_154 0 8 (dk_at dksX1_bank_3 3 rfl rfl)
theorem dX1_bank_75 : decode cX1_bank 75 = .ok (.iload 5, 2) := dk_21 5 (dk_at dksX1_bank_3 6 rfl rfl)
theorem dX1_bank_77 : decode cX1_bank 77 = .ok (.goto 23, 3) := dk_167 0 23 (dk_at dksX1_bank_3 8 rfl rfl)
theorem dX1_bank_80 : decode cX1_bank 80 = .ok (.aload_n 0, 1) := dk_42 (dk_at dksX1_bank_3 11 rfl rfl)
theorem dX1_bank_81 : decode cX1_bank 81 = .ok (.getfield 75, 3) := dk_180 0 75 (dk_at dksX1_bank_3 12 rfl rfl)
theorem dX1_bank_84 : decode cX1_bank 84 = .ok (.aload_n 0, 1) := dk_42 (dk_at dksX1_bank_3 15 rfl rfl)
theorem dX1_bank_85 : decode cX1_bank 85 = .ok (.getfield 46, 3) := dk_180 0 46 (dk_at dksX1_bank_3 16 rfl rfl)
theorem dX1_bank_88 : decode cX1_bank 88 = .ok (.invokevirtual 187, 3) := dk_182 0 187 (dk_at dksX1_bank_3 19 rfl rfl)
theorem dX1_bank_91 : decode cX1_bank 91 = .ok (.iload 4, 2) := dk_21 4 (dk_at dksX1_bank_3 22 rfl rfl)
theorem dX1_bank_93 : decode cX1_bank 93 = .ok (.iload_n 2, 1) := dk_28 (dk_at dksX1_bank_4 0 rfl rfl)
theorem dX1_bank_94 : decode cX1_bank 94 = .ok (.iload 5, 2) := dk_21 5 (dk_at dksX1_bank_4 1 rfl rfl)
theorem dX1_bank_96 : decode cX1_bank 96 = .ok (.iload_n 1, 1) := dk_27 (dk_at dksX1_bank_4 3 rfl rfl)
theorem dX1_bank_97 : decode cX1_bank 97 = .ok (.invokevirtual 191, 3) := dk_182 0 191 (dk_at dksX1_bank_4 4 rfl rfl)
theorem dX1_bank_100 : decode cX1_bank 100 = .ok (.ireturn, 1) := dk_172 (dk_at dksX1_bank_4 7 rfl rfl)
abbrev cX1_nights : ByteArray := prog_1_method_14_code
def yX1_nights : MethodName := ⟨RX1, "nights", "(I)I"⟩
def dkwX1_nights_4 : List UInt8 := [180, 0, 109, 172]
abbrev dktX1_nights_4 : List UInt8 := dkwX1_nights_4 ++ []
def dkwX1_nights_3 : List UInt8 := [180, 0, 46, 180, 0, 206, 3, 42, 180, 0, 57, 3, 42, 180, 0, 46, 180, 0, 120, 184, 0, 209, 42]
abbrev dktX1_nights_3 : List UInt8 := dkwX1_nights_3 ++ dktX1_nights_4
def dkwX1_nights_2 : List UInt8 := [180, 0, 46, 182, 0, 202, 42, 89, 180, 0, 109, 4, 96, 181, 0, 109, 132, 2, 1, 167, 255, 204, 42]
abbrev dktX1_nights_2 : List UInt8 := dkwX1_nights_2 ++ dktX1_nights_3
def dkwX1_nights_1 : List UInt8 := [180, 0, 71, 42, 180, 0, 39, 42, 180, 0, 109, 182, 0, 194, 182, 0, 198, 87, 42, 180, 0, 53, 42]
abbrev dktX1_nights_1 : List UInt8 := dkwX1_nights_1 ++ dktX1_nights_2
def dkwX1_nights_0 : List UInt8 := [27, 4, 16, 100, 184, 0, 123, 154, 0, 5, 2, 172, 3, 61, 28, 27, 162, 0, 53, 42, 180, 0, 46, 42]
abbrev dktX1_nights_0 : List UInt8 := dkwX1_nights_0 ++ dktX1_nights_1
theorem dksX1_nights_0 : cX1_nights.data.toList.drop 0 = dktX1_nights_0 := by decide +kernel
theorem dksX1_nights_1 : cX1_nights.data.toList.drop 24 = dktX1_nights_1 := dk_seg dksX1_nights_0 24 rfl rfl
theorem dksX1_nights_2 : cX1_nights.data.toList.drop 47 = dktX1_nights_2 := dk_seg dksX1_nights_1 23 rfl rfl
theorem dksX1_nights_3 : cX1_nights.data.toList.drop 70 = dktX1_nights_3 := dk_seg dksX1_nights_2 23 rfl rfl
theorem dksX1_nights_4 : cX1_nights.data.toList.drop 93 = dktX1_nights_4 := dk_seg dksX1_nights_3 23 rfl rfl
theorem dX1_nights_0 : decode cX1_nights 0 = .ok (.iload_n 1, 1) := dk_27 (dk_at dksX1_nights_0 0 rfl rfl)
theorem dX1_nights_1 : decode cX1_nights 1 = .ok (.iconst 1, 1) := dk_4 (dk_at dksX1_nights_0 1 rfl rfl)
theorem dX1_nights_2 : decode cX1_nights 2 = .ok (.bipush 100, 2) := dk_16 100 (dk_at dksX1_nights_0 2 rfl rfl)
theorem dX1_nights_4 : decode cX1_nights 4 = .ok (.invokestatic 123, 3) := dk_184 0 123 (dk_at dksX1_nights_0 4 rfl rfl)
theorem dX1_nights_7 : decode cX1_nights 7 = .ok (.ifCond .ne 5, 3) := dk_154 0 5 (dk_at dksX1_nights_0 7 rfl rfl)
theorem dX1_nights_10 : decode cX1_nights 10 = .ok (.iconst (-1), 1) := dk_2 (dk_at dksX1_nights_0 10 rfl rfl)
theorem dX1_nights_11 : decode cX1_nights 11 = .ok (.ireturn, 1) := dk_172 (dk_at dksX1_nights_0 11 rfl rfl)
theorem dX1_nights_12 : decode cX1_nights 12 = .ok (.iconst 0, 1) := dk_3 (dk_at dksX1_nights_0 12 rfl rfl)
theorem dX1_nights_13 : decode cX1_nights 13 = .ok (.istore_n 2, 1) := dk_61 (dk_at dksX1_nights_0 13 rfl rfl)
theorem dX1_nights_14 : decode cX1_nights 14 = .ok (.iload_n 2, 1) := dk_28 (dk_at dksX1_nights_0 14 rfl rfl)
theorem dX1_nights_15 : decode cX1_nights 15 = .ok (.iload_n 1, 1) := dk_27 (dk_at dksX1_nights_0 15 rfl rfl)
theorem dX1_nights_16 : decode cX1_nights 16 = .ok (.if_icmp .ge 53, 3) := dk_162 0 53 (dk_at dksX1_nights_0 16 rfl rfl)
theorem dX1_nights_19 : decode cX1_nights 19 = .ok (.aload_n 0, 1) := dk_42 (dk_at dksX1_nights_0 19 rfl rfl)
theorem dX1_nights_20 : decode cX1_nights 20 = .ok (.getfield 46, 3) := dk_180 0 46 (dk_at dksX1_nights_0 20 rfl rfl)
theorem dX1_nights_23 : decode cX1_nights 23 = .ok (.aload_n 0, 1) := dk_42 (dk_at dksX1_nights_0 23 rfl rfl)
theorem dX1_nights_24 : decode cX1_nights 24 = .ok (.getfield 71, 3) := dk_180 0 71 (dk_at dksX1_nights_1 0 rfl rfl)
theorem dX1_nights_27 : decode cX1_nights 27 = .ok (.aload_n 0, 1) := dk_42 (dk_at dksX1_nights_1 3 rfl rfl)
theorem dX1_nights_28 : decode cX1_nights 28 = .ok (.getfield 39, 3) := dk_180 0 39 (dk_at dksX1_nights_1 4 rfl rfl)
theorem dX1_nights_31 : decode cX1_nights 31 = .ok (.aload_n 0, 1) := dk_42 (dk_at dksX1_nights_1 7 rfl rfl)
theorem dX1_nights_32 : decode cX1_nights 32 = .ok (.getfield 109, 3) := dk_180 0 109 (dk_at dksX1_nights_1 8 rfl rfl)
theorem dX1_nights_35 : decode cX1_nights 35 = .ok (.invokevirtual 194, 3) := dk_182 0 194 (dk_at dksX1_nights_1 11 rfl rfl)
theorem dX1_nights_38 : decode cX1_nights 38 = .ok (.invokevirtual 198, 3) := dk_182 0 198 (dk_at dksX1_nights_1 14 rfl rfl)
theorem dX1_nights_41 : decode cX1_nights 41 = .ok (.pop, 1) := dk_87 (dk_at dksX1_nights_1 17 rfl rfl)
theorem dX1_nights_42 : decode cX1_nights 42 = .ok (.aload_n 0, 1) := dk_42 (dk_at dksX1_nights_1 18 rfl rfl)
theorem dX1_nights_43 : decode cX1_nights 43 = .ok (.getfield 53, 3) := dk_180 0 53 (dk_at dksX1_nights_1 19 rfl rfl)
theorem dX1_nights_46 : decode cX1_nights 46 = .ok (.aload_n 0, 1) := dk_42 (dk_at dksX1_nights_1 22 rfl rfl)
theorem dX1_nights_47 : decode cX1_nights 47 = .ok (.getfield 46, 3) := dk_180 0 46 (dk_at dksX1_nights_2 0 rfl rfl)
theorem dX1_nights_50 : decode cX1_nights 50 = .ok (.invokevirtual 202, 3) := dk_182 0 202 (dk_at dksX1_nights_2 3 rfl rfl)
theorem dX1_nights_53 : decode cX1_nights 53 = .ok (.aload_n 0, 1) := dk_42 (dk_at dksX1_nights_2 6 rfl rfl)
theorem dX1_nights_54 : decode cX1_nights 54 = .ok (.dup, 1) := dk_89 (dk_at dksX1_nights_2 7 rfl rfl)
theorem dX1_nights_55 : decode cX1_nights 55 = .ok (.getfield 109, 3) := dk_180 0 109 (dk_at dksX1_nights_2 8 rfl rfl)
theorem dX1_nights_58 : decode cX1_nights 58 = .ok (.iconst 1, 1) := dk_4 (dk_at dksX1_nights_2 11 rfl rfl)
theorem dX1_nights_59 : decode cX1_nights 59 = .ok (.iadd, 1) := dk_96 (dk_at dksX1_nights_2 12 rfl rfl)
theorem dX1_nights_60 : decode cX1_nights 60 = .ok (.putfield 109, 3) := dk_181 0 109 (dk_at dksX1_nights_2 13 rfl rfl)
theorem dX1_nights_63 : decode cX1_nights 63 = .ok (.iinc 2 1, 3) := dk_132 2 1 (dk_at dksX1_nights_2 16 rfl rfl)
theorem dX1_nights_66 : decode cX1_nights 66 = .ok (.goto (-52), 3) := dk_167 255 204 (dk_at dksX1_nights_2 19 rfl rfl)
theorem dX1_nights_69 : decode cX1_nights 69 = .ok (.aload_n 0, 1) := dk_42 (dk_at dksX1_nights_2 22 rfl rfl)
theorem dX1_nights_70 : decode cX1_nights 70 = .ok (.getfield 46, 3) := dk_180 0 46 (dk_at dksX1_nights_3 0 rfl rfl)
theorem dX1_nights_73 : decode cX1_nights 73 = .ok (.getfield 206, 3) := dk_180 0 206 (dk_at dksX1_nights_3 3 rfl rfl)
theorem dX1_nights_76 : decode cX1_nights 76 = .ok (.iconst 0, 1) := dk_3 (dk_at dksX1_nights_3 6 rfl rfl)
theorem dX1_nights_77 : decode cX1_nights 77 = .ok (.aload_n 0, 1) := dk_42 (dk_at dksX1_nights_3 7 rfl rfl)
theorem dX1_nights_78 : decode cX1_nights 78 = .ok (.getfield 57, 3) := dk_180 0 57 (dk_at dksX1_nights_3 8 rfl rfl)
theorem dX1_nights_81 : decode cX1_nights 81 = .ok (.iconst 0, 1) := dk_3 (dk_at dksX1_nights_3 11 rfl rfl)
theorem dX1_nights_82 : decode cX1_nights 82 = .ok (.aload_n 0, 1) := dk_42 (dk_at dksX1_nights_3 12 rfl rfl)
theorem dX1_nights_83 : decode cX1_nights 83 = .ok (.getfield 46, 3) := dk_180 0 46 (dk_at dksX1_nights_3 13 rfl rfl)
theorem dX1_nights_86 : decode cX1_nights 86 = .ok (.getfield 120, 3) := dk_180 0 120 (dk_at dksX1_nights_3 16 rfl rfl)
theorem dX1_nights_89 : decode cX1_nights 89 = .ok (.invokestatic 209, 3) := dk_184 0 209 (dk_at dksX1_nights_3 19 rfl rfl)
theorem dX1_nights_92 : decode cX1_nights 92 = .ok (.aload_n 0, 1) := dk_42 (dk_at dksX1_nights_3 22 rfl rfl)
theorem dX1_nights_93 : decode cX1_nights 93 = .ok (.getfield 109, 3) := dk_180 0 109 (dk_at dksX1_nights_4 0 rfl rfl)
theorem dX1_nights_96 : decode cX1_nights 96 = .ok (.ireturn, 1) := dk_172 (dk_at dksX1_nights_4 3 rfl rfl)
abbrev cX1_mend : ByteArray := prog_1_method_15_code
def yX1_mend : MethodName := ⟨RX1, "mend", "(IZ)Z"⟩
def dkwX1_mend_2 : List UInt8 := [130, 181, 0, 219, 4, 172]
abbrev dktX1_mend_2 : List UInt8 := dkwX1_mend_2 ++ []
def dkwX1_mend_1 : List UInt8 := [180, 0, 46, 27, 182, 0, 157, 28, 160, 0, 5, 3, 172, 42, 180, 0, 46, 89, 180, 0, 219, 4, 27, 120]
abbrev dktX1_mend_1 : List UInt8 := dkwX1_mend_1 ++ dktX1_mend_2
def dkwX1_mend_0 : List UInt8 := [42, 27, 182, 0, 137, 153, 0, 30, 42, 180, 0, 46, 180, 0, 141, 27, 50, 182, 0, 215, 153, 0, 15, 42]
abbrev dktX1_mend_0 : List UInt8 := dkwX1_mend_0 ++ dktX1_mend_1
theorem dksX1_mend_0 : cX1_mend.data.toList.drop 0 = dktX1_mend_0 := by decide +kernel
theorem dksX1_mend_1 : cX1_mend.data.toList.drop 24 = dktX1_mend_1 := dk_seg dksX1_mend_0 24 rfl rfl
theorem dksX1_mend_2 : cX1_mend.data.toList.drop 48 = dktX1_mend_2 := dk_seg dksX1_mend_1 24 rfl rfl
theorem dX1_mend_0 : decode cX1_mend 0 = .ok (.aload_n 0, 1) := dk_42 (dk_at dksX1_mend_0 0 rfl rfl)
theorem dX1_mend_1 : decode cX1_mend 1 = .ok (.iload_n 1, 1) := dk_27 (dk_at dksX1_mend_0 1 rfl rfl)
theorem dX1_mend_2 : decode cX1_mend 2 = .ok (.invokevirtual 137, 3) := dk_182 0 137 (dk_at dksX1_mend_0 2 rfl rfl)
theorem dX1_mend_5 : decode cX1_mend 5 = .ok (.ifCond .eq 30, 3) := dk_153 0 30 (dk_at dksX1_mend_0 5 rfl rfl)
theorem dX1_mend_8 : decode cX1_mend 8 = .ok (.aload_n 0, 1) := dk_42 (dk_at dksX1_mend_0 8 rfl rfl)
theorem dX1_mend_9 : decode cX1_mend 9 = .ok (.getfield 46, 3) := dk_180 0 46 (dk_at dksX1_mend_0 9 rfl rfl)
theorem dX1_mend_12 : decode cX1_mend 12 = .ok (.getfield 141, 3) := dk_180 0 141 (dk_at dksX1_mend_0 12 rfl rfl)
theorem dX1_mend_15 : decode cX1_mend 15 = .ok (.iload_n 1, 1) := dk_27 (dk_at dksX1_mend_0 15 rfl rfl)
theorem dX1_mend_16 : decode cX1_mend 16 = .ok (.aaload, 1) := dk_50 (dk_at dksX1_mend_0 16 rfl rfl)
theorem dX1_mend_17 : decode cX1_mend 17 = .ok (.invokevirtual 215, 3) := dk_182 0 215 (dk_at dksX1_mend_0 17 rfl rfl)
theorem dX1_mend_20 : decode cX1_mend 20 = .ok (.ifCond .eq 15, 3) := dk_153 0 15 (dk_at dksX1_mend_0 20 rfl rfl)
theorem dX1_mend_23 : decode cX1_mend 23 = .ok (.aload_n 0, 1) := dk_42 (dk_at dksX1_mend_0 23 rfl rfl)
theorem dX1_mend_24 : decode cX1_mend 24 = .ok (.getfield 46, 3) := dk_180 0 46 (dk_at dksX1_mend_1 0 rfl rfl)
theorem dX1_mend_27 : decode cX1_mend 27 = .ok (.iload_n 1, 1) := dk_27 (dk_at dksX1_mend_1 3 rfl rfl)
theorem dX1_mend_28 : decode cX1_mend 28 = .ok (.invokevirtual 157, 3) := dk_182 0 157 (dk_at dksX1_mend_1 4 rfl rfl)
theorem dX1_mend_31 : decode cX1_mend 31 = .ok (.iload_n 2, 1) := dk_28 (dk_at dksX1_mend_1 7 rfl rfl)
theorem dX1_mend_32 : decode cX1_mend 32 = .ok (.if_icmp .ne 5, 3) := dk_160 0 5 (dk_at dksX1_mend_1 8 rfl rfl)
theorem dX1_mend_35 : decode cX1_mend 35 = .ok (.iconst 0, 1) := dk_3 (dk_at dksX1_mend_1 11 rfl rfl)
theorem dX1_mend_36 : decode cX1_mend 36 = .ok (.ireturn, 1) := dk_172 (dk_at dksX1_mend_1 12 rfl rfl)
theorem dX1_mend_37 : decode cX1_mend 37 = .ok (.aload_n 0, 1) := dk_42 (dk_at dksX1_mend_1 13 rfl rfl)
theorem dX1_mend_38 : decode cX1_mend 38 = .ok (.getfield 46, 3) := dk_180 0 46 (dk_at dksX1_mend_1 14 rfl rfl)
theorem dX1_mend_41 : decode cX1_mend 41 = .ok (.dup, 1) := dk_89 (dk_at dksX1_mend_1 17 rfl rfl)
theorem dX1_mend_42 : decode cX1_mend 42 = .ok (.getfield 219, 3) := dk_180 0 219 (dk_at dksX1_mend_1 18 rfl rfl)
theorem dX1_mend_45 : decode cX1_mend 45 = .ok (.iconst 1, 1) := dk_4 (dk_at dksX1_mend_1 21 rfl rfl)
theorem dX1_mend_46 : decode cX1_mend 46 = .ok (.iload_n 1, 1) := dk_27 (dk_at dksX1_mend_1 22 rfl rfl)
theorem dX1_mend_47 : decode cX1_mend 47 = .ok (.ishl, 1) := dk_120 (dk_at dksX1_mend_1 23 rfl rfl)
theorem dX1_mend_48 : decode cX1_mend 48 = .ok (.ixor, 1) := dk_130 (dk_at dksX1_mend_2 0 rfl rfl)
theorem dX1_mend_49 : decode cX1_mend 49 = .ok (.putfield 219, 3) := dk_181 0 219 (dk_at dksX1_mend_2 1 rfl rfl)
theorem dX1_mend_52 : decode cX1_mend 52 = .ok (.iconst 1, 1) := dk_4 (dk_at dksX1_mend_2 4 rfl rfl)
theorem dX1_mend_53 : decode cX1_mend 53 = .ok (.ireturn, 1) := dk_172 (dk_at dksX1_mend_2 5 rfl rfl)
abbrev cX1_move : ByteArray := prog_1_method_16_code
def yX1_move : MethodName := ⟨RX1, "move", "(II)Z"⟩
def dkwX1_move_1 : List UInt8 := [180, 0, 46, 27, 28, 182, 0, 225, 4, 172]
abbrev dktX1_move_1 : List UInt8 := dkwX1_move_1 ++ []
def dkwX1_move_0 : List UInt8 := [42, 27, 182, 0, 137, 153, 0, 14, 42, 180, 0, 46, 28, 182, 0, 222, 154, 0, 5, 3, 172, 42]
abbrev dktX1_move_0 : List UInt8 := dkwX1_move_0 ++ dktX1_move_1
theorem dksX1_move_0 : cX1_move.data.toList.drop 0 = dktX1_move_0 := by decide +kernel
theorem dksX1_move_1 : cX1_move.data.toList.drop 22 = dktX1_move_1 := dk_seg dksX1_move_0 22 rfl rfl
theorem dX1_move_0 : decode cX1_move 0 = .ok (.aload_n 0, 1) := dk_42 (dk_at dksX1_move_0 0 rfl rfl)
theorem dX1_move_1 : decode cX1_move 1 = .ok (.iload_n 1, 1) := dk_27 (dk_at dksX1_move_0 1 rfl rfl)
theorem dX1_move_2 : decode cX1_move 2 = .ok (.invokevirtual 137, 3) := dk_182 0 137 (dk_at dksX1_move_0 2 rfl rfl)
theorem dX1_move_5 : decode cX1_move 5 = .ok (.ifCond .eq 14, 3) := dk_153 0 14 (dk_at dksX1_move_0 5 rfl rfl)
theorem dX1_move_8 : decode cX1_move 8 = .ok (.aload_n 0, 1) := dk_42 (dk_at dksX1_move_0 8 rfl rfl)
theorem dX1_move_9 : decode cX1_move 9 = .ok (.getfield 46, 3) := dk_180 0 46 (dk_at dksX1_move_0 9 rfl rfl)
theorem dX1_move_12 : decode cX1_move 12 = .ok (.iload_n 2, 1) := dk_28 (dk_at dksX1_move_0 12 rfl rfl)
theorem dX1_move_13 : decode cX1_move 13 = .ok (.invokevirtual 222, 3) := dk_182 0 222 (dk_at dksX1_move_0 13 rfl rfl)
theorem dX1_move_16 : decode cX1_move 16 = .ok (.ifCond .ne 5, 3) := dk_154 0 5 (dk_at dksX1_move_0 16 rfl rfl)
theorem dX1_move_19 : decode cX1_move 19 = .ok (.iconst 0, 1) := dk_3 (dk_at dksX1_move_0 19 rfl rfl)
theorem dX1_move_20 : decode cX1_move 20 = .ok (.ireturn, 1) := dk_172 (dk_at dksX1_move_0 20 rfl rfl)
theorem dX1_move_21 : decode cX1_move 21 = .ok (.aload_n 0, 1) := dk_42 (dk_at dksX1_move_0 21 rfl rfl)
theorem dX1_move_22 : decode cX1_move 22 = .ok (.getfield 46, 3) := dk_180 0 46 (dk_at dksX1_move_1 0 rfl rfl)
theorem dX1_move_25 : decode cX1_move 25 = .ok (.iload_n 1, 1) := dk_27 (dk_at dksX1_move_1 3 rfl rfl)
theorem dX1_move_26 : decode cX1_move 26 = .ok (.iload_n 2, 1) := dk_28 (dk_at dksX1_move_1 4 rfl rfl)
theorem dX1_move_27 : decode cX1_move 27 = .ok (.invokevirtual 225, 3) := dk_182 0 225 (dk_at dksX1_move_1 5 rfl rfl)
theorem dX1_move_30 : decode cX1_move 30 = .ok (.iconst 1, 1) := dk_4 (dk_at dksX1_move_1 8 rfl rfl)
theorem dX1_move_31 : decode cX1_move 31 = .ok (.ireturn, 1) := dk_172 (dk_at dksX1_move_1 9 rfl rfl)
abbrev cX1_place : ByteArray := prog_1_method_19_code
def yX1_place : MethodName := ⟨RX1, "place", "(IIIII)I"⟩
def dkwX1_place_10 : List UInt8 := [21, 8, 172]
abbrev dktX1_place_10 : List UInt8 := dkwX1_place_10 ++ []
def dkwX1_place_9 : List UInt8 := [54, 8, 132, 9, 1, 167, 255, 109, 21, 7, 2, 159, 0, 8, 21, 5, 154, 0, 8, 21, 7, 167, 0, 5]
abbrev dktX1_place_9 : List UInt8 := dkwX1_place_9 ++ dktX1_place_10
def dkwX1_place_8 : List UInt8 := [21, 8, 161, 0, 16, 167, 0, 21, 21, 10, 21, 8, 163, 0, 6, 167, 0, 11, 21, 9, 54, 7, 21, 10]
abbrev dktX1_place_8 : List UInt8 := dkwX1_place_8 ++ dktX1_place_9
def dkwX1_place_7 : List UInt8 := [54, 10, 42, 180, 0, 75, 182, 0, 246, 21, 7, 2, 159, 0, 29, 21, 4, 5, 160, 0, 13, 21, 10]
abbrev dktX1_place_7 : List UInt8 := dkwX1_place_7 ++ dktX1_place_8
def dkwX1_place_6 : List UInt8 := [27, 182, 0, 235, 167, 0, 20, 42, 180, 0, 75, 2, 182, 0, 235, 42, 180, 0, 75, 27, 182, 0, 235, 100]
abbrev dktX1_place_6 : List UInt8 := dkwX1_place_6 ++ dktX1_place_7
def dkwX1_place_5 : List UInt8 := [154, 0, 14, 42, 180, 0, 75, 2, 182, 0, 235, 167, 0, 37, 21, 4, 4, 160, 0, 14, 42, 180, 0, 75]
abbrev dktX1_place_5 : List UInt8 := dkwX1_place_5 ++ dktX1_place_6
def dkwX1_place_4 : List UInt8 := [180, 0, 75, 25, 6, 21, 9, 182, 0, 242, 42, 180, 0, 75, 42, 180, 0, 71, 182, 0, 198, 87, 21, 4]
abbrev dktX1_place_4 : List UInt8 := dkwX1_place_4 ++ dktX1_place_5
def dkwX1_place_3 : List UInt8 := [21, 9, 16, 64, 162, 0, 146, 42, 180, 0, 75, 21, 9, 182, 0, 222, 154, 0, 6, 167, 0, 125, 42]
abbrev dktX1_place_3 : List UInt8 := dkwX1_place_3 ++ dktX1_place_4
def dkwX1_place_2 : List UInt8 := [172, 42, 182, 0, 231, 87, 29, 27, 28, 184, 0, 238, 58, 6, 2, 54, 7, 3, 54, 8, 3, 54, 9]
abbrev dktX1_place_2 : List UInt8 := dkwX1_place_2 ++ dktX1_place_3
def dkwX1_place_1 : List UInt8 := [153, 0, 23, 21, 4, 3, 5, 184, 0, 123, 153, 0, 13, 21, 5, 3, 4, 184, 0, 123, 154, 0, 5, 2]
abbrev dktX1_place_1 : List UInt8 := dkwX1_place_1 ++ dktX1_place_2
def dkwX1_place_0 : List UInt8 := [42, 27, 182, 0, 160, 153, 0, 42, 28, 3, 16, 10, 184, 0, 123, 153, 0, 32, 29, 3, 8, 184, 0, 123]
abbrev dktX1_place_0 : List UInt8 := dkwX1_place_0 ++ dktX1_place_1
theorem dksX1_place_0 : cX1_place.data.toList.drop 0 = dktX1_place_0 := by decide +kernel
theorem dksX1_place_1 : cX1_place.data.toList.drop 24 = dktX1_place_1 := dk_seg dksX1_place_0 24 rfl rfl
theorem dksX1_place_2 : cX1_place.data.toList.drop 48 = dktX1_place_2 := dk_seg dksX1_place_1 24 rfl rfl
theorem dksX1_place_3 : cX1_place.data.toList.drop 71 = dktX1_place_3 := dk_seg dksX1_place_2 23 rfl rfl
theorem dksX1_place_4 : cX1_place.data.toList.drop 94 = dktX1_place_4 := dk_seg dksX1_place_3 23 rfl rfl
theorem dksX1_place_5 : cX1_place.data.toList.drop 118 = dktX1_place_5 := dk_seg dksX1_place_4 24 rfl rfl
theorem dksX1_place_6 : cX1_place.data.toList.drop 142 = dktX1_place_6 := dk_seg dksX1_place_5 24 rfl rfl
theorem dksX1_place_7 : cX1_place.data.toList.drop 166 = dktX1_place_7 := dk_seg dksX1_place_6 24 rfl rfl
theorem dksX1_place_8 : cX1_place.data.toList.drop 189 = dktX1_place_8 := dk_seg dksX1_place_7 23 rfl rfl
theorem dksX1_place_9 : cX1_place.data.toList.drop 213 = dktX1_place_9 := dk_seg dksX1_place_8 24 rfl rfl
theorem dksX1_place_10 : cX1_place.data.toList.drop 237 = dktX1_place_10 := dk_seg dksX1_place_9 24 rfl rfl
theorem dX1_place_0 : decode cX1_place 0 = .ok (.aload_n 0, 1) := dk_42 (dk_at dksX1_place_0 0 rfl rfl)
theorem dX1_place_1 : decode cX1_place 1 = .ok (.iload_n 1, 1) := dk_27 (dk_at dksX1_place_0 1 rfl rfl)
theorem dX1_place_2 : decode cX1_place 2 = .ok (.invokevirtual 160, 3) := dk_182 0 160 (dk_at dksX1_place_0 2 rfl rfl)
theorem dX1_place_5 : decode cX1_place 5 = .ok (.ifCond .eq 42, 3) := dk_153 0 42 (dk_at dksX1_place_0 5 rfl rfl)
theorem dX1_place_8 : decode cX1_place 8 = .ok (.iload_n 2, 1) := dk_28 (dk_at dksX1_place_0 8 rfl rfl)
theorem dX1_place_9 : decode cX1_place 9 = .ok (.iconst 0, 1) := dk_3 (dk_at dksX1_place_0 9 rfl rfl)
theorem dX1_place_10 : decode cX1_place 10 = .ok (.bipush 10, 2) := dk_16 10 (dk_at dksX1_place_0 10 rfl rfl)
theorem dX1_place_12 : decode cX1_place 12 = .ok (.invokestatic 123, 3) := dk_184 0 123 (dk_at dksX1_place_0 12 rfl rfl)
theorem dX1_place_15 : decode cX1_place 15 = .ok (.ifCond .eq 32, 3) := dk_153 0 32 (dk_at dksX1_place_0 15 rfl rfl)
theorem dX1_place_18 : decode cX1_place 18 = .ok (.iload_n 3, 1) := dk_29 (dk_at dksX1_place_0 18 rfl rfl)
theorem dX1_place_19 : decode cX1_place 19 = .ok (.iconst 0, 1) := dk_3 (dk_at dksX1_place_0 19 rfl rfl)
theorem dX1_place_20 : decode cX1_place 20 = .ok (.iconst 5, 1) := dk_8 (dk_at dksX1_place_0 20 rfl rfl)
theorem dX1_place_21 : decode cX1_place 21 = .ok (.invokestatic 123, 3) := dk_184 0 123 (dk_at dksX1_place_0 21 rfl rfl)
theorem dX1_place_24 : decode cX1_place 24 = .ok (.ifCond .eq 23, 3) := dk_153 0 23 (dk_at dksX1_place_1 0 rfl rfl)
theorem dX1_place_27 : decode cX1_place 27 = .ok (.iload 4, 2) := dk_21 4 (dk_at dksX1_place_1 3 rfl rfl)
theorem dX1_place_29 : decode cX1_place 29 = .ok (.iconst 0, 1) := dk_3 (dk_at dksX1_place_1 5 rfl rfl)
theorem dX1_place_30 : decode cX1_place 30 = .ok (.iconst 2, 1) := dk_5 (dk_at dksX1_place_1 6 rfl rfl)
theorem dX1_place_31 : decode cX1_place 31 = .ok (.invokestatic 123, 3) := dk_184 0 123 (dk_at dksX1_place_1 7 rfl rfl)
theorem dX1_place_34 : decode cX1_place 34 = .ok (.ifCond .eq 13, 3) := dk_153 0 13 (dk_at dksX1_place_1 10 rfl rfl)
theorem dX1_place_37 : decode cX1_place 37 = .ok (.iload 5, 2) := dk_21 5 (dk_at dksX1_place_1 13 rfl rfl)
theorem dX1_place_39 : decode cX1_place 39 = .ok (.iconst 0, 1) := dk_3 (dk_at dksX1_place_1 15 rfl rfl)
theorem dX1_place_40 : decode cX1_place 40 = .ok (.iconst 1, 1) := dk_4 (dk_at dksX1_place_1 16 rfl rfl)
theorem dX1_place_41 : decode cX1_place 41 = .ok (.invokestatic 123, 3) := dk_184 0 123 (dk_at dksX1_place_1 17 rfl rfl)
theorem dX1_place_44 : decode cX1_place 44 = .ok (.ifCond .ne 5, 3) := dk_154 0 5 (dk_at dksX1_place_1 20 rfl rfl)
theorem dX1_place_47 : decode cX1_place 47 = .ok (.iconst (-1), 1) := dk_2 (dk_at dksX1_place_1 23 rfl rfl)
theorem dX1_place_48 : decode cX1_place 48 = .ok (.ireturn, 1) := dk_172 (dk_at dksX1_place_2 0 rfl rfl)
theorem dX1_place_49 : decode cX1_place 49 = .ok (.aload_n 0, 1) := dk_42 (dk_at dksX1_place_2 1 rfl rfl)
theorem dX1_place_50 : decode cX1_place 50 = .ok (.invokevirtual 231, 3) := dk_182 0 231 (dk_at dksX1_place_2 2 rfl rfl)
theorem dX1_place_53 : decode cX1_place 53 = .ok (.pop, 1) := dk_87 (dk_at dksX1_place_2 5 rfl rfl)
theorem dX1_place_54 : decode cX1_place 54 = .ok (.iload_n 3, 1) := dk_29 (dk_at dksX1_place_2 6 rfl rfl)
theorem dX1_place_55 : decode cX1_place 55 = .ok (.iload_n 1, 1) := dk_27 (dk_at dksX1_place_2 7 rfl rfl)
theorem dX1_place_56 : decode cX1_place 56 = .ok (.iload_n 2, 1) := dk_28 (dk_at dksX1_place_2 8 rfl rfl)
theorem dX1_place_57 : decode cX1_place 57 = .ok (.invokestatic 238, 3) := dk_184 0 238 (dk_at dksX1_place_2 9 rfl rfl)
theorem dX1_place_60 : decode cX1_place 60 = .ok (.astore 6, 2) := dk_58 6 (dk_at dksX1_place_2 12 rfl rfl)
theorem dX1_place_62 : decode cX1_place 62 = .ok (.iconst (-1), 1) := dk_2 (dk_at dksX1_place_2 14 rfl rfl)
theorem dX1_place_63 : decode cX1_place 63 = .ok (.istore 7, 2) := dk_54 7 (dk_at dksX1_place_2 15 rfl rfl)
theorem dX1_place_65 : decode cX1_place 65 = .ok (.iconst 0, 1) := dk_3 (dk_at dksX1_place_2 17 rfl rfl)
theorem dX1_place_66 : decode cX1_place 66 = .ok (.istore 8, 2) := dk_54 8 (dk_at dksX1_place_2 18 rfl rfl)
theorem dX1_place_68 : decode cX1_place 68 = .ok (.iconst 0, 1) := dk_3 (dk_at dksX1_place_2 20 rfl rfl)
theorem dX1_place_69 : decode cX1_place 69 = .ok (.istore 9, 2) := dk_54 9 (dk_at dksX1_place_2 21 rfl rfl)
theorem dX1_place_71 : decode cX1_place 71 = .ok (.iload 9, 2) := dk_21 9 (dk_at dksX1_place_3 0 rfl rfl)
theorem dX1_place_73 : decode cX1_place 73 = .ok (.bipush 64, 2) := dk_16 64 (dk_at dksX1_place_3 2 rfl rfl)
theorem dX1_place_75 : decode cX1_place 75 = .ok (.if_icmp .ge 146, 3) := dk_162 0 146 (dk_at dksX1_place_3 4 rfl rfl)
theorem dX1_place_78 : decode cX1_place 78 = .ok (.aload_n 0, 1) := dk_42 (dk_at dksX1_place_3 7 rfl rfl)
theorem dX1_place_79 : decode cX1_place 79 = .ok (.getfield 75, 3) := dk_180 0 75 (dk_at dksX1_place_3 8 rfl rfl)
theorem dX1_place_82 : decode cX1_place 82 = .ok (.iload 9, 2) := dk_21 9 (dk_at dksX1_place_3 11 rfl rfl)
theorem dX1_place_84 : decode cX1_place 84 = .ok (.invokevirtual 222, 3) := dk_182 0 222 (dk_at dksX1_place_3 13 rfl rfl)
theorem dX1_place_87 : decode cX1_place 87 = .ok (.ifCond .ne 6, 3) := dk_154 0 6 (dk_at dksX1_place_3 16 rfl rfl)
theorem dX1_place_90 : decode cX1_place 90 = .ok (.goto 125, 3) := dk_167 0 125 (dk_at dksX1_place_3 19 rfl rfl)
theorem dX1_place_93 : decode cX1_place 93 = .ok (.aload_n 0, 1) := dk_42 (dk_at dksX1_place_3 22 rfl rfl)
theorem dX1_place_94 : decode cX1_place 94 = .ok (.getfield 75, 3) := dk_180 0 75 (dk_at dksX1_place_4 0 rfl rfl)
theorem dX1_place_97 : decode cX1_place 97 = .ok (.aload 6, 2) := dk_25 6 (dk_at dksX1_place_4 3 rfl rfl)
theorem dX1_place_99 : decode cX1_place 99 = .ok (.iload 9, 2) := dk_21 9 (dk_at dksX1_place_4 5 rfl rfl)
theorem dX1_place_101 : decode cX1_place 101 = .ok (.invokevirtual 242, 3) := dk_182 0 242 (dk_at dksX1_place_4 7 rfl rfl)
theorem dX1_place_104 : decode cX1_place 104 = .ok (.aload_n 0, 1) := dk_42 (dk_at dksX1_place_4 10 rfl rfl)
theorem dX1_place_105 : decode cX1_place 105 = .ok (.getfield 75, 3) := dk_180 0 75 (dk_at dksX1_place_4 11 rfl rfl)
theorem dX1_place_108 : decode cX1_place 108 = .ok (.aload_n 0, 1) := dk_42 (dk_at dksX1_place_4 14 rfl rfl)
theorem dX1_place_109 : decode cX1_place 109 = .ok (.getfield 71, 3) := dk_180 0 71 (dk_at dksX1_place_4 15 rfl rfl)
theorem dX1_place_112 : decode cX1_place 112 = .ok (.invokevirtual 198, 3) := dk_182 0 198 (dk_at dksX1_place_4 18 rfl rfl)
theorem dX1_place_115 : decode cX1_place 115 = .ok (.pop, 1) := dk_87 (dk_at dksX1_place_4 21 rfl rfl)
theorem dX1_place_116 : decode cX1_place 116 = .ok (.iload 4, 2) := dk_21 4 (dk_at dksX1_place_4 22 rfl rfl)
theorem dX1_place_118 : decode cX1_place 118 = .ok (.ifCond .ne 14, 3) := dk_154 0 14 (dk_at dksX1_place_5 0 rfl rfl)
theorem dX1_place_121 : decode cX1_place 121 = .ok (.aload_n 0, 1) := dk_42 (dk_at dksX1_place_5 3 rfl rfl)
theorem dX1_place_122 : decode cX1_place 122 = .ok (.getfield 75, 3) := dk_180 0 75 (dk_at dksX1_place_5 4 rfl rfl)
theorem dX1_place_125 : decode cX1_place 125 = .ok (.iconst (-1), 1) := dk_2 (dk_at dksX1_place_5 7 rfl rfl)
theorem dX1_place_126 : decode cX1_place 126 = .ok (.invokevirtual 235, 3) := dk_182 0 235 (dk_at dksX1_place_5 8 rfl rfl)
theorem dX1_place_129 : decode cX1_place 129 = .ok (.goto 37, 3) := dk_167 0 37 (dk_at dksX1_place_5 11 rfl rfl)
theorem dX1_place_132 : decode cX1_place 132 = .ok (.iload 4, 2) := dk_21 4 (dk_at dksX1_place_5 14 rfl rfl)
theorem dX1_place_134 : decode cX1_place 134 = .ok (.iconst 1, 1) := dk_4 (dk_at dksX1_place_5 16 rfl rfl)
theorem dX1_place_135 : decode cX1_place 135 = .ok (.if_icmp .ne 14, 3) := dk_160 0 14 (dk_at dksX1_place_5 17 rfl rfl)
theorem dX1_place_138 : decode cX1_place 138 = .ok (.aload_n 0, 1) := dk_42 (dk_at dksX1_place_5 20 rfl rfl)
theorem dX1_place_139 : decode cX1_place 139 = .ok (.getfield 75, 3) := dk_180 0 75 (dk_at dksX1_place_5 21 rfl rfl)
theorem dX1_place_142 : decode cX1_place 142 = .ok (.iload_n 1, 1) := dk_27 (dk_at dksX1_place_6 0 rfl rfl)
theorem dX1_place_143 : decode cX1_place 143 = .ok (.invokevirtual 235, 3) := dk_182 0 235 (dk_at dksX1_place_6 1 rfl rfl)
theorem dX1_place_146 : decode cX1_place 146 = .ok (.goto 20, 3) := dk_167 0 20 (dk_at dksX1_place_6 4 rfl rfl)
theorem dX1_place_149 : decode cX1_place 149 = .ok (.aload_n 0, 1) := dk_42 (dk_at dksX1_place_6 7 rfl rfl)
theorem dX1_place_150 : decode cX1_place 150 = .ok (.getfield 75, 3) := dk_180 0 75 (dk_at dksX1_place_6 8 rfl rfl)
theorem dX1_place_153 : decode cX1_place 153 = .ok (.iconst (-1), 1) := dk_2 (dk_at dksX1_place_6 11 rfl rfl)
theorem dX1_place_154 : decode cX1_place 154 = .ok (.invokevirtual 235, 3) := dk_182 0 235 (dk_at dksX1_place_6 12 rfl rfl)
theorem dX1_place_157 : decode cX1_place 157 = .ok (.aload_n 0, 1) := dk_42 (dk_at dksX1_place_6 15 rfl rfl)
theorem dX1_place_158 : decode cX1_place 158 = .ok (.getfield 75, 3) := dk_180 0 75 (dk_at dksX1_place_6 16 rfl rfl)
theorem dX1_place_161 : decode cX1_place 161 = .ok (.iload_n 1, 1) := dk_27 (dk_at dksX1_place_6 19 rfl rfl)
theorem dX1_place_162 : decode cX1_place 162 = .ok (.invokevirtual 235, 3) := dk_182 0 235 (dk_at dksX1_place_6 20 rfl rfl)
theorem dX1_place_165 : decode cX1_place 165 = .ok (.isub, 1) := dk_100 (dk_at dksX1_place_6 23 rfl rfl)
theorem dX1_place_166 : decode cX1_place 166 = .ok (.istore 10, 2) := dk_54 10 (dk_at dksX1_place_7 0 rfl rfl)
theorem dX1_place_168 : decode cX1_place 168 = .ok (.aload_n 0, 1) := dk_42 (dk_at dksX1_place_7 2 rfl rfl)
theorem dX1_place_169 : decode cX1_place 169 = .ok (.getfield 75, 3) := dk_180 0 75 (dk_at dksX1_place_7 3 rfl rfl)
theorem dX1_place_172 : decode cX1_place 172 = .ok (.invokevirtual 246, 3) := dk_182 0 246 (dk_at dksX1_place_7 6 rfl rfl)
theorem dX1_place_175 : decode cX1_place 175 = .ok (.iload 7, 2) := dk_21 7 (dk_at dksX1_place_7 9 rfl rfl)
theorem dX1_place_177 : decode cX1_place 177 = .ok (.iconst (-1), 1) := dk_2 (dk_at dksX1_place_7 11 rfl rfl)
theorem dX1_place_178 : decode cX1_place 178 = .ok (.if_icmp .eq 29, 3) := dk_159 0 29 (dk_at dksX1_place_7 12 rfl rfl)
theorem dX1_place_181 : decode cX1_place 181 = .ok (.iload 4, 2) := dk_21 4 (dk_at dksX1_place_7 15 rfl rfl)
theorem dX1_place_183 : decode cX1_place 183 = .ok (.iconst 2, 1) := dk_5 (dk_at dksX1_place_7 17 rfl rfl)
theorem dX1_place_184 : decode cX1_place 184 = .ok (.if_icmp .ne 13, 3) := dk_160 0 13 (dk_at dksX1_place_7 18 rfl rfl)
theorem dX1_place_187 : decode cX1_place 187 = .ok (.iload 10, 2) := dk_21 10 (dk_at dksX1_place_7 21 rfl rfl)
theorem dX1_place_189 : decode cX1_place 189 = .ok (.iload 8, 2) := dk_21 8 (dk_at dksX1_place_8 0 rfl rfl)
theorem dX1_place_191 : decode cX1_place 191 = .ok (.if_icmp .lt 16, 3) := dk_161 0 16 (dk_at dksX1_place_8 2 rfl rfl)
theorem dX1_place_194 : decode cX1_place 194 = .ok (.goto 21, 3) := dk_167 0 21 (dk_at dksX1_place_8 5 rfl rfl)
theorem dX1_place_197 : decode cX1_place 197 = .ok (.iload 10, 2) := dk_21 10 (dk_at dksX1_place_8 8 rfl rfl)
theorem dX1_place_199 : decode cX1_place 199 = .ok (.iload 8, 2) := dk_21 8 (dk_at dksX1_place_8 10 rfl rfl)
theorem dX1_place_201 : decode cX1_place 201 = .ok (.if_icmp .gt 6, 3) := dk_163 0 6 (dk_at dksX1_place_8 12 rfl rfl)
theorem dX1_place_204 : decode cX1_place 204 = .ok (.goto 11, 3) := dk_167 0 11 (dk_at dksX1_place_8 15 rfl rfl)
theorem dX1_place_207 : decode cX1_place 207 = .ok (.iload 9, 2) := dk_21 9 (dk_at dksX1_place_8 18 rfl rfl)
theorem dX1_place_209 : decode cX1_place 209 = .ok (.istore 7, 2) := dk_54 7 (dk_at dksX1_place_8 20 rfl rfl)
theorem dX1_place_211 : decode cX1_place 211 = .ok (.iload 10, 2) := dk_21 10 (dk_at dksX1_place_8 22 rfl rfl)
theorem dX1_place_213 : decode cX1_place 213 = .ok (.istore 8, 2) := dk_54 8 (dk_at dksX1_place_9 0 rfl rfl)
theorem dX1_place_215 : decode cX1_place 215 = .ok (.iinc 9 1, 3) := dk_132 9 1 (dk_at dksX1_place_9 2 rfl rfl)
theorem dX1_place_218 : decode cX1_place 218 = .ok (.goto (-147), 3) := dk_167 255 109 (dk_at dksX1_place_9 5 rfl rfl)
theorem dX1_place_221 : decode cX1_place 221 = .ok (.iload 7, 2) := dk_21 7 (dk_at dksX1_place_9 8 rfl rfl)
theorem dX1_place_223 : decode cX1_place 223 = .ok (.iconst (-1), 1) := dk_2 (dk_at dksX1_place_9 10 rfl rfl)
theorem dX1_place_224 : decode cX1_place 224 = .ok (.if_icmp .eq 8, 3) := dk_159 0 8 (dk_at dksX1_place_9 11 rfl rfl)
theorem dX1_place_227 : decode cX1_place 227 = .ok (.iload 5, 2) := dk_21 5 (dk_at dksX1_place_9 14 rfl rfl)
theorem dX1_place_229 : decode cX1_place 229 = .ok (.ifCond .ne 8, 3) := dk_154 0 8 (dk_at dksX1_place_9 16 rfl rfl)
theorem dX1_place_232 : decode cX1_place 232 = .ok (.iload 7, 2) := dk_21 7 (dk_at dksX1_place_9 19 rfl rfl)
theorem dX1_place_234 : decode cX1_place 234 = .ok (.goto 5, 3) := dk_167 0 5 (dk_at dksX1_place_9 21 rfl rfl)
theorem dX1_place_237 : decode cX1_place 237 = .ok (.iload 8, 2) := dk_21 8 (dk_at dksX1_place_10 0 rfl rfl)
theorem dX1_place_239 : decode cX1_place 239 = .ok (.ireturn, 1) := dk_172 (dk_at dksX1_place_10 2 rfl rfl)
abbrev cX1_tries : ByteArray := prog_1_method_17_code
def yX1_tries : MethodName := ⟨RX1, "tries", "()LFogNets$Hung;"⟩
def dkwX1_tries_1 : List UInt8 := [182, 0, 187, 176]
abbrev dktX1_tries_1 : List UInt8 := dkwX1_tries_1 ++ []
def dkwX1_tries_0 : List UInt8 := [42, 180, 0, 71, 42, 180, 0, 39, 42, 180, 0, 109, 182, 0, 194, 87, 42, 180, 0, 75, 42, 180, 0, 46]
abbrev dktX1_tries_0 : List UInt8 := dkwX1_tries_0 ++ dktX1_tries_1
theorem dksX1_tries_0 : cX1_tries.data.toList.drop 0 = dktX1_tries_0 := by decide +kernel
theorem dksX1_tries_1 : cX1_tries.data.toList.drop 24 = dktX1_tries_1 := dk_seg dksX1_tries_0 24 rfl rfl
theorem dX1_tries_0 : decode cX1_tries 0 = .ok (.aload_n 0, 1) := dk_42 (dk_at dksX1_tries_0 0 rfl rfl)
theorem dX1_tries_1 : decode cX1_tries 1 = .ok (.getfield 71, 3) := dk_180 0 71 (dk_at dksX1_tries_0 1 rfl rfl)
theorem dX1_tries_4 : decode cX1_tries 4 = .ok (.aload_n 0, 1) := dk_42 (dk_at dksX1_tries_0 4 rfl rfl)
theorem dX1_tries_5 : decode cX1_tries 5 = .ok (.getfield 39, 3) := dk_180 0 39 (dk_at dksX1_tries_0 5 rfl rfl)
theorem dX1_tries_8 : decode cX1_tries 8 = .ok (.aload_n 0, 1) := dk_42 (dk_at dksX1_tries_0 8 rfl rfl)
theorem dX1_tries_9 : decode cX1_tries 9 = .ok (.getfield 109, 3) := dk_180 0 109 (dk_at dksX1_tries_0 9 rfl rfl)
theorem dX1_tries_12 : decode cX1_tries 12 = .ok (.invokevirtual 194, 3) := dk_182 0 194 (dk_at dksX1_tries_0 12 rfl rfl)
theorem dX1_tries_15 : decode cX1_tries 15 = .ok (.pop, 1) := dk_87 (dk_at dksX1_tries_0 15 rfl rfl)
theorem dX1_tries_16 : decode cX1_tries 16 = .ok (.aload_n 0, 1) := dk_42 (dk_at dksX1_tries_0 16 rfl rfl)
theorem dX1_tries_17 : decode cX1_tries 17 = .ok (.getfield 75, 3) := dk_180 0 75 (dk_at dksX1_tries_0 17 rfl rfl)
theorem dX1_tries_20 : decode cX1_tries 20 = .ok (.aload_n 0, 1) := dk_42 (dk_at dksX1_tries_0 20 rfl rfl)
theorem dX1_tries_21 : decode cX1_tries 21 = .ok (.getfield 46, 3) := dk_180 0 46 (dk_at dksX1_tries_0 21 rfl rfl)
theorem dX1_tries_24 : decode cX1_tries 24 = .ok (.invokevirtual 187, 3) := dk_182 0 187 (dk_at dksX1_tries_1 0 rfl rfl)
theorem dX1_tries_27 : decode cX1_tries 27 = .ok (.areturn, 1) := dk_176 (dk_at dksX1_tries_1 3 rfl rfl)
abbrev cX1_restless : ByteArray := prog_1_method_21_code
def yX1_restless : MethodName := ⟨RX1, "restless", "()I"⟩
def dkwX1_restless_2 : List UInt8 := [167, 255, 219, 27, 172]
abbrev dktX1_restless_2 : List UInt8 := dkwX1_restless_2 ++ []
def dkwX1_restless_1 : List UInt8 := [182, 0, 249, 42, 180, 0, 75, 180, 0, 148, 28, 46, 159, 0, 9, 27, 4, 28, 120, 128, 60, 132, 2, 1]
abbrev dktX1_restless_1 : List UInt8 := dkwX1_restless_1 ++ dktX1_restless_2
def dkwX1_restless_0 : List UInt8 := [42, 182, 0, 231, 87, 3, 60, 3, 61, 28, 42, 180, 0, 75, 180, 0, 120, 162, 0, 32, 42, 28]
abbrev dktX1_restless_0 : List UInt8 := dkwX1_restless_0 ++ dktX1_restless_1
theorem dksX1_restless_0 : cX1_restless.data.toList.drop 0 = dktX1_restless_0 := by decide +kernel
theorem dksX1_restless_1 : cX1_restless.data.toList.drop 22 = dktX1_restless_1 := dk_seg dksX1_restless_0 22 rfl rfl
theorem dksX1_restless_2 : cX1_restless.data.toList.drop 46 = dktX1_restless_2 := dk_seg dksX1_restless_1 24 rfl rfl
theorem dX1_restless_0 : decode cX1_restless 0 = .ok (.aload_n 0, 1) := dk_42 (dk_at dksX1_restless_0 0 rfl rfl)
theorem dX1_restless_1 : decode cX1_restless 1 = .ok (.invokevirtual 231, 3) := dk_182 0 231 (dk_at dksX1_restless_0 1 rfl rfl)
theorem dX1_restless_4 : decode cX1_restless 4 = .ok (.pop, 1) := dk_87 (dk_at dksX1_restless_0 4 rfl rfl)
theorem dX1_restless_5 : decode cX1_restless 5 = .ok (.iconst 0, 1) := dk_3 (dk_at dksX1_restless_0 5 rfl rfl)
theorem dX1_restless_6 : decode cX1_restless 6 = .ok (.istore_n 1, 1) := dk_60 (dk_at dksX1_restless_0 6 rfl rfl)
theorem dX1_restless_7 : decode cX1_restless 7 = .ok (.iconst 0, 1) := dk_3 (dk_at dksX1_restless_0 7 rfl rfl)
theorem dX1_restless_8 : decode cX1_restless 8 = .ok (.istore_n 2, 1) := dk_61 (dk_at dksX1_restless_0 8 rfl rfl)
theorem dX1_restless_9 : decode cX1_restless 9 = .ok (.iload_n 2, 1) := dk_28 (dk_at dksX1_restless_0 9 rfl rfl)
theorem dX1_restless_10 : decode cX1_restless 10 = .ok (.aload_n 0, 1) := dk_42 (dk_at dksX1_restless_0 10 rfl rfl)
theorem dX1_restless_11 : decode cX1_restless 11 = .ok (.getfield 75, 3) := dk_180 0 75 (dk_at dksX1_restless_0 11 rfl rfl)
theorem dX1_restless_14 : decode cX1_restless 14 = .ok (.getfield 120, 3) := dk_180 0 120 (dk_at dksX1_restless_0 14 rfl rfl)
theorem dX1_restless_17 : decode cX1_restless 17 = .ok (.if_icmp .ge 32, 3) := dk_162 0 32 (dk_at dksX1_restless_0 17 rfl rfl)
theorem dX1_restless_20 : decode cX1_restless 20 = .ok (.aload_n 0, 1) := dk_42 (dk_at dksX1_restless_0 20 rfl rfl)
theorem dX1_restless_21 : decode cX1_restless 21 = .ok (.iload_n 2, 1) := dk_28 (dk_at dksX1_restless_0 21 rfl rfl)
theorem dX1_restless_22 : decode cX1_restless 22 = .ok (.invokevirtual 249, 3) := dk_182 0 249 (dk_at dksX1_restless_1 0 rfl rfl)
theorem dX1_restless_25 : decode cX1_restless 25 = .ok (.aload_n 0, 1) := dk_42 (dk_at dksX1_restless_1 3 rfl rfl)
theorem dX1_restless_26 : decode cX1_restless 26 = .ok (.getfield 75, 3) := dk_180 0 75 (dk_at dksX1_restless_1 4 rfl rfl)
theorem dX1_restless_29 : decode cX1_restless 29 = .ok (.getfield 148, 3) := dk_180 0 148 (dk_at dksX1_restless_1 7 rfl rfl)
theorem dX1_restless_32 : decode cX1_restless 32 = .ok (.iload_n 2, 1) := dk_28 (dk_at dksX1_restless_1 10 rfl rfl)
theorem dX1_restless_33 : decode cX1_restless 33 = .ok (.iaload, 1) := dk_46 (dk_at dksX1_restless_1 11 rfl rfl)
theorem dX1_restless_34 : decode cX1_restless 34 = .ok (.if_icmp .eq 9, 3) := dk_159 0 9 (dk_at dksX1_restless_1 12 rfl rfl)
theorem dX1_restless_37 : decode cX1_restless 37 = .ok (.iload_n 1, 1) := dk_27 (dk_at dksX1_restless_1 15 rfl rfl)
theorem dX1_restless_38 : decode cX1_restless 38 = .ok (.iconst 1, 1) := dk_4 (dk_at dksX1_restless_1 16 rfl rfl)
theorem dX1_restless_39 : decode cX1_restless 39 = .ok (.iload_n 2, 1) := dk_28 (dk_at dksX1_restless_1 17 rfl rfl)
theorem dX1_restless_40 : decode cX1_restless 40 = .ok (.ishl, 1) := dk_120 (dk_at dksX1_restless_1 18 rfl rfl)
theorem dX1_restless_41 : decode cX1_restless 41 = .ok (.ior, 1) := dk_128 (dk_at dksX1_restless_1 19 rfl rfl)
theorem dX1_restless_42 : decode cX1_restless 42 = .ok (.istore_n 1, 1) := dk_60 (dk_at dksX1_restless_1 20 rfl rfl)
theorem dX1_restless_43 : decode cX1_restless 43 = .ok (.iinc 2 1, 3) := dk_132 2 1 (dk_at dksX1_restless_1 21 rfl rfl)
theorem dX1_restless_46 : decode cX1_restless 46 = .ok (.goto (-37), 3) := dk_167 255 219 (dk_at dksX1_restless_2 0 rfl rfl)
theorem dX1_restless_49 : decode cX1_restless 49 = .ok (.iload_n 1, 1) := dk_27 (dk_at dksX1_restless_2 3 rfl rfl)
theorem dX1_restless_50 : decode cX1_restless 50 = .ok (.ireturn, 1) := dk_172 (dk_at dksX1_restless_2 4 rfl rfl)
abbrev cX1_wishes : ByteArray := prog_1_method_20_code
def yX1_wishes : MethodName := ⟨RX1, "wishes", "(I)I"⟩
def dkwX1_wishes_6 : List UInt8 := [167, 255, 161, 29, 172]
abbrev dktX1_wishes_6 : List UInt8 := dkwX1_wishes_6 ++ []
def dkwX1_wishes_5 : List UInt8 := [182, 0, 225, 21, 6, 21, 4, 163, 0, 6, 167, 0, 10, 21, 5, 62, 21, 6, 54, 4, 132, 5, 1]
abbrev dktX1_wishes_5 : List UInt8 := dkwX1_wishes_5 ++ dktX1_wishes_6
def dkwX1_wishes_4 : List UInt8 := [180, 0, 75, 180, 0, 141, 27, 50, 180, 0, 145, 182, 0, 235, 54, 6, 42, 180, 0, 75, 27, 28]
abbrev dktX1_wishes_4 : List UInt8 := dkwX1_wishes_4 ++ dktX1_wishes_5
def dkwX1_wishes_3 : List UInt8 := [42, 180, 0, 75, 27, 21, 5, 182, 0, 225, 42, 180, 0, 75, 42, 180, 0, 71, 182, 0, 198, 42]
abbrev dktX1_wishes_3 : List UInt8 := dkwX1_wishes_3 ++ dktX1_wishes_4
def dkwX1_wishes_2 : List UInt8 := [162, 0, 94, 21, 5, 28, 159, 0, 82, 42, 180, 0, 75, 21, 5, 182, 0, 222, 154, 0, 6, 167, 0, 67]
abbrev dktX1_wishes_2 : List UInt8 := dkwX1_wishes_2 ++ dktX1_wishes_3
def dkwX1_wishes_1 : List UInt8 := [180, 0, 75, 180, 0, 141, 27, 50, 180, 0, 145, 182, 0, 235, 54, 4, 3, 54, 5, 21, 5, 16, 64]
abbrev dktX1_wishes_1 : List UInt8 := dkwX1_wishes_1 ++ dktX1_wishes_2
def dkwX1_wishes_0 : List UInt8 := [42, 180, 0, 75, 180, 0, 148, 27, 46, 61, 28, 62, 42, 180, 0, 75, 42, 180, 0, 71, 182, 0, 198, 42]
abbrev dktX1_wishes_0 : List UInt8 := dkwX1_wishes_0 ++ dktX1_wishes_1
theorem dksX1_wishes_0 : cX1_wishes.data.toList.drop 0 = dktX1_wishes_0 := by decide +kernel
theorem dksX1_wishes_1 : cX1_wishes.data.toList.drop 24 = dktX1_wishes_1 := dk_seg dksX1_wishes_0 24 rfl rfl
theorem dksX1_wishes_2 : cX1_wishes.data.toList.drop 47 = dktX1_wishes_2 := dk_seg dksX1_wishes_1 23 rfl rfl
theorem dksX1_wishes_3 : cX1_wishes.data.toList.drop 71 = dktX1_wishes_3 := dk_seg dksX1_wishes_2 24 rfl rfl
theorem dksX1_wishes_4 : cX1_wishes.data.toList.drop 93 = dktX1_wishes_4 := dk_seg dksX1_wishes_3 22 rfl rfl
theorem dksX1_wishes_5 : cX1_wishes.data.toList.drop 115 = dktX1_wishes_5 := dk_seg dksX1_wishes_4 22 rfl rfl
theorem dksX1_wishes_6 : cX1_wishes.data.toList.drop 138 = dktX1_wishes_6 := dk_seg dksX1_wishes_5 23 rfl rfl
theorem dX1_wishes_0 : decode cX1_wishes 0 = .ok (.aload_n 0, 1) := dk_42 (dk_at dksX1_wishes_0 0 rfl rfl)
theorem dX1_wishes_1 : decode cX1_wishes 1 = .ok (.getfield 75, 3) := dk_180 0 75 (dk_at dksX1_wishes_0 1 rfl rfl)
theorem dX1_wishes_4 : decode cX1_wishes 4 = .ok (.getfield 148, 3) := dk_180 0 148 (dk_at dksX1_wishes_0 4 rfl rfl)
theorem dX1_wishes_7 : decode cX1_wishes 7 = .ok (.iload_n 1, 1) := dk_27 (dk_at dksX1_wishes_0 7 rfl rfl)
theorem dX1_wishes_8 : decode cX1_wishes 8 = .ok (.iaload, 1) := dk_46 (dk_at dksX1_wishes_0 8 rfl rfl)
theorem dX1_wishes_9 : decode cX1_wishes 9 = .ok (.istore_n 2, 1) := dk_61 (dk_at dksX1_wishes_0 9 rfl rfl)
theorem dX1_wishes_10 : decode cX1_wishes 10 = .ok (.iload_n 2, 1) := dk_28 (dk_at dksX1_wishes_0 10 rfl rfl)
theorem dX1_wishes_11 : decode cX1_wishes 11 = .ok (.istore_n 3, 1) := dk_62 (dk_at dksX1_wishes_0 11 rfl rfl)
theorem dX1_wishes_12 : decode cX1_wishes 12 = .ok (.aload_n 0, 1) := dk_42 (dk_at dksX1_wishes_0 12 rfl rfl)
theorem dX1_wishes_13 : decode cX1_wishes 13 = .ok (.getfield 75, 3) := dk_180 0 75 (dk_at dksX1_wishes_0 13 rfl rfl)
theorem dX1_wishes_16 : decode cX1_wishes 16 = .ok (.aload_n 0, 1) := dk_42 (dk_at dksX1_wishes_0 16 rfl rfl)
theorem dX1_wishes_17 : decode cX1_wishes 17 = .ok (.getfield 71, 3) := dk_180 0 71 (dk_at dksX1_wishes_0 17 rfl rfl)
theorem dX1_wishes_20 : decode cX1_wishes 20 = .ok (.invokevirtual 198, 3) := dk_182 0 198 (dk_at dksX1_wishes_0 20 rfl rfl)
theorem dX1_wishes_23 : decode cX1_wishes 23 = .ok (.aload_n 0, 1) := dk_42 (dk_at dksX1_wishes_0 23 rfl rfl)
theorem dX1_wishes_24 : decode cX1_wishes 24 = .ok (.getfield 75, 3) := dk_180 0 75 (dk_at dksX1_wishes_1 0 rfl rfl)
theorem dX1_wishes_27 : decode cX1_wishes 27 = .ok (.getfield 141, 3) := dk_180 0 141 (dk_at dksX1_wishes_1 3 rfl rfl)
theorem dX1_wishes_30 : decode cX1_wishes 30 = .ok (.iload_n 1, 1) := dk_27 (dk_at dksX1_wishes_1 6 rfl rfl)
theorem dX1_wishes_31 : decode cX1_wishes 31 = .ok (.aaload, 1) := dk_50 (dk_at dksX1_wishes_1 7 rfl rfl)
theorem dX1_wishes_32 : decode cX1_wishes 32 = .ok (.getfield 145, 3) := dk_180 0 145 (dk_at dksX1_wishes_1 8 rfl rfl)
theorem dX1_wishes_35 : decode cX1_wishes 35 = .ok (.invokevirtual 235, 3) := dk_182 0 235 (dk_at dksX1_wishes_1 11 rfl rfl)
theorem dX1_wishes_38 : decode cX1_wishes 38 = .ok (.istore 4, 2) := dk_54 4 (dk_at dksX1_wishes_1 14 rfl rfl)
theorem dX1_wishes_40 : decode cX1_wishes 40 = .ok (.iconst 0, 1) := dk_3 (dk_at dksX1_wishes_1 16 rfl rfl)
theorem dX1_wishes_41 : decode cX1_wishes 41 = .ok (.istore 5, 2) := dk_54 5 (dk_at dksX1_wishes_1 17 rfl rfl)
theorem dX1_wishes_43 : decode cX1_wishes 43 = .ok (.iload 5, 2) := dk_21 5 (dk_at dksX1_wishes_1 19 rfl rfl)
theorem dX1_wishes_45 : decode cX1_wishes 45 = .ok (.bipush 64, 2) := dk_16 64 (dk_at dksX1_wishes_1 21 rfl rfl)
theorem dX1_wishes_47 : decode cX1_wishes 47 = .ok (.if_icmp .ge 94, 3) := dk_162 0 94 (dk_at dksX1_wishes_2 0 rfl rfl)
theorem dX1_wishes_50 : decode cX1_wishes 50 = .ok (.iload 5, 2) := dk_21 5 (dk_at dksX1_wishes_2 3 rfl rfl)
theorem dX1_wishes_52 : decode cX1_wishes 52 = .ok (.iload_n 2, 1) := dk_28 (dk_at dksX1_wishes_2 5 rfl rfl)
theorem dX1_wishes_53 : decode cX1_wishes 53 = .ok (.if_icmp .eq 82, 3) := dk_159 0 82 (dk_at dksX1_wishes_2 6 rfl rfl)
theorem dX1_wishes_56 : decode cX1_wishes 56 = .ok (.aload_n 0, 1) := dk_42 (dk_at dksX1_wishes_2 9 rfl rfl)
theorem dX1_wishes_57 : decode cX1_wishes 57 = .ok (.getfield 75, 3) := dk_180 0 75 (dk_at dksX1_wishes_2 10 rfl rfl)
theorem dX1_wishes_60 : decode cX1_wishes 60 = .ok (.iload 5, 2) := dk_21 5 (dk_at dksX1_wishes_2 13 rfl rfl)
theorem dX1_wishes_62 : decode cX1_wishes 62 = .ok (.invokevirtual 222, 3) := dk_182 0 222 (dk_at dksX1_wishes_2 15 rfl rfl)
theorem dX1_wishes_65 : decode cX1_wishes 65 = .ok (.ifCond .ne 6, 3) := dk_154 0 6 (dk_at dksX1_wishes_2 18 rfl rfl)
theorem dX1_wishes_68 : decode cX1_wishes 68 = .ok (.goto 67, 3) := dk_167 0 67 (dk_at dksX1_wishes_2 21 rfl rfl)
theorem dX1_wishes_71 : decode cX1_wishes 71 = .ok (.aload_n 0, 1) := dk_42 (dk_at dksX1_wishes_3 0 rfl rfl)
theorem dX1_wishes_72 : decode cX1_wishes 72 = .ok (.getfield 75, 3) := dk_180 0 75 (dk_at dksX1_wishes_3 1 rfl rfl)
theorem dX1_wishes_75 : decode cX1_wishes 75 = .ok (.iload_n 1, 1) := dk_27 (dk_at dksX1_wishes_3 4 rfl rfl)
theorem dX1_wishes_76 : decode cX1_wishes 76 = .ok (.iload 5, 2) := dk_21 5 (dk_at dksX1_wishes_3 5 rfl rfl)
theorem dX1_wishes_78 : decode cX1_wishes 78 = .ok (.invokevirtual 225, 3) := dk_182 0 225 (dk_at dksX1_wishes_3 7 rfl rfl)
theorem dX1_wishes_81 : decode cX1_wishes 81 = .ok (.aload_n 0, 1) := dk_42 (dk_at dksX1_wishes_3 10 rfl rfl)
theorem dX1_wishes_82 : decode cX1_wishes 82 = .ok (.getfield 75, 3) := dk_180 0 75 (dk_at dksX1_wishes_3 11 rfl rfl)
theorem dX1_wishes_85 : decode cX1_wishes 85 = .ok (.aload_n 0, 1) := dk_42 (dk_at dksX1_wishes_3 14 rfl rfl)
theorem dX1_wishes_86 : decode cX1_wishes 86 = .ok (.getfield 71, 3) := dk_180 0 71 (dk_at dksX1_wishes_3 15 rfl rfl)
theorem dX1_wishes_89 : decode cX1_wishes 89 = .ok (.invokevirtual 198, 3) := dk_182 0 198 (dk_at dksX1_wishes_3 18 rfl rfl)
theorem dX1_wishes_92 : decode cX1_wishes 92 = .ok (.aload_n 0, 1) := dk_42 (dk_at dksX1_wishes_3 21 rfl rfl)
theorem dX1_wishes_93 : decode cX1_wishes 93 = .ok (.getfield 75, 3) := dk_180 0 75 (dk_at dksX1_wishes_4 0 rfl rfl)
theorem dX1_wishes_96 : decode cX1_wishes 96 = .ok (.getfield 141, 3) := dk_180 0 141 (dk_at dksX1_wishes_4 3 rfl rfl)
theorem dX1_wishes_99 : decode cX1_wishes 99 = .ok (.iload_n 1, 1) := dk_27 (dk_at dksX1_wishes_4 6 rfl rfl)
theorem dX1_wishes_100 : decode cX1_wishes 100 = .ok (.aaload, 1) := dk_50 (dk_at dksX1_wishes_4 7 rfl rfl)
theorem dX1_wishes_101 : decode cX1_wishes 101 = .ok (.getfield 145, 3) := dk_180 0 145 (dk_at dksX1_wishes_4 8 rfl rfl)
theorem dX1_wishes_104 : decode cX1_wishes 104 = .ok (.invokevirtual 235, 3) := dk_182 0 235 (dk_at dksX1_wishes_4 11 rfl rfl)
theorem dX1_wishes_107 : decode cX1_wishes 107 = .ok (.istore 6, 2) := dk_54 6 (dk_at dksX1_wishes_4 14 rfl rfl)
theorem dX1_wishes_109 : decode cX1_wishes 109 = .ok (.aload_n 0, 1) := dk_42 (dk_at dksX1_wishes_4 16 rfl rfl)
theorem dX1_wishes_110 : decode cX1_wishes 110 = .ok (.getfield 75, 3) := dk_180 0 75 (dk_at dksX1_wishes_4 17 rfl rfl)
theorem dX1_wishes_113 : decode cX1_wishes 113 = .ok (.iload_n 1, 1) := dk_27 (dk_at dksX1_wishes_4 20 rfl rfl)
theorem dX1_wishes_114 : decode cX1_wishes 114 = .ok (.iload_n 2, 1) := dk_28 (dk_at dksX1_wishes_4 21 rfl rfl)
theorem dX1_wishes_115 : decode cX1_wishes 115 = .ok (.invokevirtual 225, 3) := dk_182 0 225 (dk_at dksX1_wishes_5 0 rfl rfl)
theorem dX1_wishes_118 : decode cX1_wishes 118 = .ok (.iload 6, 2) := dk_21 6 (dk_at dksX1_wishes_5 3 rfl rfl)
theorem dX1_wishes_120 : decode cX1_wishes 120 = .ok (.iload 4, 2) := dk_21 4 (dk_at dksX1_wishes_5 5 rfl rfl)
theorem dX1_wishes_122 : decode cX1_wishes 122 = .ok (.if_icmp .gt 6, 3) := dk_163 0 6 (dk_at dksX1_wishes_5 7 rfl rfl)
theorem dX1_wishes_125 : decode cX1_wishes 125 = .ok (.goto 10, 3) := dk_167 0 10 (dk_at dksX1_wishes_5 10 rfl rfl)
theorem dX1_wishes_128 : decode cX1_wishes 128 = .ok (.iload 5, 2) := dk_21 5 (dk_at dksX1_wishes_5 13 rfl rfl)
theorem dX1_wishes_130 : decode cX1_wishes 130 = .ok (.istore_n 3, 1) := dk_62 (dk_at dksX1_wishes_5 15 rfl rfl)
theorem dX1_wishes_131 : decode cX1_wishes 131 = .ok (.iload 6, 2) := dk_21 6 (dk_at dksX1_wishes_5 16 rfl rfl)
theorem dX1_wishes_133 : decode cX1_wishes 133 = .ok (.istore 4, 2) := dk_54 4 (dk_at dksX1_wishes_5 18 rfl rfl)
theorem dX1_wishes_135 : decode cX1_wishes 135 = .ok (.iinc 5 1, 3) := dk_132 5 1 (dk_at dksX1_wishes_5 20 rfl rfl)
theorem dX1_wishes_138 : decode cX1_wishes 138 = .ok (.goto (-95), 3) := dk_167 255 161 (dk_at dksX1_wishes_6 0 rfl rfl)
theorem dX1_wishes_141 : decode cX1_wishes 141 = .ok (.iload_n 3, 1) := dk_29 (dk_at dksX1_wishes_6 3 rfl rfl)
theorem dX1_wishes_142 : decode cX1_wishes 142 = .ok (.ireturn, 1) := dk_172 (dk_at dksX1_wishes_6 4 rfl rfl)
abbrev cX1_played : ByteArray := prog_1_method_25_code
def yX1_played : MethodName := ⟨RX1, "played", "(I)I"⟩
def dkwX1_played_2 : List UInt8 := [3, 167, 0, 14, 42, 180, 0, 75, 180, 0, 148, 27, 5, 100, 46, 172]
abbrev dktX1_played_2 : List UInt8 := dkwX1_played_2 ++ []
def dkwX1_played_1 : List UInt8 := [27, 154, 0, 10, 28, 184, 1, 16, 167, 0, 31, 27, 4, 160, 0, 15, 28, 158, 0, 7, 4, 167, 0, 18]
abbrev dktX1_played_1 : List UInt8 := dkwX1_played_1 ++ dktX1_played_2
def dkwX1_played_0 : List UInt8 := [27, 3, 4, 42, 180, 0, 46, 180, 0, 120, 96, 184, 0, 123, 154, 0, 5, 2, 172, 42, 182, 1, 13, 61]
abbrev dktX1_played_0 : List UInt8 := dkwX1_played_0 ++ dktX1_played_1
theorem dksX1_played_0 : cX1_played.data.toList.drop 0 = dktX1_played_0 := by decide +kernel
theorem dksX1_played_1 : cX1_played.data.toList.drop 24 = dktX1_played_1 := dk_seg dksX1_played_0 24 rfl rfl
theorem dksX1_played_2 : cX1_played.data.toList.drop 48 = dktX1_played_2 := dk_seg dksX1_played_1 24 rfl rfl
theorem dX1_played_0 : decode cX1_played 0 = .ok (.iload_n 1, 1) := dk_27 (dk_at dksX1_played_0 0 rfl rfl)
theorem dX1_played_1 : decode cX1_played 1 = .ok (.iconst 0, 1) := dk_3 (dk_at dksX1_played_0 1 rfl rfl)
theorem dX1_played_2 : decode cX1_played 2 = .ok (.iconst 1, 1) := dk_4 (dk_at dksX1_played_0 2 rfl rfl)
theorem dX1_played_3 : decode cX1_played 3 = .ok (.aload_n 0, 1) := dk_42 (dk_at dksX1_played_0 3 rfl rfl)
theorem dX1_played_4 : decode cX1_played 4 = .ok (.getfield 46, 3) := dk_180 0 46 (dk_at dksX1_played_0 4 rfl rfl)
theorem dX1_played_7 : decode cX1_played 7 = .ok (.getfield 120, 3) := dk_180 0 120 (dk_at dksX1_played_0 7 rfl rfl)
theorem dX1_played_10 : decode cX1_played 10 = .ok (.iadd, 1) := dk_96 (dk_at dksX1_played_0 10 rfl rfl)
theorem dX1_played_11 : decode cX1_played 11 = .ok (.invokestatic 123, 3) := dk_184 0 123 (dk_at dksX1_played_0 11 rfl rfl)
theorem dX1_played_14 : decode cX1_played 14 = .ok (.ifCond .ne 5, 3) := dk_154 0 5 (dk_at dksX1_played_0 14 rfl rfl)
theorem dX1_played_17 : decode cX1_played 17 = .ok (.iconst (-1), 1) := dk_2 (dk_at dksX1_played_0 17 rfl rfl)
theorem dX1_played_18 : decode cX1_played 18 = .ok (.ireturn, 1) := dk_172 (dk_at dksX1_played_0 18 rfl rfl)
theorem dX1_played_19 : decode cX1_played 19 = .ok (.aload_n 0, 1) := dk_42 (dk_at dksX1_played_0 19 rfl rfl)
theorem dX1_played_20 : decode cX1_played 20 = .ok (.invokevirtual 269, 3) := dk_182 1 13 (dk_at dksX1_played_0 20 rfl rfl)
theorem dX1_played_23 : decode cX1_played 23 = .ok (.istore_n 2, 1) := dk_61 (dk_at dksX1_played_0 23 rfl rfl)
theorem dX1_played_24 : decode cX1_played 24 = .ok (.iload_n 1, 1) := dk_27 (dk_at dksX1_played_1 0 rfl rfl)
theorem dX1_played_25 : decode cX1_played 25 = .ok (.ifCond .ne 10, 3) := dk_154 0 10 (dk_at dksX1_played_1 1 rfl rfl)
theorem dX1_played_28 : decode cX1_played 28 = .ok (.iload_n 2, 1) := dk_28 (dk_at dksX1_played_1 4 rfl rfl)
theorem dX1_played_29 : decode cX1_played 29 = .ok (.invokestatic 272, 3) := dk_184 1 16 (dk_at dksX1_played_1 5 rfl rfl)
theorem dX1_played_32 : decode cX1_played 32 = .ok (.goto 31, 3) := dk_167 0 31 (dk_at dksX1_played_1 8 rfl rfl)
theorem dX1_played_35 : decode cX1_played 35 = .ok (.iload_n 1, 1) := dk_27 (dk_at dksX1_played_1 11 rfl rfl)
theorem dX1_played_36 : decode cX1_played 36 = .ok (.iconst 1, 1) := dk_4 (dk_at dksX1_played_1 12 rfl rfl)
theorem dX1_played_37 : decode cX1_played 37 = .ok (.if_icmp .ne 15, 3) := dk_160 0 15 (dk_at dksX1_played_1 13 rfl rfl)
theorem dX1_played_40 : decode cX1_played 40 = .ok (.iload_n 2, 1) := dk_28 (dk_at dksX1_played_1 16 rfl rfl)
theorem dX1_played_41 : decode cX1_played 41 = .ok (.ifCond .le 7, 3) := dk_158 0 7 (dk_at dksX1_played_1 17 rfl rfl)
theorem dX1_played_44 : decode cX1_played 44 = .ok (.iconst 1, 1) := dk_4 (dk_at dksX1_played_1 20 rfl rfl)
theorem dX1_played_45 : decode cX1_played 45 = .ok (.goto 18, 3) := dk_167 0 18 (dk_at dksX1_played_1 21 rfl rfl)
theorem dX1_played_48 : decode cX1_played 48 = .ok (.iconst 0, 1) := dk_3 (dk_at dksX1_played_2 0 rfl rfl)
theorem dX1_played_49 : decode cX1_played 49 = .ok (.goto 14, 3) := dk_167 0 14 (dk_at dksX1_played_2 1 rfl rfl)
theorem dX1_played_52 : decode cX1_played 52 = .ok (.aload_n 0, 1) := dk_42 (dk_at dksX1_played_2 4 rfl rfl)
theorem dX1_played_53 : decode cX1_played 53 = .ok (.getfield 75, 3) := dk_180 0 75 (dk_at dksX1_played_2 5 rfl rfl)
theorem dX1_played_56 : decode cX1_played 56 = .ok (.getfield 148, 3) := dk_180 0 148 (dk_at dksX1_played_2 8 rfl rfl)
theorem dX1_played_59 : decode cX1_played 59 = .ok (.iload_n 1, 1) := dk_27 (dk_at dksX1_played_2 11 rfl rfl)
theorem dX1_played_60 : decode cX1_played 60 = .ok (.iconst 2, 1) := dk_5 (dk_at dksX1_played_2 12 rfl rfl)
theorem dX1_played_61 : decode cX1_played 61 = .ok (.isub, 1) := dk_100 (dk_at dksX1_played_2 13 rfl rfl)
theorem dX1_played_62 : decode cX1_played 62 = .ok (.iaload, 1) := dk_46 (dk_at dksX1_played_2 14 rfl rfl)
theorem dX1_played_63 : decode cX1_played 63 = .ok (.ireturn, 1) := dk_172 (dk_at dksX1_played_2 15 rfl rfl)
abbrev cX1_plays : ByteArray := prog_1_method_24_code
def yX1_plays : MethodName := ⟨RX1, "plays", "()I"⟩
def dkwX1_plays_5 : List UInt8 := [172]
abbrev dktX1_plays_5 : List UInt8 := dkwX1_plays_5 ++ []
def dkwX1_plays_4 : List UInt8 := [42, 43, 182, 1, 9, 153, 0, 6, 28, 116, 172, 42, 43, 182, 1, 5, 132, 2, 1, 167, 255, 163, 16, 156]
abbrev dktX1_plays_4 : List UInt8 := dkwX1_plays_4 ++ dktX1_plays_5
def dkwX1_plays_3 : List UInt8 := [180, 0, 75, 21, 4, 21, 5, 182, 0, 225, 4, 62, 132, 4, 1, 167, 255, 202, 29, 154, 0, 5, 28, 172]
abbrev dktX1_plays_3 : List UInt8 := dkwX1_plays_3 ++ dktX1_plays_4
def dkwX1_plays_2 : List UInt8 := [182, 0, 249, 54, 5, 21, 5, 42, 180, 0, 75, 180, 0, 148, 21, 4, 46, 160, 0, 6, 167, 0, 16, 42]
abbrev dktX1_plays_2 : List UInt8 := dkwX1_plays_2 ++ dktX1_plays_3
def dkwX1_plays_1 : List UInt8 := [163, 0, 93, 3, 62, 3, 54, 4, 21, 4, 42, 180, 0, 75, 180, 0, 120, 162, 0, 48, 42, 21, 4]
abbrev dktX1_plays_1 : List UInt8 := dkwX1_plays_1 ++ dktX1_plays_2
def dkwX1_plays_0 : List UInt8 := [42, 182, 0, 231, 87, 187, 0, 61, 89, 183, 0, 63, 76, 42, 43, 182, 1, 5, 4, 61, 28, 16, 100]
abbrev dktX1_plays_0 : List UInt8 := dkwX1_plays_0 ++ dktX1_plays_1
theorem dksX1_plays_0 : cX1_plays.data.toList.drop 0 = dktX1_plays_0 := by decide +kernel
theorem dksX1_plays_1 : cX1_plays.data.toList.drop 23 = dktX1_plays_1 := dk_seg dksX1_plays_0 23 rfl rfl
theorem dksX1_plays_2 : cX1_plays.data.toList.drop 46 = dktX1_plays_2 := dk_seg dksX1_plays_1 23 rfl rfl
theorem dksX1_plays_3 : cX1_plays.data.toList.drop 70 = dktX1_plays_3 := dk_seg dksX1_plays_2 24 rfl rfl
theorem dksX1_plays_4 : cX1_plays.data.toList.drop 94 = dktX1_plays_4 := dk_seg dksX1_plays_3 24 rfl rfl
theorem dksX1_plays_5 : cX1_plays.data.toList.drop 118 = dktX1_plays_5 := dk_seg dksX1_plays_4 24 rfl rfl
theorem dX1_plays_0 : decode cX1_plays 0 = .ok (.aload_n 0, 1) := dk_42 (dk_at dksX1_plays_0 0 rfl rfl)
theorem dX1_plays_1 : decode cX1_plays 1 = .ok (.invokevirtual 231, 3) := dk_182 0 231 (dk_at dksX1_plays_0 1 rfl rfl)
theorem dX1_plays_4 : decode cX1_plays 4 = .ok (.pop, 1) := dk_87 (dk_at dksX1_plays_0 4 rfl rfl)
theorem dX1_plays_5 : decode cX1_plays 5 = .ok (.new 61, 3) := dk_187 0 61 (dk_at dksX1_plays_0 5 rfl rfl)
theorem dX1_plays_8 : decode cX1_plays 8 = .ok (.dup, 1) := dk_89 (dk_at dksX1_plays_0 8 rfl rfl)
theorem dX1_plays_9 : decode cX1_plays 9 = .ok (.invokespecial 63, 3) := dk_183 0 63 (dk_at dksX1_plays_0 9 rfl rfl)
theorem dX1_plays_12 : decode cX1_plays 12 = .ok (.astore_n 1, 1) := dk_76 (dk_at dksX1_plays_0 12 rfl rfl)
theorem dX1_plays_13 : decode cX1_plays 13 = .ok (.aload_n 0, 1) := dk_42 (dk_at dksX1_plays_0 13 rfl rfl)
theorem dX1_plays_14 : decode cX1_plays 14 = .ok (.aload_n 1, 1) := dk_43 (dk_at dksX1_plays_0 14 rfl rfl)
theorem dX1_plays_15 : decode cX1_plays 15 = .ok (.invokevirtual 261, 3) := dk_182 1 5 (dk_at dksX1_plays_0 15 rfl rfl)
theorem dX1_plays_18 : decode cX1_plays 18 = .ok (.iconst 1, 1) := dk_4 (dk_at dksX1_plays_0 18 rfl rfl)
theorem dX1_plays_19 : decode cX1_plays 19 = .ok (.istore_n 2, 1) := dk_61 (dk_at dksX1_plays_0 19 rfl rfl)
theorem dX1_plays_20 : decode cX1_plays 20 = .ok (.iload_n 2, 1) := dk_28 (dk_at dksX1_plays_0 20 rfl rfl)
theorem dX1_plays_21 : decode cX1_plays 21 = .ok (.bipush 100, 2) := dk_16 100 (dk_at dksX1_plays_0 21 rfl rfl)
theorem dX1_plays_23 : decode cX1_plays 23 = .ok (.if_icmp .gt 93, 3) := dk_163 0 93 (dk_at dksX1_plays_1 0 rfl rfl)
theorem dX1_plays_26 : decode cX1_plays 26 = .ok (.iconst 0, 1) := dk_3 (dk_at dksX1_plays_1 3 rfl rfl)
theorem dX1_plays_27 : decode cX1_plays 27 = .ok (.istore_n 3, 1) := dk_62 (dk_at dksX1_plays_1 4 rfl rfl)
theorem dX1_plays_28 : decode cX1_plays 28 = .ok (.iconst 0, 1) := dk_3 (dk_at dksX1_plays_1 5 rfl rfl)
theorem dX1_plays_29 : decode cX1_plays 29 = .ok (.istore 4, 2) := dk_54 4 (dk_at dksX1_plays_1 6 rfl rfl)
theorem dX1_plays_31 : decode cX1_plays 31 = .ok (.iload 4, 2) := dk_21 4 (dk_at dksX1_plays_1 8 rfl rfl)
theorem dX1_plays_33 : decode cX1_plays 33 = .ok (.aload_n 0, 1) := dk_42 (dk_at dksX1_plays_1 10 rfl rfl)
theorem dX1_plays_34 : decode cX1_plays 34 = .ok (.getfield 75, 3) := dk_180 0 75 (dk_at dksX1_plays_1 11 rfl rfl)
theorem dX1_plays_37 : decode cX1_plays 37 = .ok (.getfield 120, 3) := dk_180 0 120 (dk_at dksX1_plays_1 14 rfl rfl)
theorem dX1_plays_40 : decode cX1_plays 40 = .ok (.if_icmp .ge 48, 3) := dk_162 0 48 (dk_at dksX1_plays_1 17 rfl rfl)
theorem dX1_plays_43 : decode cX1_plays 43 = .ok (.aload_n 0, 1) := dk_42 (dk_at dksX1_plays_1 20 rfl rfl)
theorem dX1_plays_44 : decode cX1_plays 44 = .ok (.iload 4, 2) := dk_21 4 (dk_at dksX1_plays_1 21 rfl rfl)
theorem dX1_plays_46 : decode cX1_plays 46 = .ok (.invokevirtual 249, 3) := dk_182 0 249 (dk_at dksX1_plays_2 0 rfl rfl)
theorem dX1_plays_49 : decode cX1_plays 49 = .ok (.istore 5, 2) := dk_54 5 (dk_at dksX1_plays_2 3 rfl rfl)
theorem dX1_plays_51 : decode cX1_plays 51 = .ok (.iload 5, 2) := dk_21 5 (dk_at dksX1_plays_2 5 rfl rfl)
theorem dX1_plays_53 : decode cX1_plays 53 = .ok (.aload_n 0, 1) := dk_42 (dk_at dksX1_plays_2 7 rfl rfl)
theorem dX1_plays_54 : decode cX1_plays 54 = .ok (.getfield 75, 3) := dk_180 0 75 (dk_at dksX1_plays_2 8 rfl rfl)
theorem dX1_plays_57 : decode cX1_plays 57 = .ok (.getfield 148, 3) := dk_180 0 148 (dk_at dksX1_plays_2 11 rfl rfl)
theorem dX1_plays_60 : decode cX1_plays 60 = .ok (.iload 4, 2) := dk_21 4 (dk_at dksX1_plays_2 14 rfl rfl)
theorem dX1_plays_62 : decode cX1_plays 62 = .ok (.iaload, 1) := dk_46 (dk_at dksX1_plays_2 16 rfl rfl)
theorem dX1_plays_63 : decode cX1_plays 63 = .ok (.if_icmp .ne 6, 3) := dk_160 0 6 (dk_at dksX1_plays_2 17 rfl rfl)
theorem dX1_plays_66 : decode cX1_plays 66 = .ok (.goto 16, 3) := dk_167 0 16 (dk_at dksX1_plays_2 20 rfl rfl)
theorem dX1_plays_69 : decode cX1_plays 69 = .ok (.aload_n 0, 1) := dk_42 (dk_at dksX1_plays_2 23 rfl rfl)
theorem dX1_plays_70 : decode cX1_plays 70 = .ok (.getfield 75, 3) := dk_180 0 75 (dk_at dksX1_plays_3 0 rfl rfl)
theorem dX1_plays_73 : decode cX1_plays 73 = .ok (.iload 4, 2) := dk_21 4 (dk_at dksX1_plays_3 3 rfl rfl)
theorem dX1_plays_75 : decode cX1_plays 75 = .ok (.iload 5, 2) := dk_21 5 (dk_at dksX1_plays_3 5 rfl rfl)
theorem dX1_plays_77 : decode cX1_plays 77 = .ok (.invokevirtual 225, 3) := dk_182 0 225 (dk_at dksX1_plays_3 7 rfl rfl)
theorem dX1_plays_80 : decode cX1_plays 80 = .ok (.iconst 1, 1) := dk_4 (dk_at dksX1_plays_3 10 rfl rfl)
theorem dX1_plays_81 : decode cX1_plays 81 = .ok (.istore_n 3, 1) := dk_62 (dk_at dksX1_plays_3 11 rfl rfl)
theorem dX1_plays_82 : decode cX1_plays 82 = .ok (.iinc 4 1, 3) := dk_132 4 1 (dk_at dksX1_plays_3 12 rfl rfl)
theorem dX1_plays_85 : decode cX1_plays 85 = .ok (.goto (-54), 3) := dk_167 255 202 (dk_at dksX1_plays_3 15 rfl rfl)
theorem dX1_plays_88 : decode cX1_plays 88 = .ok (.iload_n 3, 1) := dk_29 (dk_at dksX1_plays_3 18 rfl rfl)
theorem dX1_plays_89 : decode cX1_plays 89 = .ok (.ifCond .ne 5, 3) := dk_154 0 5 (dk_at dksX1_plays_3 19 rfl rfl)
theorem dX1_plays_92 : decode cX1_plays 92 = .ok (.iload_n 2, 1) := dk_28 (dk_at dksX1_plays_3 22 rfl rfl)
theorem dX1_plays_93 : decode cX1_plays 93 = .ok (.ireturn, 1) := dk_172 (dk_at dksX1_plays_3 23 rfl rfl)
theorem dX1_plays_94 : decode cX1_plays 94 = .ok (.aload_n 0, 1) := dk_42 (dk_at dksX1_plays_4 0 rfl rfl)
theorem dX1_plays_95 : decode cX1_plays 95 = .ok (.aload_n 1, 1) := dk_43 (dk_at dksX1_plays_4 1 rfl rfl)
theorem dX1_plays_96 : decode cX1_plays 96 = .ok (.invokevirtual 265, 3) := dk_182 1 9 (dk_at dksX1_plays_4 2 rfl rfl)
theorem dX1_plays_99 : decode cX1_plays 99 = .ok (.ifCond .eq 6, 3) := dk_153 0 6 (dk_at dksX1_plays_4 5 rfl rfl)
theorem dX1_plays_102 : decode cX1_plays 102 = .ok (.iload_n 2, 1) := dk_28 (dk_at dksX1_plays_4 8 rfl rfl)
theorem dX1_plays_103 : decode cX1_plays 103 = .ok (.ineg, 1) := dk_116 (dk_at dksX1_plays_4 9 rfl rfl)
theorem dX1_plays_104 : decode cX1_plays 104 = .ok (.ireturn, 1) := dk_172 (dk_at dksX1_plays_4 10 rfl rfl)
theorem dX1_plays_105 : decode cX1_plays 105 = .ok (.aload_n 0, 1) := dk_42 (dk_at dksX1_plays_4 11 rfl rfl)
theorem dX1_plays_106 : decode cX1_plays 106 = .ok (.aload_n 1, 1) := dk_43 (dk_at dksX1_plays_4 12 rfl rfl)
theorem dX1_plays_107 : decode cX1_plays 107 = .ok (.invokevirtual 261, 3) := dk_182 1 5 (dk_at dksX1_plays_4 13 rfl rfl)
theorem dX1_plays_110 : decode cX1_plays 110 = .ok (.iinc 2 1, 3) := dk_132 2 1 (dk_at dksX1_plays_4 16 rfl rfl)
theorem dX1_plays_113 : decode cX1_plays 113 = .ok (.goto (-93), 3) := dk_167 255 163 (dk_at dksX1_plays_4 19 rfl rfl)
theorem dX1_plays_116 : decode cX1_plays 116 = .ok (.bipush (-100), 2) := dk_16 156 (dk_at dksX1_plays_4 22 rfl rfl)
theorem dX1_plays_118 : decode cX1_plays 118 = .ok (.ireturn, 1) := dk_172 (dk_at dksX1_plays_5 0 rfl rfl)
abbrev cX1_keeps : ByteArray := prog_1_method_23_code
def yX1_keeps : MethodName := ⟨RX1, "keeps", "(Ljava/util/ArrayList;)V"⟩
def dkwX1_keeps_1 : List UInt8 := [180, 0, 120, 184, 0, 209, 43, 44, 182, 1, 1, 87, 177]
abbrev dktX1_keeps_1 : List UInt8 := dkwX1_keeps_1 ++ []
def dkwX1_keeps_0 : List UInt8 := [42, 180, 0, 75, 180, 0, 120, 188, 10, 77, 42, 180, 0, 75, 180, 0, 148, 3, 44, 3, 42, 180, 0, 75]
abbrev dktX1_keeps_0 : List UInt8 := dkwX1_keeps_0 ++ dktX1_keeps_1
theorem dksX1_keeps_0 : cX1_keeps.data.toList.drop 0 = dktX1_keeps_0 := by decide +kernel
theorem dksX1_keeps_1 : cX1_keeps.data.toList.drop 24 = dktX1_keeps_1 := dk_seg dksX1_keeps_0 24 rfl rfl
theorem dX1_keeps_0 : decode cX1_keeps 0 = .ok (.aload_n 0, 1) := dk_42 (dk_at dksX1_keeps_0 0 rfl rfl)
theorem dX1_keeps_1 : decode cX1_keeps 1 = .ok (.getfield 75, 3) := dk_180 0 75 (dk_at dksX1_keeps_0 1 rfl rfl)
theorem dX1_keeps_4 : decode cX1_keeps 4 = .ok (.getfield 120, 3) := dk_180 0 120 (dk_at dksX1_keeps_0 4 rfl rfl)
theorem dX1_keeps_7 : decode cX1_keeps 7 = .ok (.newarray .int, 2) := dk_188_10 (dk_at dksX1_keeps_0 7 rfl rfl)
theorem dX1_keeps_9 : decode cX1_keeps 9 = .ok (.astore_n 2, 1) := dk_77 (dk_at dksX1_keeps_0 9 rfl rfl)
theorem dX1_keeps_10 : decode cX1_keeps 10 = .ok (.aload_n 0, 1) := dk_42 (dk_at dksX1_keeps_0 10 rfl rfl)
theorem dX1_keeps_11 : decode cX1_keeps 11 = .ok (.getfield 75, 3) := dk_180 0 75 (dk_at dksX1_keeps_0 11 rfl rfl)
theorem dX1_keeps_14 : decode cX1_keeps 14 = .ok (.getfield 148, 3) := dk_180 0 148 (dk_at dksX1_keeps_0 14 rfl rfl)
theorem dX1_keeps_17 : decode cX1_keeps 17 = .ok (.iconst 0, 1) := dk_3 (dk_at dksX1_keeps_0 17 rfl rfl)
theorem dX1_keeps_18 : decode cX1_keeps 18 = .ok (.aload_n 2, 1) := dk_44 (dk_at dksX1_keeps_0 18 rfl rfl)
theorem dX1_keeps_19 : decode cX1_keeps 19 = .ok (.iconst 0, 1) := dk_3 (dk_at dksX1_keeps_0 19 rfl rfl)
theorem dX1_keeps_20 : decode cX1_keeps 20 = .ok (.aload_n 0, 1) := dk_42 (dk_at dksX1_keeps_0 20 rfl rfl)
theorem dX1_keeps_21 : decode cX1_keeps 21 = .ok (.getfield 75, 3) := dk_180 0 75 (dk_at dksX1_keeps_0 21 rfl rfl)
theorem dX1_keeps_24 : decode cX1_keeps 24 = .ok (.getfield 120, 3) := dk_180 0 120 (dk_at dksX1_keeps_1 0 rfl rfl)
theorem dX1_keeps_27 : decode cX1_keeps 27 = .ok (.invokestatic 209, 3) := dk_184 0 209 (dk_at dksX1_keeps_1 3 rfl rfl)
theorem dX1_keeps_30 : decode cX1_keeps 30 = .ok (.aload_n 1, 1) := dk_43 (dk_at dksX1_keeps_1 6 rfl rfl)
theorem dX1_keeps_31 : decode cX1_keeps 31 = .ok (.aload_n 2, 1) := dk_44 (dk_at dksX1_keeps_1 7 rfl rfl)
theorem dX1_keeps_32 : decode cX1_keeps 32 = .ok (.invokevirtual 257, 3) := dk_182 1 1 (dk_at dksX1_keeps_1 8 rfl rfl)
theorem dX1_keeps_35 : decode cX1_keeps 35 = .ok (.pop, 1) := dk_87 (dk_at dksX1_keeps_1 11 rfl rfl)
theorem dX1_keeps_36 : decode cX1_keeps 36 = .ok (.return_, 1) := dk_177 (dk_at dksX1_keeps_1 12 rfl rfl)
abbrev cX1_isThere : ByteArray := prog_1_method_22_code
def yX1_isThere : MethodName := ⟨RX1, "isThere", "(Ljava/util/ArrayList;)Z"⟩
def dkwX1_isThere_3 : List UInt8 := [153, 0, 5, 4, 172, 132, 2, 1, 167, 255, 182, 3, 172]
abbrev dktX1_isThere_3 : List UInt8 := dkwX1_isThere_3 ++ []
def dkwX1_isThere_2 : List UInt8 := [180, 0, 148, 21, 4, 46, 160, 0, 7, 4, 167, 0, 4, 3, 62, 132, 4, 1, 167, 255, 207, 29]
abbrev dktX1_isThere_2 : List UInt8 := dkwX1_isThere_2 ++ dktX1_isThere_3
def dkwX1_isThere_1 : List UInt8 := [162, 0, 43, 29, 153, 0, 39, 43, 28, 182, 0, 252, 192, 1, 0, 21, 4, 46, 42, 180, 0, 75]
abbrev dktX1_isThere_1 : List UInt8 := dkwX1_isThere_1 ++ dktX1_isThere_2
def dkwX1_isThere_0 : List UInt8 := [3, 61, 28, 43, 182, 0, 130, 162, 0, 72, 4, 62, 3, 54, 4, 21, 4, 42, 180, 0, 75, 180, 0, 120]
abbrev dktX1_isThere_0 : List UInt8 := dkwX1_isThere_0 ++ dktX1_isThere_1
theorem dksX1_isThere_0 : cX1_isThere.data.toList.drop 0 = dktX1_isThere_0 := by decide +kernel
theorem dksX1_isThere_1 : cX1_isThere.data.toList.drop 24 = dktX1_isThere_1 := dk_seg dksX1_isThere_0 24 rfl rfl
theorem dksX1_isThere_2 : cX1_isThere.data.toList.drop 46 = dktX1_isThere_2 := dk_seg dksX1_isThere_1 22 rfl rfl
theorem dksX1_isThere_3 : cX1_isThere.data.toList.drop 68 = dktX1_isThere_3 := dk_seg dksX1_isThere_2 22 rfl rfl
theorem dX1_isThere_0 : decode cX1_isThere 0 = .ok (.iconst 0, 1) := dk_3 (dk_at dksX1_isThere_0 0 rfl rfl)
theorem dX1_isThere_1 : decode cX1_isThere 1 = .ok (.istore_n 2, 1) := dk_61 (dk_at dksX1_isThere_0 1 rfl rfl)
theorem dX1_isThere_2 : decode cX1_isThere 2 = .ok (.iload_n 2, 1) := dk_28 (dk_at dksX1_isThere_0 2 rfl rfl)
theorem dX1_isThere_3 : decode cX1_isThere 3 = .ok (.aload_n 1, 1) := dk_43 (dk_at dksX1_isThere_0 3 rfl rfl)
theorem dX1_isThere_4 : decode cX1_isThere 4 = .ok (.invokevirtual 130, 3) := dk_182 0 130 (dk_at dksX1_isThere_0 4 rfl rfl)
theorem dX1_isThere_7 : decode cX1_isThere 7 = .ok (.if_icmp .ge 72, 3) := dk_162 0 72 (dk_at dksX1_isThere_0 7 rfl rfl)
theorem dX1_isThere_10 : decode cX1_isThere 10 = .ok (.iconst 1, 1) := dk_4 (dk_at dksX1_isThere_0 10 rfl rfl)
theorem dX1_isThere_11 : decode cX1_isThere 11 = .ok (.istore_n 3, 1) := dk_62 (dk_at dksX1_isThere_0 11 rfl rfl)
theorem dX1_isThere_12 : decode cX1_isThere 12 = .ok (.iconst 0, 1) := dk_3 (dk_at dksX1_isThere_0 12 rfl rfl)
theorem dX1_isThere_13 : decode cX1_isThere 13 = .ok (.istore 4, 2) := dk_54 4 (dk_at dksX1_isThere_0 13 rfl rfl)
theorem dX1_isThere_15 : decode cX1_isThere 15 = .ok (.iload 4, 2) := dk_21 4 (dk_at dksX1_isThere_0 15 rfl rfl)
theorem dX1_isThere_17 : decode cX1_isThere 17 = .ok (.aload_n 0, 1) := dk_42 (dk_at dksX1_isThere_0 17 rfl rfl)
theorem dX1_isThere_18 : decode cX1_isThere 18 = .ok (.getfield 75, 3) := dk_180 0 75 (dk_at dksX1_isThere_0 18 rfl rfl)
theorem dX1_isThere_21 : decode cX1_isThere 21 = .ok (.getfield 120, 3) := dk_180 0 120 (dk_at dksX1_isThere_0 21 rfl rfl)
theorem dX1_isThere_24 : decode cX1_isThere 24 = .ok (.if_icmp .ge 43, 3) := dk_162 0 43 (dk_at dksX1_isThere_1 0 rfl rfl)
theorem dX1_isThere_27 : decode cX1_isThere 27 = .ok (.iload_n 3, 1) := dk_29 (dk_at dksX1_isThere_1 3 rfl rfl)
theorem dX1_isThere_28 : decode cX1_isThere 28 = .ok (.ifCond .eq 39, 3) := dk_153 0 39 (dk_at dksX1_isThere_1 4 rfl rfl)
theorem dX1_isThere_31 : decode cX1_isThere 31 = .ok (.aload_n 1, 1) := dk_43 (dk_at dksX1_isThere_1 7 rfl rfl)
theorem dX1_isThere_32 : decode cX1_isThere 32 = .ok (.iload_n 2, 1) := dk_28 (dk_at dksX1_isThere_1 8 rfl rfl)
theorem dX1_isThere_33 : decode cX1_isThere 33 = .ok (.invokevirtual 252, 3) := dk_182 0 252 (dk_at dksX1_isThere_1 9 rfl rfl)
theorem dX1_isThere_36 : decode cX1_isThere 36 = .ok (.checkcast 256, 3) := dk_192 1 0 (dk_at dksX1_isThere_1 12 rfl rfl)
theorem dX1_isThere_39 : decode cX1_isThere 39 = .ok (.iload 4, 2) := dk_21 4 (dk_at dksX1_isThere_1 15 rfl rfl)
theorem dX1_isThere_41 : decode cX1_isThere 41 = .ok (.iaload, 1) := dk_46 (dk_at dksX1_isThere_1 17 rfl rfl)
theorem dX1_isThere_42 : decode cX1_isThere 42 = .ok (.aload_n 0, 1) := dk_42 (dk_at dksX1_isThere_1 18 rfl rfl)
theorem dX1_isThere_43 : decode cX1_isThere 43 = .ok (.getfield 75, 3) := dk_180 0 75 (dk_at dksX1_isThere_1 19 rfl rfl)
theorem dX1_isThere_46 : decode cX1_isThere 46 = .ok (.getfield 148, 3) := dk_180 0 148 (dk_at dksX1_isThere_2 0 rfl rfl)
theorem dX1_isThere_49 : decode cX1_isThere 49 = .ok (.iload 4, 2) := dk_21 4 (dk_at dksX1_isThere_2 3 rfl rfl)
theorem dX1_isThere_51 : decode cX1_isThere 51 = .ok (.iaload, 1) := dk_46 (dk_at dksX1_isThere_2 5 rfl rfl)
theorem dX1_isThere_52 : decode cX1_isThere 52 = .ok (.if_icmp .ne 7, 3) := dk_160 0 7 (dk_at dksX1_isThere_2 6 rfl rfl)
theorem dX1_isThere_55 : decode cX1_isThere 55 = .ok (.iconst 1, 1) := dk_4 (dk_at dksX1_isThere_2 9 rfl rfl)
theorem dX1_isThere_56 : decode cX1_isThere 56 = .ok (.goto 4, 3) := dk_167 0 4 (dk_at dksX1_isThere_2 10 rfl rfl)
theorem dX1_isThere_59 : decode cX1_isThere 59 = .ok (.iconst 0, 1) := dk_3 (dk_at dksX1_isThere_2 13 rfl rfl)
theorem dX1_isThere_60 : decode cX1_isThere 60 = .ok (.istore_n 3, 1) := dk_62 (dk_at dksX1_isThere_2 14 rfl rfl)
theorem dX1_isThere_61 : decode cX1_isThere 61 = .ok (.iinc 4 1, 3) := dk_132 4 1 (dk_at dksX1_isThere_2 15 rfl rfl)
theorem dX1_isThere_64 : decode cX1_isThere 64 = .ok (.goto (-49), 3) := dk_167 255 207 (dk_at dksX1_isThere_2 18 rfl rfl)
theorem dX1_isThere_67 : decode cX1_isThere 67 = .ok (.iload_n 3, 1) := dk_29 (dk_at dksX1_isThere_2 21 rfl rfl)
theorem dX1_isThere_68 : decode cX1_isThere 68 = .ok (.ifCond .eq 5, 3) := dk_153 0 5 (dk_at dksX1_isThere_3 0 rfl rfl)
theorem dX1_isThere_71 : decode cX1_isThere 71 = .ok (.iconst 1, 1) := dk_4 (dk_at dksX1_isThere_3 3 rfl rfl)
theorem dX1_isThere_72 : decode cX1_isThere 72 = .ok (.ireturn, 1) := dk_172 (dk_at dksX1_isThere_3 4 rfl rfl)
theorem dX1_isThere_73 : decode cX1_isThere 73 = .ok (.iinc 2 1, 3) := dk_132 2 1 (dk_at dksX1_isThere_3 5 rfl rfl)
theorem dX1_isThere_76 : decode cX1_isThere 76 = .ok (.goto (-74), 3) := dk_167 255 182 (dk_at dksX1_isThere_3 8 rfl rfl)
theorem dX1_isThere_79 : decode cX1_isThere 79 = .ok (.iconst 0, 1) := dk_3 (dk_at dksX1_isThere_3 11 rfl rfl)
theorem dX1_isThere_80 : decode cX1_isThere 80 = .ok (.ireturn, 1) := dk_172 (dk_at dksX1_isThere_3 12 rfl rfl)
abbrev cX1_first : ByteArray := prog_1_method_27_code
def yX1_first : MethodName := ⟨RX1, "first", "()I"⟩
def dkwX1_first_5 : List UInt8 := [21, 4, 61, 132, 3, 1, 167, 255, 147, 27, 172]
abbrev dktX1_first_5 : List UInt8 := dkwX1_first_5 ++ []
def dkwX1_first_4 : List UInt8 := [4, 29, 120, 130, 181, 0, 219, 27, 2, 159, 0, 12, 21, 4, 28, 163, 0, 6, 167, 0, 8, 29, 60]
abbrev dktX1_first_4 : List UInt8 := dkwX1_first_4 ++ dktX1_first_5
def dkwX1_first_3 : List UInt8 := [180, 0, 75, 42, 180, 0, 71, 182, 0, 198, 2, 182, 0, 235, 54, 4, 42, 180, 0, 75, 89, 180, 0, 219]
abbrev dktX1_first_3 : List UInt8 := dkwX1_first_3 ++ dktX1_first_4
def dkwX1_first_2 : List UInt8 := [153, 0, 6, 167, 0, 69, 42, 180, 0, 75, 89, 180, 0, 219, 4, 29, 120, 130, 181, 0, 219, 42]
abbrev dktX1_first_2 : List UInt8 := dkwX1_first_2 ++ dktX1_first_3
def dkwX1_first_1 : List UInt8 := [180, 0, 75, 180, 0, 141, 29, 50, 182, 0, 215, 153, 0, 83, 42, 180, 0, 75, 29, 182, 0, 157]
abbrev dktX1_first_1 : List UInt8 := dkwX1_first_1 ++ dktX1_first_2
def dkwX1_first_0 : List UInt8 := [42, 182, 0, 231, 87, 2, 60, 3, 61, 3, 62, 29, 42, 180, 0, 75, 180, 0, 120, 162, 0, 104, 42]
abbrev dktX1_first_0 : List UInt8 := dkwX1_first_0 ++ dktX1_first_1
theorem dksX1_first_0 : cX1_first.data.toList.drop 0 = dktX1_first_0 := by decide +kernel
theorem dksX1_first_1 : cX1_first.data.toList.drop 23 = dktX1_first_1 := dk_seg dksX1_first_0 23 rfl rfl
theorem dksX1_first_2 : cX1_first.data.toList.drop 45 = dktX1_first_2 := dk_seg dksX1_first_1 22 rfl rfl
theorem dksX1_first_3 : cX1_first.data.toList.drop 67 = dktX1_first_3 := dk_seg dksX1_first_2 22 rfl rfl
theorem dksX1_first_4 : cX1_first.data.toList.drop 91 = dktX1_first_4 := dk_seg dksX1_first_3 24 rfl rfl
theorem dksX1_first_5 : cX1_first.data.toList.drop 114 = dktX1_first_5 := dk_seg dksX1_first_4 23 rfl rfl
theorem dX1_first_0 : decode cX1_first 0 = .ok (.aload_n 0, 1) := dk_42 (dk_at dksX1_first_0 0 rfl rfl)
theorem dX1_first_1 : decode cX1_first 1 = .ok (.invokevirtual 231, 3) := dk_182 0 231 (dk_at dksX1_first_0 1 rfl rfl)
theorem dX1_first_4 : decode cX1_first 4 = .ok (.pop, 1) := dk_87 (dk_at dksX1_first_0 4 rfl rfl)
theorem dX1_first_5 : decode cX1_first 5 = .ok (.iconst (-1), 1) := dk_2 (dk_at dksX1_first_0 5 rfl rfl)
theorem dX1_first_6 : decode cX1_first 6 = .ok (.istore_n 1, 1) := dk_60 (dk_at dksX1_first_0 6 rfl rfl)
theorem dX1_first_7 : decode cX1_first 7 = .ok (.iconst 0, 1) := dk_3 (dk_at dksX1_first_0 7 rfl rfl)
theorem dX1_first_8 : decode cX1_first 8 = .ok (.istore_n 2, 1) := dk_61 (dk_at dksX1_first_0 8 rfl rfl)
theorem dX1_first_9 : decode cX1_first 9 = .ok (.iconst 0, 1) := dk_3 (dk_at dksX1_first_0 9 rfl rfl)
theorem dX1_first_10 : decode cX1_first 10 = .ok (.istore_n 3, 1) := dk_62 (dk_at dksX1_first_0 10 rfl rfl)
theorem dX1_first_11 : decode cX1_first 11 = .ok (.iload_n 3, 1) := dk_29 (dk_at dksX1_first_0 11 rfl rfl)
theorem dX1_first_12 : decode cX1_first 12 = .ok (.aload_n 0, 1) := dk_42 (dk_at dksX1_first_0 12 rfl rfl)
theorem dX1_first_13 : decode cX1_first 13 = .ok (.getfield 75, 3) := dk_180 0 75 (dk_at dksX1_first_0 13 rfl rfl)
theorem dX1_first_16 : decode cX1_first 16 = .ok (.getfield 120, 3) := dk_180 0 120 (dk_at dksX1_first_0 16 rfl rfl)
theorem dX1_first_19 : decode cX1_first 19 = .ok (.if_icmp .ge 104, 3) := dk_162 0 104 (dk_at dksX1_first_0 19 rfl rfl)
theorem dX1_first_22 : decode cX1_first 22 = .ok (.aload_n 0, 1) := dk_42 (dk_at dksX1_first_0 22 rfl rfl)
theorem dX1_first_23 : decode cX1_first 23 = .ok (.getfield 75, 3) := dk_180 0 75 (dk_at dksX1_first_1 0 rfl rfl)
theorem dX1_first_26 : decode cX1_first 26 = .ok (.getfield 141, 3) := dk_180 0 141 (dk_at dksX1_first_1 3 rfl rfl)
theorem dX1_first_29 : decode cX1_first 29 = .ok (.iload_n 3, 1) := dk_29 (dk_at dksX1_first_1 6 rfl rfl)
theorem dX1_first_30 : decode cX1_first 30 = .ok (.aaload, 1) := dk_50 (dk_at dksX1_first_1 7 rfl rfl)
theorem dX1_first_31 : decode cX1_first 31 = .ok (.invokevirtual 215, 3) := dk_182 0 215 (dk_at dksX1_first_1 8 rfl rfl)
theorem dX1_first_34 : decode cX1_first 34 = .ok (.ifCond .eq 83, 3) := dk_153 0 83 (dk_at dksX1_first_1 11 rfl rfl)
theorem dX1_first_37 : decode cX1_first 37 = .ok (.aload_n 0, 1) := dk_42 (dk_at dksX1_first_1 14 rfl rfl)
theorem dX1_first_38 : decode cX1_first 38 = .ok (.getfield 75, 3) := dk_180 0 75 (dk_at dksX1_first_1 15 rfl rfl)
theorem dX1_first_41 : decode cX1_first 41 = .ok (.iload_n 3, 1) := dk_29 (dk_at dksX1_first_1 18 rfl rfl)
theorem dX1_first_42 : decode cX1_first 42 = .ok (.invokevirtual 157, 3) := dk_182 0 157 (dk_at dksX1_first_1 19 rfl rfl)
theorem dX1_first_45 : decode cX1_first 45 = .ok (.ifCond .eq 6, 3) := dk_153 0 6 (dk_at dksX1_first_2 0 rfl rfl)
theorem dX1_first_48 : decode cX1_first 48 = .ok (.goto 69, 3) := dk_167 0 69 (dk_at dksX1_first_2 3 rfl rfl)
theorem dX1_first_51 : decode cX1_first 51 = .ok (.aload_n 0, 1) := dk_42 (dk_at dksX1_first_2 6 rfl rfl)
theorem dX1_first_52 : decode cX1_first 52 = .ok (.getfield 75, 3) := dk_180 0 75 (dk_at dksX1_first_2 7 rfl rfl)
theorem dX1_first_55 : decode cX1_first 55 = .ok (.dup, 1) := dk_89 (dk_at dksX1_first_2 10 rfl rfl)
theorem dX1_first_56 : decode cX1_first 56 = .ok (.getfield 219, 3) := dk_180 0 219 (dk_at dksX1_first_2 11 rfl rfl)
theorem dX1_first_59 : decode cX1_first 59 = .ok (.iconst 1, 1) := dk_4 (dk_at dksX1_first_2 14 rfl rfl)
theorem dX1_first_60 : decode cX1_first 60 = .ok (.iload_n 3, 1) := dk_29 (dk_at dksX1_first_2 15 rfl rfl)
theorem dX1_first_61 : decode cX1_first 61 = .ok (.ishl, 1) := dk_120 (dk_at dksX1_first_2 16 rfl rfl)
theorem dX1_first_62 : decode cX1_first 62 = .ok (.ixor, 1) := dk_130 (dk_at dksX1_first_2 17 rfl rfl)
theorem dX1_first_63 : decode cX1_first 63 = .ok (.putfield 219, 3) := dk_181 0 219 (dk_at dksX1_first_2 18 rfl rfl)
theorem dX1_first_66 : decode cX1_first 66 = .ok (.aload_n 0, 1) := dk_42 (dk_at dksX1_first_2 21 rfl rfl)
theorem dX1_first_67 : decode cX1_first 67 = .ok (.getfield 75, 3) := dk_180 0 75 (dk_at dksX1_first_3 0 rfl rfl)
theorem dX1_first_70 : decode cX1_first 70 = .ok (.aload_n 0, 1) := dk_42 (dk_at dksX1_first_3 3 rfl rfl)
theorem dX1_first_71 : decode cX1_first 71 = .ok (.getfield 71, 3) := dk_180 0 71 (dk_at dksX1_first_3 4 rfl rfl)
theorem dX1_first_74 : decode cX1_first 74 = .ok (.invokevirtual 198, 3) := dk_182 0 198 (dk_at dksX1_first_3 7 rfl rfl)
theorem dX1_first_77 : decode cX1_first 77 = .ok (.iconst (-1), 1) := dk_2 (dk_at dksX1_first_3 10 rfl rfl)
theorem dX1_first_78 : decode cX1_first 78 = .ok (.invokevirtual 235, 3) := dk_182 0 235 (dk_at dksX1_first_3 11 rfl rfl)
theorem dX1_first_81 : decode cX1_first 81 = .ok (.istore 4, 2) := dk_54 4 (dk_at dksX1_first_3 14 rfl rfl)
theorem dX1_first_83 : decode cX1_first 83 = .ok (.aload_n 0, 1) := dk_42 (dk_at dksX1_first_3 16 rfl rfl)
theorem dX1_first_84 : decode cX1_first 84 = .ok (.getfield 75, 3) := dk_180 0 75 (dk_at dksX1_first_3 17 rfl rfl)
theorem dX1_first_87 : decode cX1_first 87 = .ok (.dup, 1) := dk_89 (dk_at dksX1_first_3 20 rfl rfl)
theorem dX1_first_88 : decode cX1_first 88 = .ok (.getfield 219, 3) := dk_180 0 219 (dk_at dksX1_first_3 21 rfl rfl)
theorem dX1_first_91 : decode cX1_first 91 = .ok (.iconst 1, 1) := dk_4 (dk_at dksX1_first_4 0 rfl rfl)
theorem dX1_first_92 : decode cX1_first 92 = .ok (.iload_n 3, 1) := dk_29 (dk_at dksX1_first_4 1 rfl rfl)
theorem dX1_first_93 : decode cX1_first 93 = .ok (.ishl, 1) := dk_120 (dk_at dksX1_first_4 2 rfl rfl)
theorem dX1_first_94 : decode cX1_first 94 = .ok (.ixor, 1) := dk_130 (dk_at dksX1_first_4 3 rfl rfl)
theorem dX1_first_95 : decode cX1_first 95 = .ok (.putfield 219, 3) := dk_181 0 219 (dk_at dksX1_first_4 4 rfl rfl)
theorem dX1_first_98 : decode cX1_first 98 = .ok (.iload_n 1, 1) := dk_27 (dk_at dksX1_first_4 7 rfl rfl)
theorem dX1_first_99 : decode cX1_first 99 = .ok (.iconst (-1), 1) := dk_2 (dk_at dksX1_first_4 8 rfl rfl)
theorem dX1_first_100 : decode cX1_first 100 = .ok (.if_icmp .eq 12, 3) := dk_159 0 12 (dk_at dksX1_first_4 9 rfl rfl)
theorem dX1_first_103 : decode cX1_first 103 = .ok (.iload 4, 2) := dk_21 4 (dk_at dksX1_first_4 12 rfl rfl)
theorem dX1_first_105 : decode cX1_first 105 = .ok (.iload_n 2, 1) := dk_28 (dk_at dksX1_first_4 14 rfl rfl)
theorem dX1_first_106 : decode cX1_first 106 = .ok (.if_icmp .gt 6, 3) := dk_163 0 6 (dk_at dksX1_first_4 15 rfl rfl)
theorem dX1_first_109 : decode cX1_first 109 = .ok (.goto 8, 3) := dk_167 0 8 (dk_at dksX1_first_4 18 rfl rfl)
theorem dX1_first_112 : decode cX1_first 112 = .ok (.iload_n 3, 1) := dk_29 (dk_at dksX1_first_4 21 rfl rfl)
theorem dX1_first_113 : decode cX1_first 113 = .ok (.istore_n 1, 1) := dk_60 (dk_at dksX1_first_4 22 rfl rfl)
theorem dX1_first_114 : decode cX1_first 114 = .ok (.iload 4, 2) := dk_21 4 (dk_at dksX1_first_5 0 rfl rfl)
theorem dX1_first_116 : decode cX1_first 116 = .ok (.istore_n 2, 1) := dk_61 (dk_at dksX1_first_5 2 rfl rfl)
theorem dX1_first_117 : decode cX1_first 117 = .ok (.iinc 3 1, 3) := dk_132 3 1 (dk_at dksX1_first_5 3 rfl rfl)
theorem dX1_first_120 : decode cX1_first 120 = .ok (.goto (-109), 3) := dk_167 255 147 (dk_at dksX1_first_5 6 rfl rfl)
theorem dX1_first_123 : decode cX1_first 123 = .ok (.iload_n 1, 1) := dk_27 (dk_at dksX1_first_5 9 rfl rfl)
theorem dX1_first_124 : decode cX1_first 124 = .ok (.ireturn, 1) := dk_172 (dk_at dksX1_first_5 10 rfl rfl)
abbrev cX1_share : ByteArray := prog_1_method_30_code
def yX1_share : MethodName := ⟨RX1, "share", "(II)I"⟩
def dkwX1_share_7 : List UInt8 := [172]
abbrev dktX1_share_7 : List UInt8 := dkwX1_share_7 ++ []
def dkwX1_share_6 : List UInt8 := [54, 6, 167, 255, 236, 28, 154, 0, 11, 21, 4, 21, 5, 108, 167, 0, 10, 29, 184, 1, 34, 21, 5, 108]
abbrev dktX1_share_6 : List UInt8 := dkwX1_share_6 ++ dktX1_share_7
def dkwX1_share_5 : List UInt8 := [29, 184, 1, 34, 54, 6, 21, 6, 153, 0, 21, 21, 5, 21, 6, 112, 54, 7, 21, 6, 54, 5, 21, 7]
abbrev dktX1_share_5 : List UInt8 := dkwX1_share_5 ++ dktX1_share_6
def dkwX1_share_4 : List UInt8 := [180, 0, 81, 21, 5, 46, 100, 104, 96, 54, 4, 132, 5, 1, 167, 255, 190, 21, 4, 184, 1, 16, 54, 5]
abbrev dktX1_share_4 : List UInt8 := dkwX1_share_4 ++ dktX1_share_5
def dkwX1_share_3 : List UInt8 := [184, 1, 31, 100, 4, 100, 184, 1, 34, 104, 42, 180, 0, 81, 21, 5, 4, 27, 120, 128, 46, 42]
abbrev dktX1_share_3 : List UInt8 := dkwX1_share_3 ++ dktX1_share_4
def dkwX1_share_2 : List UInt8 := [21, 5, 27, 122, 4, 126, 154, 0, 49, 21, 4, 21, 5, 184, 1, 31, 184, 1, 34, 29, 21, 5]
abbrev dktX1_share_2 : List UInt8 := dkwX1_share_2 ++ dktX1_share_3
def dkwX1_share_1 : List UInt8 := [180, 0, 39, 180, 0, 127, 182, 0, 130, 62, 3, 54, 4, 3, 54, 5, 21, 5, 4, 29, 120, 162, 0, 64]
abbrev dktX1_share_1 : List UInt8 := dkwX1_share_1 ++ dktX1_share_2
def dkwX1_share_0 : List UInt8 := [42, 27, 182, 0, 160, 153, 0, 12, 28, 3, 4, 184, 0, 123, 154, 0, 5, 2, 172, 42, 182, 1, 28, 42]
abbrev dktX1_share_0 : List UInt8 := dkwX1_share_0 ++ dktX1_share_1
theorem dksX1_share_0 : cX1_share.data.toList.drop 0 = dktX1_share_0 := by decide +kernel
theorem dksX1_share_1 : cX1_share.data.toList.drop 24 = dktX1_share_1 := dk_seg dksX1_share_0 24 rfl rfl
theorem dksX1_share_2 : cX1_share.data.toList.drop 48 = dktX1_share_2 := dk_seg dksX1_share_1 24 rfl rfl
theorem dksX1_share_3 : cX1_share.data.toList.drop 70 = dktX1_share_3 := dk_seg dksX1_share_2 22 rfl rfl
theorem dksX1_share_4 : cX1_share.data.toList.drop 92 = dktX1_share_4 := dk_seg dksX1_share_3 22 rfl rfl
theorem dksX1_share_5 : cX1_share.data.toList.drop 116 = dktX1_share_5 := dk_seg dksX1_share_4 24 rfl rfl
theorem dksX1_share_6 : cX1_share.data.toList.drop 140 = dktX1_share_6 := dk_seg dksX1_share_5 24 rfl rfl
theorem dksX1_share_7 : cX1_share.data.toList.drop 164 = dktX1_share_7 := dk_seg dksX1_share_6 24 rfl rfl
theorem dX1_share_0 : decode cX1_share 0 = .ok (.aload_n 0, 1) := dk_42 (dk_at dksX1_share_0 0 rfl rfl)
theorem dX1_share_1 : decode cX1_share 1 = .ok (.iload_n 1, 1) := dk_27 (dk_at dksX1_share_0 1 rfl rfl)
theorem dX1_share_2 : decode cX1_share 2 = .ok (.invokevirtual 160, 3) := dk_182 0 160 (dk_at dksX1_share_0 2 rfl rfl)
theorem dX1_share_5 : decode cX1_share 5 = .ok (.ifCond .eq 12, 3) := dk_153 0 12 (dk_at dksX1_share_0 5 rfl rfl)
theorem dX1_share_8 : decode cX1_share 8 = .ok (.iload_n 2, 1) := dk_28 (dk_at dksX1_share_0 8 rfl rfl)
theorem dX1_share_9 : decode cX1_share 9 = .ok (.iconst 0, 1) := dk_3 (dk_at dksX1_share_0 9 rfl rfl)
theorem dX1_share_10 : decode cX1_share 10 = .ok (.iconst 1, 1) := dk_4 (dk_at dksX1_share_0 10 rfl rfl)
theorem dX1_share_11 : decode cX1_share 11 = .ok (.invokestatic 123, 3) := dk_184 0 123 (dk_at dksX1_share_0 11 rfl rfl)
theorem dX1_share_14 : decode cX1_share 14 = .ok (.ifCond .ne 5, 3) := dk_154 0 5 (dk_at dksX1_share_0 14 rfl rfl)
theorem dX1_share_17 : decode cX1_share 17 = .ok (.iconst (-1), 1) := dk_2 (dk_at dksX1_share_0 17 rfl rfl)
theorem dX1_share_18 : decode cX1_share 18 = .ok (.ireturn, 1) := dk_172 (dk_at dksX1_share_0 18 rfl rfl)
theorem dX1_share_19 : decode cX1_share 19 = .ok (.aload_n 0, 1) := dk_42 (dk_at dksX1_share_0 19 rfl rfl)
theorem dX1_share_20 : decode cX1_share 20 = .ok (.invokevirtual 284, 3) := dk_182 1 28 (dk_at dksX1_share_0 20 rfl rfl)
theorem dX1_share_23 : decode cX1_share 23 = .ok (.aload_n 0, 1) := dk_42 (dk_at dksX1_share_0 23 rfl rfl)
theorem dX1_share_24 : decode cX1_share 24 = .ok (.getfield 39, 3) := dk_180 0 39 (dk_at dksX1_share_1 0 rfl rfl)
theorem dX1_share_27 : decode cX1_share 27 = .ok (.getfield 127, 3) := dk_180 0 127 (dk_at dksX1_share_1 3 rfl rfl)
theorem dX1_share_30 : decode cX1_share 30 = .ok (.invokevirtual 130, 3) := dk_182 0 130 (dk_at dksX1_share_1 6 rfl rfl)
theorem dX1_share_33 : decode cX1_share 33 = .ok (.istore_n 3, 1) := dk_62 (dk_at dksX1_share_1 9 rfl rfl)
theorem dX1_share_34 : decode cX1_share 34 = .ok (.iconst 0, 1) := dk_3 (dk_at dksX1_share_1 10 rfl rfl)
theorem dX1_share_35 : decode cX1_share 35 = .ok (.istore 4, 2) := dk_54 4 (dk_at dksX1_share_1 11 rfl rfl)
theorem dX1_share_37 : decode cX1_share 37 = .ok (.iconst 0, 1) := dk_3 (dk_at dksX1_share_1 13 rfl rfl)
theorem dX1_share_38 : decode cX1_share 38 = .ok (.istore 5, 2) := dk_54 5 (dk_at dksX1_share_1 14 rfl rfl)
theorem dX1_share_40 : decode cX1_share 40 = .ok (.iload 5, 2) := dk_21 5 (dk_at dksX1_share_1 16 rfl rfl)
theorem dX1_share_42 : decode cX1_share 42 = .ok (.iconst 1, 1) := dk_4 (dk_at dksX1_share_1 18 rfl rfl)
theorem dX1_share_43 : decode cX1_share 43 = .ok (.iload_n 3, 1) := dk_29 (dk_at dksX1_share_1 19 rfl rfl)
theorem dX1_share_44 : decode cX1_share 44 = .ok (.ishl, 1) := dk_120 (dk_at dksX1_share_1 20 rfl rfl)
theorem dX1_share_45 : decode cX1_share 45 = .ok (.if_icmp .ge 64, 3) := dk_162 0 64 (dk_at dksX1_share_1 21 rfl rfl)
theorem dX1_share_48 : decode cX1_share 48 = .ok (.iload 5, 2) := dk_21 5 (dk_at dksX1_share_2 0 rfl rfl)
theorem dX1_share_50 : decode cX1_share 50 = .ok (.iload_n 1, 1) := dk_27 (dk_at dksX1_share_2 2 rfl rfl)
theorem dX1_share_51 : decode cX1_share 51 = .ok (.ishr, 1) := dk_122 (dk_at dksX1_share_2 3 rfl rfl)
theorem dX1_share_52 : decode cX1_share 52 = .ok (.iconst 1, 1) := dk_4 (dk_at dksX1_share_2 4 rfl rfl)
theorem dX1_share_53 : decode cX1_share 53 = .ok (.iand, 1) := dk_126 (dk_at dksX1_share_2 5 rfl rfl)
theorem dX1_share_54 : decode cX1_share 54 = .ok (.ifCond .ne 49, 3) := dk_154 0 49 (dk_at dksX1_share_2 6 rfl rfl)
theorem dX1_share_57 : decode cX1_share 57 = .ok (.iload 4, 2) := dk_21 4 (dk_at dksX1_share_2 9 rfl rfl)
theorem dX1_share_59 : decode cX1_share 59 = .ok (.iload 5, 2) := dk_21 5 (dk_at dksX1_share_2 11 rfl rfl)
theorem dX1_share_61 : decode cX1_share 61 = .ok (.invokestatic 287, 3) := dk_184 1 31 (dk_at dksX1_share_2 13 rfl rfl)
theorem dX1_share_64 : decode cX1_share 64 = .ok (.invokestatic 290, 3) := dk_184 1 34 (dk_at dksX1_share_2 16 rfl rfl)
theorem dX1_share_67 : decode cX1_share 67 = .ok (.iload_n 3, 1) := dk_29 (dk_at dksX1_share_2 19 rfl rfl)
theorem dX1_share_68 : decode cX1_share 68 = .ok (.iload 5, 2) := dk_21 5 (dk_at dksX1_share_2 20 rfl rfl)
theorem dX1_share_70 : decode cX1_share 70 = .ok (.invokestatic 287, 3) := dk_184 1 31 (dk_at dksX1_share_3 0 rfl rfl)
theorem dX1_share_73 : decode cX1_share 73 = .ok (.isub, 1) := dk_100 (dk_at dksX1_share_3 3 rfl rfl)
theorem dX1_share_74 : decode cX1_share 74 = .ok (.iconst 1, 1) := dk_4 (dk_at dksX1_share_3 4 rfl rfl)
theorem dX1_share_75 : decode cX1_share 75 = .ok (.isub, 1) := dk_100 (dk_at dksX1_share_3 5 rfl rfl)
theorem dX1_share_76 : decode cX1_share 76 = .ok (.invokestatic 290, 3) := dk_184 1 34 (dk_at dksX1_share_3 6 rfl rfl)
theorem dX1_share_79 : decode cX1_share 79 = .ok (.imul, 1) := dk_104 (dk_at dksX1_share_3 9 rfl rfl)
theorem dX1_share_80 : decode cX1_share 80 = .ok (.aload_n 0, 1) := dk_42 (dk_at dksX1_share_3 10 rfl rfl)
theorem dX1_share_81 : decode cX1_share 81 = .ok (.getfield 81, 3) := dk_180 0 81 (dk_at dksX1_share_3 11 rfl rfl)
theorem dX1_share_84 : decode cX1_share 84 = .ok (.iload 5, 2) := dk_21 5 (dk_at dksX1_share_3 14 rfl rfl)
theorem dX1_share_86 : decode cX1_share 86 = .ok (.iconst 1, 1) := dk_4 (dk_at dksX1_share_3 16 rfl rfl)
theorem dX1_share_87 : decode cX1_share 87 = .ok (.iload_n 1, 1) := dk_27 (dk_at dksX1_share_3 17 rfl rfl)
theorem dX1_share_88 : decode cX1_share 88 = .ok (.ishl, 1) := dk_120 (dk_at dksX1_share_3 18 rfl rfl)
theorem dX1_share_89 : decode cX1_share 89 = .ok (.ior, 1) := dk_128 (dk_at dksX1_share_3 19 rfl rfl)
theorem dX1_share_90 : decode cX1_share 90 = .ok (.iaload, 1) := dk_46 (dk_at dksX1_share_3 20 rfl rfl)
theorem dX1_share_91 : decode cX1_share 91 = .ok (.aload_n 0, 1) := dk_42 (dk_at dksX1_share_3 21 rfl rfl)
theorem dX1_share_92 : decode cX1_share 92 = .ok (.getfield 81, 3) := dk_180 0 81 (dk_at dksX1_share_4 0 rfl rfl)
theorem dX1_share_95 : decode cX1_share 95 = .ok (.iload 5, 2) := dk_21 5 (dk_at dksX1_share_4 3 rfl rfl)
theorem dX1_share_97 : decode cX1_share 97 = .ok (.iaload, 1) := dk_46 (dk_at dksX1_share_4 5 rfl rfl)
theorem dX1_share_98 : decode cX1_share 98 = .ok (.isub, 1) := dk_100 (dk_at dksX1_share_4 6 rfl rfl)
theorem dX1_share_99 : decode cX1_share 99 = .ok (.imul, 1) := dk_104 (dk_at dksX1_share_4 7 rfl rfl)
theorem dX1_share_100 : decode cX1_share 100 = .ok (.iadd, 1) := dk_96 (dk_at dksX1_share_4 8 rfl rfl)
theorem dX1_share_101 : decode cX1_share 101 = .ok (.istore 4, 2) := dk_54 4 (dk_at dksX1_share_4 9 rfl rfl)
theorem dX1_share_103 : decode cX1_share 103 = .ok (.iinc 5 1, 3) := dk_132 5 1 (dk_at dksX1_share_4 11 rfl rfl)
theorem dX1_share_106 : decode cX1_share 106 = .ok (.goto (-66), 3) := dk_167 255 190 (dk_at dksX1_share_4 14 rfl rfl)
theorem dX1_share_109 : decode cX1_share 109 = .ok (.iload 4, 2) := dk_21 4 (dk_at dksX1_share_4 17 rfl rfl)
theorem dX1_share_111 : decode cX1_share 111 = .ok (.invokestatic 272, 3) := dk_184 1 16 (dk_at dksX1_share_4 19 rfl rfl)
theorem dX1_share_114 : decode cX1_share 114 = .ok (.istore 5, 2) := dk_54 5 (dk_at dksX1_share_4 22 rfl rfl)
theorem dX1_share_116 : decode cX1_share 116 = .ok (.iload_n 3, 1) := dk_29 (dk_at dksX1_share_5 0 rfl rfl)
theorem dX1_share_117 : decode cX1_share 117 = .ok (.invokestatic 290, 3) := dk_184 1 34 (dk_at dksX1_share_5 1 rfl rfl)
theorem dX1_share_120 : decode cX1_share 120 = .ok (.istore 6, 2) := dk_54 6 (dk_at dksX1_share_5 4 rfl rfl)
theorem dX1_share_122 : decode cX1_share 122 = .ok (.iload 6, 2) := dk_21 6 (dk_at dksX1_share_5 6 rfl rfl)
theorem dX1_share_124 : decode cX1_share 124 = .ok (.ifCond .eq 21, 3) := dk_153 0 21 (dk_at dksX1_share_5 8 rfl rfl)
theorem dX1_share_127 : decode cX1_share 127 = .ok (.iload 5, 2) := dk_21 5 (dk_at dksX1_share_5 11 rfl rfl)
theorem dX1_share_129 : decode cX1_share 129 = .ok (.iload 6, 2) := dk_21 6 (dk_at dksX1_share_5 13 rfl rfl)
theorem dX1_share_131 : decode cX1_share 131 = .ok (.irem, 1) := dk_112 (dk_at dksX1_share_5 15 rfl rfl)
theorem dX1_share_132 : decode cX1_share 132 = .ok (.istore 7, 2) := dk_54 7 (dk_at dksX1_share_5 16 rfl rfl)
theorem dX1_share_134 : decode cX1_share 134 = .ok (.iload 6, 2) := dk_21 6 (dk_at dksX1_share_5 18 rfl rfl)
theorem dX1_share_136 : decode cX1_share 136 = .ok (.istore 5, 2) := dk_54 5 (dk_at dksX1_share_5 20 rfl rfl)
theorem dX1_share_138 : decode cX1_share 138 = .ok (.iload 7, 2) := dk_21 7 (dk_at dksX1_share_5 22 rfl rfl)
theorem dX1_share_140 : decode cX1_share 140 = .ok (.istore 6, 2) := dk_54 6 (dk_at dksX1_share_6 0 rfl rfl)
theorem dX1_share_142 : decode cX1_share 142 = .ok (.goto (-20), 3) := dk_167 255 236 (dk_at dksX1_share_6 2 rfl rfl)
theorem dX1_share_145 : decode cX1_share 145 = .ok (.iload_n 2, 1) := dk_28 (dk_at dksX1_share_6 5 rfl rfl)
theorem dX1_share_146 : decode cX1_share 146 = .ok (.ifCond .ne 11, 3) := dk_154 0 11 (dk_at dksX1_share_6 6 rfl rfl)
theorem dX1_share_149 : decode cX1_share 149 = .ok (.iload 4, 2) := dk_21 4 (dk_at dksX1_share_6 9 rfl rfl)
theorem dX1_share_151 : decode cX1_share 151 = .ok (.iload 5, 2) := dk_21 5 (dk_at dksX1_share_6 11 rfl rfl)
theorem dX1_share_153 : decode cX1_share 153 = .ok (.idiv, 1) := dk_108 (dk_at dksX1_share_6 13 rfl rfl)
theorem dX1_share_154 : decode cX1_share 154 = .ok (.goto 10, 3) := dk_167 0 10 (dk_at dksX1_share_6 14 rfl rfl)
theorem dX1_share_157 : decode cX1_share 157 = .ok (.iload_n 3, 1) := dk_29 (dk_at dksX1_share_6 17 rfl rfl)
theorem dX1_share_158 : decode cX1_share 158 = .ok (.invokestatic 290, 3) := dk_184 1 34 (dk_at dksX1_share_6 18 rfl rfl)
theorem dX1_share_161 : decode cX1_share 161 = .ok (.iload 5, 2) := dk_21 5 (dk_at dksX1_share_6 21 rfl rfl)
theorem dX1_share_163 : decode cX1_share 163 = .ok (.idiv, 1) := dk_108 (dk_at dksX1_share_6 23 rfl rfl)
theorem dX1_share_164 : decode cX1_share 164 = .ok (.ireturn, 1) := dk_172 (dk_at dksX1_share_7 0 rfl rfl)
abbrev cX1_findsWorth : ByteArray := prog_1_method_28_code
def yX1_findsWorth : MethodName := ⟨RX1, "findsWorth", "()V"⟩
def dkwX1_findsWorth_3 : List UInt8 := [42, 180, 0, 75, 42, 180, 0, 71, 182, 0, 198, 2, 182, 0, 235, 79, 132, 1, 1, 167, 255, 172, 177]
abbrev dktX1_findsWorth_3 : List UInt8 := dkwX1_findsWorth_3 ++ []
def dkwX1_findsWorth_2 : List UInt8 := [126, 4, 160, 0, 7, 4, 167, 0, 4, 3, 182, 1, 24, 132, 2, 1, 167, 255, 217, 42, 180, 0, 81, 27]
abbrev dktX1_findsWorth_2 : List UInt8 := dkwX1_findsWorth_2 ++ dktX1_findsWorth_3
def dkwX1_findsWorth_1 : List UInt8 := [61, 28, 42, 180, 0, 39, 180, 0, 127, 182, 0, 130, 162, 0, 31, 42, 180, 0, 75, 28, 27, 28, 122, 4]
abbrev dktX1_findsWorth_1 : List UInt8 := dkwX1_findsWorth_1 ++ dktX1_findsWorth_2
def dkwX1_findsWorth_0 : List UInt8 := [42, 182, 0, 231, 87, 3, 60, 27, 4, 42, 180, 0, 39, 180, 0, 127, 182, 0, 130, 120, 162, 0, 74, 3]
abbrev dktX1_findsWorth_0 : List UInt8 := dkwX1_findsWorth_0 ++ dktX1_findsWorth_1
theorem dksX1_findsWorth_0 : cX1_findsWorth.data.toList.drop 0 = dktX1_findsWorth_0 := by decide +kernel
theorem dksX1_findsWorth_1 : cX1_findsWorth.data.toList.drop 24 = dktX1_findsWorth_1 := dk_seg dksX1_findsWorth_0 24 rfl rfl
theorem dksX1_findsWorth_2 : cX1_findsWorth.data.toList.drop 48 = dktX1_findsWorth_2 := dk_seg dksX1_findsWorth_1 24 rfl rfl
theorem dksX1_findsWorth_3 : cX1_findsWorth.data.toList.drop 72 = dktX1_findsWorth_3 := dk_seg dksX1_findsWorth_2 24 rfl rfl
theorem dX1_findsWorth_0 : decode cX1_findsWorth 0 = .ok (.aload_n 0, 1) := dk_42 (dk_at dksX1_findsWorth_0 0 rfl rfl)
theorem dX1_findsWorth_1 : decode cX1_findsWorth 1 = .ok (.invokevirtual 231, 3) := dk_182 0 231 (dk_at dksX1_findsWorth_0 1 rfl rfl)
theorem dX1_findsWorth_4 : decode cX1_findsWorth 4 = .ok (.pop, 1) := dk_87 (dk_at dksX1_findsWorth_0 4 rfl rfl)
theorem dX1_findsWorth_5 : decode cX1_findsWorth 5 = .ok (.iconst 0, 1) := dk_3 (dk_at dksX1_findsWorth_0 5 rfl rfl)
theorem dX1_findsWorth_6 : decode cX1_findsWorth 6 = .ok (.istore_n 1, 1) := dk_60 (dk_at dksX1_findsWorth_0 6 rfl rfl)
theorem dX1_findsWorth_7 : decode cX1_findsWorth 7 = .ok (.iload_n 1, 1) := dk_27 (dk_at dksX1_findsWorth_0 7 rfl rfl)
theorem dX1_findsWorth_8 : decode cX1_findsWorth 8 = .ok (.iconst 1, 1) := dk_4 (dk_at dksX1_findsWorth_0 8 rfl rfl)
theorem dX1_findsWorth_9 : decode cX1_findsWorth 9 = .ok (.aload_n 0, 1) := dk_42 (dk_at dksX1_findsWorth_0 9 rfl rfl)
theorem dX1_findsWorth_10 : decode cX1_findsWorth 10 = .ok (.getfield 39, 3) := dk_180 0 39 (dk_at dksX1_findsWorth_0 10 rfl rfl)
theorem dX1_findsWorth_13 : decode cX1_findsWorth 13 = .ok (.getfield 127, 3) := dk_180 0 127 (dk_at dksX1_findsWorth_0 13 rfl rfl)
theorem dX1_findsWorth_16 : decode cX1_findsWorth 16 = .ok (.invokevirtual 130, 3) := dk_182 0 130 (dk_at dksX1_findsWorth_0 16 rfl rfl)
theorem dX1_findsWorth_19 : decode cX1_findsWorth 19 = .ok (.ishl, 1) := dk_120 (dk_at dksX1_findsWorth_0 19 rfl rfl)
theorem dX1_findsWorth_20 : decode cX1_findsWorth 20 = .ok (.if_icmp .ge 74, 3) := dk_162 0 74 (dk_at dksX1_findsWorth_0 20 rfl rfl)
theorem dX1_findsWorth_23 : decode cX1_findsWorth 23 = .ok (.iconst 0, 1) := dk_3 (dk_at dksX1_findsWorth_0 23 rfl rfl)
theorem dX1_findsWorth_24 : decode cX1_findsWorth 24 = .ok (.istore_n 2, 1) := dk_61 (dk_at dksX1_findsWorth_1 0 rfl rfl)
theorem dX1_findsWorth_25 : decode cX1_findsWorth 25 = .ok (.iload_n 2, 1) := dk_28 (dk_at dksX1_findsWorth_1 1 rfl rfl)
theorem dX1_findsWorth_26 : decode cX1_findsWorth 26 = .ok (.aload_n 0, 1) := dk_42 (dk_at dksX1_findsWorth_1 2 rfl rfl)
theorem dX1_findsWorth_27 : decode cX1_findsWorth 27 = .ok (.getfield 39, 3) := dk_180 0 39 (dk_at dksX1_findsWorth_1 3 rfl rfl)
theorem dX1_findsWorth_30 : decode cX1_findsWorth 30 = .ok (.getfield 127, 3) := dk_180 0 127 (dk_at dksX1_findsWorth_1 6 rfl rfl)
theorem dX1_findsWorth_33 : decode cX1_findsWorth 33 = .ok (.invokevirtual 130, 3) := dk_182 0 130 (dk_at dksX1_findsWorth_1 9 rfl rfl)
theorem dX1_findsWorth_36 : decode cX1_findsWorth 36 = .ok (.if_icmp .ge 31, 3) := dk_162 0 31 (dk_at dksX1_findsWorth_1 12 rfl rfl)
theorem dX1_findsWorth_39 : decode cX1_findsWorth 39 = .ok (.aload_n 0, 1) := dk_42 (dk_at dksX1_findsWorth_1 15 rfl rfl)
theorem dX1_findsWorth_40 : decode cX1_findsWorth 40 = .ok (.getfield 75, 3) := dk_180 0 75 (dk_at dksX1_findsWorth_1 16 rfl rfl)
theorem dX1_findsWorth_43 : decode cX1_findsWorth 43 = .ok (.iload_n 2, 1) := dk_28 (dk_at dksX1_findsWorth_1 19 rfl rfl)
theorem dX1_findsWorth_44 : decode cX1_findsWorth 44 = .ok (.iload_n 1, 1) := dk_27 (dk_at dksX1_findsWorth_1 20 rfl rfl)
theorem dX1_findsWorth_45 : decode cX1_findsWorth 45 = .ok (.iload_n 2, 1) := dk_28 (dk_at dksX1_findsWorth_1 21 rfl rfl)
theorem dX1_findsWorth_46 : decode cX1_findsWorth 46 = .ok (.ishr, 1) := dk_122 (dk_at dksX1_findsWorth_1 22 rfl rfl)
theorem dX1_findsWorth_47 : decode cX1_findsWorth 47 = .ok (.iconst 1, 1) := dk_4 (dk_at dksX1_findsWorth_1 23 rfl rfl)
theorem dX1_findsWorth_48 : decode cX1_findsWorth 48 = .ok (.iand, 1) := dk_126 (dk_at dksX1_findsWorth_2 0 rfl rfl)
theorem dX1_findsWorth_49 : decode cX1_findsWorth 49 = .ok (.iconst 1, 1) := dk_4 (dk_at dksX1_findsWorth_2 1 rfl rfl)
theorem dX1_findsWorth_50 : decode cX1_findsWorth 50 = .ok (.if_icmp .ne 7, 3) := dk_160 0 7 (dk_at dksX1_findsWorth_2 2 rfl rfl)
theorem dX1_findsWorth_53 : decode cX1_findsWorth 53 = .ok (.iconst 1, 1) := dk_4 (dk_at dksX1_findsWorth_2 5 rfl rfl)
theorem dX1_findsWorth_54 : decode cX1_findsWorth 54 = .ok (.goto 4, 3) := dk_167 0 4 (dk_at dksX1_findsWorth_2 6 rfl rfl)
theorem dX1_findsWorth_57 : decode cX1_findsWorth 57 = .ok (.iconst 0, 1) := dk_3 (dk_at dksX1_findsWorth_2 9 rfl rfl)
theorem dX1_findsWorth_58 : decode cX1_findsWorth 58 = .ok (.invokevirtual 280, 3) := dk_182 1 24 (dk_at dksX1_findsWorth_2 10 rfl rfl)
theorem dX1_findsWorth_61 : decode cX1_findsWorth 61 = .ok (.iinc 2 1, 3) := dk_132 2 1 (dk_at dksX1_findsWorth_2 13 rfl rfl)
theorem dX1_findsWorth_64 : decode cX1_findsWorth 64 = .ok (.goto (-39), 3) := dk_167 255 217 (dk_at dksX1_findsWorth_2 16 rfl rfl)
theorem dX1_findsWorth_67 : decode cX1_findsWorth 67 = .ok (.aload_n 0, 1) := dk_42 (dk_at dksX1_findsWorth_2 19 rfl rfl)
theorem dX1_findsWorth_68 : decode cX1_findsWorth 68 = .ok (.getfield 81, 3) := dk_180 0 81 (dk_at dksX1_findsWorth_2 20 rfl rfl)
theorem dX1_findsWorth_71 : decode cX1_findsWorth 71 = .ok (.iload_n 1, 1) := dk_27 (dk_at dksX1_findsWorth_2 23 rfl rfl)
theorem dX1_findsWorth_72 : decode cX1_findsWorth 72 = .ok (.aload_n 0, 1) := dk_42 (dk_at dksX1_findsWorth_3 0 rfl rfl)
theorem dX1_findsWorth_73 : decode cX1_findsWorth 73 = .ok (.getfield 75, 3) := dk_180 0 75 (dk_at dksX1_findsWorth_3 1 rfl rfl)
theorem dX1_findsWorth_76 : decode cX1_findsWorth 76 = .ok (.aload_n 0, 1) := dk_42 (dk_at dksX1_findsWorth_3 4 rfl rfl)
theorem dX1_findsWorth_77 : decode cX1_findsWorth 77 = .ok (.getfield 71, 3) := dk_180 0 71 (dk_at dksX1_findsWorth_3 5 rfl rfl)
theorem dX1_findsWorth_80 : decode cX1_findsWorth 80 = .ok (.invokevirtual 198, 3) := dk_182 0 198 (dk_at dksX1_findsWorth_3 8 rfl rfl)
theorem dX1_findsWorth_83 : decode cX1_findsWorth 83 = .ok (.iconst (-1), 1) := dk_2 (dk_at dksX1_findsWorth_3 11 rfl rfl)
theorem dX1_findsWorth_84 : decode cX1_findsWorth 84 = .ok (.invokevirtual 235, 3) := dk_182 0 235 (dk_at dksX1_findsWorth_3 12 rfl rfl)
theorem dX1_findsWorth_87 : decode cX1_findsWorth 87 = .ok (.iastore, 1) := dk_79 (dk_at dksX1_findsWorth_3 15 rfl rfl)
theorem dX1_findsWorth_88 : decode cX1_findsWorth 88 = .ok (.iinc 1 1, 3) := dk_132 1 1 (dk_at dksX1_findsWorth_3 16 rfl rfl)
theorem dX1_findsWorth_91 : decode cX1_findsWorth 91 = .ok (.goto (-84), 3) := dk_167 255 172 (dk_at dksX1_findsWorth_3 19 rfl rfl)
theorem dX1_findsWorth_94 : decode cX1_findsWorth 94 = .ok (.return_, 1) := dk_177 (dk_at dksX1_findsWorth_3 22 rfl rfl)
abbrev cX1_bits : ByteArray := prog_1_method_2_code
def yX1_bits : MethodName := ⟨RX1, "bits", "(I)I"⟩
def dkwX1_bits_0 : List UInt8 := [3, 60, 26, 61, 28, 153, 0, 15, 132, 1, 1, 28, 28, 4, 100, 126, 61, 167, 255, 243, 27, 172]
abbrev dktX1_bits_0 : List UInt8 := dkwX1_bits_0 ++ []
theorem dksX1_bits_0 : cX1_bits.data.toList.drop 0 = dktX1_bits_0 := by decide +kernel
theorem dX1_bits_0 : decode cX1_bits 0 = .ok (.iconst 0, 1) := dk_3 (dk_at dksX1_bits_0 0 rfl rfl)
theorem dX1_bits_1 : decode cX1_bits 1 = .ok (.istore_n 1, 1) := dk_60 (dk_at dksX1_bits_0 1 rfl rfl)
theorem dX1_bits_2 : decode cX1_bits 2 = .ok (.iload_n 0, 1) := dk_26 (dk_at dksX1_bits_0 2 rfl rfl)
theorem dX1_bits_3 : decode cX1_bits 3 = .ok (.istore_n 2, 1) := dk_61 (dk_at dksX1_bits_0 3 rfl rfl)
theorem dX1_bits_4 : decode cX1_bits 4 = .ok (.iload_n 2, 1) := dk_28 (dk_at dksX1_bits_0 4 rfl rfl)
theorem dX1_bits_5 : decode cX1_bits 5 = .ok (.ifCond .eq 15, 3) := dk_153 0 15 (dk_at dksX1_bits_0 5 rfl rfl)
theorem dX1_bits_8 : decode cX1_bits 8 = .ok (.iinc 1 1, 3) := dk_132 1 1 (dk_at dksX1_bits_0 8 rfl rfl)
theorem dX1_bits_11 : decode cX1_bits 11 = .ok (.iload_n 2, 1) := dk_28 (dk_at dksX1_bits_0 11 rfl rfl)
theorem dX1_bits_12 : decode cX1_bits 12 = .ok (.iload_n 2, 1) := dk_28 (dk_at dksX1_bits_0 12 rfl rfl)
theorem dX1_bits_13 : decode cX1_bits 13 = .ok (.iconst 1, 1) := dk_4 (dk_at dksX1_bits_0 13 rfl rfl)
theorem dX1_bits_14 : decode cX1_bits 14 = .ok (.isub, 1) := dk_100 (dk_at dksX1_bits_0 14 rfl rfl)
theorem dX1_bits_15 : decode cX1_bits 15 = .ok (.iand, 1) := dk_126 (dk_at dksX1_bits_0 15 rfl rfl)
theorem dX1_bits_16 : decode cX1_bits 16 = .ok (.istore_n 2, 1) := dk_61 (dk_at dksX1_bits_0 16 rfl rfl)
theorem dX1_bits_17 : decode cX1_bits 17 = .ok (.goto (-13), 3) := dk_167 255 243 (dk_at dksX1_bits_0 17 rfl rfl)
theorem dX1_bits_20 : decode cX1_bits 20 = .ok (.iload_n 1, 1) := dk_27 (dk_at dksX1_bits_0 20 rfl rfl)
theorem dX1_bits_21 : decode cX1_bits 21 = .ok (.ireturn, 1) := dk_172 (dk_at dksX1_bits_0 21 rfl rfl)
abbrev cX1_orders : ByteArray := prog_1_method_29_code
def yX1_orders : MethodName := ⟨RX1, "orders", "(I)I"⟩
def dkwX1_orders_0 : List UInt8 := [4, 60, 5, 61, 28, 26, 163, 0, 13, 27, 28, 104, 60, 132, 2, 1, 167, 255, 244, 27, 172]
abbrev dktX1_orders_0 : List UInt8 := dkwX1_orders_0 ++ []
theorem dksX1_orders_0 : cX1_orders.data.toList.drop 0 = dktX1_orders_0 := by decide +kernel
theorem dX1_orders_0 : decode cX1_orders 0 = .ok (.iconst 1, 1) := dk_4 (dk_at dksX1_orders_0 0 rfl rfl)
theorem dX1_orders_1 : decode cX1_orders 1 = .ok (.istore_n 1, 1) := dk_60 (dk_at dksX1_orders_0 1 rfl rfl)
theorem dX1_orders_2 : decode cX1_orders 2 = .ok (.iconst 2, 1) := dk_5 (dk_at dksX1_orders_0 2 rfl rfl)
theorem dX1_orders_3 : decode cX1_orders 3 = .ok (.istore_n 2, 1) := dk_61 (dk_at dksX1_orders_0 3 rfl rfl)
theorem dX1_orders_4 : decode cX1_orders 4 = .ok (.iload_n 2, 1) := dk_28 (dk_at dksX1_orders_0 4 rfl rfl)
theorem dX1_orders_5 : decode cX1_orders 5 = .ok (.iload_n 0, 1) := dk_26 (dk_at dksX1_orders_0 5 rfl rfl)
theorem dX1_orders_6 : decode cX1_orders 6 = .ok (.if_icmp .gt 13, 3) := dk_163 0 13 (dk_at dksX1_orders_0 6 rfl rfl)
theorem dX1_orders_9 : decode cX1_orders 9 = .ok (.iload_n 1, 1) := dk_27 (dk_at dksX1_orders_0 9 rfl rfl)
theorem dX1_orders_10 : decode cX1_orders 10 = .ok (.iload_n 2, 1) := dk_28 (dk_at dksX1_orders_0 10 rfl rfl)
theorem dX1_orders_11 : decode cX1_orders 11 = .ok (.imul, 1) := dk_104 (dk_at dksX1_orders_0 11 rfl rfl)
theorem dX1_orders_12 : decode cX1_orders 12 = .ok (.istore_n 1, 1) := dk_60 (dk_at dksX1_orders_0 12 rfl rfl)
theorem dX1_orders_13 : decode cX1_orders 13 = .ok (.iinc 2 1, 3) := dk_132 2 1 (dk_at dksX1_orders_0 13 rfl rfl)
theorem dX1_orders_16 : decode cX1_orders 16 = .ok (.goto (-12), 3) := dk_167 255 244 (dk_at dksX1_orders_0 16 rfl rfl)
theorem dX1_orders_19 : decode cX1_orders 19 = .ok (.iload_n 1, 1) := dk_27 (dk_at dksX1_orders_0 19 rfl rfl)
theorem dX1_orders_20 : decode cX1_orders 20 = .ok (.ireturn, 1) := dk_172 (dk_at dksX1_orders_0 20 rfl rfl)
abbrev cX1_dry : ByteArray := prog_1_method_32_code
def yX1_dry : MethodName := ⟨RX1, "dry", "(I)I"⟩
def dkwX1_dry_3 : List UInt8 := [164, 0, 5, 28, 172, 132, 2, 1, 167, 255, 212, 2, 172]
abbrev dktX1_dry_3 : List UInt8 := dkwX1_dry_3 ++ []
def dkwX1_dry_2 : List UInt8 := [96, 4, 100, 182, 1, 40, 42, 180, 0, 78, 180, 0, 169, 27, 46, 42, 180, 0, 53, 180, 0, 169, 27, 46]
abbrev dktX1_dry_2 : List UInt8 := dkwX1_dry_2 ++ dktX1_dry_3
def dkwX1_dry_1 : List UInt8 := [180, 0, 78, 42, 180, 0, 53, 182, 1, 37, 4, 61, 28, 16, 100, 163, 0, 44, 42, 42, 180, 0, 109, 28]
abbrev dktX1_dry_1 : List UInt8 := dkwX1_dry_1 ++ dktX1_dry_2
def dkwX1_dry_0 : List UInt8 := [42, 27, 182, 0, 160, 154, 0, 5, 2, 172, 42, 180, 0, 75, 42, 180, 0, 46, 182, 0, 187, 87, 42]
abbrev dktX1_dry_0 : List UInt8 := dkwX1_dry_0 ++ dktX1_dry_1
theorem dksX1_dry_0 : cX1_dry.data.toList.drop 0 = dktX1_dry_0 := by decide +kernel
theorem dksX1_dry_1 : cX1_dry.data.toList.drop 23 = dktX1_dry_1 := dk_seg dksX1_dry_0 23 rfl rfl
theorem dksX1_dry_2 : cX1_dry.data.toList.drop 47 = dktX1_dry_2 := dk_seg dksX1_dry_1 24 rfl rfl
theorem dksX1_dry_3 : cX1_dry.data.toList.drop 71 = dktX1_dry_3 := dk_seg dksX1_dry_2 24 rfl rfl
theorem dX1_dry_0 : decode cX1_dry 0 = .ok (.aload_n 0, 1) := dk_42 (dk_at dksX1_dry_0 0 rfl rfl)
theorem dX1_dry_1 : decode cX1_dry 1 = .ok (.iload_n 1, 1) := dk_27 (dk_at dksX1_dry_0 1 rfl rfl)
theorem dX1_dry_2 : decode cX1_dry 2 = .ok (.invokevirtual 160, 3) := dk_182 0 160 (dk_at dksX1_dry_0 2 rfl rfl)
theorem dX1_dry_5 : decode cX1_dry 5 = .ok (.ifCond .ne 5, 3) := dk_154 0 5 (dk_at dksX1_dry_0 5 rfl rfl)
theorem dX1_dry_8 : decode cX1_dry 8 = .ok (.iconst (-1), 1) := dk_2 (dk_at dksX1_dry_0 8 rfl rfl)
theorem dX1_dry_9 : decode cX1_dry 9 = .ok (.ireturn, 1) := dk_172 (dk_at dksX1_dry_0 9 rfl rfl)
theorem dX1_dry_10 : decode cX1_dry 10 = .ok (.aload_n 0, 1) := dk_42 (dk_at dksX1_dry_0 10 rfl rfl)
theorem dX1_dry_11 : decode cX1_dry 11 = .ok (.getfield 75, 3) := dk_180 0 75 (dk_at dksX1_dry_0 11 rfl rfl)
theorem dX1_dry_14 : decode cX1_dry 14 = .ok (.aload_n 0, 1) := dk_42 (dk_at dksX1_dry_0 14 rfl rfl)
theorem dX1_dry_15 : decode cX1_dry 15 = .ok (.getfield 46, 3) := dk_180 0 46 (dk_at dksX1_dry_0 15 rfl rfl)
theorem dX1_dry_18 : decode cX1_dry 18 = .ok (.invokevirtual 187, 3) := dk_182 0 187 (dk_at dksX1_dry_0 18 rfl rfl)
theorem dX1_dry_21 : decode cX1_dry 21 = .ok (.pop, 1) := dk_87 (dk_at dksX1_dry_0 21 rfl rfl)
theorem dX1_dry_22 : decode cX1_dry 22 = .ok (.aload_n 0, 1) := dk_42 (dk_at dksX1_dry_0 22 rfl rfl)
theorem dX1_dry_23 : decode cX1_dry 23 = .ok (.getfield 78, 3) := dk_180 0 78 (dk_at dksX1_dry_1 0 rfl rfl)
theorem dX1_dry_26 : decode cX1_dry 26 = .ok (.aload_n 0, 1) := dk_42 (dk_at dksX1_dry_1 3 rfl rfl)
theorem dX1_dry_27 : decode cX1_dry 27 = .ok (.getfield 53, 3) := dk_180 0 53 (dk_at dksX1_dry_1 4 rfl rfl)
theorem dX1_dry_30 : decode cX1_dry 30 = .ok (.invokevirtual 293, 3) := dk_182 1 37 (dk_at dksX1_dry_1 7 rfl rfl)
theorem dX1_dry_33 : decode cX1_dry 33 = .ok (.iconst 1, 1) := dk_4 (dk_at dksX1_dry_1 10 rfl rfl)
theorem dX1_dry_34 : decode cX1_dry 34 = .ok (.istore_n 2, 1) := dk_61 (dk_at dksX1_dry_1 11 rfl rfl)
theorem dX1_dry_35 : decode cX1_dry 35 = .ok (.iload_n 2, 1) := dk_28 (dk_at dksX1_dry_1 12 rfl rfl)
theorem dX1_dry_36 : decode cX1_dry 36 = .ok (.bipush 100, 2) := dk_16 100 (dk_at dksX1_dry_1 13 rfl rfl)
theorem dX1_dry_38 : decode cX1_dry 38 = .ok (.if_icmp .gt 44, 3) := dk_163 0 44 (dk_at dksX1_dry_1 15 rfl rfl)
theorem dX1_dry_41 : decode cX1_dry 41 = .ok (.aload_n 0, 1) := dk_42 (dk_at dksX1_dry_1 18 rfl rfl)
theorem dX1_dry_42 : decode cX1_dry 42 = .ok (.aload_n 0, 1) := dk_42 (dk_at dksX1_dry_1 19 rfl rfl)
theorem dX1_dry_43 : decode cX1_dry 43 = .ok (.getfield 109, 3) := dk_180 0 109 (dk_at dksX1_dry_1 20 rfl rfl)
theorem dX1_dry_46 : decode cX1_dry 46 = .ok (.iload_n 2, 1) := dk_28 (dk_at dksX1_dry_1 23 rfl rfl)
theorem dX1_dry_47 : decode cX1_dry 47 = .ok (.iadd, 1) := dk_96 (dk_at dksX1_dry_2 0 rfl rfl)
theorem dX1_dry_48 : decode cX1_dry 48 = .ok (.iconst 1, 1) := dk_4 (dk_at dksX1_dry_2 1 rfl rfl)
theorem dX1_dry_49 : decode cX1_dry 49 = .ok (.isub, 1) := dk_100 (dk_at dksX1_dry_2 2 rfl rfl)
theorem dX1_dry_50 : decode cX1_dry 50 = .ok (.invokevirtual 296, 3) := dk_182 1 40 (dk_at dksX1_dry_2 3 rfl rfl)
theorem dX1_dry_53 : decode cX1_dry 53 = .ok (.aload_n 0, 1) := dk_42 (dk_at dksX1_dry_2 6 rfl rfl)
theorem dX1_dry_54 : decode cX1_dry 54 = .ok (.getfield 78, 3) := dk_180 0 78 (dk_at dksX1_dry_2 7 rfl rfl)
theorem dX1_dry_57 : decode cX1_dry 57 = .ok (.getfield 169, 3) := dk_180 0 169 (dk_at dksX1_dry_2 10 rfl rfl)
theorem dX1_dry_60 : decode cX1_dry 60 = .ok (.iload_n 1, 1) := dk_27 (dk_at dksX1_dry_2 13 rfl rfl)
theorem dX1_dry_61 : decode cX1_dry 61 = .ok (.iaload, 1) := dk_46 (dk_at dksX1_dry_2 14 rfl rfl)
theorem dX1_dry_62 : decode cX1_dry 62 = .ok (.aload_n 0, 1) := dk_42 (dk_at dksX1_dry_2 15 rfl rfl)
theorem dX1_dry_63 : decode cX1_dry 63 = .ok (.getfield 53, 3) := dk_180 0 53 (dk_at dksX1_dry_2 16 rfl rfl)
theorem dX1_dry_66 : decode cX1_dry 66 = .ok (.getfield 169, 3) := dk_180 0 169 (dk_at dksX1_dry_2 19 rfl rfl)
theorem dX1_dry_69 : decode cX1_dry 69 = .ok (.iload_n 1, 1) := dk_27 (dk_at dksX1_dry_2 22 rfl rfl)
theorem dX1_dry_70 : decode cX1_dry 70 = .ok (.iaload, 1) := dk_46 (dk_at dksX1_dry_2 23 rfl rfl)
theorem dX1_dry_71 : decode cX1_dry 71 = .ok (.if_icmp .le 5, 3) := dk_164 0 5 (dk_at dksX1_dry_3 0 rfl rfl)
theorem dX1_dry_74 : decode cX1_dry 74 = .ok (.iload_n 2, 1) := dk_28 (dk_at dksX1_dry_3 3 rfl rfl)
theorem dX1_dry_75 : decode cX1_dry 75 = .ok (.ireturn, 1) := dk_172 (dk_at dksX1_dry_3 4 rfl rfl)
theorem dX1_dry_76 : decode cX1_dry 76 = .ok (.iinc 2 1, 3) := dk_132 2 1 (dk_at dksX1_dry_3 5 rfl rfl)
theorem dX1_dry_79 : decode cX1_dry 79 = .ok (.goto (-44), 3) := dk_167 255 212 (dk_at dksX1_dry_3 8 rfl rfl)
theorem dX1_dry_82 : decode cX1_dry 82 = .ok (.iconst (-1), 1) := dk_2 (dk_at dksX1_dry_3 11 rfl rfl)
theorem dX1_dry_83 : decode cX1_dry 83 = .ok (.ireturn, 1) := dk_172 (dk_at dksX1_dry_3 12 rfl rfl)
abbrev cX1_goesOn : ByteArray := prog_1_method_31_code
def yX1_goesOn : MethodName := ⟨RX1, "goesOn", "(I)V"⟩
def dkwX1_goesOn_1 : List UInt8 := [42, 180, 0, 75, 182, 0, 202, 177]
abbrev dktX1_goesOn_1 : List UInt8 := dkwX1_goesOn_1 ++ []
def dkwX1_goesOn_0 : List UInt8 := [42, 180, 0, 75, 42, 180, 0, 71, 42, 180, 0, 39, 27, 182, 0, 194, 182, 0, 198, 87, 42, 180, 0, 78]
abbrev dktX1_goesOn_0 : List UInt8 := dkwX1_goesOn_0 ++ dktX1_goesOn_1
theorem dksX1_goesOn_0 : cX1_goesOn.data.toList.drop 0 = dktX1_goesOn_0 := by decide +kernel
theorem dksX1_goesOn_1 : cX1_goesOn.data.toList.drop 24 = dktX1_goesOn_1 := dk_seg dksX1_goesOn_0 24 rfl rfl
theorem dX1_goesOn_0 : decode cX1_goesOn 0 = .ok (.aload_n 0, 1) := dk_42 (dk_at dksX1_goesOn_0 0 rfl rfl)
theorem dX1_goesOn_1 : decode cX1_goesOn 1 = .ok (.getfield 75, 3) := dk_180 0 75 (dk_at dksX1_goesOn_0 1 rfl rfl)
theorem dX1_goesOn_4 : decode cX1_goesOn 4 = .ok (.aload_n 0, 1) := dk_42 (dk_at dksX1_goesOn_0 4 rfl rfl)
theorem dX1_goesOn_5 : decode cX1_goesOn 5 = .ok (.getfield 71, 3) := dk_180 0 71 (dk_at dksX1_goesOn_0 5 rfl rfl)
theorem dX1_goesOn_8 : decode cX1_goesOn 8 = .ok (.aload_n 0, 1) := dk_42 (dk_at dksX1_goesOn_0 8 rfl rfl)
theorem dX1_goesOn_9 : decode cX1_goesOn 9 = .ok (.getfield 39, 3) := dk_180 0 39 (dk_at dksX1_goesOn_0 9 rfl rfl)
theorem dX1_goesOn_12 : decode cX1_goesOn 12 = .ok (.iload_n 1, 1) := dk_27 (dk_at dksX1_goesOn_0 12 rfl rfl)
theorem dX1_goesOn_13 : decode cX1_goesOn 13 = .ok (.invokevirtual 194, 3) := dk_182 0 194 (dk_at dksX1_goesOn_0 13 rfl rfl)
theorem dX1_goesOn_16 : decode cX1_goesOn 16 = .ok (.invokevirtual 198, 3) := dk_182 0 198 (dk_at dksX1_goesOn_0 16 rfl rfl)
theorem dX1_goesOn_19 : decode cX1_goesOn 19 = .ok (.pop, 1) := dk_87 (dk_at dksX1_goesOn_0 19 rfl rfl)
theorem dX1_goesOn_20 : decode cX1_goesOn 20 = .ok (.aload_n 0, 1) := dk_42 (dk_at dksX1_goesOn_0 20 rfl rfl)
theorem dX1_goesOn_21 : decode cX1_goesOn 21 = .ok (.getfield 78, 3) := dk_180 0 78 (dk_at dksX1_goesOn_0 21 rfl rfl)
theorem dX1_goesOn_24 : decode cX1_goesOn 24 = .ok (.aload_n 0, 1) := dk_42 (dk_at dksX1_goesOn_1 0 rfl rfl)
theorem dX1_goesOn_25 : decode cX1_goesOn 25 = .ok (.getfield 75, 3) := dk_180 0 75 (dk_at dksX1_goesOn_1 1 rfl rfl)
theorem dX1_goesOn_28 : decode cX1_goesOn 28 = .ok (.invokevirtual 202, 3) := dk_182 0 202 (dk_at dksX1_goesOn_1 4 rfl rfl)
theorem dX1_goesOn_31 : decode cX1_goesOn 31 = .ok (.return_, 1) := dk_177 (dk_at dksX1_goesOn_1 7 rfl rfl)
abbrev cX1_stored : ByteArray := prog_1_method_33_code
def yX1_stored : MethodName := ⟨RX1, "stored", "(II)I"⟩
def dkwX1_stored_3 : List UInt8 := [180, 0, 166, 27, 46, 172]
abbrev dktX1_stored_3 : List UInt8 := dkwX1_stored_3 ++ []
def dkwX1_stored_2 : List UInt8 := [162, 0, 19, 42, 42, 180, 0, 109, 29, 96, 182, 1, 40, 132, 3, 1, 167, 255, 238, 42, 180, 0, 78]
abbrev dktX1_stored_2 : List UInt8 := dkwX1_stored_2 ++ dktX1_stored_3
def dkwX1_stored_1 : List UInt8 := [42, 180, 0, 46, 182, 0, 187, 87, 42, 180, 0, 78, 42, 180, 0, 53, 182, 1, 37, 3, 62, 29, 28]
abbrev dktX1_stored_1 : List UInt8 := dkwX1_stored_1 ++ dktX1_stored_2
def dkwX1_stored_0 : List UInt8 := [42, 27, 182, 0, 160, 153, 0, 13, 28, 3, 16, 100, 184, 0, 123, 154, 0, 5, 2, 172, 42, 180, 0, 75]
abbrev dktX1_stored_0 : List UInt8 := dkwX1_stored_0 ++ dktX1_stored_1
theorem dksX1_stored_0 : cX1_stored.data.toList.drop 0 = dktX1_stored_0 := by decide +kernel
theorem dksX1_stored_1 : cX1_stored.data.toList.drop 24 = dktX1_stored_1 := dk_seg dksX1_stored_0 24 rfl rfl
theorem dksX1_stored_2 : cX1_stored.data.toList.drop 47 = dktX1_stored_2 := dk_seg dksX1_stored_1 23 rfl rfl
theorem dksX1_stored_3 : cX1_stored.data.toList.drop 70 = dktX1_stored_3 := dk_seg dksX1_stored_2 23 rfl rfl
theorem dX1_stored_0 : decode cX1_stored 0 = .ok (.aload_n 0, 1) := dk_42 (dk_at dksX1_stored_0 0 rfl rfl)
theorem dX1_stored_1 : decode cX1_stored 1 = .ok (.iload_n 1, 1) := dk_27 (dk_at dksX1_stored_0 1 rfl rfl)
theorem dX1_stored_2 : decode cX1_stored 2 = .ok (.invokevirtual 160, 3) := dk_182 0 160 (dk_at dksX1_stored_0 2 rfl rfl)
theorem dX1_stored_5 : decode cX1_stored 5 = .ok (.ifCond .eq 13, 3) := dk_153 0 13 (dk_at dksX1_stored_0 5 rfl rfl)
theorem dX1_stored_8 : decode cX1_stored 8 = .ok (.iload_n 2, 1) := dk_28 (dk_at dksX1_stored_0 8 rfl rfl)
theorem dX1_stored_9 : decode cX1_stored 9 = .ok (.iconst 0, 1) := dk_3 (dk_at dksX1_stored_0 9 rfl rfl)
theorem dX1_stored_10 : decode cX1_stored 10 = .ok (.bipush 100, 2) := dk_16 100 (dk_at dksX1_stored_0 10 rfl rfl)
theorem dX1_stored_12 : decode cX1_stored 12 = .ok (.invokestatic 123, 3) := dk_184 0 123 (dk_at dksX1_stored_0 12 rfl rfl)
theorem dX1_stored_15 : decode cX1_stored 15 = .ok (.ifCond .ne 5, 3) := dk_154 0 5 (dk_at dksX1_stored_0 15 rfl rfl)
theorem dX1_stored_18 : decode cX1_stored 18 = .ok (.iconst (-1), 1) := dk_2 (dk_at dksX1_stored_0 18 rfl rfl)
theorem dX1_stored_19 : decode cX1_stored 19 = .ok (.ireturn, 1) := dk_172 (dk_at dksX1_stored_0 19 rfl rfl)
theorem dX1_stored_20 : decode cX1_stored 20 = .ok (.aload_n 0, 1) := dk_42 (dk_at dksX1_stored_0 20 rfl rfl)
theorem dX1_stored_21 : decode cX1_stored 21 = .ok (.getfield 75, 3) := dk_180 0 75 (dk_at dksX1_stored_0 21 rfl rfl)
theorem dX1_stored_24 : decode cX1_stored 24 = .ok (.aload_n 0, 1) := dk_42 (dk_at dksX1_stored_1 0 rfl rfl)
theorem dX1_stored_25 : decode cX1_stored 25 = .ok (.getfield 46, 3) := dk_180 0 46 (dk_at dksX1_stored_1 1 rfl rfl)
theorem dX1_stored_28 : decode cX1_stored 28 = .ok (.invokevirtual 187, 3) := dk_182 0 187 (dk_at dksX1_stored_1 4 rfl rfl)
theorem dX1_stored_31 : decode cX1_stored 31 = .ok (.pop, 1) := dk_87 (dk_at dksX1_stored_1 7 rfl rfl)
theorem dX1_stored_32 : decode cX1_stored 32 = .ok (.aload_n 0, 1) := dk_42 (dk_at dksX1_stored_1 8 rfl rfl)
theorem dX1_stored_33 : decode cX1_stored 33 = .ok (.getfield 78, 3) := dk_180 0 78 (dk_at dksX1_stored_1 9 rfl rfl)
theorem dX1_stored_36 : decode cX1_stored 36 = .ok (.aload_n 0, 1) := dk_42 (dk_at dksX1_stored_1 12 rfl rfl)
theorem dX1_stored_37 : decode cX1_stored 37 = .ok (.getfield 53, 3) := dk_180 0 53 (dk_at dksX1_stored_1 13 rfl rfl)
theorem dX1_stored_40 : decode cX1_stored 40 = .ok (.invokevirtual 293, 3) := dk_182 1 37 (dk_at dksX1_stored_1 16 rfl rfl)
theorem dX1_stored_43 : decode cX1_stored 43 = .ok (.iconst 0, 1) := dk_3 (dk_at dksX1_stored_1 19 rfl rfl)
theorem dX1_stored_44 : decode cX1_stored 44 = .ok (.istore_n 3, 1) := dk_62 (dk_at dksX1_stored_1 20 rfl rfl)
theorem dX1_stored_45 : decode cX1_stored 45 = .ok (.iload_n 3, 1) := dk_29 (dk_at dksX1_stored_1 21 rfl rfl)
theorem dX1_stored_46 : decode cX1_stored 46 = .ok (.iload_n 2, 1) := dk_28 (dk_at dksX1_stored_1 22 rfl rfl)
theorem dX1_stored_47 : decode cX1_stored 47 = .ok (.if_icmp .ge 19, 3) := dk_162 0 19 (dk_at dksX1_stored_2 0 rfl rfl)
theorem dX1_stored_50 : decode cX1_stored 50 = .ok (.aload_n 0, 1) := dk_42 (dk_at dksX1_stored_2 3 rfl rfl)
theorem dX1_stored_51 : decode cX1_stored 51 = .ok (.aload_n 0, 1) := dk_42 (dk_at dksX1_stored_2 4 rfl rfl)
theorem dX1_stored_52 : decode cX1_stored 52 = .ok (.getfield 109, 3) := dk_180 0 109 (dk_at dksX1_stored_2 5 rfl rfl)
theorem dX1_stored_55 : decode cX1_stored 55 = .ok (.iload_n 3, 1) := dk_29 (dk_at dksX1_stored_2 8 rfl rfl)
theorem dX1_stored_56 : decode cX1_stored 56 = .ok (.iadd, 1) := dk_96 (dk_at dksX1_stored_2 9 rfl rfl)
theorem dX1_stored_57 : decode cX1_stored 57 = .ok (.invokevirtual 296, 3) := dk_182 1 40 (dk_at dksX1_stored_2 10 rfl rfl)
theorem dX1_stored_60 : decode cX1_stored 60 = .ok (.iinc 3 1, 3) := dk_132 3 1 (dk_at dksX1_stored_2 13 rfl rfl)
theorem dX1_stored_63 : decode cX1_stored 63 = .ok (.goto (-18), 3) := dk_167 255 238 (dk_at dksX1_stored_2 16 rfl rfl)
theorem dX1_stored_66 : decode cX1_stored 66 = .ok (.aload_n 0, 1) := dk_42 (dk_at dksX1_stored_2 19 rfl rfl)
theorem dX1_stored_67 : decode cX1_stored 67 = .ok (.getfield 78, 3) := dk_180 0 78 (dk_at dksX1_stored_2 20 rfl rfl)
theorem dX1_stored_70 : decode cX1_stored 70 = .ok (.getfield 166, 3) := dk_180 0 166 (dk_at dksX1_stored_3 0 rfl rfl)
theorem dX1_stored_73 : decode cX1_stored 73 = .ok (.iload_n 1, 1) := dk_27 (dk_at dksX1_stored_3 3 rfl rfl)
theorem dX1_stored_74 : decode cX1_stored 74 = .ok (.iaload, 1) := dk_46 (dk_at dksX1_stored_3 4 rfl rfl)
theorem dX1_stored_75 : decode cX1_stored 75 = .ok (.ireturn, 1) := dk_172 (dk_at dksX1_stored_3 5 rfl rfl)
abbrev cX1_jar : ByteArray := prog_1_method_34_code
def yX1_jar : MethodName := ⟨RX1, "jar", "(II)I"⟩
def dkwX1_jar_2 : List UInt8 := [79, 182, 1, 1, 87, 42, 180, 0, 64, 182, 0, 130, 172]
abbrev dktX1_jar_2 : List UInt8 := dkwX1_jar_2 ++ []
def dkwX1_jar_1 : List UInt8 := [182, 0, 130, 16, 8, 160, 0, 5, 2, 172, 42, 180, 0, 64, 5, 188, 10, 89, 3, 27, 79, 89, 4, 28]
abbrev dktX1_jar_1 : List UInt8 := dkwX1_jar_1 ++ dktX1_jar_2
def dkwX1_jar_0 : List UInt8 := [42, 27, 182, 0, 137, 153, 0, 26, 28, 3, 19, 1, 44, 184, 0, 123, 153, 0, 15, 42, 180, 0, 64]
abbrev dktX1_jar_0 : List UInt8 := dkwX1_jar_0 ++ dktX1_jar_1
theorem dksX1_jar_0 : cX1_jar.data.toList.drop 0 = dktX1_jar_0 := by decide +kernel
theorem dksX1_jar_1 : cX1_jar.data.toList.drop 23 = dktX1_jar_1 := dk_seg dksX1_jar_0 23 rfl rfl
theorem dksX1_jar_2 : cX1_jar.data.toList.drop 47 = dktX1_jar_2 := dk_seg dksX1_jar_1 24 rfl rfl
theorem dX1_jar_0 : decode cX1_jar 0 = .ok (.aload_n 0, 1) := dk_42 (dk_at dksX1_jar_0 0 rfl rfl)
theorem dX1_jar_1 : decode cX1_jar 1 = .ok (.iload_n 1, 1) := dk_27 (dk_at dksX1_jar_0 1 rfl rfl)
theorem dX1_jar_2 : decode cX1_jar 2 = .ok (.invokevirtual 137, 3) := dk_182 0 137 (dk_at dksX1_jar_0 2 rfl rfl)
theorem dX1_jar_5 : decode cX1_jar 5 = .ok (.ifCond .eq 26, 3) := dk_153 0 26 (dk_at dksX1_jar_0 5 rfl rfl)
theorem dX1_jar_8 : decode cX1_jar 8 = .ok (.iload_n 2, 1) := dk_28 (dk_at dksX1_jar_0 8 rfl rfl)
theorem dX1_jar_9 : decode cX1_jar 9 = .ok (.iconst 0, 1) := dk_3 (dk_at dksX1_jar_0 9 rfl rfl)
theorem dX1_jar_10 : decode cX1_jar 10 = .ok (.ldc_w 300, 3) := dk_19 1 44 (dk_at dksX1_jar_0 10 rfl rfl)
theorem dX1_jar_13 : decode cX1_jar 13 = .ok (.invokestatic 123, 3) := dk_184 0 123 (dk_at dksX1_jar_0 13 rfl rfl)
theorem dX1_jar_16 : decode cX1_jar 16 = .ok (.ifCond .eq 15, 3) := dk_153 0 15 (dk_at dksX1_jar_0 16 rfl rfl)
theorem dX1_jar_19 : decode cX1_jar 19 = .ok (.aload_n 0, 1) := dk_42 (dk_at dksX1_jar_0 19 rfl rfl)
theorem dX1_jar_20 : decode cX1_jar 20 = .ok (.getfield 64, 3) := dk_180 0 64 (dk_at dksX1_jar_0 20 rfl rfl)
theorem dX1_jar_23 : decode cX1_jar 23 = .ok (.invokevirtual 130, 3) := dk_182 0 130 (dk_at dksX1_jar_1 0 rfl rfl)
theorem dX1_jar_26 : decode cX1_jar 26 = .ok (.bipush 8, 2) := dk_16 8 (dk_at dksX1_jar_1 3 rfl rfl)
theorem dX1_jar_28 : decode cX1_jar 28 = .ok (.if_icmp .ne 5, 3) := dk_160 0 5 (dk_at dksX1_jar_1 5 rfl rfl)
theorem dX1_jar_31 : decode cX1_jar 31 = .ok (.iconst (-1), 1) := dk_2 (dk_at dksX1_jar_1 8 rfl rfl)
theorem dX1_jar_32 : decode cX1_jar 32 = .ok (.ireturn, 1) := dk_172 (dk_at dksX1_jar_1 9 rfl rfl)
theorem dX1_jar_33 : decode cX1_jar 33 = .ok (.aload_n 0, 1) := dk_42 (dk_at dksX1_jar_1 10 rfl rfl)
theorem dX1_jar_34 : decode cX1_jar 34 = .ok (.getfield 64, 3) := dk_180 0 64 (dk_at dksX1_jar_1 11 rfl rfl)
theorem dX1_jar_37 : decode cX1_jar 37 = .ok (.iconst 2, 1) := dk_5 (dk_at dksX1_jar_1 14 rfl rfl)
theorem dX1_jar_38 : decode cX1_jar 38 = .ok (.newarray .int, 2) := dk_188_10 (dk_at dksX1_jar_1 15 rfl rfl)
theorem dX1_jar_40 : decode cX1_jar 40 = .ok (.dup, 1) := dk_89 (dk_at dksX1_jar_1 17 rfl rfl)
theorem dX1_jar_41 : decode cX1_jar 41 = .ok (.iconst 0, 1) := dk_3 (dk_at dksX1_jar_1 18 rfl rfl)
theorem dX1_jar_42 : decode cX1_jar 42 = .ok (.iload_n 1, 1) := dk_27 (dk_at dksX1_jar_1 19 rfl rfl)
theorem dX1_jar_43 : decode cX1_jar 43 = .ok (.iastore, 1) := dk_79 (dk_at dksX1_jar_1 20 rfl rfl)
theorem dX1_jar_44 : decode cX1_jar 44 = .ok (.dup, 1) := dk_89 (dk_at dksX1_jar_1 21 rfl rfl)
theorem dX1_jar_45 : decode cX1_jar 45 = .ok (.iconst 1, 1) := dk_4 (dk_at dksX1_jar_1 22 rfl rfl)
theorem dX1_jar_46 : decode cX1_jar 46 = .ok (.iload_n 2, 1) := dk_28 (dk_at dksX1_jar_1 23 rfl rfl)
theorem dX1_jar_47 : decode cX1_jar 47 = .ok (.iastore, 1) := dk_79 (dk_at dksX1_jar_2 0 rfl rfl)
theorem dX1_jar_48 : decode cX1_jar 48 = .ok (.invokevirtual 257, 3) := dk_182 1 1 (dk_at dksX1_jar_2 1 rfl rfl)
theorem dX1_jar_51 : decode cX1_jar 51 = .ok (.pop, 1) := dk_87 (dk_at dksX1_jar_2 4 rfl rfl)
theorem dX1_jar_52 : decode cX1_jar 52 = .ok (.aload_n 0, 1) := dk_42 (dk_at dksX1_jar_2 5 rfl rfl)
theorem dX1_jar_53 : decode cX1_jar 53 = .ok (.getfield 64, 3) := dk_180 0 64 (dk_at dksX1_jar_2 6 rfl rfl)
theorem dX1_jar_56 : decode cX1_jar 56 = .ok (.invokevirtual 130, 3) := dk_182 0 130 (dk_at dksX1_jar_2 9 rfl rfl)
theorem dX1_jar_59 : decode cX1_jar 59 = .ok (.ireturn, 1) := dk_172 (dk_at dksX1_jar_2 12 rfl rfl)
abbrev cX1_clear : ByteArray := prog_1_method_35_code
def yX1_clear : MethodName := ⟨RX1, "clear", "()Z"⟩
def dkwX1_clear_0 : List UInt8 := [42, 180, 0, 64, 182, 0, 112, 4, 172]
abbrev dktX1_clear_0 : List UInt8 := dkwX1_clear_0 ++ []
theorem dksX1_clear_0 : cX1_clear.data.toList.drop 0 = dktX1_clear_0 := by decide +kernel
theorem dX1_clear_0 : decode cX1_clear 0 = .ok (.aload_n 0, 1) := dk_42 (dk_at dksX1_clear_0 0 rfl rfl)
theorem dX1_clear_1 : decode cX1_clear 1 = .ok (.getfield 64, 3) := dk_180 0 64 (dk_at dksX1_clear_0 1 rfl rfl)
theorem dX1_clear_4 : decode cX1_clear 4 = .ok (.invokevirtual 112, 3) := dk_182 0 112 (dk_at dksX1_clear_0 4 rfl rfl)
theorem dX1_clear_7 : decode cX1_clear 7 = .ok (.iconst 1, 1) := dk_4 (dk_at dksX1_clear_0 7 rfl rfl)
theorem dX1_clear_8 : decode cX1_clear 8 = .ok (.ireturn, 1) := dk_172 (dk_at dksX1_clear_0 8 rfl rfl)
abbrev cX1_winds : ByteArray := prog_1_method_39_code
def yX1_winds : MethodName := ⟨RX1, "winds", "()I"⟩
def dkwX1_winds_0 : List UInt8 := [42, 2, 182, 1, 51, 172]
abbrev dktX1_winds_0 : List UInt8 := dkwX1_winds_0 ++ []
theorem dksX1_winds_0 : cX1_winds.data.toList.drop 0 = dktX1_winds_0 := by decide +kernel
theorem dX1_winds_0 : decode cX1_winds 0 = .ok (.aload_n 0, 1) := dk_42 (dk_at dksX1_winds_0 0 rfl rfl)
theorem dX1_winds_1 : decode cX1_winds 1 = .ok (.iconst (-1), 1) := dk_2 (dk_at dksX1_winds_0 1 rfl rfl)
theorem dX1_winds_2 : decode cX1_winds 2 = .ok (.invokevirtual 307, 3) := dk_182 1 51 (dk_at dksX1_winds_0 2 rfl rfl)
theorem dX1_winds_5 : decode cX1_winds 5 = .ok (.ireturn, 1) := dk_172 (dk_at dksX1_winds_0 5 rfl rfl)
abbrev cX1_findsWinds : ByteArray := prog_1_method_38_code
def yX1_findsWinds : MethodName := ⟨RX1, "findsWinds", "(I)I"⟩
def dkwX1_findsWinds_3 : List UInt8 := [167, 255, 217, 27, 2, 160, 0, 7, 28, 167, 0, 4, 2, 172]
abbrev dktX1_findsWinds_3 : List UInt8 := dkwX1_findsWinds_3 ++ []
def dkwX1_findsWinds_2 : List UInt8 := [182, 1, 48, 154, 0, 6, 167, 0, 13, 28, 27, 160, 0, 5, 29, 172, 132, 2, 1, 132, 3, 1]
abbrev dktX1_findsWinds_2 : List UInt8 := dkwX1_findsWinds_2 ++ dktX1_findsWinds_3
def dkwX1_findsWinds_1 : List UInt8 := [182, 1, 45, 3, 61, 3, 62, 29, 4, 5, 42, 180, 0, 39, 180, 0, 134, 104, 120, 162, 0, 30, 42, 29]
abbrev dktX1_findsWinds_1 : List UInt8 := dkwX1_findsWinds_1 ++ dktX1_findsWinds_2
def dkwX1_findsWinds_0 : List UInt8 := [42, 180, 0, 39, 180, 0, 134, 16, 6, 163, 0, 10, 42, 180, 0, 109, 154, 0, 5, 2, 172, 42]
abbrev dktX1_findsWinds_0 : List UInt8 := dkwX1_findsWinds_0 ++ dktX1_findsWinds_1
theorem dksX1_findsWinds_0 : cX1_findsWinds.data.toList.drop 0 = dktX1_findsWinds_0 := by decide +kernel
theorem dksX1_findsWinds_1 : cX1_findsWinds.data.toList.drop 22 = dktX1_findsWinds_1 := dk_seg dksX1_findsWinds_0 22 rfl rfl
theorem dksX1_findsWinds_2 : cX1_findsWinds.data.toList.drop 46 = dktX1_findsWinds_2 := dk_seg dksX1_findsWinds_1 24 rfl rfl
theorem dksX1_findsWinds_3 : cX1_findsWinds.data.toList.drop 68 = dktX1_findsWinds_3 := dk_seg dksX1_findsWinds_2 22 rfl rfl
theorem dX1_findsWinds_0 : decode cX1_findsWinds 0 = .ok (.aload_n 0, 1) := dk_42 (dk_at dksX1_findsWinds_0 0 rfl rfl)
theorem dX1_findsWinds_1 : decode cX1_findsWinds 1 = .ok (.getfield 39, 3) := dk_180 0 39 (dk_at dksX1_findsWinds_0 1 rfl rfl)
theorem dX1_findsWinds_4 : decode cX1_findsWinds 4 = .ok (.getfield 134, 3) := dk_180 0 134 (dk_at dksX1_findsWinds_0 4 rfl rfl)
theorem dX1_findsWinds_7 : decode cX1_findsWinds 7 = .ok (.bipush 6, 2) := dk_16 6 (dk_at dksX1_findsWinds_0 7 rfl rfl)
theorem dX1_findsWinds_9 : decode cX1_findsWinds 9 = .ok (.if_icmp .gt 10, 3) := dk_163 0 10 (dk_at dksX1_findsWinds_0 9 rfl rfl)
theorem dX1_findsWinds_12 : decode cX1_findsWinds 12 = .ok (.aload_n 0, 1) := dk_42 (dk_at dksX1_findsWinds_0 12 rfl rfl)
theorem dX1_findsWinds_13 : decode cX1_findsWinds 13 = .ok (.getfield 109, 3) := dk_180 0 109 (dk_at dksX1_findsWinds_0 13 rfl rfl)
theorem dX1_findsWinds_16 : decode cX1_findsWinds 16 = .ok (.ifCond .ne 5, 3) := dk_154 0 5 (dk_at dksX1_findsWinds_0 16 rfl rfl)
theorem dX1_findsWinds_19 : decode cX1_findsWinds 19 = .ok (.iconst (-1), 1) := dk_2 (dk_at dksX1_findsWinds_0 19 rfl rfl)
theorem dX1_findsWinds_20 : decode cX1_findsWinds 20 = .ok (.ireturn, 1) := dk_172 (dk_at dksX1_findsWinds_0 20 rfl rfl)
theorem dX1_findsWinds_21 : decode cX1_findsWinds 21 = .ok (.aload_n 0, 1) := dk_42 (dk_at dksX1_findsWinds_0 21 rfl rfl)
theorem dX1_findsWinds_22 : decode cX1_findsWinds 22 = .ok (.invokevirtual 301, 3) := dk_182 1 45 (dk_at dksX1_findsWinds_1 0 rfl rfl)
theorem dX1_findsWinds_25 : decode cX1_findsWinds 25 = .ok (.iconst 0, 1) := dk_3 (dk_at dksX1_findsWinds_1 3 rfl rfl)
theorem dX1_findsWinds_26 : decode cX1_findsWinds 26 = .ok (.istore_n 2, 1) := dk_61 (dk_at dksX1_findsWinds_1 4 rfl rfl)
theorem dX1_findsWinds_27 : decode cX1_findsWinds 27 = .ok (.iconst 0, 1) := dk_3 (dk_at dksX1_findsWinds_1 5 rfl rfl)
theorem dX1_findsWinds_28 : decode cX1_findsWinds 28 = .ok (.istore_n 3, 1) := dk_62 (dk_at dksX1_findsWinds_1 6 rfl rfl)
theorem dX1_findsWinds_29 : decode cX1_findsWinds 29 = .ok (.iload_n 3, 1) := dk_29 (dk_at dksX1_findsWinds_1 7 rfl rfl)
theorem dX1_findsWinds_30 : decode cX1_findsWinds 30 = .ok (.iconst 1, 1) := dk_4 (dk_at dksX1_findsWinds_1 8 rfl rfl)
theorem dX1_findsWinds_31 : decode cX1_findsWinds 31 = .ok (.iconst 2, 1) := dk_5 (dk_at dksX1_findsWinds_1 9 rfl rfl)
theorem dX1_findsWinds_32 : decode cX1_findsWinds 32 = .ok (.aload_n 0, 1) := dk_42 (dk_at dksX1_findsWinds_1 10 rfl rfl)
theorem dX1_findsWinds_33 : decode cX1_findsWinds 33 = .ok (.getfield 39, 3) := dk_180 0 39 (dk_at dksX1_findsWinds_1 11 rfl rfl)
theorem dX1_findsWinds_36 : decode cX1_findsWinds 36 = .ok (.getfield 134, 3) := dk_180 0 134 (dk_at dksX1_findsWinds_1 14 rfl rfl)
theorem dX1_findsWinds_39 : decode cX1_findsWinds 39 = .ok (.imul, 1) := dk_104 (dk_at dksX1_findsWinds_1 17 rfl rfl)
theorem dX1_findsWinds_40 : decode cX1_findsWinds 40 = .ok (.ishl, 1) := dk_120 (dk_at dksX1_findsWinds_1 18 rfl rfl)
theorem dX1_findsWinds_41 : decode cX1_findsWinds 41 = .ok (.if_icmp .ge 30, 3) := dk_162 0 30 (dk_at dksX1_findsWinds_1 19 rfl rfl)
theorem dX1_findsWinds_44 : decode cX1_findsWinds 44 = .ok (.aload_n 0, 1) := dk_42 (dk_at dksX1_findsWinds_1 22 rfl rfl)
theorem dX1_findsWinds_45 : decode cX1_findsWinds 45 = .ok (.iload_n 3, 1) := dk_29 (dk_at dksX1_findsWinds_1 23 rfl rfl)
theorem dX1_findsWinds_46 : decode cX1_findsWinds 46 = .ok (.invokevirtual 304, 3) := dk_182 1 48 (dk_at dksX1_findsWinds_2 0 rfl rfl)
theorem dX1_findsWinds_49 : decode cX1_findsWinds 49 = .ok (.ifCond .ne 6, 3) := dk_154 0 6 (dk_at dksX1_findsWinds_2 3 rfl rfl)
theorem dX1_findsWinds_52 : decode cX1_findsWinds 52 = .ok (.goto 13, 3) := dk_167 0 13 (dk_at dksX1_findsWinds_2 6 rfl rfl)
theorem dX1_findsWinds_55 : decode cX1_findsWinds 55 = .ok (.iload_n 2, 1) := dk_28 (dk_at dksX1_findsWinds_2 9 rfl rfl)
theorem dX1_findsWinds_56 : decode cX1_findsWinds 56 = .ok (.iload_n 1, 1) := dk_27 (dk_at dksX1_findsWinds_2 10 rfl rfl)
theorem dX1_findsWinds_57 : decode cX1_findsWinds 57 = .ok (.if_icmp .ne 5, 3) := dk_160 0 5 (dk_at dksX1_findsWinds_2 11 rfl rfl)
theorem dX1_findsWinds_60 : decode cX1_findsWinds 60 = .ok (.iload_n 3, 1) := dk_29 (dk_at dksX1_findsWinds_2 14 rfl rfl)
theorem dX1_findsWinds_61 : decode cX1_findsWinds 61 = .ok (.ireturn, 1) := dk_172 (dk_at dksX1_findsWinds_2 15 rfl rfl)
theorem dX1_findsWinds_62 : decode cX1_findsWinds 62 = .ok (.iinc 2 1, 3) := dk_132 2 1 (dk_at dksX1_findsWinds_2 16 rfl rfl)
theorem dX1_findsWinds_65 : decode cX1_findsWinds 65 = .ok (.iinc 3 1, 3) := dk_132 3 1 (dk_at dksX1_findsWinds_2 19 rfl rfl)
theorem dX1_findsWinds_68 : decode cX1_findsWinds 68 = .ok (.goto (-39), 3) := dk_167 255 217 (dk_at dksX1_findsWinds_3 0 rfl rfl)
theorem dX1_findsWinds_71 : decode cX1_findsWinds 71 = .ok (.iload_n 1, 1) := dk_27 (dk_at dksX1_findsWinds_3 3 rfl rfl)
theorem dX1_findsWinds_72 : decode cX1_findsWinds 72 = .ok (.iconst (-1), 1) := dk_2 (dk_at dksX1_findsWinds_3 4 rfl rfl)
theorem dX1_findsWinds_73 : decode cX1_findsWinds 73 = .ok (.if_icmp .ne 7, 3) := dk_160 0 7 (dk_at dksX1_findsWinds_3 5 rfl rfl)
theorem dX1_findsWinds_76 : decode cX1_findsWinds 76 = .ok (.iload_n 2, 1) := dk_28 (dk_at dksX1_findsWinds_3 8 rfl rfl)
theorem dX1_findsWinds_77 : decode cX1_findsWinds 77 = .ok (.goto 4, 3) := dk_167 0 4 (dk_at dksX1_findsWinds_3 9 rfl rfl)
theorem dX1_findsWinds_80 : decode cX1_findsWinds 80 = .ok (.iconst (-1), 1) := dk_2 (dk_at dksX1_findsWinds_3 12 rfl rfl)
theorem dX1_findsWinds_81 : decode cX1_findsWinds 81 = .ok (.ireturn, 1) := dk_172 (dk_at dksX1_findsWinds_3 13 rfl rfl)
abbrev cX1_findsTaken : ByteArray := prog_1_method_36_code
def yX1_findsTaken : MethodName := ⟨RX1, "findsTaken", "()V"⟩
def dkwX1_findsTaken_6 : List UInt8 := [167, 255, 142, 132, 1, 1, 167, 255, 123, 177]
abbrev dktX1_findsTaken_6 : List UInt8 := dkwX1_findsTaken_6 ++ []
def dkwX1_findsTaken_5 : List UInt8 := [180, 0, 84, 16, 12, 7, 27, 104, 28, 96, 104, 42, 180, 0, 75, 180, 0, 120, 184, 0, 209, 132, 2, 1]
abbrev dktX1_findsTaken_5 : List UInt8 := dkwX1_findsTaken_5 ++ dktX1_findsTaken_6
def dkwX1_findsTaken_4 : List UInt8 := [28, 182, 0, 183, 27, 182, 0, 191, 87, 132, 3, 1, 167, 255, 214, 42, 180, 0, 75, 180, 0, 206, 3, 42]
abbrev dktX1_findsTaken_4 : List UInt8 := dkwX1_findsTaken_4 ++ dktX1_findsTaken_5
def dkwX1_findsTaken_3 : List UInt8 := [182, 0, 179, 162, 0, 36, 42, 180, 0, 75, 28, 29, 42, 180, 0, 39, 42, 180, 0, 109, 4, 100, 27, 29]
abbrev dktX1_findsTaken_3 : List UInt8 := dkwX1_findsTaken_3 ++ dktX1_findsTaken_4
def dkwX1_findsTaken_2 : List UInt8 := [180, 0, 75, 180, 0, 206, 29, 3, 79, 132, 3, 1, 167, 255, 232, 3, 62, 29, 42, 180, 0, 39, 28]
abbrev dktX1_findsTaken_2 : List UInt8 := dkwX1_findsTaken_2 ++ dktX1_findsTaken_3
def dkwX1_findsTaken_1 : List UInt8 := [162, 0, 128, 3, 61, 28, 7, 162, 0, 115, 3, 62, 29, 42, 180, 0, 75, 180, 0, 120, 162, 0, 19, 42]
abbrev dktX1_findsTaken_1 : List UInt8 := dkwX1_findsTaken_1 ++ dktX1_findsTaken_2
def dkwX1_findsTaken_0 : List UInt8 := [42, 180, 0, 75, 42, 180, 0, 46, 182, 0, 187, 87, 3, 60, 27, 42, 180, 0, 39, 180, 0, 134]
abbrev dktX1_findsTaken_0 : List UInt8 := dkwX1_findsTaken_0 ++ dktX1_findsTaken_1
theorem dksX1_findsTaken_0 : cX1_findsTaken.data.toList.drop 0 = dktX1_findsTaken_0 := by decide +kernel
theorem dksX1_findsTaken_1 : cX1_findsTaken.data.toList.drop 22 = dktX1_findsTaken_1 := dk_seg dksX1_findsTaken_0 22 rfl rfl
theorem dksX1_findsTaken_2 : cX1_findsTaken.data.toList.drop 46 = dktX1_findsTaken_2 := dk_seg dksX1_findsTaken_1 24 rfl rfl
theorem dksX1_findsTaken_3 : cX1_findsTaken.data.toList.drop 69 = dktX1_findsTaken_3 := dk_seg dksX1_findsTaken_2 23 rfl rfl
theorem dksX1_findsTaken_4 : cX1_findsTaken.data.toList.drop 93 = dktX1_findsTaken_4 := dk_seg dksX1_findsTaken_3 24 rfl rfl
theorem dksX1_findsTaken_5 : cX1_findsTaken.data.toList.drop 117 = dktX1_findsTaken_5 := dk_seg dksX1_findsTaken_4 24 rfl rfl
theorem dksX1_findsTaken_6 : cX1_findsTaken.data.toList.drop 141 = dktX1_findsTaken_6 := dk_seg dksX1_findsTaken_5 24 rfl rfl
theorem dX1_findsTaken_0 : decode cX1_findsTaken 0 = .ok (.aload_n 0, 1) := dk_42 (dk_at dksX1_findsTaken_0 0 rfl rfl)
theorem dX1_findsTaken_1 : decode cX1_findsTaken 1 = .ok (.getfield 75, 3) := dk_180 0 75 (dk_at dksX1_findsTaken_0 1 rfl rfl)
theorem dX1_findsTaken_4 : decode cX1_findsTaken 4 = .ok (.aload_n 0, 1) := dk_42 (dk_at dksX1_findsTaken_0 4 rfl rfl)
theorem dX1_findsTaken_5 : decode cX1_findsTaken 5 = .ok (.getfield 46, 3) := dk_180 0 46 (dk_at dksX1_findsTaken_0 5 rfl rfl)
theorem dX1_findsTaken_8 : decode cX1_findsTaken 8 = .ok (.invokevirtual 187, 3) := dk_182 0 187 (dk_at dksX1_findsTaken_0 8 rfl rfl)
theorem dX1_findsTaken_11 : decode cX1_findsTaken 11 = .ok (.pop, 1) := dk_87 (dk_at dksX1_findsTaken_0 11 rfl rfl)
theorem dX1_findsTaken_12 : decode cX1_findsTaken 12 = .ok (.iconst 0, 1) := dk_3 (dk_at dksX1_findsTaken_0 12 rfl rfl)
theorem dX1_findsTaken_13 : decode cX1_findsTaken 13 = .ok (.istore_n 1, 1) := dk_60 (dk_at dksX1_findsTaken_0 13 rfl rfl)
theorem dX1_findsTaken_14 : decode cX1_findsTaken 14 = .ok (.iload_n 1, 1) := dk_27 (dk_at dksX1_findsTaken_0 14 rfl rfl)
theorem dX1_findsTaken_15 : decode cX1_findsTaken 15 = .ok (.aload_n 0, 1) := dk_42 (dk_at dksX1_findsTaken_0 15 rfl rfl)
theorem dX1_findsTaken_16 : decode cX1_findsTaken 16 = .ok (.getfield 39, 3) := dk_180 0 39 (dk_at dksX1_findsTaken_0 16 rfl rfl)
theorem dX1_findsTaken_19 : decode cX1_findsTaken 19 = .ok (.getfield 134, 3) := dk_180 0 134 (dk_at dksX1_findsTaken_0 19 rfl rfl)
theorem dX1_findsTaken_22 : decode cX1_findsTaken 22 = .ok (.if_icmp .ge 128, 3) := dk_162 0 128 (dk_at dksX1_findsTaken_1 0 rfl rfl)
theorem dX1_findsTaken_25 : decode cX1_findsTaken 25 = .ok (.iconst 0, 1) := dk_3 (dk_at dksX1_findsTaken_1 3 rfl rfl)
theorem dX1_findsTaken_26 : decode cX1_findsTaken 26 = .ok (.istore_n 2, 1) := dk_61 (dk_at dksX1_findsTaken_1 4 rfl rfl)
theorem dX1_findsTaken_27 : decode cX1_findsTaken 27 = .ok (.iload_n 2, 1) := dk_28 (dk_at dksX1_findsTaken_1 5 rfl rfl)
theorem dX1_findsTaken_28 : decode cX1_findsTaken 28 = .ok (.iconst 4, 1) := dk_7 (dk_at dksX1_findsTaken_1 6 rfl rfl)
theorem dX1_findsTaken_29 : decode cX1_findsTaken 29 = .ok (.if_icmp .ge 115, 3) := dk_162 0 115 (dk_at dksX1_findsTaken_1 7 rfl rfl)
theorem dX1_findsTaken_32 : decode cX1_findsTaken 32 = .ok (.iconst 0, 1) := dk_3 (dk_at dksX1_findsTaken_1 10 rfl rfl)
theorem dX1_findsTaken_33 : decode cX1_findsTaken 33 = .ok (.istore_n 3, 1) := dk_62 (dk_at dksX1_findsTaken_1 11 rfl rfl)
theorem dX1_findsTaken_34 : decode cX1_findsTaken 34 = .ok (.iload_n 3, 1) := dk_29 (dk_at dksX1_findsTaken_1 12 rfl rfl)
theorem dX1_findsTaken_35 : decode cX1_findsTaken 35 = .ok (.aload_n 0, 1) := dk_42 (dk_at dksX1_findsTaken_1 13 rfl rfl)
theorem dX1_findsTaken_36 : decode cX1_findsTaken 36 = .ok (.getfield 75, 3) := dk_180 0 75 (dk_at dksX1_findsTaken_1 14 rfl rfl)
theorem dX1_findsTaken_39 : decode cX1_findsTaken 39 = .ok (.getfield 120, 3) := dk_180 0 120 (dk_at dksX1_findsTaken_1 17 rfl rfl)
theorem dX1_findsTaken_42 : decode cX1_findsTaken 42 = .ok (.if_icmp .ge 19, 3) := dk_162 0 19 (dk_at dksX1_findsTaken_1 20 rfl rfl)
theorem dX1_findsTaken_45 : decode cX1_findsTaken 45 = .ok (.aload_n 0, 1) := dk_42 (dk_at dksX1_findsTaken_1 23 rfl rfl)
theorem dX1_findsTaken_46 : decode cX1_findsTaken 46 = .ok (.getfield 75, 3) := dk_180 0 75 (dk_at dksX1_findsTaken_2 0 rfl rfl)
theorem dX1_findsTaken_49 : decode cX1_findsTaken 49 = .ok (.getfield 206, 3) := dk_180 0 206 (dk_at dksX1_findsTaken_2 3 rfl rfl)
theorem dX1_findsTaken_52 : decode cX1_findsTaken 52 = .ok (.iload_n 3, 1) := dk_29 (dk_at dksX1_findsTaken_2 6 rfl rfl)
theorem dX1_findsTaken_53 : decode cX1_findsTaken 53 = .ok (.iconst 0, 1) := dk_3 (dk_at dksX1_findsTaken_2 7 rfl rfl)
theorem dX1_findsTaken_54 : decode cX1_findsTaken 54 = .ok (.iastore, 1) := dk_79 (dk_at dksX1_findsTaken_2 8 rfl rfl)
theorem dX1_findsTaken_55 : decode cX1_findsTaken 55 = .ok (.iinc 3 1, 3) := dk_132 3 1 (dk_at dksX1_findsTaken_2 9 rfl rfl)
theorem dX1_findsTaken_58 : decode cX1_findsTaken 58 = .ok (.goto (-24), 3) := dk_167 255 232 (dk_at dksX1_findsTaken_2 12 rfl rfl)
theorem dX1_findsTaken_61 : decode cX1_findsTaken 61 = .ok (.iconst 0, 1) := dk_3 (dk_at dksX1_findsTaken_2 15 rfl rfl)
theorem dX1_findsTaken_62 : decode cX1_findsTaken 62 = .ok (.istore_n 3, 1) := dk_62 (dk_at dksX1_findsTaken_2 16 rfl rfl)
theorem dX1_findsTaken_63 : decode cX1_findsTaken 63 = .ok (.iload_n 3, 1) := dk_29 (dk_at dksX1_findsTaken_2 17 rfl rfl)
theorem dX1_findsTaken_64 : decode cX1_findsTaken 64 = .ok (.aload_n 0, 1) := dk_42 (dk_at dksX1_findsTaken_2 18 rfl rfl)
theorem dX1_findsTaken_65 : decode cX1_findsTaken 65 = .ok (.getfield 39, 3) := dk_180 0 39 (dk_at dksX1_findsTaken_2 19 rfl rfl)
theorem dX1_findsTaken_68 : decode cX1_findsTaken 68 = .ok (.iload_n 2, 1) := dk_28 (dk_at dksX1_findsTaken_2 22 rfl rfl)
theorem dX1_findsTaken_69 : decode cX1_findsTaken 69 = .ok (.invokevirtual 179, 3) := dk_182 0 179 (dk_at dksX1_findsTaken_3 0 rfl rfl)
theorem dX1_findsTaken_72 : decode cX1_findsTaken 72 = .ok (.if_icmp .ge 36, 3) := dk_162 0 36 (dk_at dksX1_findsTaken_3 3 rfl rfl)
theorem dX1_findsTaken_75 : decode cX1_findsTaken 75 = .ok (.aload_n 0, 1) := dk_42 (dk_at dksX1_findsTaken_3 6 rfl rfl)
theorem dX1_findsTaken_76 : decode cX1_findsTaken 76 = .ok (.getfield 75, 3) := dk_180 0 75 (dk_at dksX1_findsTaken_3 7 rfl rfl)
theorem dX1_findsTaken_79 : decode cX1_findsTaken 79 = .ok (.iload_n 2, 1) := dk_28 (dk_at dksX1_findsTaken_3 10 rfl rfl)
theorem dX1_findsTaken_80 : decode cX1_findsTaken 80 = .ok (.iload_n 3, 1) := dk_29 (dk_at dksX1_findsTaken_3 11 rfl rfl)
theorem dX1_findsTaken_81 : decode cX1_findsTaken 81 = .ok (.aload_n 0, 1) := dk_42 (dk_at dksX1_findsTaken_3 12 rfl rfl)
theorem dX1_findsTaken_82 : decode cX1_findsTaken 82 = .ok (.getfield 39, 3) := dk_180 0 39 (dk_at dksX1_findsTaken_3 13 rfl rfl)
theorem dX1_findsTaken_85 : decode cX1_findsTaken 85 = .ok (.aload_n 0, 1) := dk_42 (dk_at dksX1_findsTaken_3 16 rfl rfl)
theorem dX1_findsTaken_86 : decode cX1_findsTaken 86 = .ok (.getfield 109, 3) := dk_180 0 109 (dk_at dksX1_findsTaken_3 17 rfl rfl)
theorem dX1_findsTaken_89 : decode cX1_findsTaken 89 = .ok (.iconst 1, 1) := dk_4 (dk_at dksX1_findsTaken_3 20 rfl rfl)
theorem dX1_findsTaken_90 : decode cX1_findsTaken 90 = .ok (.isub, 1) := dk_100 (dk_at dksX1_findsTaken_3 21 rfl rfl)
theorem dX1_findsTaken_91 : decode cX1_findsTaken 91 = .ok (.iload_n 1, 1) := dk_27 (dk_at dksX1_findsTaken_3 22 rfl rfl)
theorem dX1_findsTaken_92 : decode cX1_findsTaken 92 = .ok (.iload_n 3, 1) := dk_29 (dk_at dksX1_findsTaken_3 23 rfl rfl)
theorem dX1_findsTaken_93 : decode cX1_findsTaken 93 = .ok (.iload_n 2, 1) := dk_28 (dk_at dksX1_findsTaken_4 0 rfl rfl)
theorem dX1_findsTaken_94 : decode cX1_findsTaken 94 = .ok (.invokevirtual 183, 3) := dk_182 0 183 (dk_at dksX1_findsTaken_4 1 rfl rfl)
theorem dX1_findsTaken_97 : decode cX1_findsTaken 97 = .ok (.iload_n 1, 1) := dk_27 (dk_at dksX1_findsTaken_4 4 rfl rfl)
theorem dX1_findsTaken_98 : decode cX1_findsTaken 98 = .ok (.invokevirtual 191, 3) := dk_182 0 191 (dk_at dksX1_findsTaken_4 5 rfl rfl)
theorem dX1_findsTaken_101 : decode cX1_findsTaken 101 = .ok (.pop, 1) := dk_87 (dk_at dksX1_findsTaken_4 8 rfl rfl)
theorem dX1_findsTaken_102 : decode cX1_findsTaken 102 = .ok (.iinc 3 1, 3) := dk_132 3 1 (dk_at dksX1_findsTaken_4 9 rfl rfl)
theorem dX1_findsTaken_105 : decode cX1_findsTaken 105 = .ok (.goto (-42), 3) := dk_167 255 214 (dk_at dksX1_findsTaken_4 12 rfl rfl)
theorem dX1_findsTaken_108 : decode cX1_findsTaken 108 = .ok (.aload_n 0, 1) := dk_42 (dk_at dksX1_findsTaken_4 15 rfl rfl)
theorem dX1_findsTaken_109 : decode cX1_findsTaken 109 = .ok (.getfield 75, 3) := dk_180 0 75 (dk_at dksX1_findsTaken_4 16 rfl rfl)
theorem dX1_findsTaken_112 : decode cX1_findsTaken 112 = .ok (.getfield 206, 3) := dk_180 0 206 (dk_at dksX1_findsTaken_4 19 rfl rfl)
theorem dX1_findsTaken_115 : decode cX1_findsTaken 115 = .ok (.iconst 0, 1) := dk_3 (dk_at dksX1_findsTaken_4 22 rfl rfl)
theorem dX1_findsTaken_116 : decode cX1_findsTaken 116 = .ok (.aload_n 0, 1) := dk_42 (dk_at dksX1_findsTaken_4 23 rfl rfl)
theorem dX1_findsTaken_117 : decode cX1_findsTaken 117 = .ok (.getfield 84, 3) := dk_180 0 84 (dk_at dksX1_findsTaken_5 0 rfl rfl)
theorem dX1_findsTaken_120 : decode cX1_findsTaken 120 = .ok (.bipush 12, 2) := dk_16 12 (dk_at dksX1_findsTaken_5 3 rfl rfl)
theorem dX1_findsTaken_122 : decode cX1_findsTaken 122 = .ok (.iconst 4, 1) := dk_7 (dk_at dksX1_findsTaken_5 5 rfl rfl)
theorem dX1_findsTaken_123 : decode cX1_findsTaken 123 = .ok (.iload_n 1, 1) := dk_27 (dk_at dksX1_findsTaken_5 6 rfl rfl)
theorem dX1_findsTaken_124 : decode cX1_findsTaken 124 = .ok (.imul, 1) := dk_104 (dk_at dksX1_findsTaken_5 7 rfl rfl)
theorem dX1_findsTaken_125 : decode cX1_findsTaken 125 = .ok (.iload_n 2, 1) := dk_28 (dk_at dksX1_findsTaken_5 8 rfl rfl)
theorem dX1_findsTaken_126 : decode cX1_findsTaken 126 = .ok (.iadd, 1) := dk_96 (dk_at dksX1_findsTaken_5 9 rfl rfl)
theorem dX1_findsTaken_127 : decode cX1_findsTaken 127 = .ok (.imul, 1) := dk_104 (dk_at dksX1_findsTaken_5 10 rfl rfl)
theorem dX1_findsTaken_128 : decode cX1_findsTaken 128 = .ok (.aload_n 0, 1) := dk_42 (dk_at dksX1_findsTaken_5 11 rfl rfl)
theorem dX1_findsTaken_129 : decode cX1_findsTaken 129 = .ok (.getfield 75, 3) := dk_180 0 75 (dk_at dksX1_findsTaken_5 12 rfl rfl)
theorem dX1_findsTaken_132 : decode cX1_findsTaken 132 = .ok (.getfield 120, 3) := dk_180 0 120 (dk_at dksX1_findsTaken_5 15 rfl rfl)
theorem dX1_findsTaken_135 : decode cX1_findsTaken 135 = .ok (.invokestatic 209, 3) := dk_184 0 209 (dk_at dksX1_findsTaken_5 18 rfl rfl)
theorem dX1_findsTaken_138 : decode cX1_findsTaken 138 = .ok (.iinc 2 1, 3) := dk_132 2 1 (dk_at dksX1_findsTaken_5 21 rfl rfl)
theorem dX1_findsTaken_141 : decode cX1_findsTaken 141 = .ok (.goto (-114), 3) := dk_167 255 142 (dk_at dksX1_findsTaken_6 0 rfl rfl)
theorem dX1_findsTaken_144 : decode cX1_findsTaken 144 = .ok (.iinc 1 1, 3) := dk_132 1 1 (dk_at dksX1_findsTaken_6 3 rfl rfl)
theorem dX1_findsTaken_147 : decode cX1_findsTaken 147 = .ok (.goto (-133), 3) := dk_167 255 123 (dk_at dksX1_findsTaken_6 6 rfl rfl)
theorem dX1_findsTaken_150 : decode cX1_findsTaken 150 = .ok (.return_, 1) := dk_177 (dk_at dksX1_findsTaken_6 9 rfl rfl)
abbrev cX1_isSo : ByteArray := prog_1_method_37_code
def yX1_isSo : MethodName := ⟨RX1, "isSo", "(I)Z"⟩
def dkwX1_isSo_4 : List UInt8 := [132, 2, 1, 167, 255, 162, 4, 172]
abbrev dktX1_isSo_4 : List UInt8 := dkwX1_isSo_4 ++ []
def dkwX1_isSo_3 : List UInt8 := [167, 255, 203, 29, 42, 180, 0, 64, 28, 182, 0, 252, 192, 1, 0, 4, 46, 159, 0, 5, 3, 172]
abbrev dktX1_isSo_3 : List UInt8 := dkwX1_isSo_3 ++ dktX1_isSo_4
def dkwX1_isSo_2 : List UInt8 := [126, 96, 104, 42, 180, 0, 64, 28, 182, 0, 252, 192, 1, 0, 3, 46, 96, 46, 96, 62, 132, 4, 1]
abbrev dktX1_isSo_2 : List UInt8 := dkwX1_isSo_2 ++ dktX1_isSo_3
def dkwX1_isSo_1 : List UInt8 := [180, 0, 134, 162, 0, 47, 29, 42, 180, 0, 84, 16, 12, 7, 21, 4, 104, 27, 5, 21, 4, 104, 122, 6]
abbrev dktX1_isSo_1 : List UInt8 := dkwX1_isSo_1 ++ dktX1_isSo_2
def dkwX1_isSo_0 : List UInt8 := [3, 61, 28, 42, 180, 0, 64, 182, 0, 130, 162, 0, 89, 3, 62, 3, 54, 4, 21, 4, 42, 180, 0, 39]
abbrev dktX1_isSo_0 : List UInt8 := dkwX1_isSo_0 ++ dktX1_isSo_1
theorem dksX1_isSo_0 : cX1_isSo.data.toList.drop 0 = dktX1_isSo_0 := by decide +kernel
theorem dksX1_isSo_1 : cX1_isSo.data.toList.drop 24 = dktX1_isSo_1 := dk_seg dksX1_isSo_0 24 rfl rfl
theorem dksX1_isSo_2 : cX1_isSo.data.toList.drop 48 = dktX1_isSo_2 := dk_seg dksX1_isSo_1 24 rfl rfl
theorem dksX1_isSo_3 : cX1_isSo.data.toList.drop 71 = dktX1_isSo_3 := dk_seg dksX1_isSo_2 23 rfl rfl
theorem dksX1_isSo_4 : cX1_isSo.data.toList.drop 93 = dktX1_isSo_4 := dk_seg dksX1_isSo_3 22 rfl rfl
theorem dX1_isSo_0 : decode cX1_isSo 0 = .ok (.iconst 0, 1) := dk_3 (dk_at dksX1_isSo_0 0 rfl rfl)
theorem dX1_isSo_1 : decode cX1_isSo 1 = .ok (.istore_n 2, 1) := dk_61 (dk_at dksX1_isSo_0 1 rfl rfl)
theorem dX1_isSo_2 : decode cX1_isSo 2 = .ok (.iload_n 2, 1) := dk_28 (dk_at dksX1_isSo_0 2 rfl rfl)
theorem dX1_isSo_3 : decode cX1_isSo 3 = .ok (.aload_n 0, 1) := dk_42 (dk_at dksX1_isSo_0 3 rfl rfl)
theorem dX1_isSo_4 : decode cX1_isSo 4 = .ok (.getfield 64, 3) := dk_180 0 64 (dk_at dksX1_isSo_0 4 rfl rfl)
theorem dX1_isSo_7 : decode cX1_isSo 7 = .ok (.invokevirtual 130, 3) := dk_182 0 130 (dk_at dksX1_isSo_0 7 rfl rfl)
theorem dX1_isSo_10 : decode cX1_isSo 10 = .ok (.if_icmp .ge 89, 3) := dk_162 0 89 (dk_at dksX1_isSo_0 10 rfl rfl)
theorem dX1_isSo_13 : decode cX1_isSo 13 = .ok (.iconst 0, 1) := dk_3 (dk_at dksX1_isSo_0 13 rfl rfl)
theorem dX1_isSo_14 : decode cX1_isSo 14 = .ok (.istore_n 3, 1) := dk_62 (dk_at dksX1_isSo_0 14 rfl rfl)
theorem dX1_isSo_15 : decode cX1_isSo 15 = .ok (.iconst 0, 1) := dk_3 (dk_at dksX1_isSo_0 15 rfl rfl)
theorem dX1_isSo_16 : decode cX1_isSo 16 = .ok (.istore 4, 2) := dk_54 4 (dk_at dksX1_isSo_0 16 rfl rfl)
theorem dX1_isSo_18 : decode cX1_isSo 18 = .ok (.iload 4, 2) := dk_21 4 (dk_at dksX1_isSo_0 18 rfl rfl)
theorem dX1_isSo_20 : decode cX1_isSo 20 = .ok (.aload_n 0, 1) := dk_42 (dk_at dksX1_isSo_0 20 rfl rfl)
theorem dX1_isSo_21 : decode cX1_isSo 21 = .ok (.getfield 39, 3) := dk_180 0 39 (dk_at dksX1_isSo_0 21 rfl rfl)
theorem dX1_isSo_24 : decode cX1_isSo 24 = .ok (.getfield 134, 3) := dk_180 0 134 (dk_at dksX1_isSo_1 0 rfl rfl)
theorem dX1_isSo_27 : decode cX1_isSo 27 = .ok (.if_icmp .ge 47, 3) := dk_162 0 47 (dk_at dksX1_isSo_1 3 rfl rfl)
theorem dX1_isSo_30 : decode cX1_isSo 30 = .ok (.iload_n 3, 1) := dk_29 (dk_at dksX1_isSo_1 6 rfl rfl)
theorem dX1_isSo_31 : decode cX1_isSo 31 = .ok (.aload_n 0, 1) := dk_42 (dk_at dksX1_isSo_1 7 rfl rfl)
theorem dX1_isSo_32 : decode cX1_isSo 32 = .ok (.getfield 84, 3) := dk_180 0 84 (dk_at dksX1_isSo_1 8 rfl rfl)
theorem dX1_isSo_35 : decode cX1_isSo 35 = .ok (.bipush 12, 2) := dk_16 12 (dk_at dksX1_isSo_1 11 rfl rfl)
theorem dX1_isSo_37 : decode cX1_isSo 37 = .ok (.iconst 4, 1) := dk_7 (dk_at dksX1_isSo_1 13 rfl rfl)
theorem dX1_isSo_38 : decode cX1_isSo 38 = .ok (.iload 4, 2) := dk_21 4 (dk_at dksX1_isSo_1 14 rfl rfl)
theorem dX1_isSo_40 : decode cX1_isSo 40 = .ok (.imul, 1) := dk_104 (dk_at dksX1_isSo_1 16 rfl rfl)
theorem dX1_isSo_41 : decode cX1_isSo 41 = .ok (.iload_n 1, 1) := dk_27 (dk_at dksX1_isSo_1 17 rfl rfl)
theorem dX1_isSo_42 : decode cX1_isSo 42 = .ok (.iconst 2, 1) := dk_5 (dk_at dksX1_isSo_1 18 rfl rfl)
theorem dX1_isSo_43 : decode cX1_isSo 43 = .ok (.iload 4, 2) := dk_21 4 (dk_at dksX1_isSo_1 19 rfl rfl)
theorem dX1_isSo_45 : decode cX1_isSo 45 = .ok (.imul, 1) := dk_104 (dk_at dksX1_isSo_1 21 rfl rfl)
theorem dX1_isSo_46 : decode cX1_isSo 46 = .ok (.ishr, 1) := dk_122 (dk_at dksX1_isSo_1 22 rfl rfl)
theorem dX1_isSo_47 : decode cX1_isSo 47 = .ok (.iconst 3, 1) := dk_6 (dk_at dksX1_isSo_1 23 rfl rfl)
theorem dX1_isSo_48 : decode cX1_isSo 48 = .ok (.iand, 1) := dk_126 (dk_at dksX1_isSo_2 0 rfl rfl)
theorem dX1_isSo_49 : decode cX1_isSo 49 = .ok (.iadd, 1) := dk_96 (dk_at dksX1_isSo_2 1 rfl rfl)
theorem dX1_isSo_50 : decode cX1_isSo 50 = .ok (.imul, 1) := dk_104 (dk_at dksX1_isSo_2 2 rfl rfl)
theorem dX1_isSo_51 : decode cX1_isSo 51 = .ok (.aload_n 0, 1) := dk_42 (dk_at dksX1_isSo_2 3 rfl rfl)
theorem dX1_isSo_52 : decode cX1_isSo 52 = .ok (.getfield 64, 3) := dk_180 0 64 (dk_at dksX1_isSo_2 4 rfl rfl)
theorem dX1_isSo_55 : decode cX1_isSo 55 = .ok (.iload_n 2, 1) := dk_28 (dk_at dksX1_isSo_2 7 rfl rfl)
theorem dX1_isSo_56 : decode cX1_isSo 56 = .ok (.invokevirtual 252, 3) := dk_182 0 252 (dk_at dksX1_isSo_2 8 rfl rfl)
theorem dX1_isSo_59 : decode cX1_isSo 59 = .ok (.checkcast 256, 3) := dk_192 1 0 (dk_at dksX1_isSo_2 11 rfl rfl)
theorem dX1_isSo_62 : decode cX1_isSo 62 = .ok (.iconst 0, 1) := dk_3 (dk_at dksX1_isSo_2 14 rfl rfl)
theorem dX1_isSo_63 : decode cX1_isSo 63 = .ok (.iaload, 1) := dk_46 (dk_at dksX1_isSo_2 15 rfl rfl)
theorem dX1_isSo_64 : decode cX1_isSo 64 = .ok (.iadd, 1) := dk_96 (dk_at dksX1_isSo_2 16 rfl rfl)
theorem dX1_isSo_65 : decode cX1_isSo 65 = .ok (.iaload, 1) := dk_46 (dk_at dksX1_isSo_2 17 rfl rfl)
theorem dX1_isSo_66 : decode cX1_isSo 66 = .ok (.iadd, 1) := dk_96 (dk_at dksX1_isSo_2 18 rfl rfl)
theorem dX1_isSo_67 : decode cX1_isSo 67 = .ok (.istore_n 3, 1) := dk_62 (dk_at dksX1_isSo_2 19 rfl rfl)
theorem dX1_isSo_68 : decode cX1_isSo 68 = .ok (.iinc 4 1, 3) := dk_132 4 1 (dk_at dksX1_isSo_2 20 rfl rfl)
theorem dX1_isSo_71 : decode cX1_isSo 71 = .ok (.goto (-53), 3) := dk_167 255 203 (dk_at dksX1_isSo_3 0 rfl rfl)
theorem dX1_isSo_74 : decode cX1_isSo 74 = .ok (.iload_n 3, 1) := dk_29 (dk_at dksX1_isSo_3 3 rfl rfl)
theorem dX1_isSo_75 : decode cX1_isSo 75 = .ok (.aload_n 0, 1) := dk_42 (dk_at dksX1_isSo_3 4 rfl rfl)
theorem dX1_isSo_76 : decode cX1_isSo 76 = .ok (.getfield 64, 3) := dk_180 0 64 (dk_at dksX1_isSo_3 5 rfl rfl)
theorem dX1_isSo_79 : decode cX1_isSo 79 = .ok (.iload_n 2, 1) := dk_28 (dk_at dksX1_isSo_3 8 rfl rfl)
theorem dX1_isSo_80 : decode cX1_isSo 80 = .ok (.invokevirtual 252, 3) := dk_182 0 252 (dk_at dksX1_isSo_3 9 rfl rfl)
theorem dX1_isSo_83 : decode cX1_isSo 83 = .ok (.checkcast 256, 3) := dk_192 1 0 (dk_at dksX1_isSo_3 12 rfl rfl)
theorem dX1_isSo_86 : decode cX1_isSo 86 = .ok (.iconst 1, 1) := dk_4 (dk_at dksX1_isSo_3 15 rfl rfl)
theorem dX1_isSo_87 : decode cX1_isSo 87 = .ok (.iaload, 1) := dk_46 (dk_at dksX1_isSo_3 16 rfl rfl)
theorem dX1_isSo_88 : decode cX1_isSo 88 = .ok (.if_icmp .eq 5, 3) := dk_159 0 5 (dk_at dksX1_isSo_3 17 rfl rfl)
theorem dX1_isSo_91 : decode cX1_isSo 91 = .ok (.iconst 0, 1) := dk_3 (dk_at dksX1_isSo_3 20 rfl rfl)
theorem dX1_isSo_92 : decode cX1_isSo 92 = .ok (.ireturn, 1) := dk_172 (dk_at dksX1_isSo_3 21 rfl rfl)
theorem dX1_isSo_93 : decode cX1_isSo 93 = .ok (.iinc 2 1, 3) := dk_132 2 1 (dk_at dksX1_isSo_4 0 rfl rfl)
theorem dX1_isSo_96 : decode cX1_isSo 96 = .ok (.goto (-94), 3) := dk_167 255 162 (dk_at dksX1_isSo_4 3 rfl rfl)
theorem dX1_isSo_99 : decode cX1_isSo 99 = .ok (.iconst 1, 1) := dk_4 (dk_at dksX1_isSo_4 6 rfl rfl)
theorem dX1_isSo_100 : decode cX1_isSo 100 = .ok (.ireturn, 1) := dk_172 (dk_at dksX1_isSo_4 7 rfl rfl)
abbrev cX1_windsAt : ByteArray := prog_1_method_40_code
def yX1_windsAt : MethodName := ⟨RX1, "windsAt", "(I)I"⟩
def dkwX1_windsAt_0 : List UInt8 := [27, 156, 0, 7, 2, 167, 0, 8, 42, 27, 182, 1, 51, 172]
abbrev dktX1_windsAt_0 : List UInt8 := dkwX1_windsAt_0 ++ []
theorem dksX1_windsAt_0 : cX1_windsAt.data.toList.drop 0 = dktX1_windsAt_0 := by decide +kernel
theorem dX1_windsAt_0 : decode cX1_windsAt 0 = .ok (.iload_n 1, 1) := dk_27 (dk_at dksX1_windsAt_0 0 rfl rfl)
theorem dX1_windsAt_1 : decode cX1_windsAt 1 = .ok (.ifCond .ge 7, 3) := dk_156 0 7 (dk_at dksX1_windsAt_0 1 rfl rfl)
theorem dX1_windsAt_4 : decode cX1_windsAt 4 = .ok (.iconst (-1), 1) := dk_2 (dk_at dksX1_windsAt_0 4 rfl rfl)
theorem dX1_windsAt_5 : decode cX1_windsAt 5 = .ok (.goto 8, 3) := dk_167 0 8 (dk_at dksX1_windsAt_0 5 rfl rfl)
theorem dX1_windsAt_8 : decode cX1_windsAt 8 = .ok (.aload_n 0, 1) := dk_42 (dk_at dksX1_windsAt_0 8 rfl rfl)
theorem dX1_windsAt_9 : decode cX1_windsAt 9 = .ok (.iload_n 1, 1) := dk_27 (dk_at dksX1_windsAt_0 9 rfl rfl)
theorem dX1_windsAt_10 : decode cX1_windsAt 10 = .ok (.invokevirtual 307, 3) := dk_182 1 51 (dk_at dksX1_windsAt_0 10 rfl rfl)
theorem dX1_windsAt_13 : decode cX1_windsAt 13 = .ok (.ireturn, 1) := dk_172 (dk_at dksX1_windsAt_0 13 rfl rfl)
abbrev cX1_lots : ByteArray := prog_1_method_43_code
def yX1_lots : MethodName := ⟨RX1, "lots", "(IIII)I"⟩
def dkwX1_lots_8 : List UInt8 := [172]
abbrev dktX1_lots_8 : List UInt8 := dkwX1_lots_8 ++ []
def dkwX1_lots_7 : List UInt8 := [180, 0, 169, 21, 7, 46, 100, 96, 54, 5, 132, 7, 1, 167, 255, 194, 132, 6, 1, 167, 255, 142, 21, 5]
abbrev dktX1_lots_7 : List UInt8 := dkwX1_lots_7 ++ dktX1_lots_8
def dkwX1_lots_6 : List UInt8 := [180, 0, 166, 21, 7, 46, 167, 0, 24, 42, 180, 0, 78, 180, 0, 169, 21, 7, 46, 42, 180, 0, 53]
abbrev dktX1_lots_6 : List UInt8 := dkwX1_lots_6 ++ dktX1_lots_7
def dkwX1_lots_5 : List UInt8 := [180, 0, 39, 180, 0, 127, 182, 0, 130, 162, 0, 53, 21, 5, 21, 4, 154, 0, 16, 42, 180, 0, 78]
abbrev dktX1_lots_5 : List UInt8 := dkwX1_lots_5 ++ dktX1_lots_6
def dkwX1_lots_4 : List UInt8 := [42, 180, 0, 109, 21, 7, 96, 182, 1, 75, 132, 7, 1, 167, 255, 236, 3, 54, 7, 21, 7, 42]
abbrev dktX1_lots_4 : List UInt8 := dkwX1_lots_4 ++ dktX1_lots_5
def dkwX1_lots_3 : List UInt8 := [162, 0, 114, 42, 180, 0, 78, 42, 180, 0, 53, 182, 1, 37, 3, 54, 7, 21, 7, 29, 162, 0, 20, 42]
abbrev dktX1_lots_3 : List UInt8 := dkwX1_lots_3 ++ dktX1_lots_4
def dkwX1_lots_2 : List UInt8 := [181, 1, 54, 3, 54, 5, 42, 180, 0, 75, 42, 180, 0, 46, 182, 0, 187, 87, 3, 54, 6, 21, 6, 28]
abbrev dktX1_lots_2 : List UInt8 := dkwX1_lots_2 ++ dktX1_lots_3
def dkwX1_lots_1 : List UInt8 := [16, 30, 184, 0, 123, 153, 0, 13, 21, 4, 3, 4, 184, 0, 123, 154, 0, 5, 2, 172, 42, 27, 133]
abbrev dktX1_lots_1 : List UInt8 := dkwX1_lots_1 ++ dktX1_lots_2
def dkwX1_lots_0 : List UInt8 := [27, 3, 17, 39, 15, 184, 0, 123, 153, 0, 33, 28, 4, 16, 20, 184, 0, 123, 153, 0, 23, 29, 4]
abbrev dktX1_lots_0 : List UInt8 := dkwX1_lots_0 ++ dktX1_lots_1
theorem dksX1_lots_0 : cX1_lots.data.toList.drop 0 = dktX1_lots_0 := by decide +kernel
theorem dksX1_lots_1 : cX1_lots.data.toList.drop 23 = dktX1_lots_1 := dk_seg dksX1_lots_0 23 rfl rfl
theorem dksX1_lots_2 : cX1_lots.data.toList.drop 46 = dktX1_lots_2 := dk_seg dksX1_lots_1 23 rfl rfl
theorem dksX1_lots_3 : cX1_lots.data.toList.drop 70 = dktX1_lots_3 := dk_seg dksX1_lots_2 24 rfl rfl
theorem dksX1_lots_4 : cX1_lots.data.toList.drop 94 = dktX1_lots_4 := dk_seg dksX1_lots_3 24 rfl rfl
theorem dksX1_lots_5 : cX1_lots.data.toList.drop 116 = dktX1_lots_5 := dk_seg dksX1_lots_4 22 rfl rfl
theorem dksX1_lots_6 : cX1_lots.data.toList.drop 139 = dktX1_lots_6 := dk_seg dksX1_lots_5 23 rfl rfl
theorem dksX1_lots_7 : cX1_lots.data.toList.drop 162 = dktX1_lots_7 := dk_seg dksX1_lots_6 23 rfl rfl
theorem dksX1_lots_8 : cX1_lots.data.toList.drop 186 = dktX1_lots_8 := dk_seg dksX1_lots_7 24 rfl rfl
theorem dX1_lots_0 : decode cX1_lots 0 = .ok (.iload_n 1, 1) := dk_27 (dk_at dksX1_lots_0 0 rfl rfl)
theorem dX1_lots_1 : decode cX1_lots 1 = .ok (.iconst 0, 1) := dk_3 (dk_at dksX1_lots_0 1 rfl rfl)
theorem dX1_lots_2 : decode cX1_lots 2 = .ok (.sipush 9999, 3) := dk_17 39 15 (dk_at dksX1_lots_0 2 rfl rfl)
theorem dX1_lots_5 : decode cX1_lots 5 = .ok (.invokestatic 123, 3) := dk_184 0 123 (dk_at dksX1_lots_0 5 rfl rfl)
theorem dX1_lots_8 : decode cX1_lots 8 = .ok (.ifCond .eq 33, 3) := dk_153 0 33 (dk_at dksX1_lots_0 8 rfl rfl)
theorem dX1_lots_11 : decode cX1_lots 11 = .ok (.iload_n 2, 1) := dk_28 (dk_at dksX1_lots_0 11 rfl rfl)
theorem dX1_lots_12 : decode cX1_lots 12 = .ok (.iconst 1, 1) := dk_4 (dk_at dksX1_lots_0 12 rfl rfl)
theorem dX1_lots_13 : decode cX1_lots 13 = .ok (.bipush 20, 2) := dk_16 20 (dk_at dksX1_lots_0 13 rfl rfl)
theorem dX1_lots_15 : decode cX1_lots 15 = .ok (.invokestatic 123, 3) := dk_184 0 123 (dk_at dksX1_lots_0 15 rfl rfl)
theorem dX1_lots_18 : decode cX1_lots 18 = .ok (.ifCond .eq 23, 3) := dk_153 0 23 (dk_at dksX1_lots_0 18 rfl rfl)
theorem dX1_lots_21 : decode cX1_lots 21 = .ok (.iload_n 3, 1) := dk_29 (dk_at dksX1_lots_0 21 rfl rfl)
theorem dX1_lots_22 : decode cX1_lots 22 = .ok (.iconst 1, 1) := dk_4 (dk_at dksX1_lots_0 22 rfl rfl)
theorem dX1_lots_23 : decode cX1_lots 23 = .ok (.bipush 30, 2) := dk_16 30 (dk_at dksX1_lots_1 0 rfl rfl)
theorem dX1_lots_25 : decode cX1_lots 25 = .ok (.invokestatic 123, 3) := dk_184 0 123 (dk_at dksX1_lots_1 2 rfl rfl)
theorem dX1_lots_28 : decode cX1_lots 28 = .ok (.ifCond .eq 13, 3) := dk_153 0 13 (dk_at dksX1_lots_1 5 rfl rfl)
theorem dX1_lots_31 : decode cX1_lots 31 = .ok (.iload 4, 2) := dk_21 4 (dk_at dksX1_lots_1 8 rfl rfl)
theorem dX1_lots_33 : decode cX1_lots 33 = .ok (.iconst 0, 1) := dk_3 (dk_at dksX1_lots_1 10 rfl rfl)
theorem dX1_lots_34 : decode cX1_lots 34 = .ok (.iconst 1, 1) := dk_4 (dk_at dksX1_lots_1 11 rfl rfl)
theorem dX1_lots_35 : decode cX1_lots 35 = .ok (.invokestatic 123, 3) := dk_184 0 123 (dk_at dksX1_lots_1 12 rfl rfl)
theorem dX1_lots_38 : decode cX1_lots 38 = .ok (.ifCond .ne 5, 3) := dk_154 0 5 (dk_at dksX1_lots_1 15 rfl rfl)
theorem dX1_lots_41 : decode cX1_lots 41 = .ok (.iconst (-1), 1) := dk_2 (dk_at dksX1_lots_1 18 rfl rfl)
theorem dX1_lots_42 : decode cX1_lots 42 = .ok (.ireturn, 1) := dk_172 (dk_at dksX1_lots_1 19 rfl rfl)
theorem dX1_lots_43 : decode cX1_lots 43 = .ok (.aload_n 0, 1) := dk_42 (dk_at dksX1_lots_1 20 rfl rfl)
theorem dX1_lots_44 : decode cX1_lots 44 = .ok (.iload_n 1, 1) := dk_27 (dk_at dksX1_lots_1 21 rfl rfl)
theorem dX1_lots_45 : decode cX1_lots 45 = .ok (.i2l, 1) := dk_133 (dk_at dksX1_lots_1 22 rfl rfl)
theorem dX1_lots_46 : decode cX1_lots 46 = .ok (.putfield 310, 3) := dk_181 1 54 (dk_at dksX1_lots_2 0 rfl rfl)
theorem dX1_lots_49 : decode cX1_lots 49 = .ok (.iconst 0, 1) := dk_3 (dk_at dksX1_lots_2 3 rfl rfl)
theorem dX1_lots_50 : decode cX1_lots 50 = .ok (.istore 5, 2) := dk_54 5 (dk_at dksX1_lots_2 4 rfl rfl)
theorem dX1_lots_52 : decode cX1_lots 52 = .ok (.aload_n 0, 1) := dk_42 (dk_at dksX1_lots_2 6 rfl rfl)
theorem dX1_lots_53 : decode cX1_lots 53 = .ok (.getfield 75, 3) := dk_180 0 75 (dk_at dksX1_lots_2 7 rfl rfl)
theorem dX1_lots_56 : decode cX1_lots 56 = .ok (.aload_n 0, 1) := dk_42 (dk_at dksX1_lots_2 10 rfl rfl)
theorem dX1_lots_57 : decode cX1_lots 57 = .ok (.getfield 46, 3) := dk_180 0 46 (dk_at dksX1_lots_2 11 rfl rfl)
theorem dX1_lots_60 : decode cX1_lots 60 = .ok (.invokevirtual 187, 3) := dk_182 0 187 (dk_at dksX1_lots_2 14 rfl rfl)
theorem dX1_lots_63 : decode cX1_lots 63 = .ok (.pop, 1) := dk_87 (dk_at dksX1_lots_2 17 rfl rfl)
theorem dX1_lots_64 : decode cX1_lots 64 = .ok (.iconst 0, 1) := dk_3 (dk_at dksX1_lots_2 18 rfl rfl)
theorem dX1_lots_65 : decode cX1_lots 65 = .ok (.istore 6, 2) := dk_54 6 (dk_at dksX1_lots_2 19 rfl rfl)
theorem dX1_lots_67 : decode cX1_lots 67 = .ok (.iload 6, 2) := dk_21 6 (dk_at dksX1_lots_2 21 rfl rfl)
theorem dX1_lots_69 : decode cX1_lots 69 = .ok (.iload_n 2, 1) := dk_28 (dk_at dksX1_lots_2 23 rfl rfl)
theorem dX1_lots_70 : decode cX1_lots 70 = .ok (.if_icmp .ge 114, 3) := dk_162 0 114 (dk_at dksX1_lots_3 0 rfl rfl)
theorem dX1_lots_73 : decode cX1_lots 73 = .ok (.aload_n 0, 1) := dk_42 (dk_at dksX1_lots_3 3 rfl rfl)
theorem dX1_lots_74 : decode cX1_lots 74 = .ok (.getfield 78, 3) := dk_180 0 78 (dk_at dksX1_lots_3 4 rfl rfl)
theorem dX1_lots_77 : decode cX1_lots 77 = .ok (.aload_n 0, 1) := dk_42 (dk_at dksX1_lots_3 7 rfl rfl)
theorem dX1_lots_78 : decode cX1_lots 78 = .ok (.getfield 53, 3) := dk_180 0 53 (dk_at dksX1_lots_3 8 rfl rfl)
theorem dX1_lots_81 : decode cX1_lots 81 = .ok (.invokevirtual 293, 3) := dk_182 1 37 (dk_at dksX1_lots_3 11 rfl rfl)
theorem dX1_lots_84 : decode cX1_lots 84 = .ok (.iconst 0, 1) := dk_3 (dk_at dksX1_lots_3 14 rfl rfl)
theorem dX1_lots_85 : decode cX1_lots 85 = .ok (.istore 7, 2) := dk_54 7 (dk_at dksX1_lots_3 15 rfl rfl)
theorem dX1_lots_87 : decode cX1_lots 87 = .ok (.iload 7, 2) := dk_21 7 (dk_at dksX1_lots_3 17 rfl rfl)
theorem dX1_lots_89 : decode cX1_lots 89 = .ok (.iload_n 3, 1) := dk_29 (dk_at dksX1_lots_3 19 rfl rfl)
theorem dX1_lots_90 : decode cX1_lots 90 = .ok (.if_icmp .ge 20, 3) := dk_162 0 20 (dk_at dksX1_lots_3 20 rfl rfl)
theorem dX1_lots_93 : decode cX1_lots 93 = .ok (.aload_n 0, 1) := dk_42 (dk_at dksX1_lots_3 23 rfl rfl)
theorem dX1_lots_94 : decode cX1_lots 94 = .ok (.aload_n 0, 1) := dk_42 (dk_at dksX1_lots_4 0 rfl rfl)
theorem dX1_lots_95 : decode cX1_lots 95 = .ok (.getfield 109, 3) := dk_180 0 109 (dk_at dksX1_lots_4 1 rfl rfl)
theorem dX1_lots_98 : decode cX1_lots 98 = .ok (.iload 7, 2) := dk_21 7 (dk_at dksX1_lots_4 4 rfl rfl)
theorem dX1_lots_100 : decode cX1_lots 100 = .ok (.iadd, 1) := dk_96 (dk_at dksX1_lots_4 6 rfl rfl)
theorem dX1_lots_101 : decode cX1_lots 101 = .ok (.invokevirtual 331, 3) := dk_182 1 75 (dk_at dksX1_lots_4 7 rfl rfl)
theorem dX1_lots_104 : decode cX1_lots 104 = .ok (.iinc 7 1, 3) := dk_132 7 1 (dk_at dksX1_lots_4 10 rfl rfl)
theorem dX1_lots_107 : decode cX1_lots 107 = .ok (.goto (-20), 3) := dk_167 255 236 (dk_at dksX1_lots_4 13 rfl rfl)
theorem dX1_lots_110 : decode cX1_lots 110 = .ok (.iconst 0, 1) := dk_3 (dk_at dksX1_lots_4 16 rfl rfl)
theorem dX1_lots_111 : decode cX1_lots 111 = .ok (.istore 7, 2) := dk_54 7 (dk_at dksX1_lots_4 17 rfl rfl)
theorem dX1_lots_113 : decode cX1_lots 113 = .ok (.iload 7, 2) := dk_21 7 (dk_at dksX1_lots_4 19 rfl rfl)
theorem dX1_lots_115 : decode cX1_lots 115 = .ok (.aload_n 0, 1) := dk_42 (dk_at dksX1_lots_4 21 rfl rfl)
theorem dX1_lots_116 : decode cX1_lots 116 = .ok (.getfield 39, 3) := dk_180 0 39 (dk_at dksX1_lots_5 0 rfl rfl)
theorem dX1_lots_119 : decode cX1_lots 119 = .ok (.getfield 127, 3) := dk_180 0 127 (dk_at dksX1_lots_5 3 rfl rfl)
theorem dX1_lots_122 : decode cX1_lots 122 = .ok (.invokevirtual 130, 3) := dk_182 0 130 (dk_at dksX1_lots_5 6 rfl rfl)
theorem dX1_lots_125 : decode cX1_lots 125 = .ok (.if_icmp .ge 53, 3) := dk_162 0 53 (dk_at dksX1_lots_5 9 rfl rfl)
theorem dX1_lots_128 : decode cX1_lots 128 = .ok (.iload 5, 2) := dk_21 5 (dk_at dksX1_lots_5 12 rfl rfl)
theorem dX1_lots_130 : decode cX1_lots 130 = .ok (.iload 4, 2) := dk_21 4 (dk_at dksX1_lots_5 14 rfl rfl)
theorem dX1_lots_132 : decode cX1_lots 132 = .ok (.ifCond .ne 16, 3) := dk_154 0 16 (dk_at dksX1_lots_5 16 rfl rfl)
theorem dX1_lots_135 : decode cX1_lots 135 = .ok (.aload_n 0, 1) := dk_42 (dk_at dksX1_lots_5 19 rfl rfl)
theorem dX1_lots_136 : decode cX1_lots 136 = .ok (.getfield 78, 3) := dk_180 0 78 (dk_at dksX1_lots_5 20 rfl rfl)
theorem dX1_lots_139 : decode cX1_lots 139 = .ok (.getfield 166, 3) := dk_180 0 166 (dk_at dksX1_lots_6 0 rfl rfl)
theorem dX1_lots_142 : decode cX1_lots 142 = .ok (.iload 7, 2) := dk_21 7 (dk_at dksX1_lots_6 3 rfl rfl)
theorem dX1_lots_144 : decode cX1_lots 144 = .ok (.iaload, 1) := dk_46 (dk_at dksX1_lots_6 5 rfl rfl)
theorem dX1_lots_145 : decode cX1_lots 145 = .ok (.goto 24, 3) := dk_167 0 24 (dk_at dksX1_lots_6 6 rfl rfl)
theorem dX1_lots_148 : decode cX1_lots 148 = .ok (.aload_n 0, 1) := dk_42 (dk_at dksX1_lots_6 9 rfl rfl)
theorem dX1_lots_149 : decode cX1_lots 149 = .ok (.getfield 78, 3) := dk_180 0 78 (dk_at dksX1_lots_6 10 rfl rfl)
theorem dX1_lots_152 : decode cX1_lots 152 = .ok (.getfield 169, 3) := dk_180 0 169 (dk_at dksX1_lots_6 13 rfl rfl)
theorem dX1_lots_155 : decode cX1_lots 155 = .ok (.iload 7, 2) := dk_21 7 (dk_at dksX1_lots_6 16 rfl rfl)
theorem dX1_lots_157 : decode cX1_lots 157 = .ok (.iaload, 1) := dk_46 (dk_at dksX1_lots_6 18 rfl rfl)
theorem dX1_lots_158 : decode cX1_lots 158 = .ok (.aload_n 0, 1) := dk_42 (dk_at dksX1_lots_6 19 rfl rfl)
theorem dX1_lots_159 : decode cX1_lots 159 = .ok (.getfield 53, 3) := dk_180 0 53 (dk_at dksX1_lots_6 20 rfl rfl)
theorem dX1_lots_162 : decode cX1_lots 162 = .ok (.getfield 169, 3) := dk_180 0 169 (dk_at dksX1_lots_7 0 rfl rfl)
theorem dX1_lots_165 : decode cX1_lots 165 = .ok (.iload 7, 2) := dk_21 7 (dk_at dksX1_lots_7 3 rfl rfl)
theorem dX1_lots_167 : decode cX1_lots 167 = .ok (.iaload, 1) := dk_46 (dk_at dksX1_lots_7 5 rfl rfl)
theorem dX1_lots_168 : decode cX1_lots 168 = .ok (.isub, 1) := dk_100 (dk_at dksX1_lots_7 6 rfl rfl)
theorem dX1_lots_169 : decode cX1_lots 169 = .ok (.iadd, 1) := dk_96 (dk_at dksX1_lots_7 7 rfl rfl)
theorem dX1_lots_170 : decode cX1_lots 170 = .ok (.istore 5, 2) := dk_54 5 (dk_at dksX1_lots_7 8 rfl rfl)
theorem dX1_lots_172 : decode cX1_lots 172 = .ok (.iinc 7 1, 3) := dk_132 7 1 (dk_at dksX1_lots_7 10 rfl rfl)
theorem dX1_lots_175 : decode cX1_lots 175 = .ok (.goto (-62), 3) := dk_167 255 194 (dk_at dksX1_lots_7 13 rfl rfl)
theorem dX1_lots_178 : decode cX1_lots 178 = .ok (.iinc 6 1, 3) := dk_132 6 1 (dk_at dksX1_lots_7 16 rfl rfl)
theorem dX1_lots_181 : decode cX1_lots 181 = .ok (.goto (-114), 3) := dk_167 255 142 (dk_at dksX1_lots_7 19 rfl rfl)
theorem dX1_lots_184 : decode cX1_lots 184 = .ok (.iload 5, 2) := dk_21 5 (dk_at dksX1_lots_7 22 rfl rfl)
theorem dX1_lots_186 : decode cX1_lots 186 = .ok (.ireturn, 1) := dk_172 (dk_at dksX1_lots_8 0 rfl rfl)
abbrev cX1_drawsNight : ByteArray := prog_1_method_42_code
def yX1_drawsNight : MethodName := ⟨RX1, "drawsNight", "(I)V"⟩
def dkwX1_drawsNight_3 : List UInt8 := [180, 0, 75, 42, 180, 0, 71, 182, 0, 198, 182, 0, 202, 177]
abbrev dktX1_drawsNight_3 : List UInt8 := dkwX1_drawsNight_3 ++ []
def dkwX1_drawsNight_2 : List UInt8 := [180, 0, 39, 27, 28, 42, 7, 182, 1, 66, 182, 1, 72, 132, 2, 1, 167, 255, 208, 42, 180, 0, 78, 42]
abbrev dktX1_drawsNight_2 : List UInt8 := dkwX1_drawsNight_2 ++ dktX1_drawsNight_3
def dkwX1_drawsNight_1 : List UInt8 := [162, 0, 43, 42, 16, 10, 182, 1, 66, 42, 180, 0, 39, 180, 1, 69, 162, 0, 21, 42, 180, 0, 71, 42]
abbrev dktX1_drawsNight_1 : List UInt8 := dkwX1_drawsNight_1 ++ dktX1_drawsNight_2
def dkwX1_drawsNight_0 : List UInt8 := [42, 180, 0, 71, 42, 180, 0, 39, 27, 182, 0, 194, 87, 3, 61, 28, 42, 180, 0, 39, 180, 0, 134]
abbrev dktX1_drawsNight_0 : List UInt8 := dkwX1_drawsNight_0 ++ dktX1_drawsNight_1
theorem dksX1_drawsNight_0 : cX1_drawsNight.data.toList.drop 0 = dktX1_drawsNight_0 := by decide +kernel
theorem dksX1_drawsNight_1 : cX1_drawsNight.data.toList.drop 23 = dktX1_drawsNight_1 := dk_seg dksX1_drawsNight_0 23 rfl rfl
theorem dksX1_drawsNight_2 : cX1_drawsNight.data.toList.drop 47 = dktX1_drawsNight_2 := dk_seg dksX1_drawsNight_1 24 rfl rfl
theorem dksX1_drawsNight_3 : cX1_drawsNight.data.toList.drop 71 = dktX1_drawsNight_3 := dk_seg dksX1_drawsNight_2 24 rfl rfl
theorem dX1_drawsNight_0 : decode cX1_drawsNight 0 = .ok (.aload_n 0, 1) := dk_42 (dk_at dksX1_drawsNight_0 0 rfl rfl)
theorem dX1_drawsNight_1 : decode cX1_drawsNight 1 = .ok (.getfield 71, 3) := dk_180 0 71 (dk_at dksX1_drawsNight_0 1 rfl rfl)
theorem dX1_drawsNight_4 : decode cX1_drawsNight 4 = .ok (.aload_n 0, 1) := dk_42 (dk_at dksX1_drawsNight_0 4 rfl rfl)
theorem dX1_drawsNight_5 : decode cX1_drawsNight 5 = .ok (.getfield 39, 3) := dk_180 0 39 (dk_at dksX1_drawsNight_0 5 rfl rfl)
theorem dX1_drawsNight_8 : decode cX1_drawsNight 8 = .ok (.iload_n 1, 1) := dk_27 (dk_at dksX1_drawsNight_0 8 rfl rfl)
theorem dX1_drawsNight_9 : decode cX1_drawsNight 9 = .ok (.invokevirtual 194, 3) := dk_182 0 194 (dk_at dksX1_drawsNight_0 9 rfl rfl)
theorem dX1_drawsNight_12 : decode cX1_drawsNight 12 = .ok (.pop, 1) := dk_87 (dk_at dksX1_drawsNight_0 12 rfl rfl)
theorem dX1_drawsNight_13 : decode cX1_drawsNight 13 = .ok (.iconst 0, 1) := dk_3 (dk_at dksX1_drawsNight_0 13 rfl rfl)
theorem dX1_drawsNight_14 : decode cX1_drawsNight 14 = .ok (.istore_n 2, 1) := dk_61 (dk_at dksX1_drawsNight_0 14 rfl rfl)
theorem dX1_drawsNight_15 : decode cX1_drawsNight 15 = .ok (.iload_n 2, 1) := dk_28 (dk_at dksX1_drawsNight_0 15 rfl rfl)
theorem dX1_drawsNight_16 : decode cX1_drawsNight 16 = .ok (.aload_n 0, 1) := dk_42 (dk_at dksX1_drawsNight_0 16 rfl rfl)
theorem dX1_drawsNight_17 : decode cX1_drawsNight 17 = .ok (.getfield 39, 3) := dk_180 0 39 (dk_at dksX1_drawsNight_0 17 rfl rfl)
theorem dX1_drawsNight_20 : decode cX1_drawsNight 20 = .ok (.getfield 134, 3) := dk_180 0 134 (dk_at dksX1_drawsNight_0 20 rfl rfl)
theorem dX1_drawsNight_23 : decode cX1_drawsNight 23 = .ok (.if_icmp .ge 43, 3) := dk_162 0 43 (dk_at dksX1_drawsNight_1 0 rfl rfl)
theorem dX1_drawsNight_26 : decode cX1_drawsNight 26 = .ok (.aload_n 0, 1) := dk_42 (dk_at dksX1_drawsNight_1 3 rfl rfl)
theorem dX1_drawsNight_27 : decode cX1_drawsNight 27 = .ok (.bipush 10, 2) := dk_16 10 (dk_at dksX1_drawsNight_1 4 rfl rfl)
theorem dX1_drawsNight_29 : decode cX1_drawsNight 29 = .ok (.invokevirtual 322, 3) := dk_182 1 66 (dk_at dksX1_drawsNight_1 6 rfl rfl)
theorem dX1_drawsNight_32 : decode cX1_drawsNight 32 = .ok (.aload_n 0, 1) := dk_42 (dk_at dksX1_drawsNight_1 9 rfl rfl)
theorem dX1_drawsNight_33 : decode cX1_drawsNight 33 = .ok (.getfield 39, 3) := dk_180 0 39 (dk_at dksX1_drawsNight_1 10 rfl rfl)
theorem dX1_drawsNight_36 : decode cX1_drawsNight 36 = .ok (.getfield 325, 3) := dk_180 1 69 (dk_at dksX1_drawsNight_1 13 rfl rfl)
theorem dX1_drawsNight_39 : decode cX1_drawsNight 39 = .ok (.if_icmp .ge 21, 3) := dk_162 0 21 (dk_at dksX1_drawsNight_1 16 rfl rfl)
theorem dX1_drawsNight_42 : decode cX1_drawsNight 42 = .ok (.aload_n 0, 1) := dk_42 (dk_at dksX1_drawsNight_1 19 rfl rfl)
theorem dX1_drawsNight_43 : decode cX1_drawsNight 43 = .ok (.getfield 71, 3) := dk_180 0 71 (dk_at dksX1_drawsNight_1 20 rfl rfl)
theorem dX1_drawsNight_46 : decode cX1_drawsNight 46 = .ok (.aload_n 0, 1) := dk_42 (dk_at dksX1_drawsNight_1 23 rfl rfl)
theorem dX1_drawsNight_47 : decode cX1_drawsNight 47 = .ok (.getfield 39, 3) := dk_180 0 39 (dk_at dksX1_drawsNight_2 0 rfl rfl)
theorem dX1_drawsNight_50 : decode cX1_drawsNight 50 = .ok (.iload_n 1, 1) := dk_27 (dk_at dksX1_drawsNight_2 3 rfl rfl)
theorem dX1_drawsNight_51 : decode cX1_drawsNight 51 = .ok (.iload_n 2, 1) := dk_28 (dk_at dksX1_drawsNight_2 4 rfl rfl)
theorem dX1_drawsNight_52 : decode cX1_drawsNight 52 = .ok (.aload_n 0, 1) := dk_42 (dk_at dksX1_drawsNight_2 5 rfl rfl)
theorem dX1_drawsNight_53 : decode cX1_drawsNight 53 = .ok (.iconst 4, 1) := dk_7 (dk_at dksX1_drawsNight_2 6 rfl rfl)
theorem dX1_drawsNight_54 : decode cX1_drawsNight 54 = .ok (.invokevirtual 322, 3) := dk_182 1 66 (dk_at dksX1_drawsNight_2 7 rfl rfl)
theorem dX1_drawsNight_57 : decode cX1_drawsNight 57 = .ok (.invokevirtual 328, 3) := dk_182 1 72 (dk_at dksX1_drawsNight_2 10 rfl rfl)
theorem dX1_drawsNight_60 : decode cX1_drawsNight 60 = .ok (.iinc 2 1, 3) := dk_132 2 1 (dk_at dksX1_drawsNight_2 13 rfl rfl)
theorem dX1_drawsNight_63 : decode cX1_drawsNight 63 = .ok (.goto (-48), 3) := dk_167 255 208 (dk_at dksX1_drawsNight_2 16 rfl rfl)
theorem dX1_drawsNight_66 : decode cX1_drawsNight 66 = .ok (.aload_n 0, 1) := dk_42 (dk_at dksX1_drawsNight_2 19 rfl rfl)
theorem dX1_drawsNight_67 : decode cX1_drawsNight 67 = .ok (.getfield 78, 3) := dk_180 0 78 (dk_at dksX1_drawsNight_2 20 rfl rfl)
theorem dX1_drawsNight_70 : decode cX1_drawsNight 70 = .ok (.aload_n 0, 1) := dk_42 (dk_at dksX1_drawsNight_2 23 rfl rfl)
theorem dX1_drawsNight_71 : decode cX1_drawsNight 71 = .ok (.getfield 75, 3) := dk_180 0 75 (dk_at dksX1_drawsNight_3 0 rfl rfl)
theorem dX1_drawsNight_74 : decode cX1_drawsNight 74 = .ok (.aload_n 0, 1) := dk_42 (dk_at dksX1_drawsNight_3 3 rfl rfl)
theorem dX1_drawsNight_75 : decode cX1_drawsNight 75 = .ok (.getfield 71, 3) := dk_180 0 71 (dk_at dksX1_drawsNight_3 4 rfl rfl)
theorem dX1_drawsNight_78 : decode cX1_drawsNight 78 = .ok (.invokevirtual 198, 3) := dk_182 0 198 (dk_at dksX1_drawsNight_3 7 rfl rfl)
theorem dX1_drawsNight_81 : decode cX1_drawsNight 81 = .ok (.invokevirtual 202, 3) := dk_182 0 202 (dk_at dksX1_drawsNight_3 10 rfl rfl)
theorem dX1_drawsNight_84 : decode cX1_drawsNight 84 = .ok (.return_, 1) := dk_177 (dk_at dksX1_drawsNight_3 13 rfl rfl)
abbrev cX1_draw : ByteArray := prog_1_method_41_code
def yX1_draw : MethodName := ⟨RX1, "draw", "(I)I"⟩
def dkwX1_draw_1 : List UInt8 := [20, 1, 64, 109, 27, 133, 113, 136, 172]
abbrev dktX1_draw_1 : List UInt8 := dkwX1_draw_1 ++ []
def dkwX1_draw_0 : List UInt8 := [42, 42, 180, 1, 54, 20, 1, 58, 105, 20, 1, 60, 97, 20, 1, 62, 113, 181, 1, 54, 42, 180, 1, 54]
abbrev dktX1_draw_0 : List UInt8 := dkwX1_draw_0 ++ dktX1_draw_1
theorem dksX1_draw_0 : cX1_draw.data.toList.drop 0 = dktX1_draw_0 := by decide +kernel
theorem dksX1_draw_1 : cX1_draw.data.toList.drop 24 = dktX1_draw_1 := dk_seg dksX1_draw_0 24 rfl rfl
theorem dX1_draw_0 : decode cX1_draw 0 = .ok (.aload_n 0, 1) := dk_42 (dk_at dksX1_draw_0 0 rfl rfl)
theorem dX1_draw_1 : decode cX1_draw 1 = .ok (.aload_n 0, 1) := dk_42 (dk_at dksX1_draw_0 1 rfl rfl)
theorem dX1_draw_2 : decode cX1_draw 2 = .ok (.getfield 310, 3) := dk_180 1 54 (dk_at dksX1_draw_0 2 rfl rfl)
theorem dX1_draw_5 : decode cX1_draw 5 = .ok (.ldc2_w 314, 3) := dk_20 1 58 (dk_at dksX1_draw_0 5 rfl rfl)
theorem dX1_draw_8 : decode cX1_draw 8 = .ok (.lmul, 1) := dk_105 (dk_at dksX1_draw_0 8 rfl rfl)
theorem dX1_draw_9 : decode cX1_draw 9 = .ok (.ldc2_w 316, 3) := dk_20 1 60 (dk_at dksX1_draw_0 9 rfl rfl)
theorem dX1_draw_12 : decode cX1_draw 12 = .ok (.ladd, 1) := dk_97 (dk_at dksX1_draw_0 12 rfl rfl)
theorem dX1_draw_13 : decode cX1_draw 13 = .ok (.ldc2_w 318, 3) := dk_20 1 62 (dk_at dksX1_draw_0 13 rfl rfl)
theorem dX1_draw_16 : decode cX1_draw 16 = .ok (.lrem, 1) := dk_113 (dk_at dksX1_draw_0 16 rfl rfl)
theorem dX1_draw_17 : decode cX1_draw 17 = .ok (.putfield 310, 3) := dk_181 1 54 (dk_at dksX1_draw_0 17 rfl rfl)
theorem dX1_draw_20 : decode cX1_draw 20 = .ok (.aload_n 0, 1) := dk_42 (dk_at dksX1_draw_0 20 rfl rfl)
theorem dX1_draw_21 : decode cX1_draw 21 = .ok (.getfield 310, 3) := dk_180 1 54 (dk_at dksX1_draw_0 21 rfl rfl)
theorem dX1_draw_24 : decode cX1_draw 24 = .ok (.ldc2_w 320, 3) := dk_20 1 64 (dk_at dksX1_draw_1 0 rfl rfl)
theorem dX1_draw_27 : decode cX1_draw 27 = .ok (.ldiv, 1) := dk_109 (dk_at dksX1_draw_1 3 rfl rfl)
theorem dX1_draw_28 : decode cX1_draw 28 = .ok (.iload_n 1, 1) := dk_27 (dk_at dksX1_draw_1 4 rfl rfl)
theorem dX1_draw_29 : decode cX1_draw 29 = .ok (.i2l, 1) := dk_133 (dk_at dksX1_draw_1 5 rfl rfl)
theorem dX1_draw_30 : decode cX1_draw 30 = .ok (.lrem, 1) := dk_113 (dk_at dksX1_draw_1 6 rfl rfl)
theorem dX1_draw_31 : decode cX1_draw 31 = .ok (.l2i, 1) := dk_136 (dk_at dksX1_draw_1 7 rfl rfl)
theorem dX1_draw_32 : decode cX1_draw 32 = .ok (.ireturn, 1) := dk_172 (dk_at dksX1_draw_1 8 rfl rfl)
abbrev cX1_mark : ByteArray := prog_1_method_44_code
def yX1_mark : MethodName := ⟨RX1, "mark", "(IZ)Z"⟩
def dkwX1_mark_6 : List UInt8 := [192, 1, 0, 182, 1, 1, 87, 132, 4, 1, 167, 255, 221, 4, 172]
abbrev dktX1_mark_6 : List UInt8 := dkwX1_mark_6 ++ []
def dkwX1_mark_5 : List UInt8 := [180, 1, 86, 182, 0, 130, 162, 0, 29, 42, 180, 0, 64, 45, 180, 1, 86, 21, 4, 182, 0, 252]
abbrev dktX1_mark_5 : List UInt8 := dkwX1_mark_5 ++ dktX1_mark_6
def dkwX1_mark_4 : List UInt8 := [180, 0, 57, 3, 16, 12, 184, 0, 209, 42, 180, 0, 64, 182, 0, 112, 3, 54, 4, 21, 4, 45]
abbrev dktX1_mark_4 : List UInt8 := dkwX1_mark_4 ++ dktX1_mark_5
def dkwX1_mark_3 : List UInt8 := [180, 0, 53, 45, 180, 1, 83, 182, 1, 37, 42, 45, 180, 1, 84, 181, 0, 109, 45, 180, 1, 85, 3, 42]
abbrev dktX1_mark_3 : List UInt8 := dkwX1_mark_3 ++ dktX1_mark_4
def dkwX1_mark_2 : List UInt8 := [27, 50, 78, 42, 45, 180, 1, 81, 181, 0, 39, 42, 180, 0, 46, 45, 180, 1, 82, 182, 0, 187, 87, 42]
abbrev dktX1_mark_2 : List UInt8 := dkwX1_mark_2 ++ dktX1_mark_3
def dkwX1_mark_1 : List UInt8 := [28, 154, 0, 19, 42, 180, 0, 89, 27, 187, 0, 87, 89, 42, 183, 1, 78, 83, 4, 172, 42, 180, 0, 89]
abbrev dktX1_mark_1 : List UInt8 := dkwX1_mark_1 ++ dktX1_mark_2
def dkwX1_mark_0 : List UInt8 := [27, 3, 6, 184, 0, 123, 153, 0, 16, 28, 153, 0, 14, 42, 180, 0, 89, 27, 50, 199, 0, 5, 3, 172]
abbrev dktX1_mark_0 : List UInt8 := dkwX1_mark_0 ++ dktX1_mark_1
theorem dksX1_mark_0 : cX1_mark.data.toList.drop 0 = dktX1_mark_0 := by decide +kernel
theorem dksX1_mark_1 : cX1_mark.data.toList.drop 24 = dktX1_mark_1 := dk_seg dksX1_mark_0 24 rfl rfl
theorem dksX1_mark_2 : cX1_mark.data.toList.drop 48 = dktX1_mark_2 := dk_seg dksX1_mark_1 24 rfl rfl
theorem dksX1_mark_3 : cX1_mark.data.toList.drop 72 = dktX1_mark_3 := dk_seg dksX1_mark_2 24 rfl rfl
theorem dksX1_mark_4 : cX1_mark.data.toList.drop 96 = dktX1_mark_4 := dk_seg dksX1_mark_3 24 rfl rfl
theorem dksX1_mark_5 : cX1_mark.data.toList.drop 118 = dktX1_mark_5 := dk_seg dksX1_mark_4 22 rfl rfl
theorem dksX1_mark_6 : cX1_mark.data.toList.drop 140 = dktX1_mark_6 := dk_seg dksX1_mark_5 22 rfl rfl
theorem dX1_mark_0 : decode cX1_mark 0 = .ok (.iload_n 1, 1) := dk_27 (dk_at dksX1_mark_0 0 rfl rfl)
theorem dX1_mark_1 : decode cX1_mark 1 = .ok (.iconst 0, 1) := dk_3 (dk_at dksX1_mark_0 1 rfl rfl)
theorem dX1_mark_2 : decode cX1_mark 2 = .ok (.iconst 3, 1) := dk_6 (dk_at dksX1_mark_0 2 rfl rfl)
theorem dX1_mark_3 : decode cX1_mark 3 = .ok (.invokestatic 123, 3) := dk_184 0 123 (dk_at dksX1_mark_0 3 rfl rfl)
theorem dX1_mark_6 : decode cX1_mark 6 = .ok (.ifCond .eq 16, 3) := dk_153 0 16 (dk_at dksX1_mark_0 6 rfl rfl)
theorem dX1_mark_9 : decode cX1_mark 9 = .ok (.iload_n 2, 1) := dk_28 (dk_at dksX1_mark_0 9 rfl rfl)
theorem dX1_mark_10 : decode cX1_mark 10 = .ok (.ifCond .eq 14, 3) := dk_153 0 14 (dk_at dksX1_mark_0 10 rfl rfl)
theorem dX1_mark_13 : decode cX1_mark 13 = .ok (.aload_n 0, 1) := dk_42 (dk_at dksX1_mark_0 13 rfl rfl)
theorem dX1_mark_14 : decode cX1_mark 14 = .ok (.getfield 89, 3) := dk_180 0 89 (dk_at dksX1_mark_0 14 rfl rfl)
theorem dX1_mark_17 : decode cX1_mark 17 = .ok (.iload_n 1, 1) := dk_27 (dk_at dksX1_mark_0 17 rfl rfl)
theorem dX1_mark_18 : decode cX1_mark 18 = .ok (.aaload, 1) := dk_50 (dk_at dksX1_mark_0 18 rfl rfl)
theorem dX1_mark_19 : decode cX1_mark 19 = .ok (.ifnonnull 5, 3) := dk_199 0 5 (dk_at dksX1_mark_0 19 rfl rfl)
theorem dX1_mark_22 : decode cX1_mark 22 = .ok (.iconst 0, 1) := dk_3 (dk_at dksX1_mark_0 22 rfl rfl)
theorem dX1_mark_23 : decode cX1_mark 23 = .ok (.ireturn, 1) := dk_172 (dk_at dksX1_mark_0 23 rfl rfl)
theorem dX1_mark_24 : decode cX1_mark 24 = .ok (.iload_n 2, 1) := dk_28 (dk_at dksX1_mark_1 0 rfl rfl)
theorem dX1_mark_25 : decode cX1_mark 25 = .ok (.ifCond .ne 19, 3) := dk_154 0 19 (dk_at dksX1_mark_1 1 rfl rfl)
theorem dX1_mark_28 : decode cX1_mark 28 = .ok (.aload_n 0, 1) := dk_42 (dk_at dksX1_mark_1 4 rfl rfl)
theorem dX1_mark_29 : decode cX1_mark 29 = .ok (.getfield 89, 3) := dk_180 0 89 (dk_at dksX1_mark_1 5 rfl rfl)
theorem dX1_mark_32 : decode cX1_mark 32 = .ok (.iload_n 1, 1) := dk_27 (dk_at dksX1_mark_1 8 rfl rfl)
theorem dX1_mark_33 : decode cX1_mark 33 = .ok (.new 87, 3) := dk_187 0 87 (dk_at dksX1_mark_1 9 rfl rfl)
theorem dX1_mark_36 : decode cX1_mark 36 = .ok (.dup, 1) := dk_89 (dk_at dksX1_mark_1 12 rfl rfl)
theorem dX1_mark_37 : decode cX1_mark 37 = .ok (.aload_n 0, 1) := dk_42 (dk_at dksX1_mark_1 13 rfl rfl)
theorem dX1_mark_38 : decode cX1_mark 38 = .ok (.invokespecial 334, 3) := dk_183 1 78 (dk_at dksX1_mark_1 14 rfl rfl)
theorem dX1_mark_41 : decode cX1_mark 41 = .ok (.aastore, 1) := dk_83 (dk_at dksX1_mark_1 17 rfl rfl)
theorem dX1_mark_42 : decode cX1_mark 42 = .ok (.iconst 1, 1) := dk_4 (dk_at dksX1_mark_1 18 rfl rfl)
theorem dX1_mark_43 : decode cX1_mark 43 = .ok (.ireturn, 1) := dk_172 (dk_at dksX1_mark_1 19 rfl rfl)
theorem dX1_mark_44 : decode cX1_mark 44 = .ok (.aload_n 0, 1) := dk_42 (dk_at dksX1_mark_1 20 rfl rfl)
theorem dX1_mark_45 : decode cX1_mark 45 = .ok (.getfield 89, 3) := dk_180 0 89 (dk_at dksX1_mark_1 21 rfl rfl)
theorem dX1_mark_48 : decode cX1_mark 48 = .ok (.iload_n 1, 1) := dk_27 (dk_at dksX1_mark_2 0 rfl rfl)
theorem dX1_mark_49 : decode cX1_mark 49 = .ok (.aaload, 1) := dk_50 (dk_at dksX1_mark_2 1 rfl rfl)
theorem dX1_mark_50 : decode cX1_mark 50 = .ok (.astore_n 3, 1) := dk_78 (dk_at dksX1_mark_2 2 rfl rfl)
theorem dX1_mark_51 : decode cX1_mark 51 = .ok (.aload_n 0, 1) := dk_42 (dk_at dksX1_mark_2 3 rfl rfl)
theorem dX1_mark_52 : decode cX1_mark 52 = .ok (.aload_n 3, 1) := dk_45 (dk_at dksX1_mark_2 4 rfl rfl)
theorem dX1_mark_53 : decode cX1_mark 53 = .ok (.getfield 337, 3) := dk_180 1 81 (dk_at dksX1_mark_2 5 rfl rfl)
theorem dX1_mark_56 : decode cX1_mark 56 = .ok (.putfield 39, 3) := dk_181 0 39 (dk_at dksX1_mark_2 8 rfl rfl)
theorem dX1_mark_59 : decode cX1_mark 59 = .ok (.aload_n 0, 1) := dk_42 (dk_at dksX1_mark_2 11 rfl rfl)
theorem dX1_mark_60 : decode cX1_mark 60 = .ok (.getfield 46, 3) := dk_180 0 46 (dk_at dksX1_mark_2 12 rfl rfl)
theorem dX1_mark_63 : decode cX1_mark 63 = .ok (.aload_n 3, 1) := dk_45 (dk_at dksX1_mark_2 15 rfl rfl)
theorem dX1_mark_64 : decode cX1_mark 64 = .ok (.getfield 338, 3) := dk_180 1 82 (dk_at dksX1_mark_2 16 rfl rfl)
theorem dX1_mark_67 : decode cX1_mark 67 = .ok (.invokevirtual 187, 3) := dk_182 0 187 (dk_at dksX1_mark_2 19 rfl rfl)
theorem dX1_mark_70 : decode cX1_mark 70 = .ok (.pop, 1) := dk_87 (dk_at dksX1_mark_2 22 rfl rfl)
theorem dX1_mark_71 : decode cX1_mark 71 = .ok (.aload_n 0, 1) := dk_42 (dk_at dksX1_mark_2 23 rfl rfl)
theorem dX1_mark_72 : decode cX1_mark 72 = .ok (.getfield 53, 3) := dk_180 0 53 (dk_at dksX1_mark_3 0 rfl rfl)
theorem dX1_mark_75 : decode cX1_mark 75 = .ok (.aload_n 3, 1) := dk_45 (dk_at dksX1_mark_3 3 rfl rfl)
theorem dX1_mark_76 : decode cX1_mark 76 = .ok (.getfield 339, 3) := dk_180 1 83 (dk_at dksX1_mark_3 4 rfl rfl)
theorem dX1_mark_79 : decode cX1_mark 79 = .ok (.invokevirtual 293, 3) := dk_182 1 37 (dk_at dksX1_mark_3 7 rfl rfl)
theorem dX1_mark_82 : decode cX1_mark 82 = .ok (.aload_n 0, 1) := dk_42 (dk_at dksX1_mark_3 10 rfl rfl)
theorem dX1_mark_83 : decode cX1_mark 83 = .ok (.aload_n 3, 1) := dk_45 (dk_at dksX1_mark_3 11 rfl rfl)
theorem dX1_mark_84 : decode cX1_mark 84 = .ok (.getfield 340, 3) := dk_180 1 84 (dk_at dksX1_mark_3 12 rfl rfl)
theorem dX1_mark_87 : decode cX1_mark 87 = .ok (.putfield 109, 3) := dk_181 0 109 (dk_at dksX1_mark_3 15 rfl rfl)
theorem dX1_mark_90 : decode cX1_mark 90 = .ok (.aload_n 3, 1) := dk_45 (dk_at dksX1_mark_3 18 rfl rfl)
theorem dX1_mark_91 : decode cX1_mark 91 = .ok (.getfield 341, 3) := dk_180 1 85 (dk_at dksX1_mark_3 19 rfl rfl)
theorem dX1_mark_94 : decode cX1_mark 94 = .ok (.iconst 0, 1) := dk_3 (dk_at dksX1_mark_3 22 rfl rfl)
theorem dX1_mark_95 : decode cX1_mark 95 = .ok (.aload_n 0, 1) := dk_42 (dk_at dksX1_mark_3 23 rfl rfl)
theorem dX1_mark_96 : decode cX1_mark 96 = .ok (.getfield 57, 3) := dk_180 0 57 (dk_at dksX1_mark_4 0 rfl rfl)
theorem dX1_mark_99 : decode cX1_mark 99 = .ok (.iconst 0, 1) := dk_3 (dk_at dksX1_mark_4 3 rfl rfl)
theorem dX1_mark_100 : decode cX1_mark 100 = .ok (.bipush 12, 2) := dk_16 12 (dk_at dksX1_mark_4 4 rfl rfl)
theorem dX1_mark_102 : decode cX1_mark 102 = .ok (.invokestatic 209, 3) := dk_184 0 209 (dk_at dksX1_mark_4 6 rfl rfl)
theorem dX1_mark_105 : decode cX1_mark 105 = .ok (.aload_n 0, 1) := dk_42 (dk_at dksX1_mark_4 9 rfl rfl)
theorem dX1_mark_106 : decode cX1_mark 106 = .ok (.getfield 64, 3) := dk_180 0 64 (dk_at dksX1_mark_4 10 rfl rfl)
theorem dX1_mark_109 : decode cX1_mark 109 = .ok (.invokevirtual 112, 3) := dk_182 0 112 (dk_at dksX1_mark_4 13 rfl rfl)
theorem dX1_mark_112 : decode cX1_mark 112 = .ok (.iconst 0, 1) := dk_3 (dk_at dksX1_mark_4 16 rfl rfl)
theorem dX1_mark_113 : decode cX1_mark 113 = .ok (.istore 4, 2) := dk_54 4 (dk_at dksX1_mark_4 17 rfl rfl)
theorem dX1_mark_115 : decode cX1_mark 115 = .ok (.iload 4, 2) := dk_21 4 (dk_at dksX1_mark_4 19 rfl rfl)
theorem dX1_mark_117 : decode cX1_mark 117 = .ok (.aload_n 3, 1) := dk_45 (dk_at dksX1_mark_4 21 rfl rfl)
theorem dX1_mark_118 : decode cX1_mark 118 = .ok (.getfield 342, 3) := dk_180 1 86 (dk_at dksX1_mark_5 0 rfl rfl)
theorem dX1_mark_121 : decode cX1_mark 121 = .ok (.invokevirtual 130, 3) := dk_182 0 130 (dk_at dksX1_mark_5 3 rfl rfl)
theorem dX1_mark_124 : decode cX1_mark 124 = .ok (.if_icmp .ge 29, 3) := dk_162 0 29 (dk_at dksX1_mark_5 6 rfl rfl)
theorem dX1_mark_127 : decode cX1_mark 127 = .ok (.aload_n 0, 1) := dk_42 (dk_at dksX1_mark_5 9 rfl rfl)
theorem dX1_mark_128 : decode cX1_mark 128 = .ok (.getfield 64, 3) := dk_180 0 64 (dk_at dksX1_mark_5 10 rfl rfl)
theorem dX1_mark_131 : decode cX1_mark 131 = .ok (.aload_n 3, 1) := dk_45 (dk_at dksX1_mark_5 13 rfl rfl)
theorem dX1_mark_132 : decode cX1_mark 132 = .ok (.getfield 342, 3) := dk_180 1 86 (dk_at dksX1_mark_5 14 rfl rfl)
theorem dX1_mark_135 : decode cX1_mark 135 = .ok (.iload 4, 2) := dk_21 4 (dk_at dksX1_mark_5 17 rfl rfl)
theorem dX1_mark_137 : decode cX1_mark 137 = .ok (.invokevirtual 252, 3) := dk_182 0 252 (dk_at dksX1_mark_5 19 rfl rfl)
theorem dX1_mark_140 : decode cX1_mark 140 = .ok (.checkcast 256, 3) := dk_192 1 0 (dk_at dksX1_mark_6 0 rfl rfl)
theorem dX1_mark_143 : decode cX1_mark 143 = .ok (.invokevirtual 257, 3) := dk_182 1 1 (dk_at dksX1_mark_6 3 rfl rfl)
theorem dX1_mark_146 : decode cX1_mark 146 = .ok (.pop, 1) := dk_87 (dk_at dksX1_mark_6 6 rfl rfl)
theorem dX1_mark_147 : decode cX1_mark 147 = .ok (.iinc 4 1, 3) := dk_132 4 1 (dk_at dksX1_mark_6 7 rfl rfl)
theorem dX1_mark_150 : decode cX1_mark 150 = .ok (.goto (-35), 3) := dk_167 255 221 (dk_at dksX1_mark_6 10 rfl rfl)
theorem dX1_mark_153 : decode cX1_mark 153 = .ok (.iconst 1, 1) := dk_4 (dk_at dksX1_mark_6 13 rfl rfl)
theorem dX1_mark_154 : decode cX1_mark 154 = .ok (.ireturn, 1) := dk_172 (dk_at dksX1_mark_6 14 rfl rfl)
abbrev cX1_count : ByteArray := prog_1_method_45_code
def yX1_count : MethodName := ⟨RX1, "count", "(I)I"⟩
def dkwX1_count_5 : List UInt8 := [172, 2, 172]
abbrev dktX1_count_5 : List UInt8 := dkwX1_count_5 ++ []
def dkwX1_count_4 : List UInt8 := [172, 42, 180, 0, 64, 182, 0, 130, 172, 42, 180, 0, 39, 180, 1, 69, 172, 42, 180, 0, 30, 180, 0, 101]
abbrev dktX1_count_4 : List UInt8 := dkwX1_count_4 ++ dktX1_count_5
def dkwX1_count_3 : List UInt8 := [182, 0, 130, 172, 42, 180, 0, 46, 180, 0, 120, 172, 42, 180, 0, 109, 172, 42, 180, 0, 39, 180, 0, 134]
abbrev dktX1_count_3 : List UInt8 := dkwX1_count_3 ++ dktX1_count_4
def dkwX1_count_2 : List UInt8 := [42, 180, 0, 39, 180, 1, 87, 172, 42, 180, 0, 39, 180, 1, 90, 172, 42, 180, 0, 39, 180, 0, 127]
abbrev dktX1_count_2 : List UInt8 := dkwX1_count_2 ++ dktX1_count_3
def dkwX1_count_1 : List UInt8 := [170, 0, 0, 0, 0, 0, 123, 0, 0, 0, 0, 0, 0, 0, 8, 0, 0, 0, 51, 0, 0, 0, 59, 0, 0, 0, 67, 0, 0, 0, 78, 0, 0, 0, 86, 0, 0, 0, 91, 0, 0, 0, 99, 0, 0, 0, 107, 0, 0, 0, 115]
abbrev dktX1_count_1 : List UInt8 := dkwX1_count_1 ++ dktX1_count_2
def dkwX1_count_0 : List UInt8 := [27]
abbrev dktX1_count_0 : List UInt8 := dkwX1_count_0 ++ dktX1_count_1
theorem dksX1_count_0 : cX1_count.data.toList.drop 0 = dktX1_count_0 := by decide +kernel
theorem dksX1_count_1 : cX1_count.data.toList.drop 1 = dktX1_count_1 := dk_seg dksX1_count_0 1 rfl rfl
theorem dksX1_count_2 : cX1_count.data.toList.drop 52 = dktX1_count_2 := dk_seg dksX1_count_1 51 rfl rfl
theorem dksX1_count_3 : cX1_count.data.toList.drop 75 = dktX1_count_3 := dk_seg dksX1_count_2 23 rfl rfl
theorem dksX1_count_4 : cX1_count.data.toList.drop 99 = dktX1_count_4 := dk_seg dksX1_count_3 24 rfl rfl
theorem dksX1_count_5 : cX1_count.data.toList.drop 123 = dktX1_count_5 := dk_seg dksX1_count_4 24 rfl rfl
theorem dX1_count_0 : decode cX1_count 0 = .ok (.iload_n 1, 1) := dk_27 (dk_at dksX1_count_0 0 rfl rfl)
theorem dX1_count_1 : decode cX1_count 1 = .ok (.tableswitch 123 0 8 #[51, 59, 67, 78, 86, 91, 99, 107, 115], 51) := by decide +kernel
theorem dX1_count_52 : decode cX1_count 52 = .ok (.aload_n 0, 1) := dk_42 (dk_at dksX1_count_2 0 rfl rfl)
theorem dX1_count_53 : decode cX1_count 53 = .ok (.getfield 39, 3) := dk_180 0 39 (dk_at dksX1_count_2 1 rfl rfl)
theorem dX1_count_56 : decode cX1_count 56 = .ok (.getfield 343, 3) := dk_180 1 87 (dk_at dksX1_count_2 4 rfl rfl)
theorem dX1_count_59 : decode cX1_count 59 = .ok (.ireturn, 1) := dk_172 (dk_at dksX1_count_2 7 rfl rfl)
theorem dX1_count_60 : decode cX1_count 60 = .ok (.aload_n 0, 1) := dk_42 (dk_at dksX1_count_2 8 rfl rfl)
theorem dX1_count_61 : decode cX1_count 61 = .ok (.getfield 39, 3) := dk_180 0 39 (dk_at dksX1_count_2 9 rfl rfl)
theorem dX1_count_64 : decode cX1_count 64 = .ok (.getfield 346, 3) := dk_180 1 90 (dk_at dksX1_count_2 12 rfl rfl)
theorem dX1_count_67 : decode cX1_count 67 = .ok (.ireturn, 1) := dk_172 (dk_at dksX1_count_2 15 rfl rfl)
theorem dX1_count_68 : decode cX1_count 68 = .ok (.aload_n 0, 1) := dk_42 (dk_at dksX1_count_2 16 rfl rfl)
theorem dX1_count_69 : decode cX1_count 69 = .ok (.getfield 39, 3) := dk_180 0 39 (dk_at dksX1_count_2 17 rfl rfl)
theorem dX1_count_72 : decode cX1_count 72 = .ok (.getfield 127, 3) := dk_180 0 127 (dk_at dksX1_count_2 20 rfl rfl)
theorem dX1_count_75 : decode cX1_count 75 = .ok (.invokevirtual 130, 3) := dk_182 0 130 (dk_at dksX1_count_3 0 rfl rfl)
theorem dX1_count_78 : decode cX1_count 78 = .ok (.ireturn, 1) := dk_172 (dk_at dksX1_count_3 3 rfl rfl)
theorem dX1_count_79 : decode cX1_count 79 = .ok (.aload_n 0, 1) := dk_42 (dk_at dksX1_count_3 4 rfl rfl)
theorem dX1_count_80 : decode cX1_count 80 = .ok (.getfield 46, 3) := dk_180 0 46 (dk_at dksX1_count_3 5 rfl rfl)
theorem dX1_count_83 : decode cX1_count 83 = .ok (.getfield 120, 3) := dk_180 0 120 (dk_at dksX1_count_3 8 rfl rfl)
theorem dX1_count_86 : decode cX1_count 86 = .ok (.ireturn, 1) := dk_172 (dk_at dksX1_count_3 11 rfl rfl)
theorem dX1_count_87 : decode cX1_count 87 = .ok (.aload_n 0, 1) := dk_42 (dk_at dksX1_count_3 12 rfl rfl)
theorem dX1_count_88 : decode cX1_count 88 = .ok (.getfield 109, 3) := dk_180 0 109 (dk_at dksX1_count_3 13 rfl rfl)
theorem dX1_count_91 : decode cX1_count 91 = .ok (.ireturn, 1) := dk_172 (dk_at dksX1_count_3 16 rfl rfl)
theorem dX1_count_92 : decode cX1_count 92 = .ok (.aload_n 0, 1) := dk_42 (dk_at dksX1_count_3 17 rfl rfl)
theorem dX1_count_93 : decode cX1_count 93 = .ok (.getfield 39, 3) := dk_180 0 39 (dk_at dksX1_count_3 18 rfl rfl)
theorem dX1_count_96 : decode cX1_count 96 = .ok (.getfield 134, 3) := dk_180 0 134 (dk_at dksX1_count_3 21 rfl rfl)
theorem dX1_count_99 : decode cX1_count 99 = .ok (.ireturn, 1) := dk_172 (dk_at dksX1_count_4 0 rfl rfl)
theorem dX1_count_100 : decode cX1_count 100 = .ok (.aload_n 0, 1) := dk_42 (dk_at dksX1_count_4 1 rfl rfl)
theorem dX1_count_101 : decode cX1_count 101 = .ok (.getfield 64, 3) := dk_180 0 64 (dk_at dksX1_count_4 2 rfl rfl)
theorem dX1_count_104 : decode cX1_count 104 = .ok (.invokevirtual 130, 3) := dk_182 0 130 (dk_at dksX1_count_4 5 rfl rfl)
theorem dX1_count_107 : decode cX1_count 107 = .ok (.ireturn, 1) := dk_172 (dk_at dksX1_count_4 8 rfl rfl)
theorem dX1_count_108 : decode cX1_count 108 = .ok (.aload_n 0, 1) := dk_42 (dk_at dksX1_count_4 9 rfl rfl)
theorem dX1_count_109 : decode cX1_count 109 = .ok (.getfield 39, 3) := dk_180 0 39 (dk_at dksX1_count_4 10 rfl rfl)
theorem dX1_count_112 : decode cX1_count 112 = .ok (.getfield 325, 3) := dk_180 1 69 (dk_at dksX1_count_4 13 rfl rfl)
theorem dX1_count_115 : decode cX1_count 115 = .ok (.ireturn, 1) := dk_172 (dk_at dksX1_count_4 16 rfl rfl)
theorem dX1_count_116 : decode cX1_count 116 = .ok (.aload_n 0, 1) := dk_42 (dk_at dksX1_count_4 17 rfl rfl)
theorem dX1_count_117 : decode cX1_count 117 = .ok (.getfield 30, 3) := dk_180 0 30 (dk_at dksX1_count_4 18 rfl rfl)
theorem dX1_count_120 : decode cX1_count 120 = .ok (.getfield 101, 3) := dk_180 0 101 (dk_at dksX1_count_4 21 rfl rfl)
theorem dX1_count_123 : decode cX1_count 123 = .ok (.ireturn, 1) := dk_172 (dk_at dksX1_count_5 0 rfl rfl)
theorem dX1_count_124 : decode cX1_count 124 = .ok (.iconst (-1), 1) := dk_2 (dk_at dksX1_count_5 1 rfl rfl)
theorem dX1_count_125 : decode cX1_count 125 = .ok (.ireturn, 1) := dk_172 (dk_at dksX1_count_5 2 rfl rfl)
abbrev cX1_yields : ByteArray := prog_1_method_18_code
def yX1_yields : MethodName := ⟨RX1, "yields", "(I)I"⟩
def dkwX1_yields_1 : List UInt8 := [182, 0, 231, 42, 180, 0, 71, 182, 0, 198, 27, 182, 0, 235, 172]
abbrev dktX1_yields_1 : List UInt8 := dkwX1_yields_1 ++ []
def dkwX1_yields_0 : List UInt8 := [27, 2, 159, 0, 19, 42, 27, 182, 0, 160, 154, 0, 11, 187, 0, 228, 89, 183, 0, 230, 191, 42]
abbrev dktX1_yields_0 : List UInt8 := dkwX1_yields_0 ++ dktX1_yields_1
theorem dksX1_yields_0 : cX1_yields.data.toList.drop 0 = dktX1_yields_0 := by decide +kernel
theorem dksX1_yields_1 : cX1_yields.data.toList.drop 22 = dktX1_yields_1 := dk_seg dksX1_yields_0 22 rfl rfl
theorem dX1_yields_0 : decode cX1_yields 0 = .ok (.iload_n 1, 1) := dk_27 (dk_at dksX1_yields_0 0 rfl rfl)
theorem dX1_yields_1 : decode cX1_yields 1 = .ok (.iconst (-1), 1) := dk_2 (dk_at dksX1_yields_0 1 rfl rfl)
theorem dX1_yields_2 : decode cX1_yields 2 = .ok (.if_icmp .eq 19, 3) := dk_159 0 19 (dk_at dksX1_yields_0 2 rfl rfl)
theorem dX1_yields_5 : decode cX1_yields 5 = .ok (.aload_n 0, 1) := dk_42 (dk_at dksX1_yields_0 5 rfl rfl)
theorem dX1_yields_6 : decode cX1_yields 6 = .ok (.iload_n 1, 1) := dk_27 (dk_at dksX1_yields_0 6 rfl rfl)
theorem dX1_yields_7 : decode cX1_yields 7 = .ok (.invokevirtual 160, 3) := dk_182 0 160 (dk_at dksX1_yields_0 7 rfl rfl)
theorem dX1_yields_10 : decode cX1_yields 10 = .ok (.ifCond .ne 11, 3) := dk_154 0 11 (dk_at dksX1_yields_0 10 rfl rfl)
theorem dX1_yields_13 : decode cX1_yields 13 = .ok (.new 228, 3) := dk_187 0 228 (dk_at dksX1_yields_0 13 rfl rfl)
theorem dX1_yields_16 : decode cX1_yields 16 = .ok (.dup, 1) := dk_89 (dk_at dksX1_yields_0 16 rfl rfl)
theorem dX1_yields_17 : decode cX1_yields 17 = .ok (.invokespecial 230, 3) := dk_183 0 230 (dk_at dksX1_yields_0 17 rfl rfl)
theorem dX1_yields_20 : decode cX1_yields 20 = .ok (.athrow, 1) := dk_191 (dk_at dksX1_yields_0 20 rfl rfl)
theorem dX1_yields_21 : decode cX1_yields 21 = .ok (.aload_n 0, 1) := dk_42 (dk_at dksX1_yields_0 21 rfl rfl)
theorem dX1_yields_22 : decode cX1_yields 22 = .ok (.invokevirtual 231, 3) := dk_182 0 231 (dk_at dksX1_yields_1 0 rfl rfl)
theorem dX1_yields_25 : decode cX1_yields 25 = .ok (.aload_n 0, 1) := dk_42 (dk_at dksX1_yields_1 3 rfl rfl)
theorem dX1_yields_26 : decode cX1_yields 26 = .ok (.getfield 71, 3) := dk_180 0 71 (dk_at dksX1_yields_1 4 rfl rfl)
theorem dX1_yields_29 : decode cX1_yields 29 = .ok (.invokevirtual 198, 3) := dk_182 0 198 (dk_at dksX1_yields_1 7 rfl rfl)
theorem dX1_yields_32 : decode cX1_yields 32 = .ok (.iload_n 1, 1) := dk_27 (dk_at dksX1_yields_1 10 rfl rfl)
theorem dX1_yields_33 : decode cX1_yields 33 = .ok (.invokevirtual 235, 3) := dk_182 0 235 (dk_at dksX1_yields_1 11 rfl rfl)
theorem dX1_yields_36 : decode cX1_yields 36 = .ok (.ireturn, 1) := dk_172 (dk_at dksX1_yields_1 14 rfl rfl)
abbrev cX1_hole : ByteArray := prog_1_method_26_code
def yX1_hole : MethodName := ⟨RX1, "hole", "(I)I"⟩
def dkwX1_hole_4 : List UInt8 := [182, 0, 235, 42, 180, 0, 75, 28, 182, 0, 235, 100, 29, 100, 172]
abbrev dktX1_hole_4 : List UInt8 := dkwX1_hole_4 ++ []
def dkwX1_hole_3 : List UInt8 := [180, 0, 148, 27, 46, 3, 79, 42, 180, 0, 75, 42, 180, 0, 71, 182, 0, 198, 87, 42, 180, 0, 75, 2]
abbrev dktX1_hole_3 : List UInt8 := dkwX1_hole_3 ++ dktX1_hole_4
def dkwX1_hole_2 : List UInt8 := [182, 0, 235, 42, 180, 0, 75, 28, 182, 0, 235, 100, 62, 42, 180, 0, 75, 180, 1, 21, 42, 180, 0, 75]
abbrev dktX1_hole_2 : List UInt8 := dkwX1_hole_2 ++ dktX1_hole_3
def dkwX1_hole_1 : List UInt8 := [50, 180, 0, 145, 61, 42, 182, 0, 231, 42, 180, 0, 71, 182, 0, 198, 87, 42, 180, 0, 75, 2]
abbrev dktX1_hole_1 : List UInt8 := dkwX1_hole_1 ++ dktX1_hole_2
def dkwX1_hole_0 : List UInt8 := [42, 27, 182, 0, 137, 154, 0, 11, 187, 0, 228, 89, 183, 0, 230, 191, 42, 180, 0, 46, 180, 0, 141, 27]
abbrev dktX1_hole_0 : List UInt8 := dkwX1_hole_0 ++ dktX1_hole_1
theorem dksX1_hole_0 : cX1_hole.data.toList.drop 0 = dktX1_hole_0 := by decide +kernel
theorem dksX1_hole_1 : cX1_hole.data.toList.drop 24 = dktX1_hole_1 := dk_seg dksX1_hole_0 24 rfl rfl
theorem dksX1_hole_2 : cX1_hole.data.toList.drop 46 = dktX1_hole_2 := dk_seg dksX1_hole_1 22 rfl rfl
theorem dksX1_hole_3 : cX1_hole.data.toList.drop 70 = dktX1_hole_3 := dk_seg dksX1_hole_2 24 rfl rfl
theorem dksX1_hole_4 : cX1_hole.data.toList.drop 94 = dktX1_hole_4 := dk_seg dksX1_hole_3 24 rfl rfl
theorem dX1_hole_0 : decode cX1_hole 0 = .ok (.aload_n 0, 1) := dk_42 (dk_at dksX1_hole_0 0 rfl rfl)
theorem dX1_hole_1 : decode cX1_hole 1 = .ok (.iload_n 1, 1) := dk_27 (dk_at dksX1_hole_0 1 rfl rfl)
theorem dX1_hole_2 : decode cX1_hole 2 = .ok (.invokevirtual 137, 3) := dk_182 0 137 (dk_at dksX1_hole_0 2 rfl rfl)
theorem dX1_hole_5 : decode cX1_hole 5 = .ok (.ifCond .ne 11, 3) := dk_154 0 11 (dk_at dksX1_hole_0 5 rfl rfl)
theorem dX1_hole_8 : decode cX1_hole 8 = .ok (.new 228, 3) := dk_187 0 228 (dk_at dksX1_hole_0 8 rfl rfl)
theorem dX1_hole_11 : decode cX1_hole 11 = .ok (.dup, 1) := dk_89 (dk_at dksX1_hole_0 11 rfl rfl)
theorem dX1_hole_12 : decode cX1_hole 12 = .ok (.invokespecial 230, 3) := dk_183 0 230 (dk_at dksX1_hole_0 12 rfl rfl)
theorem dX1_hole_15 : decode cX1_hole 15 = .ok (.athrow, 1) := dk_191 (dk_at dksX1_hole_0 15 rfl rfl)
theorem dX1_hole_16 : decode cX1_hole 16 = .ok (.aload_n 0, 1) := dk_42 (dk_at dksX1_hole_0 16 rfl rfl)
theorem dX1_hole_17 : decode cX1_hole 17 = .ok (.getfield 46, 3) := dk_180 0 46 (dk_at dksX1_hole_0 17 rfl rfl)
theorem dX1_hole_20 : decode cX1_hole 20 = .ok (.getfield 141, 3) := dk_180 0 141 (dk_at dksX1_hole_0 20 rfl rfl)
theorem dX1_hole_23 : decode cX1_hole 23 = .ok (.iload_n 1, 1) := dk_27 (dk_at dksX1_hole_0 23 rfl rfl)
theorem dX1_hole_24 : decode cX1_hole 24 = .ok (.aaload, 1) := dk_50 (dk_at dksX1_hole_1 0 rfl rfl)
theorem dX1_hole_25 : decode cX1_hole 25 = .ok (.getfield 145, 3) := dk_180 0 145 (dk_at dksX1_hole_1 1 rfl rfl)
theorem dX1_hole_28 : decode cX1_hole 28 = .ok (.istore_n 2, 1) := dk_61 (dk_at dksX1_hole_1 4 rfl rfl)
theorem dX1_hole_29 : decode cX1_hole 29 = .ok (.aload_n 0, 1) := dk_42 (dk_at dksX1_hole_1 5 rfl rfl)
theorem dX1_hole_30 : decode cX1_hole 30 = .ok (.invokevirtual 231, 3) := dk_182 0 231 (dk_at dksX1_hole_1 6 rfl rfl)
theorem dX1_hole_33 : decode cX1_hole 33 = .ok (.aload_n 0, 1) := dk_42 (dk_at dksX1_hole_1 9 rfl rfl)
theorem dX1_hole_34 : decode cX1_hole 34 = .ok (.getfield 71, 3) := dk_180 0 71 (dk_at dksX1_hole_1 10 rfl rfl)
theorem dX1_hole_37 : decode cX1_hole 37 = .ok (.invokevirtual 198, 3) := dk_182 0 198 (dk_at dksX1_hole_1 13 rfl rfl)
theorem dX1_hole_40 : decode cX1_hole 40 = .ok (.pop, 1) := dk_87 (dk_at dksX1_hole_1 16 rfl rfl)
theorem dX1_hole_41 : decode cX1_hole 41 = .ok (.aload_n 0, 1) := dk_42 (dk_at dksX1_hole_1 17 rfl rfl)
theorem dX1_hole_42 : decode cX1_hole 42 = .ok (.getfield 75, 3) := dk_180 0 75 (dk_at dksX1_hole_1 18 rfl rfl)
theorem dX1_hole_45 : decode cX1_hole 45 = .ok (.iconst (-1), 1) := dk_2 (dk_at dksX1_hole_1 21 rfl rfl)
theorem dX1_hole_46 : decode cX1_hole 46 = .ok (.invokevirtual 235, 3) := dk_182 0 235 (dk_at dksX1_hole_2 0 rfl rfl)
theorem dX1_hole_49 : decode cX1_hole 49 = .ok (.aload_n 0, 1) := dk_42 (dk_at dksX1_hole_2 3 rfl rfl)
theorem dX1_hole_50 : decode cX1_hole 50 = .ok (.getfield 75, 3) := dk_180 0 75 (dk_at dksX1_hole_2 4 rfl rfl)
theorem dX1_hole_53 : decode cX1_hole 53 = .ok (.iload_n 2, 1) := dk_28 (dk_at dksX1_hole_2 7 rfl rfl)
theorem dX1_hole_54 : decode cX1_hole 54 = .ok (.invokevirtual 235, 3) := dk_182 0 235 (dk_at dksX1_hole_2 8 rfl rfl)
theorem dX1_hole_57 : decode cX1_hole 57 = .ok (.isub, 1) := dk_100 (dk_at dksX1_hole_2 11 rfl rfl)
theorem dX1_hole_58 : decode cX1_hole 58 = .ok (.istore_n 3, 1) := dk_62 (dk_at dksX1_hole_2 12 rfl rfl)
theorem dX1_hole_59 : decode cX1_hole 59 = .ok (.aload_n 0, 1) := dk_42 (dk_at dksX1_hole_2 13 rfl rfl)
theorem dX1_hole_60 : decode cX1_hole 60 = .ok (.getfield 75, 3) := dk_180 0 75 (dk_at dksX1_hole_2 14 rfl rfl)
theorem dX1_hole_63 : decode cX1_hole 63 = .ok (.getfield 277, 3) := dk_180 1 21 (dk_at dksX1_hole_2 17 rfl rfl)
theorem dX1_hole_66 : decode cX1_hole 66 = .ok (.aload_n 0, 1) := dk_42 (dk_at dksX1_hole_2 20 rfl rfl)
theorem dX1_hole_67 : decode cX1_hole 67 = .ok (.getfield 75, 3) := dk_180 0 75 (dk_at dksX1_hole_2 21 rfl rfl)
theorem dX1_hole_70 : decode cX1_hole 70 = .ok (.getfield 148, 3) := dk_180 0 148 (dk_at dksX1_hole_3 0 rfl rfl)
theorem dX1_hole_73 : decode cX1_hole 73 = .ok (.iload_n 1, 1) := dk_27 (dk_at dksX1_hole_3 3 rfl rfl)
theorem dX1_hole_74 : decode cX1_hole 74 = .ok (.iaload, 1) := dk_46 (dk_at dksX1_hole_3 4 rfl rfl)
theorem dX1_hole_75 : decode cX1_hole 75 = .ok (.iconst 0, 1) := dk_3 (dk_at dksX1_hole_3 5 rfl rfl)
theorem dX1_hole_76 : decode cX1_hole 76 = .ok (.iastore, 1) := dk_79 (dk_at dksX1_hole_3 6 rfl rfl)
theorem dX1_hole_77 : decode cX1_hole 77 = .ok (.aload_n 0, 1) := dk_42 (dk_at dksX1_hole_3 7 rfl rfl)
theorem dX1_hole_78 : decode cX1_hole 78 = .ok (.getfield 75, 3) := dk_180 0 75 (dk_at dksX1_hole_3 8 rfl rfl)
theorem dX1_hole_81 : decode cX1_hole 81 = .ok (.aload_n 0, 1) := dk_42 (dk_at dksX1_hole_3 11 rfl rfl)
theorem dX1_hole_82 : decode cX1_hole 82 = .ok (.getfield 71, 3) := dk_180 0 71 (dk_at dksX1_hole_3 12 rfl rfl)
theorem dX1_hole_85 : decode cX1_hole 85 = .ok (.invokevirtual 198, 3) := dk_182 0 198 (dk_at dksX1_hole_3 15 rfl rfl)
theorem dX1_hole_88 : decode cX1_hole 88 = .ok (.pop, 1) := dk_87 (dk_at dksX1_hole_3 18 rfl rfl)
theorem dX1_hole_89 : decode cX1_hole 89 = .ok (.aload_n 0, 1) := dk_42 (dk_at dksX1_hole_3 19 rfl rfl)
theorem dX1_hole_90 : decode cX1_hole 90 = .ok (.getfield 75, 3) := dk_180 0 75 (dk_at dksX1_hole_3 20 rfl rfl)
theorem dX1_hole_93 : decode cX1_hole 93 = .ok (.iconst (-1), 1) := dk_2 (dk_at dksX1_hole_3 23 rfl rfl)
theorem dX1_hole_94 : decode cX1_hole 94 = .ok (.invokevirtual 235, 3) := dk_182 0 235 (dk_at dksX1_hole_4 0 rfl rfl)
theorem dX1_hole_97 : decode cX1_hole 97 = .ok (.aload_n 0, 1) := dk_42 (dk_at dksX1_hole_4 3 rfl rfl)
theorem dX1_hole_98 : decode cX1_hole 98 = .ok (.getfield 75, 3) := dk_180 0 75 (dk_at dksX1_hole_4 4 rfl rfl)
theorem dX1_hole_101 : decode cX1_hole 101 = .ok (.iload_n 2, 1) := dk_28 (dk_at dksX1_hole_4 7 rfl rfl)
theorem dX1_hole_102 : decode cX1_hole 102 = .ok (.invokevirtual 235, 3) := dk_182 0 235 (dk_at dksX1_hole_4 8 rfl rfl)
theorem dX1_hole_105 : decode cX1_hole 105 = .ok (.isub, 1) := dk_100 (dk_at dksX1_hole_4 11 rfl rfl)
theorem dX1_hole_106 : decode cX1_hole 106 = .ok (.iload_n 3, 1) := dk_29 (dk_at dksX1_hole_4 12 rfl rfl)
theorem dX1_hole_107 : decode cX1_hole 107 = .ok (.isub, 1) := dk_100 (dk_at dksX1_hole_4 13 rfl rfl)
theorem dX1_hole_108 : decode cX1_hole 108 = .ok (.ireturn, 1) := dk_172 (dk_at dksX1_hole_4 14 rfl rfl)
theorem q93 : (Jvm.Cond.initialized "FogNets") ∈ lw_all := lw_g (lw_at lw_m1 1 rfl) rfl
theorem q143 : (Jvm.Cond.instantiable "FogNets" (14 : Nat)) ∈ lw_all := lw_g (lw_at lw_m1 51 rfl) rfl
theorem q145 : (Jvm.Cond.instanceMethod ({ cls := "FogNets", name := "<init>", desc := "()V" } : Jvm.MethodName)) ∈ lw_all := lw_g (lw_at lw_m1 53 rfl) rfl
theorem q146 : (Jvm.Cond.code ({ cls := "FogNets", name := "<init>", desc := "()V" } : Jvm.MethodName) prog_1_method_4_code (1 : Nat) (Option.none : Option Jvm.ClassFile.FieldType)) ∈ lw_all := lw_g (lw_at lw_m1 54 rfl) rfl
theorem q147 : (Jvm.Cond.methodLink "FogNets" (22 : Nat) ({ cls := "java/lang/Object", name := "<init>", desc := "()V" } : Jvm.MethodName)) ∈ lw_all := lw_g (lw_at lw_m1 55 rfl) rfl
theorem q150 : (Jvm.Cond.classLink "FogNets" (27 : Nat) "FogNets$Reader") ∈ lw_all := lw_g (lw_at lw_m1 58 rfl) rfl
theorem q152 : (Jvm.Cond.methodLinkNest "FogNets" (29 : Nat) ({ cls := "FogNets$Reader", name := "<init>", desc := "()V" } : Jvm.MethodName) "FogNets") ∈ lw_tbl := lw_at lw_m1 60 rfl
theorem q193 : (Jvm.Cond.fieldLink "FogNets" (101 : Nat) "FogNets$Reader" "taped" "I") ∈ lw_all := lw_g (lw_at lw_m1 101 rfl) rfl
theorem q234 : (Jvm.Cond.classLink "FogNets" (36 : Nat) "FogNets$Ridge") ∈ lw_all := lw_g (lw_at lw_m1 142 rfl) rfl
theorem q236 : (Jvm.Cond.methodLinkNest "FogNets" (38 : Nat) ({ cls := "FogNets$Ridge", name := "<init>", desc := "()V" } : Jvm.MethodName) "FogNets") ∈ lw_tbl := lw_at lw_m1 144 rfl
theorem q282 : (Jvm.Cond.fieldLink "FogNets" (343 : Nat) "FogNets$Ridge" "columns" "I") ∈ lw_all := lw_g (lw_at lw_m1 190 rfl) rfl
theorem q285 : (Jvm.Cond.fieldLink "FogNets" (346 : Nat) "FogNets$Ridge" "rows" "I") ∈ lw_all := lw_g (lw_at lw_m1 193 rfl) rfl
theorem q288 : (Jvm.Cond.fieldLink "FogNets" (134 : Nat) "FogNets$Ridge" "hours" "I") ∈ lw_all := lw_g (lw_at lw_m1 196 rfl) rfl
theorem q294 : (Jvm.Cond.fieldLink "FogNets" (325 : Nat) "FogNets$Ridge" "turns" "I") ∈ lw_all := lw_g (lw_at lw_m1 202 rfl) rfl
theorem q301 : (Jvm.Cond.fieldLink "FogNets" (127 : Nat) "FogNets$Ridge" "names" "Ljava/util/ArrayList;") ∈ lw_all := lw_g (lw_at lw_m1 209 rfl) rfl
theorem q305 : (Jvm.Cond.fieldLink "FogNets" (163 : Nat) "FogNets$Ridge" "thirst" "[I") ∈ lw_all := lw_g (lw_at lw_m1 213 rfl) rfl
theorem q344 : (Jvm.Cond.classLink "FogNets" (43 : Nat) "FogNets$Hung") ∈ lw_all := lw_g (lw_at lw_m2 12 rfl) rfl
theorem q346 : (Jvm.Cond.methodLinkNest "FogNets" (45 : Nat) ({ cls := "FogNets$Hung", name := "<init>", desc := "()V" } : Jvm.MethodName) "FogNets") ∈ lw_tbl := lw_at lw_m2 14 rfl
theorem q355 : (Jvm.Cond.fieldLink "FogNets" (277 : Nat) "FogNets$Hung" "netAt" "[I") ∈ lw_all := lw_g (lw_at lw_m2 23 rfl) rfl
theorem q357 : (Jvm.Cond.fieldLink "FogNets" (141 : Nat) "FogNets$Hung" "nets" "[LFogNets$Net;") ∈ lw_all := lw_g (lw_at lw_m2 25 rfl) rfl
theorem q359 : (Jvm.Cond.fieldLink "FogNets" (148 : Nat) "FogNets$Hung" "at" "[I") ∈ lw_all := lw_g (lw_at lw_m2 27 rfl) rfl
theorem q361 : (Jvm.Cond.fieldLink "FogNets" (219 : Nat) "FogNets$Hung" "mended" "I") ∈ lw_all := lw_g (lw_at lw_m2 29 rfl) rfl
theorem q363 : (Jvm.Cond.fieldLink "FogNets" (120 : Nat) "FogNets$Hung" "many" "I") ∈ lw_all := lw_g (lw_at lw_m2 31 rfl) rfl
theorem q365 : (Jvm.Cond.fieldLink "FogNets" (206 : Nat) "FogNets$Hung" "took" "[I") ∈ lw_all := lw_g (lw_at lw_m2 33 rfl) rfl
theorem q381 : (Jvm.Cond.classLink "FogNets" (50 : Nat) "FogNets$Tanks") ∈ lw_all := lw_g (lw_at lw_m2 49 rfl) rfl
theorem q383 : (Jvm.Cond.methodLinkNest "FogNets" (52 : Nat) ({ cls := "FogNets$Tanks", name := "<init>", desc := "()V" } : Jvm.MethodName) "FogNets") ∈ lw_tbl := lw_at lw_m2 51 rfl
theorem q388 : (Jvm.Cond.fieldLink "FogNets" (166 : Nat) "FogNets$Tanks" "tank" "[I") ∈ lw_all := lw_g (lw_at lw_m2 56 rfl) rfl
theorem q390 : (Jvm.Cond.fieldLink "FogNets" (169 : Nat) "FogNets$Tanks" "lacks" "[I") ∈ lw_all := lw_g (lw_at lw_m2 58 rfl) rfl
theorem q396 : (Jvm.Cond.classLink "FogNets" (61 : Nat) "java/util/ArrayList") ∈ lw_all := lw_g (lw_at lw_m2 64 rfl) rfl
theorem q397 : (Jvm.Cond.methodLink "FogNets" (63 : Nat) ({ cls := "java/util/ArrayList", name := "<init>", desc := "()V" } : Jvm.MethodName)) ∈ lw_all := lw_g (lw_at lw_m2 65 rfl) rfl
theorem q402 : (Jvm.Cond.classLink "FogNets" (68 : Nat) "FogNets$Sky") ∈ lw_all := lw_g (lw_at lw_m2 70 rfl) rfl
theorem q404 : (Jvm.Cond.methodLinkNest "FogNets" (70 : Nat) ({ cls := "FogNets$Sky", name := "<init>", desc := "()V" } : Jvm.MethodName) "FogNets") ∈ lw_tbl := lw_at lw_m2 72 rfl
theorem q417 : (Jvm.Cond.classLink "FogNets" (87 : Nat) "FogNets$Mark") ∈ lw_all := lw_g (lw_at lw_m2 85 rfl) rfl
theorem q419 : (Jvm.Cond.methodLink "FogNets" (93 : Nat) ({ cls := "FogNets$Hung", name := "begins", desc := "(LFogNets$Ridge;)V" } : Jvm.MethodName)) ∈ lw_all := lw_g (lw_at lw_m2 87 rfl) rfl
theorem q445 : (Jvm.Cond.fieldLink "FogNets" (30 : Nat) "FogNets" "reader" "LFogNets$Reader;") ∈ lw_all := lw_g (lw_at lw_m2 113 rfl) rfl
theorem q447 : (Jvm.Cond.fieldLink "FogNets" (39 : Nat) "FogNets" "ridge" "LFogNets$Ridge;") ∈ lw_all := lw_g (lw_at lw_m2 115 rfl) rfl
theorem q449 : (Jvm.Cond.fieldLink "FogNets" (46 : Nat) "FogNets" "hung" "LFogNets$Hung;") ∈ lw_all := lw_g (lw_at lw_m2 117 rfl) rfl
theorem q451 : (Jvm.Cond.fieldLink "FogNets" (53 : Nat) "FogNets" "tanks" "LFogNets$Tanks;") ∈ lw_all := lw_g (lw_at lw_m2 119 rfl) rfl
theorem q453 : (Jvm.Cond.fieldLink "FogNets" (109 : Nat) "FogNets" "night" "I") ∈ lw_all := lw_g (lw_at lw_m2 121 rfl) rfl
theorem q455 : (Jvm.Cond.fieldLink "FogNets" (57 : Nat) "FogNets" "lastTook" "[I") ∈ lw_all := lw_g (lw_at lw_m2 123 rfl) rfl
theorem q457 : (Jvm.Cond.fieldLink "FogNets" (64 : Nat) "FogNets" "jars" "Ljava/util/ArrayList;") ∈ lw_all := lw_g (lw_at lw_m2 125 rfl) rfl
theorem q458 : (Jvm.Cond.fieldLink "FogNets" (71 : Nat) "FogNets" "sky" "LFogNets$Sky;") ∈ lw_all := lw_g (lw_at lw_m2 126 rfl) rfl
theorem q459 : (Jvm.Cond.fieldLink "FogNets" (75 : Nat) "FogNets" "trial" "LFogNets$Hung;") ∈ lw_all := lw_g (lw_at lw_m2 127 rfl) rfl
theorem q460 : (Jvm.Cond.fieldLink "FogNets" (78 : Nat) "FogNets" "later" "LFogNets$Tanks;") ∈ lw_all := lw_g (lw_at lw_m2 128 rfl) rfl
theorem q461 : (Jvm.Cond.fieldLink "FogNets" (81 : Nat) "FogNets" "worth" "[I") ∈ lw_all := lw_g (lw_at lw_m2 129 rfl) rfl
theorem q462 : (Jvm.Cond.fieldLink "FogNets" (84 : Nat) "FogNets" "takenBy" "[I") ∈ lw_all := lw_g (lw_at lw_m2 130 rfl) rfl
theorem q463 : (Jvm.Cond.fieldLink "FogNets" (310 : Nat) "FogNets" "g" "J") ∈ lw_all := lw_g (lw_at lw_m2 131 rfl) rfl
theorem q464 : (Jvm.Cond.fieldLink "FogNets" (89 : Nat) "FogNets" "marks" "[LFogNets$Mark;") ∈ lw_all := lw_g (lw_at lw_m2 132 rfl) rfl
theorem q465 : (Jvm.Cond.laysFinal "FogNets" "FogNets" "reader" "LFogNets$Reader;") ∈ lw_all := lw_g (lw_at lw_m2 133 rfl) rfl
theorem q466 : (Jvm.Cond.soleField "FogNets" "reader") ∈ lw_all := lw_g (lw_at lw_m2 134 rfl) rfl
theorem q467 : (Jvm.Cond.lays "FogNets" "FogNets" "ridge" "LFogNets$Ridge;") ∈ lw_all := lw_g (lw_at lw_m2 135 rfl) rfl
theorem q468 : (Jvm.Cond.soleField "FogNets" "ridge") ∈ lw_all := lw_g (lw_at lw_m2 136 rfl) rfl
theorem q469 : (Jvm.Cond.laysFinal "FogNets" "FogNets" "hung" "LFogNets$Hung;") ∈ lw_all := lw_g (lw_at lw_m2 137 rfl) rfl
theorem q470 : (Jvm.Cond.soleField "FogNets" "hung") ∈ lw_all := lw_g (lw_at lw_m2 138 rfl) rfl
theorem q471 : (Jvm.Cond.laysFinal "FogNets" "FogNets" "tanks" "LFogNets$Tanks;") ∈ lw_all := lw_g (lw_at lw_m2 139 rfl) rfl
theorem q472 : (Jvm.Cond.soleField "FogNets" "tanks") ∈ lw_all := lw_g (lw_at lw_m2 140 rfl) rfl
theorem q473 : (Jvm.Cond.lays "FogNets" "FogNets" "night" "I") ∈ lw_all := lw_g (lw_at lw_m2 141 rfl) rfl
theorem q474 : (Jvm.Cond.soleField "FogNets" "night") ∈ lw_all := lw_g (lw_at lw_m2 142 rfl) rfl
theorem q475 : (Jvm.Cond.laysFinal "FogNets" "FogNets" "lastTook" "[I") ∈ lw_all := lw_g (lw_at lw_m2 143 rfl) rfl
theorem q476 : (Jvm.Cond.soleField "FogNets" "lastTook") ∈ lw_all := lw_g (lw_at lw_m2 144 rfl) rfl
theorem q477 : (Jvm.Cond.laysFinal "FogNets" "FogNets" "jars" "Ljava/util/ArrayList;") ∈ lw_all := lw_g (lw_at lw_m2 145 rfl) rfl
theorem q478 : (Jvm.Cond.soleField "FogNets" "jars") ∈ lw_all := lw_g (lw_at lw_m2 146 rfl) rfl
theorem q479 : (Jvm.Cond.laysFinal "FogNets" "FogNets" "sky" "LFogNets$Sky;") ∈ lw_all := lw_g (lw_at lw_m2 147 rfl) rfl
theorem q480 : (Jvm.Cond.soleField "FogNets" "sky") ∈ lw_all := lw_g (lw_at lw_m2 148 rfl) rfl
theorem q481 : (Jvm.Cond.laysFinal "FogNets" "FogNets" "trial" "LFogNets$Hung;") ∈ lw_all := lw_g (lw_at lw_m2 149 rfl) rfl
theorem q482 : (Jvm.Cond.soleField "FogNets" "trial") ∈ lw_all := lw_g (lw_at lw_m2 150 rfl) rfl
theorem q483 : (Jvm.Cond.laysFinal "FogNets" "FogNets" "later" "LFogNets$Tanks;") ∈ lw_all := lw_g (lw_at lw_m2 151 rfl) rfl
theorem q484 : (Jvm.Cond.soleField "FogNets" "later") ∈ lw_all := lw_g (lw_at lw_m2 152 rfl) rfl
theorem q485 : (Jvm.Cond.laysFinal "FogNets" "FogNets" "worth" "[I") ∈ lw_all := lw_g (lw_at lw_m2 153 rfl) rfl
theorem q486 : (Jvm.Cond.soleField "FogNets" "worth") ∈ lw_all := lw_g (lw_at lw_m2 154 rfl) rfl
theorem q487 : (Jvm.Cond.laysFinal "FogNets" "FogNets" "takenBy" "[I") ∈ lw_all := lw_g (lw_at lw_m2 155 rfl) rfl
theorem q488 : (Jvm.Cond.soleField "FogNets" "takenBy") ∈ lw_all := lw_g (lw_at lw_m2 156 rfl) rfl
theorem q489 : (Jvm.Cond.lays "FogNets" "FogNets" "g" "J") ∈ lw_all := lw_g (lw_at lw_m2 157 rfl) rfl
theorem q490 : (Jvm.Cond.soleField "FogNets" "g") ∈ lw_all := lw_g (lw_at lw_m2 158 rfl) rfl
theorem q491 : (Jvm.Cond.laysFinal "FogNets" "FogNets" "marks" "[LFogNets$Mark;") ∈ lw_all := lw_g (lw_at lw_m2 159 rfl) rfl
theorem q492 : (Jvm.Cond.soleField "FogNets" "marks") ∈ lw_all := lw_g (lw_at lw_m2 160 rfl) rfl
theorem q493 : (Jvm.Cond.superclass "FogNets" "java/lang/Object") ∈ lw_all := lw_g (lw_at lw_m2 161 rfl) rfl
theorem q495 : (Jvm.Cond.instanceMethod ({ cls := "FogNets", name := "feed", desc := "(JJJ)I" } : Jvm.MethodName)) ∈ lw_all := lw_g (lw_at lw_m2 163 rfl) rfl
theorem q496 : (Jvm.Cond.selects "FogNets" ({ cls := "FogNets", name := "feed", desc := "(JJJ)I" } : Jvm.MethodName) ({ cls := "FogNets", name := "feed", desc := "(JJJ)I" } : Jvm.MethodName)) ∈ lw_all := lw_g (lw_at lw_m2 164 rfl) rfl
theorem q497 : (Jvm.Cond.code ({ cls := "FogNets", name := "feed", desc := "(JJJ)I" } : Jvm.MethodName) prog_1_method_5_code (7 : Nat) (Option.some Jvm.ClassFile.FieldType.int)) ∈ lw_all := lw_g (lw_at lw_m2 165 rfl) rfl
theorem q498 : (Jvm.Cond.methodLink "FogNets" (97 : Nat) ({ cls := "FogNets$Reader", name := "feed", desc := "(J)V" } : Jvm.MethodName)) ∈ lw_all := lw_g (lw_at lw_m2 166 rfl) rfl
theorem q504 : (Jvm.Cond.static ({ cls := "FogNets", name := "within", desc := "(III)Z" } : Jvm.MethodName)) ∈ lw_all := lw_g (lw_at lw_m2 172 rfl) rfl
theorem q505 : (Jvm.Cond.code ({ cls := "FogNets", name := "within", desc := "(III)Z" } : Jvm.MethodName) prog_1_method_1_code (3 : Nat) (Option.some Jvm.ClassFile.FieldType.boolean)) ∈ lw_all := lw_g (lw_at lw_m2 173 rfl) rfl
theorem q507 : (Jvm.Cond.instanceMethod ({ cls := "FogNets", name := "ridge", desc := "()I" } : Jvm.MethodName)) ∈ lw_all := lw_g (lw_at lw_m2 175 rfl) rfl
theorem q508 : (Jvm.Cond.selects "FogNets" ({ cls := "FogNets", name := "ridge", desc := "()I" } : Jvm.MethodName) ({ cls := "FogNets", name := "ridge", desc := "()I" } : Jvm.MethodName)) ∈ lw_all := lw_g (lw_at lw_m2 176 rfl) rfl
theorem q509 : (Jvm.Cond.codeWith ({ cls := "FogNets", name := "ridge", desc := "()I" } : Jvm.MethodName) prog_1_method_6_code (2 : Nat) (Option.some Jvm.ClassFile.FieldType.int) [((0 : Nat), (67 : Nat), (68 : Nat), (115 : Nat))]) ∈ lw_all := lw_g (lw_at lw_m2 177 rfl) rfl
theorem q510 : (Jvm.Cond.classLink "FogNets" (115 : Nat) "FogNets$Wrong") ∈ lw_all := lw_g (lw_at lw_m2 178 rfl) rfl
theorem q511 : (Jvm.Cond.methodLink "FogNets" (105 : Nat) ({ cls := "FogNets$Reader", name := "ridge", desc := "()LFogNets$Ridge;" } : Jvm.MethodName)) ∈ lw_all := lw_g (lw_at lw_m2 179 rfl) rfl
theorem q706 : (Jvm.Cond.fieldLink "FogNets" (117 : Nat) "FogNets$Wrong" "fault" "I") ∈ lw_all := lw_g (lw_at lw_m3 134 rfl) rfl
theorem q860 : (Jvm.Cond.selects "FogNets" ({ cls := "java/lang/Object", name := "getClass", desc := "()Ljava/lang/Class;" } : Jvm.MethodName) ({ cls := "java/lang/Object", name := "getClass", desc := "()Ljava/lang/Class;" } : Jvm.MethodName)) ∈ lw_all := lw_g (lw_at lw_m4 48 rfl) rfl
theorem q1006 : (Jvm.Cond.static ({ cls := "FogNets", name := "net", desc := "(III)LFogNets$Net;" } : Jvm.MethodName)) ∈ lw_all := lw_g (lw_at lw_m4 194 rfl) rfl
theorem q1007 : (Jvm.Cond.code ({ cls := "FogNets", name := "net", desc := "(III)LFogNets$Net;" } : Jvm.MethodName) prog_1_method_3_code (3 : Nat) (Option.some (Jvm.ClassFile.FieldType.object "FogNets$Net"))) ∈ lw_all := lw_g (lw_at lw_m4 195 rfl) rfl
theorem q1008 : (Jvm.Cond.classLink "FogNets" (1 : Nat) "FogNets$Shroud") ∈ lw_all := lw_g (lw_at lw_m4 196 rfl) rfl
theorem q1010 : (Jvm.Cond.methodLink "FogNets" (3 : Nat) ({ cls := "FogNets$Shroud", name := "<init>", desc := "(II)V" } : Jvm.MethodName)) ∈ lw_all := lw_g (lw_at lw_m4 198 rfl) rfl
theorem q1019 : (Jvm.Cond.fieldLink "FogNets" (145 : Nat) "FogNets$Net" "village" "I") ∈ lw_all := lw_g (lw_at lw_m4 207 rfl) rfl
theorem q1021 : (Jvm.Cond.fieldLink "FogNets" (151 : Nat) "FogNets$Net" "mesh" "I") ∈ lw_all := lw_g (lw_at lw_m4 209 rfl) rfl
theorem q1027 : (Jvm.Cond.classLink "FogNets" (7 : Nat) "FogNets$Birds") ∈ lw_all := lw_g (lw_at lw_m4 215 rfl) rfl
theorem q1029 : (Jvm.Cond.methodLink "FogNets" (9 : Nat) ({ cls := "FogNets$Birds", name := "<init>", desc := "(II)V" } : Jvm.MethodName)) ∈ lw_all := lw_g (lw_at lw_m4 217 rfl) rfl
theorem q1036 : (Jvm.Cond.classLink "FogNets" (10 : Nat) "FogNets$Torn") ∈ lw_all := lw_g (lw_at lw_m4 224 rfl) rfl
theorem q1038 : (Jvm.Cond.methodLink "FogNets" (12 : Nat) ({ cls := "FogNets$Torn", name := "<init>", desc := "(II)V" } : Jvm.MethodName)) ∈ lw_all := lw_g (lw_at lw_m4 226 rfl) rfl
theorem q1045 : (Jvm.Cond.classLink "FogNets" (13 : Nat) "FogNets$Spite") ∈ lw_all := lw_g (lw_at lw_m4 233 rfl) rfl
theorem q1047 : (Jvm.Cond.methodLink "FogNets" (15 : Nat) ({ cls := "FogNets$Spite", name := "<init>", desc := "(II)V" } : Jvm.MethodName)) ∈ lw_all := lw_g (lw_at lw_m4 235 rfl) rfl
theorem q1054 : (Jvm.Cond.classLink "FogNets" (16 : Nat) "FogNets$High") ∈ lw_all := lw_g (lw_at lw_m5 2 rfl) rfl
theorem q1056 : (Jvm.Cond.methodLink "FogNets" (18 : Nat) ({ cls := "FogNets$High", name := "<init>", desc := "(II)V" } : Jvm.MethodName)) ∈ lw_all := lw_g (lw_at lw_m5 4 rfl) rfl
theorem q1063 : (Jvm.Cond.classLink "FogNets" (19 : Nat) "FogNets$Net") ∈ lw_all := lw_g (lw_at lw_m5 11 rfl) rfl
theorem q1065 : (Jvm.Cond.methodLink "FogNets" (21 : Nat) ({ cls := "FogNets$Net", name := "<init>", desc := "(II)V" } : Jvm.MethodName)) ∈ lw_all := lw_g (lw_at lw_m5 13 rfl) rfl
theorem q1069 : (Jvm.Cond.methodLink "FogNets" (108 : Nat) ({ cls := "FogNets$Tanks", name := "begins", desc := "(LFogNets$Ridge;)V" } : Jvm.MethodName)) ∈ lw_all := lw_g (lw_at lw_m5 17 rfl) rfl
theorem q1074 : (Jvm.Cond.methodLink "FogNets" (112 : Nat) ({ cls := "java/util/ArrayList", name := "clear", desc := "()V" } : Jvm.MethodName)) ∈ lw_all := lw_g (lw_at lw_m5 22 rfl) rfl
theorem q1079 : (Jvm.Cond.instanceMethod ({ cls := "FogNets", name := "net", desc := "(II)I" } : Jvm.MethodName)) ∈ lw_all := lw_g (lw_at lw_m5 27 rfl) rfl
theorem q1080 : (Jvm.Cond.selects "FogNets" ({ cls := "FogNets", name := "net", desc := "(II)I" } : Jvm.MethodName) ({ cls := "FogNets", name := "net", desc := "(II)I" } : Jvm.MethodName)) ∈ lw_all := lw_g (lw_at lw_m5 28 rfl) rfl
theorem q1081 : (Jvm.Cond.code ({ cls := "FogNets", name := "net", desc := "(II)I" } : Jvm.MethodName) prog_1_method_10_code (4 : Nat) (Option.some Jvm.ClassFile.FieldType.int)) ∈ lw_all := lw_g (lw_at lw_m5 29 rfl) rfl
theorem q1082 : (Jvm.Cond.methodLink "FogNets" (137 : Nat) ({ cls := "FogNets", name := "isNet", desc := "(I)Z" } : Jvm.MethodName)) ∈ lw_all := lw_g (lw_at lw_m5 30 rfl) rfl
theorem q1083 : (Jvm.Cond.privateMethod ({ cls := "FogNets", name := "isNet", desc := "(I)Z" } : Jvm.MethodName)) ∈ lw_tbl := lw_at lw_m5 31 rfl
theorem q1084 : (Jvm.Cond.instanceMethod ({ cls := "FogNets", name := "isNet", desc := "(I)Z" } : Jvm.MethodName)) ∈ lw_all := lw_g (lw_at lw_m5 32 rfl) rfl
theorem q1085 : (Jvm.Cond.code ({ cls := "FogNets", name := "isNet", desc := "(I)Z" } : Jvm.MethodName) prog_1_method_7_code (2 : Nat) (Option.some Jvm.ClassFile.FieldType.boolean)) ∈ lw_all := lw_g (lw_at lw_m5 33 rfl) rfl
theorem q1086 : (Jvm.Cond.methodLink "FogNets" (123 : Nat) ({ cls := "FogNets", name := "within", desc := "(III)Z" } : Jvm.MethodName)) ∈ lw_all := lw_g (lw_at lw_m5 34 rfl) rfl
theorem q1087 : (Jvm.Cond.methodLink "FogNets" (154 : Nat) ({ cls := "FogNets$Net", name := "kind", desc := "()I" } : Jvm.MethodName)) ∈ lw_all := lw_g (lw_at lw_m5 35 rfl) rfl
theorem q1107 : (Jvm.Cond.methodLink "FogNets" (157 : Nat) ({ cls := "FogNets$Hung", name := "isMended", desc := "(I)Z" } : Jvm.MethodName)) ∈ lw_all := lw_g (lw_at lw_m5 55 rfl) rfl
theorem q1112 : (Jvm.Cond.instanceMethod ({ cls := "FogNets", name := "village", desc := "(II)I" } : Jvm.MethodName)) ∈ lw_all := lw_g (lw_at lw_m5 60 rfl) rfl
theorem q1113 : (Jvm.Cond.selects "FogNets" ({ cls := "FogNets", name := "village", desc := "(II)I" } : Jvm.MethodName) ({ cls := "FogNets", name := "village", desc := "(II)I" } : Jvm.MethodName)) ∈ lw_all := lw_g (lw_at lw_m5 61 rfl) rfl
theorem q1114 : (Jvm.Cond.code ({ cls := "FogNets", name := "village", desc := "(II)I" } : Jvm.MethodName) prog_1_method_11_code (5 : Nat) (Option.some Jvm.ClassFile.FieldType.int)) ∈ lw_all := lw_g (lw_at lw_m5 62 rfl) rfl
theorem q1115 : (Jvm.Cond.methodLink "FogNets" (160 : Nat) ({ cls := "FogNets", name := "isVillage", desc := "(I)Z" } : Jvm.MethodName)) ∈ lw_all := lw_g (lw_at lw_m5 63 rfl) rfl
theorem q1116 : (Jvm.Cond.privateMethod ({ cls := "FogNets", name := "isVillage", desc := "(I)Z" } : Jvm.MethodName)) ∈ lw_tbl := lw_at lw_m5 64 rfl
theorem q1117 : (Jvm.Cond.instanceMethod ({ cls := "FogNets", name := "isVillage", desc := "(I)Z" } : Jvm.MethodName)) ∈ lw_all := lw_g (lw_at lw_m5 65 rfl) rfl
theorem q1118 : (Jvm.Cond.code ({ cls := "FogNets", name := "isVillage", desc := "(I)Z" } : Jvm.MethodName) prog_1_method_8_code (2 : Nat) (Option.some Jvm.ClassFile.FieldType.boolean)) ∈ lw_all := lw_g (lw_at lw_m5 66 rfl) rfl
theorem q1119 : (Jvm.Cond.methodLink "FogNets" (130 : Nat) ({ cls := "java/util/ArrayList", name := "size", desc := "()I" } : Jvm.MethodName)) ∈ lw_all := lw_g (lw_at lw_m5 67 rfl) rfl
theorem q1121 : (Jvm.Cond.instanceMethod ({ cls := "FogNets", name := "wind", desc := "(I)I" } : Jvm.MethodName)) ∈ lw_all := lw_g (lw_at lw_m5 69 rfl) rfl
theorem q1122 : (Jvm.Cond.selects "FogNets" ({ cls := "FogNets", name := "wind", desc := "(I)I" } : Jvm.MethodName) ({ cls := "FogNets", name := "wind", desc := "(I)I" } : Jvm.MethodName)) ∈ lw_all := lw_g (lw_at lw_m5 70 rfl) rfl
theorem q1123 : (Jvm.Cond.code ({ cls := "FogNets", name := "wind", desc := "(I)I" } : Jvm.MethodName) prog_1_method_12_code (2 : Nat) (Option.some Jvm.ClassFile.FieldType.int)) ∈ lw_all := lw_g (lw_at lw_m5 71 rfl) rfl
theorem q1124 : (Jvm.Cond.methodLink "FogNets" (172 : Nat) ({ cls := "FogNets", name := "isHour", desc := "(I)Z" } : Jvm.MethodName)) ∈ lw_all := lw_g (lw_at lw_m5 72 rfl) rfl
theorem q1125 : (Jvm.Cond.privateMethod ({ cls := "FogNets", name := "isHour", desc := "(I)Z" } : Jvm.MethodName)) ∈ lw_tbl := lw_at lw_m5 73 rfl
theorem q1126 : (Jvm.Cond.instanceMethod ({ cls := "FogNets", name := "isHour", desc := "(I)Z" } : Jvm.MethodName)) ∈ lw_all := lw_g (lw_at lw_m5 74 rfl) rfl
theorem q1127 : (Jvm.Cond.code ({ cls := "FogNets", name := "isHour", desc := "(I)Z" } : Jvm.MethodName) prog_1_method_9_code (2 : Nat) (Option.some Jvm.ClassFile.FieldType.boolean)) ∈ lw_all := lw_g (lw_at lw_m5 75 rfl) rfl
theorem q1128 : (Jvm.Cond.methodLink "FogNets" (175 : Nat) ({ cls := "FogNets$Ridge", name := "wind", desc := "(II)I" } : Jvm.MethodName)) ∈ lw_all := lw_g (lw_at lw_m5 76 rfl) rfl
theorem q1192 : (Jvm.Cond.instanceMethod ({ cls := "FogNets", name := "bank", desc := "(III)I" } : Jvm.MethodName)) ∈ lw_all := lw_g (lw_at lw_m5 140 rfl) rfl
theorem q1193 : (Jvm.Cond.selects "FogNets" ({ cls := "FogNets", name := "bank", desc := "(III)I" } : Jvm.MethodName) ({ cls := "FogNets", name := "bank", desc := "(III)I" } : Jvm.MethodName)) ∈ lw_all := lw_g (lw_at lw_m5 141 rfl) rfl
theorem q1194 : (Jvm.Cond.code ({ cls := "FogNets", name := "bank", desc := "(III)I" } : Jvm.MethodName) prog_1_method_13_code (6 : Nat) (Option.some Jvm.ClassFile.FieldType.int)) ∈ lw_all := lw_g (lw_at lw_m5 142 rfl) rfl
theorem q1195 : (Jvm.Cond.methodLink "FogNets" (179 : Nat) ({ cls := "FogNets$Ridge", name := "lines", desc := "(I)I" } : Jvm.MethodName)) ∈ lw_all := lw_g (lw_at lw_m5 143 rfl) rfl
theorem q1199 : (Jvm.Cond.methodLink "FogNets" (183 : Nat) ({ cls := "FogNets$Ridge", name := "fog", desc := "(IIII)I" } : Jvm.MethodName)) ∈ lw_all := lw_g (lw_at lw_m5 147 rfl) rfl
theorem q1205 : (Jvm.Cond.methodLink "FogNets" (187 : Nat) ({ cls := "FogNets$Hung", name := "copies", desc := "(LFogNets$Hung;)LFogNets$Hung;" } : Jvm.MethodName)) ∈ lw_all := lw_g (lw_at lw_m5 153 rfl) rfl
theorem q1210 : (Jvm.Cond.methodLink "FogNets" (191 : Nat) ({ cls := "FogNets$Hung", name := "blows", desc := "(IIII)I" } : Jvm.MethodName)) ∈ lw_all := lw_g (lw_at lw_m5 158 rfl) rfl
theorem q1247 : (Jvm.Cond.instanceMethod ({ cls := "FogNets", name := "nights", desc := "(I)I" } : Jvm.MethodName)) ∈ lw_all := lw_g (lw_at lw_m5 195 rfl) rfl
theorem q1248 : (Jvm.Cond.selects "FogNets" ({ cls := "FogNets", name := "nights", desc := "(I)I" } : Jvm.MethodName) ({ cls := "FogNets", name := "nights", desc := "(I)I" } : Jvm.MethodName)) ∈ lw_all := lw_g (lw_at lw_m5 196 rfl) rfl
theorem q1249 : (Jvm.Cond.code ({ cls := "FogNets", name := "nights", desc := "(I)I" } : Jvm.MethodName) prog_1_method_14_code (3 : Nat) (Option.some Jvm.ClassFile.FieldType.int)) ∈ lw_all := lw_g (lw_at lw_m5 197 rfl) rfl
theorem q1250 : (Jvm.Cond.methodLink "FogNets" (194 : Nat) ({ cls := "FogNets$Sky", name := "finds", desc := "(LFogNets$Ridge;I)LFogNets$Sky;" } : Jvm.MethodName)) ∈ lw_all := lw_g (lw_at lw_m5 198 rfl) rfl
theorem q1261 : (Jvm.Cond.methodLink "FogNets" (198 : Nat) ({ cls := "FogNets$Hung", name := "takes", desc := "(LFogNets$Sky;)LFogNets$Hung;" } : Jvm.MethodName)) ∈ lw_all := lw_g (lw_at lw_m5 209 rfl) rfl
theorem q1267 : (Jvm.Cond.methodLink "FogNets" (202 : Nat) ({ cls := "FogNets$Tanks", name := "passes", desc := "(LFogNets$Hung;)V" } : Jvm.MethodName)) ∈ lw_all := lw_g (lw_at lw_m5 215 rfl) rfl
theorem q1289 : (Jvm.Cond.methodLink "FogNets" (209 : Nat) ({ cls := "java/lang/System", name := "arraycopy", desc := "(Ljava/lang/Object;ILjava/lang/Object;II)V" } : Jvm.MethodName)) ∈ lw_all := lw_g (lw_at lw_m5 237 rfl) rfl
theorem q1291 : (Jvm.Cond.instanceMethod ({ cls := "FogNets", name := "mend", desc := "(IZ)Z" } : Jvm.MethodName)) ∈ lw_all := lw_g (lw_at lw_m5 239 rfl) rfl
theorem q1292 : (Jvm.Cond.selects "FogNets" ({ cls := "FogNets", name := "mend", desc := "(IZ)Z" } : Jvm.MethodName) ({ cls := "FogNets", name := "mend", desc := "(IZ)Z" } : Jvm.MethodName)) ∈ lw_all := lw_g (lw_at lw_m6 0 rfl) rfl
theorem q1293 : (Jvm.Cond.code ({ cls := "FogNets", name := "mend", desc := "(IZ)Z" } : Jvm.MethodName) prog_1_method_15_code (3 : Nat) (Option.some Jvm.ClassFile.FieldType.boolean)) ∈ lw_all := lw_g (lw_at lw_m6 1 rfl) rfl
theorem q1294 : (Jvm.Cond.methodLink "FogNets" (215 : Nat) ({ cls := "FogNets$Net", name := "tears", desc := "()Z" } : Jvm.MethodName)) ∈ lw_all := lw_g (lw_at lw_m6 2 rfl) rfl
theorem q1307 : (Jvm.Cond.instanceMethod ({ cls := "FogNets", name := "move", desc := "(II)Z" } : Jvm.MethodName)) ∈ lw_all := lw_g (lw_at lw_m6 15 rfl) rfl
theorem q1308 : (Jvm.Cond.selects "FogNets" ({ cls := "FogNets", name := "move", desc := "(II)Z" } : Jvm.MethodName) ({ cls := "FogNets", name := "move", desc := "(II)Z" } : Jvm.MethodName)) ∈ lw_all := lw_g (lw_at lw_m6 16 rfl) rfl
theorem q1309 : (Jvm.Cond.code ({ cls := "FogNets", name := "move", desc := "(II)Z" } : Jvm.MethodName) prog_1_method_16_code (3 : Nat) (Option.some Jvm.ClassFile.FieldType.boolean)) ∈ lw_all := lw_g (lw_at lw_m6 17 rfl) rfl
theorem q1310 : (Jvm.Cond.methodLink "FogNets" (222 : Nat) ({ cls := "FogNets$Hung", name := "isFree", desc := "(I)Z" } : Jvm.MethodName)) ∈ lw_all := lw_g (lw_at lw_m6 18 rfl) rfl
theorem q1319 : (Jvm.Cond.methodLink "FogNets" (225 : Nat) ({ cls := "FogNets$Hung", name := "moves", desc := "(II)V" } : Jvm.MethodName)) ∈ lw_all := lw_g (lw_at lw_m6 27 rfl) rfl
theorem q1324 : (Jvm.Cond.instanceMethod ({ cls := "FogNets", name := "place", desc := "(IIIII)I" } : Jvm.MethodName)) ∈ lw_all := lw_g (lw_at lw_m6 32 rfl) rfl
theorem q1325 : (Jvm.Cond.selects "FogNets" ({ cls := "FogNets", name := "place", desc := "(IIIII)I" } : Jvm.MethodName) ({ cls := "FogNets", name := "place", desc := "(IIIII)I" } : Jvm.MethodName)) ∈ lw_all := lw_g (lw_at lw_m6 33 rfl) rfl
theorem q1326 : (Jvm.Cond.code ({ cls := "FogNets", name := "place", desc := "(IIIII)I" } : Jvm.MethodName) prog_1_method_19_code (11 : Nat) (Option.some Jvm.ClassFile.FieldType.int)) ∈ lw_all := lw_g (lw_at lw_m6 34 rfl) rfl
theorem q1327 : (Jvm.Cond.methodLink "FogNets" (231 : Nat) ({ cls := "FogNets", name := "tries", desc := "()LFogNets$Hung;" } : Jvm.MethodName)) ∈ lw_all := lw_g (lw_at lw_m6 35 rfl) rfl
theorem q1328 : (Jvm.Cond.privateMethod ({ cls := "FogNets", name := "tries", desc := "()LFogNets$Hung;" } : Jvm.MethodName)) ∈ lw_tbl := lw_at lw_m6 36 rfl
theorem q1329 : (Jvm.Cond.instanceMethod ({ cls := "FogNets", name := "tries", desc := "()LFogNets$Hung;" } : Jvm.MethodName)) ∈ lw_all := lw_g (lw_at lw_m6 37 rfl) rfl
theorem q1330 : (Jvm.Cond.code ({ cls := "FogNets", name := "tries", desc := "()LFogNets$Hung;" } : Jvm.MethodName) prog_1_method_17_code (1 : Nat) (Option.some (Jvm.ClassFile.FieldType.object "FogNets$Hung"))) ∈ lw_all := lw_g (lw_at lw_m6 38 rfl) rfl
theorem q1331 : (Jvm.Cond.methodLink "FogNets" (238 : Nat) ({ cls := "FogNets", name := "net", desc := "(III)LFogNets$Net;" } : Jvm.MethodName)) ∈ lw_all := lw_g (lw_at lw_m6 39 rfl) rfl
theorem q1332 : (Jvm.Cond.methodLink "FogNets" (242 : Nat) ({ cls := "FogNets$Hung", name := "hangs", desc := "(LFogNets$Net;I)V" } : Jvm.MethodName)) ∈ lw_all := lw_g (lw_at lw_m6 40 rfl) rfl
theorem q1333 : (Jvm.Cond.methodLink "FogNets" (235 : Nat) ({ cls := "FogNets$Hung", name := "yields", desc := "(I)I" } : Jvm.MethodName)) ∈ lw_all := lw_g (lw_at lw_m6 41 rfl) rfl
theorem q1334 : (Jvm.Cond.methodLink "FogNets" (246 : Nat) ({ cls := "FogNets$Hung", name := "takesLast", desc := "()V" } : Jvm.MethodName)) ∈ lw_all := lw_g (lw_at lw_m6 42 rfl) rfl
theorem q1339 : (Jvm.Cond.instanceMethod ({ cls := "FogNets", name := "restless", desc := "()I" } : Jvm.MethodName)) ∈ lw_all := lw_g (lw_at lw_m6 47 rfl) rfl
theorem q1340 : (Jvm.Cond.selects "FogNets" ({ cls := "FogNets", name := "restless", desc := "()I" } : Jvm.MethodName) ({ cls := "FogNets", name := "restless", desc := "()I" } : Jvm.MethodName)) ∈ lw_all := lw_g (lw_at lw_m6 48 rfl) rfl
theorem q1341 : (Jvm.Cond.code ({ cls := "FogNets", name := "restless", desc := "()I" } : Jvm.MethodName) prog_1_method_21_code (3 : Nat) (Option.some Jvm.ClassFile.FieldType.int)) ∈ lw_all := lw_g (lw_at lw_m6 49 rfl) rfl
theorem q1342 : (Jvm.Cond.methodLink "FogNets" (249 : Nat) ({ cls := "FogNets", name := "wishes", desc := "(I)I" } : Jvm.MethodName)) ∈ lw_all := lw_g (lw_at lw_m6 50 rfl) rfl
theorem q1343 : (Jvm.Cond.privateMethod ({ cls := "FogNets", name := "wishes", desc := "(I)I" } : Jvm.MethodName)) ∈ lw_tbl := lw_at lw_m6 51 rfl
theorem q1344 : (Jvm.Cond.instanceMethod ({ cls := "FogNets", name := "wishes", desc := "(I)I" } : Jvm.MethodName)) ∈ lw_all := lw_g (lw_at lw_m6 52 rfl) rfl
theorem q1345 : (Jvm.Cond.code ({ cls := "FogNets", name := "wishes", desc := "(I)I" } : Jvm.MethodName) prog_1_method_20_code (7 : Nat) (Option.some Jvm.ClassFile.FieldType.int)) ∈ lw_all := lw_g (lw_at lw_m6 53 rfl) rfl
theorem q1347 : (Jvm.Cond.instanceMethod ({ cls := "FogNets", name := "played", desc := "(I)I" } : Jvm.MethodName)) ∈ lw_all := lw_g (lw_at lw_m6 55 rfl) rfl
theorem q1348 : (Jvm.Cond.selects "FogNets" ({ cls := "FogNets", name := "played", desc := "(I)I" } : Jvm.MethodName) ({ cls := "FogNets", name := "played", desc := "(I)I" } : Jvm.MethodName)) ∈ lw_all := lw_g (lw_at lw_m6 56 rfl) rfl
theorem q1349 : (Jvm.Cond.code ({ cls := "FogNets", name := "played", desc := "(I)I" } : Jvm.MethodName) prog_1_method_25_code (3 : Nat) (Option.some Jvm.ClassFile.FieldType.int)) ∈ lw_all := lw_g (lw_at lw_m6 57 rfl) rfl
theorem q1350 : (Jvm.Cond.methodLink "FogNets" (269 : Nat) ({ cls := "FogNets", name := "plays", desc := "()I" } : Jvm.MethodName)) ∈ lw_all := lw_g (lw_at lw_m6 58 rfl) rfl
theorem q1351 : (Jvm.Cond.privateMethod ({ cls := "FogNets", name := "plays", desc := "()I" } : Jvm.MethodName)) ∈ lw_tbl := lw_at lw_m6 59 rfl
theorem q1352 : (Jvm.Cond.instanceMethod ({ cls := "FogNets", name := "plays", desc := "()I" } : Jvm.MethodName)) ∈ lw_all := lw_g (lw_at lw_m6 60 rfl) rfl
theorem q1353 : (Jvm.Cond.code ({ cls := "FogNets", name := "plays", desc := "()I" } : Jvm.MethodName) prog_1_method_24_code (6 : Nat) (Option.some Jvm.ClassFile.FieldType.int)) ∈ lw_all := lw_g (lw_at lw_m6 61 rfl) rfl
theorem q1354 : (Jvm.Cond.methodLink "FogNets" (261 : Nat) ({ cls := "FogNets", name := "keeps", desc := "(Ljava/util/ArrayList;)V" } : Jvm.MethodName)) ∈ lw_all := lw_g (lw_at lw_m6 62 rfl) rfl
theorem q1355 : (Jvm.Cond.privateMethod ({ cls := "FogNets", name := "keeps", desc := "(Ljava/util/ArrayList;)V" } : Jvm.MethodName)) ∈ lw_tbl := lw_at lw_m6 63 rfl
theorem q1356 : (Jvm.Cond.instanceMethod ({ cls := "FogNets", name := "keeps", desc := "(Ljava/util/ArrayList;)V" } : Jvm.MethodName)) ∈ lw_all := lw_g (lw_at lw_m6 64 rfl) rfl
theorem q1357 : (Jvm.Cond.code ({ cls := "FogNets", name := "keeps", desc := "(Ljava/util/ArrayList;)V" } : Jvm.MethodName) prog_1_method_23_code (3 : Nat) (Option.none : Option Jvm.ClassFile.FieldType)) ∈ lw_all := lw_g (lw_at lw_m6 65 rfl) rfl
theorem q1358 : (Jvm.Cond.methodLink "FogNets" (257 : Nat) ({ cls := "java/util/ArrayList", name := "add", desc := "(Ljava/lang/Object;)Z" } : Jvm.MethodName)) ∈ lw_all := lw_g (lw_at lw_m6 66 rfl) rfl
theorem q1359 : (Jvm.Cond.methodLink "FogNets" (265 : Nat) ({ cls := "FogNets", name := "isThere", desc := "(Ljava/util/ArrayList;)Z" } : Jvm.MethodName)) ∈ lw_all := lw_g (lw_at lw_m6 67 rfl) rfl
theorem q1360 : (Jvm.Cond.privateMethod ({ cls := "FogNets", name := "isThere", desc := "(Ljava/util/ArrayList;)Z" } : Jvm.MethodName)) ∈ lw_tbl := lw_at lw_m6 68 rfl
theorem q1361 : (Jvm.Cond.instanceMethod ({ cls := "FogNets", name := "isThere", desc := "(Ljava/util/ArrayList;)Z" } : Jvm.MethodName)) ∈ lw_all := lw_g (lw_at lw_m6 69 rfl) rfl
theorem q1362 : (Jvm.Cond.code ({ cls := "FogNets", name := "isThere", desc := "(Ljava/util/ArrayList;)Z" } : Jvm.MethodName) prog_1_method_22_code (5 : Nat) (Option.some Jvm.ClassFile.FieldType.boolean)) ∈ lw_all := lw_g (lw_at lw_m6 70 rfl) rfl
theorem q1363 : (Jvm.Cond.methodLink "FogNets" (252 : Nat) ({ cls := "java/util/ArrayList", name := "get", desc := "(I)Ljava/lang/Object;" } : Jvm.MethodName)) ∈ lw_all := lw_g (lw_at lw_m6 71 rfl) rfl
theorem q1364 : (Jvm.Cond.classLink "FogNets" (256 : Nat) "[I") ∈ lw_all := lw_g (lw_at lw_m6 72 rfl) rfl
theorem q1365 : (Jvm.Cond.methodLink "FogNets" (272 : Nat) ({ cls := "java/lang/Math", name := "abs", desc := "(I)I" } : Jvm.MethodName)) ∈ lw_all := lw_g (lw_at lw_m6 73 rfl) rfl
theorem q1369 : (Jvm.Cond.instanceMethod ({ cls := "FogNets", name := "first", desc := "()I" } : Jvm.MethodName)) ∈ lw_all := lw_g (lw_at lw_m6 77 rfl) rfl
theorem q1370 : (Jvm.Cond.selects "FogNets" ({ cls := "FogNets", name := "first", desc := "()I" } : Jvm.MethodName) ({ cls := "FogNets", name := "first", desc := "()I" } : Jvm.MethodName)) ∈ lw_all := lw_g (lw_at lw_m6 78 rfl) rfl
theorem q1371 : (Jvm.Cond.code ({ cls := "FogNets", name := "first", desc := "()I" } : Jvm.MethodName) prog_1_method_27_code (5 : Nat) (Option.some Jvm.ClassFile.FieldType.int)) ∈ lw_all := lw_g (lw_at lw_m6 79 rfl) rfl
theorem q1373 : (Jvm.Cond.instanceMethod ({ cls := "FogNets", name := "share", desc := "(II)I" } : Jvm.MethodName)) ∈ lw_all := lw_g (lw_at lw_m6 81 rfl) rfl
theorem q1374 : (Jvm.Cond.selects "FogNets" ({ cls := "FogNets", name := "share", desc := "(II)I" } : Jvm.MethodName) ({ cls := "FogNets", name := "share", desc := "(II)I" } : Jvm.MethodName)) ∈ lw_all := lw_g (lw_at lw_m6 82 rfl) rfl
theorem q1375 : (Jvm.Cond.code ({ cls := "FogNets", name := "share", desc := "(II)I" } : Jvm.MethodName) prog_1_method_30_code (8 : Nat) (Option.some Jvm.ClassFile.FieldType.int)) ∈ lw_all := lw_g (lw_at lw_m6 83 rfl) rfl
theorem q1376 : (Jvm.Cond.methodLink "FogNets" (284 : Nat) ({ cls := "FogNets", name := "findsWorth", desc := "()V" } : Jvm.MethodName)) ∈ lw_all := lw_g (lw_at lw_m6 84 rfl) rfl
theorem q1377 : (Jvm.Cond.privateMethod ({ cls := "FogNets", name := "findsWorth", desc := "()V" } : Jvm.MethodName)) ∈ lw_tbl := lw_at lw_m6 85 rfl
theorem q1378 : (Jvm.Cond.instanceMethod ({ cls := "FogNets", name := "findsWorth", desc := "()V" } : Jvm.MethodName)) ∈ lw_all := lw_g (lw_at lw_m6 86 rfl) rfl
theorem q1379 : (Jvm.Cond.code ({ cls := "FogNets", name := "findsWorth", desc := "()V" } : Jvm.MethodName) prog_1_method_28_code (3 : Nat) (Option.none : Option Jvm.ClassFile.FieldType)) ∈ lw_all := lw_g (lw_at lw_m6 87 rfl) rfl
theorem q1380 : (Jvm.Cond.methodLink "FogNets" (280 : Nat) ({ cls := "FogNets$Hung", name := "shows", desc := "(IZ)V" } : Jvm.MethodName)) ∈ lw_all := lw_g (lw_at lw_m6 88 rfl) rfl
theorem q1384 : (Jvm.Cond.methodLink "FogNets" (287 : Nat) ({ cls := "FogNets", name := "bits", desc := "(I)I" } : Jvm.MethodName)) ∈ lw_all := lw_g (lw_at lw_m6 92 rfl) rfl
theorem q1385 : (Jvm.Cond.static ({ cls := "FogNets", name := "bits", desc := "(I)I" } : Jvm.MethodName)) ∈ lw_all := lw_g (lw_at lw_m6 93 rfl) rfl
theorem q1386 : (Jvm.Cond.code ({ cls := "FogNets", name := "bits", desc := "(I)I" } : Jvm.MethodName) prog_1_method_2_code (3 : Nat) (Option.some Jvm.ClassFile.FieldType.int)) ∈ lw_all := lw_g (lw_at lw_m6 94 rfl) rfl
theorem q1387 : (Jvm.Cond.methodLink "FogNets" (290 : Nat) ({ cls := "FogNets", name := "orders", desc := "(I)I" } : Jvm.MethodName)) ∈ lw_all := lw_g (lw_at lw_m6 95 rfl) rfl
theorem q1388 : (Jvm.Cond.static ({ cls := "FogNets", name := "orders", desc := "(I)I" } : Jvm.MethodName)) ∈ lw_all := lw_g (lw_at lw_m6 96 rfl) rfl
theorem q1389 : (Jvm.Cond.code ({ cls := "FogNets", name := "orders", desc := "(I)I" } : Jvm.MethodName) prog_1_method_29_code (3 : Nat) (Option.some Jvm.ClassFile.FieldType.int)) ∈ lw_all := lw_g (lw_at lw_m6 97 rfl) rfl
theorem q1391 : (Jvm.Cond.instanceMethod ({ cls := "FogNets", name := "dry", desc := "(I)I" } : Jvm.MethodName)) ∈ lw_all := lw_g (lw_at lw_m6 99 rfl) rfl
theorem q1392 : (Jvm.Cond.selects "FogNets" ({ cls := "FogNets", name := "dry", desc := "(I)I" } : Jvm.MethodName) ({ cls := "FogNets", name := "dry", desc := "(I)I" } : Jvm.MethodName)) ∈ lw_all := lw_g (lw_at lw_m6 100 rfl) rfl
theorem q1393 : (Jvm.Cond.code ({ cls := "FogNets", name := "dry", desc := "(I)I" } : Jvm.MethodName) prog_1_method_32_code (3 : Nat) (Option.some Jvm.ClassFile.FieldType.int)) ∈ lw_all := lw_g (lw_at lw_m6 101 rfl) rfl
theorem q1394 : (Jvm.Cond.methodLink "FogNets" (293 : Nat) ({ cls := "FogNets$Tanks", name := "copies", desc := "(LFogNets$Tanks;)V" } : Jvm.MethodName)) ∈ lw_all := lw_g (lw_at lw_m6 102 rfl) rfl
theorem q1398 : (Jvm.Cond.methodLink "FogNets" (296 : Nat) ({ cls := "FogNets", name := "goesOn", desc := "(I)V" } : Jvm.MethodName)) ∈ lw_all := lw_g (lw_at lw_m6 106 rfl) rfl
theorem q1399 : (Jvm.Cond.privateMethod ({ cls := "FogNets", name := "goesOn", desc := "(I)V" } : Jvm.MethodName)) ∈ lw_tbl := lw_at lw_m6 107 rfl
theorem q1400 : (Jvm.Cond.instanceMethod ({ cls := "FogNets", name := "goesOn", desc := "(I)V" } : Jvm.MethodName)) ∈ lw_all := lw_g (lw_at lw_m6 108 rfl) rfl
theorem q1401 : (Jvm.Cond.code ({ cls := "FogNets", name := "goesOn", desc := "(I)V" } : Jvm.MethodName) prog_1_method_31_code (2 : Nat) (Option.none : Option Jvm.ClassFile.FieldType)) ∈ lw_all := lw_g (lw_at lw_m6 109 rfl) rfl
theorem q1403 : (Jvm.Cond.instanceMethod ({ cls := "FogNets", name := "stored", desc := "(II)I" } : Jvm.MethodName)) ∈ lw_all := lw_g (lw_at lw_m6 111 rfl) rfl
theorem q1404 : (Jvm.Cond.selects "FogNets" ({ cls := "FogNets", name := "stored", desc := "(II)I" } : Jvm.MethodName) ({ cls := "FogNets", name := "stored", desc := "(II)I" } : Jvm.MethodName)) ∈ lw_all := lw_g (lw_at lw_m6 112 rfl) rfl
theorem q1405 : (Jvm.Cond.code ({ cls := "FogNets", name := "stored", desc := "(II)I" } : Jvm.MethodName) prog_1_method_33_code (4 : Nat) (Option.some Jvm.ClassFile.FieldType.int)) ∈ lw_all := lw_g (lw_at lw_m6 113 rfl) rfl
theorem q1407 : (Jvm.Cond.instanceMethod ({ cls := "FogNets", name := "jar", desc := "(II)I" } : Jvm.MethodName)) ∈ lw_all := lw_g (lw_at lw_m6 115 rfl) rfl
theorem q1408 : (Jvm.Cond.selects "FogNets" ({ cls := "FogNets", name := "jar", desc := "(II)I" } : Jvm.MethodName) ({ cls := "FogNets", name := "jar", desc := "(II)I" } : Jvm.MethodName)) ∈ lw_all := lw_g (lw_at lw_m6 116 rfl) rfl
theorem q1409 : (Jvm.Cond.code ({ cls := "FogNets", name := "jar", desc := "(II)I" } : Jvm.MethodName) prog_1_method_34_code (3 : Nat) (Option.some Jvm.ClassFile.FieldType.int)) ∈ lw_all := lw_g (lw_at lw_m6 117 rfl) rfl
theorem q1410 : (Jvm.Cond.constant "FogNets" (300 : Nat) (99999 : Int32)) ∈ lw_all := lw_g (lw_at lw_m6 118 rfl) rfl
theorem q1412 : (Jvm.Cond.instanceMethod ({ cls := "FogNets", name := "clear", desc := "()Z" } : Jvm.MethodName)) ∈ lw_all := lw_g (lw_at lw_m6 120 rfl) rfl
theorem q1413 : (Jvm.Cond.selects "FogNets" ({ cls := "FogNets", name := "clear", desc := "()Z" } : Jvm.MethodName) ({ cls := "FogNets", name := "clear", desc := "()Z" } : Jvm.MethodName)) ∈ lw_all := lw_g (lw_at lw_m6 121 rfl) rfl
theorem q1414 : (Jvm.Cond.code ({ cls := "FogNets", name := "clear", desc := "()Z" } : Jvm.MethodName) prog_1_method_35_code (1 : Nat) (Option.some Jvm.ClassFile.FieldType.boolean)) ∈ lw_all := lw_g (lw_at lw_m6 122 rfl) rfl
theorem q1416 : (Jvm.Cond.instanceMethod ({ cls := "FogNets", name := "winds", desc := "()I" } : Jvm.MethodName)) ∈ lw_all := lw_g (lw_at lw_m6 124 rfl) rfl
theorem q1417 : (Jvm.Cond.selects "FogNets" ({ cls := "FogNets", name := "winds", desc := "()I" } : Jvm.MethodName) ({ cls := "FogNets", name := "winds", desc := "()I" } : Jvm.MethodName)) ∈ lw_all := lw_g (lw_at lw_m6 125 rfl) rfl
theorem q1418 : (Jvm.Cond.code ({ cls := "FogNets", name := "winds", desc := "()I" } : Jvm.MethodName) prog_1_method_39_code (1 : Nat) (Option.some Jvm.ClassFile.FieldType.int)) ∈ lw_all := lw_g (lw_at lw_m6 126 rfl) rfl
theorem q1419 : (Jvm.Cond.methodLink "FogNets" (307 : Nat) ({ cls := "FogNets", name := "findsWinds", desc := "(I)I" } : Jvm.MethodName)) ∈ lw_all := lw_g (lw_at lw_m6 127 rfl) rfl
theorem q1420 : (Jvm.Cond.privateMethod ({ cls := "FogNets", name := "findsWinds", desc := "(I)I" } : Jvm.MethodName)) ∈ lw_tbl := lw_at lw_m6 128 rfl
theorem q1421 : (Jvm.Cond.instanceMethod ({ cls := "FogNets", name := "findsWinds", desc := "(I)I" } : Jvm.MethodName)) ∈ lw_all := lw_g (lw_at lw_m6 129 rfl) rfl
theorem q1422 : (Jvm.Cond.code ({ cls := "FogNets", name := "findsWinds", desc := "(I)I" } : Jvm.MethodName) prog_1_method_38_code (4 : Nat) (Option.some Jvm.ClassFile.FieldType.int)) ∈ lw_all := lw_g (lw_at lw_m6 130 rfl) rfl
theorem q1423 : (Jvm.Cond.methodLink "FogNets" (301 : Nat) ({ cls := "FogNets", name := "findsTaken", desc := "()V" } : Jvm.MethodName)) ∈ lw_all := lw_g (lw_at lw_m6 131 rfl) rfl
theorem q1424 : (Jvm.Cond.privateMethod ({ cls := "FogNets", name := "findsTaken", desc := "()V" } : Jvm.MethodName)) ∈ lw_tbl := lw_at lw_m6 132 rfl
theorem q1425 : (Jvm.Cond.instanceMethod ({ cls := "FogNets", name := "findsTaken", desc := "()V" } : Jvm.MethodName)) ∈ lw_all := lw_g (lw_at lw_m6 133 rfl) rfl
theorem q1426 : (Jvm.Cond.code ({ cls := "FogNets", name := "findsTaken", desc := "()V" } : Jvm.MethodName) prog_1_method_36_code (4 : Nat) (Option.none : Option Jvm.ClassFile.FieldType)) ∈ lw_all := lw_g (lw_at lw_m6 134 rfl) rfl
theorem q1427 : (Jvm.Cond.methodLink "FogNets" (304 : Nat) ({ cls := "FogNets", name := "isSo", desc := "(I)Z" } : Jvm.MethodName)) ∈ lw_all := lw_g (lw_at lw_m6 135 rfl) rfl
theorem q1428 : (Jvm.Cond.privateMethod ({ cls := "FogNets", name := "isSo", desc := "(I)Z" } : Jvm.MethodName)) ∈ lw_tbl := lw_at lw_m6 136 rfl
theorem q1429 : (Jvm.Cond.instanceMethod ({ cls := "FogNets", name := "isSo", desc := "(I)Z" } : Jvm.MethodName)) ∈ lw_all := lw_g (lw_at lw_m6 137 rfl) rfl
theorem q1430 : (Jvm.Cond.code ({ cls := "FogNets", name := "isSo", desc := "(I)Z" } : Jvm.MethodName) prog_1_method_37_code (5 : Nat) (Option.some Jvm.ClassFile.FieldType.boolean)) ∈ lw_all := lw_g (lw_at lw_m6 138 rfl) rfl
theorem q1432 : (Jvm.Cond.instanceMethod ({ cls := "FogNets", name := "windsAt", desc := "(I)I" } : Jvm.MethodName)) ∈ lw_all := lw_g (lw_at lw_m6 140 rfl) rfl
theorem q1433 : (Jvm.Cond.selects "FogNets" ({ cls := "FogNets", name := "windsAt", desc := "(I)I" } : Jvm.MethodName) ({ cls := "FogNets", name := "windsAt", desc := "(I)I" } : Jvm.MethodName)) ∈ lw_all := lw_g (lw_at lw_m6 141 rfl) rfl
theorem q1434 : (Jvm.Cond.code ({ cls := "FogNets", name := "windsAt", desc := "(I)I" } : Jvm.MethodName) prog_1_method_40_code (2 : Nat) (Option.some Jvm.ClassFile.FieldType.int)) ∈ lw_all := lw_g (lw_at lw_m6 142 rfl) rfl
theorem q1436 : (Jvm.Cond.instanceMethod ({ cls := "FogNets", name := "lots", desc := "(IIII)I" } : Jvm.MethodName)) ∈ lw_all := lw_g (lw_at lw_m6 144 rfl) rfl
theorem q1437 : (Jvm.Cond.selects "FogNets" ({ cls := "FogNets", name := "lots", desc := "(IIII)I" } : Jvm.MethodName) ({ cls := "FogNets", name := "lots", desc := "(IIII)I" } : Jvm.MethodName)) ∈ lw_all := lw_g (lw_at lw_m6 145 rfl) rfl
theorem q1438 : (Jvm.Cond.code ({ cls := "FogNets", name := "lots", desc := "(IIII)I" } : Jvm.MethodName) prog_1_method_43_code (8 : Nat) (Option.some Jvm.ClassFile.FieldType.int)) ∈ lw_all := lw_g (lw_at lw_m6 146 rfl) rfl
theorem q1439 : (Jvm.Cond.methodLink "FogNets" (331 : Nat) ({ cls := "FogNets", name := "drawsNight", desc := "(I)V" } : Jvm.MethodName)) ∈ lw_all := lw_g (lw_at lw_m6 147 rfl) rfl
theorem q1440 : (Jvm.Cond.privateMethod ({ cls := "FogNets", name := "drawsNight", desc := "(I)V" } : Jvm.MethodName)) ∈ lw_tbl := lw_at lw_m6 148 rfl
theorem q1441 : (Jvm.Cond.instanceMethod ({ cls := "FogNets", name := "drawsNight", desc := "(I)V" } : Jvm.MethodName)) ∈ lw_all := lw_g (lw_at lw_m6 149 rfl) rfl
theorem q1442 : (Jvm.Cond.code ({ cls := "FogNets", name := "drawsNight", desc := "(I)V" } : Jvm.MethodName) prog_1_method_42_code (3 : Nat) (Option.none : Option Jvm.ClassFile.FieldType)) ∈ lw_all := lw_g (lw_at lw_m6 150 rfl) rfl
theorem q1443 : (Jvm.Cond.methodLink "FogNets" (322 : Nat) ({ cls := "FogNets", name := "draw", desc := "(I)I" } : Jvm.MethodName)) ∈ lw_all := lw_g (lw_at lw_m6 151 rfl) rfl
theorem q1444 : (Jvm.Cond.privateMethod ({ cls := "FogNets", name := "draw", desc := "(I)I" } : Jvm.MethodName)) ∈ lw_tbl := lw_at lw_m6 152 rfl
theorem q1445 : (Jvm.Cond.instanceMethod ({ cls := "FogNets", name := "draw", desc := "(I)I" } : Jvm.MethodName)) ∈ lw_all := lw_g (lw_at lw_m6 153 rfl) rfl
theorem q1446 : (Jvm.Cond.code ({ cls := "FogNets", name := "draw", desc := "(I)I" } : Jvm.MethodName) prog_1_method_41_code (2 : Nat) (Option.some Jvm.ClassFile.FieldType.int)) ∈ lw_all := lw_g (lw_at lw_m6 154 rfl) rfl
theorem q1447 : (Jvm.Cond.constantLong "FogNets" (314 : Nat) (1103515245 : Int64)) ∈ lw_all := lw_g (lw_at lw_m6 155 rfl) rfl
theorem q1448 : (Jvm.Cond.constantLong "FogNets" (316 : Nat) (12345 : Int64)) ∈ lw_all := lw_g (lw_at lw_m6 156 rfl) rfl
theorem q1449 : (Jvm.Cond.constantLong "FogNets" (318 : Nat) (2147483648 : Int64)) ∈ lw_all := lw_g (lw_at lw_m6 157 rfl) rfl
theorem q1450 : (Jvm.Cond.constantLong "FogNets" (320 : Nat) (65536 : Int64)) ∈ lw_all := lw_g (lw_at lw_m6 158 rfl) rfl
theorem q1451 : (Jvm.Cond.methodLink "FogNets" (328 : Nat) ({ cls := "FogNets$Sky", name := "turns", desc := "(LFogNets$Ridge;III)V" } : Jvm.MethodName)) ∈ lw_all := lw_g (lw_at lw_m6 159 rfl) rfl
theorem q1453 : (Jvm.Cond.instanceMethod ({ cls := "FogNets", name := "mark", desc := "(IZ)Z" } : Jvm.MethodName)) ∈ lw_all := lw_g (lw_at lw_m6 161 rfl) rfl
theorem q1454 : (Jvm.Cond.selects "FogNets" ({ cls := "FogNets", name := "mark", desc := "(IZ)Z" } : Jvm.MethodName) ({ cls := "FogNets", name := "mark", desc := "(IZ)Z" } : Jvm.MethodName)) ∈ lw_all := lw_g (lw_at lw_m6 162 rfl) rfl
theorem q1455 : (Jvm.Cond.code ({ cls := "FogNets", name := "mark", desc := "(IZ)Z" } : Jvm.MethodName) prog_1_method_44_code (5 : Nat) (Option.some Jvm.ClassFile.FieldType.boolean)) ∈ lw_all := lw_g (lw_at lw_m6 163 rfl) rfl
theorem q1457 : (Jvm.Cond.methodLink "FogNets" (334 : Nat) ({ cls := "FogNets$Mark", name := "<init>", desc := "(LFogNets;)V" } : Jvm.MethodName)) ∈ lw_all := lw_g (lw_at lw_m6 165 rfl) rfl
theorem q1475 : (Jvm.Cond.fieldLink "FogNets" (337 : Nat) "FogNets$Mark" "ridge" "LFogNets$Ridge;") ∈ lw_all := lw_g (lw_at lw_m6 183 rfl) rfl
theorem q1477 : (Jvm.Cond.fieldLink "FogNets" (338 : Nat) "FogNets$Mark" "hung" "LFogNets$Hung;") ∈ lw_all := lw_g (lw_at lw_m6 185 rfl) rfl
theorem q1479 : (Jvm.Cond.fieldLink "FogNets" (339 : Nat) "FogNets$Mark" "tanks" "LFogNets$Tanks;") ∈ lw_all := lw_g (lw_at lw_m6 187 rfl) rfl
theorem q1481 : (Jvm.Cond.fieldLink "FogNets" (340 : Nat) "FogNets$Mark" "night" "I") ∈ lw_all := lw_g (lw_at lw_m6 189 rfl) rfl
theorem q1483 : (Jvm.Cond.fieldLink "FogNets" (341 : Nat) "FogNets$Mark" "took" "[I") ∈ lw_all := lw_g (lw_at lw_m6 191 rfl) rfl
theorem q1485 : (Jvm.Cond.fieldLink "FogNets" (342 : Nat) "FogNets$Mark" "jars" "Ljava/util/ArrayList;") ∈ lw_all := lw_g (lw_at lw_m6 193 rfl) rfl
theorem q1500 : (Jvm.Cond.instanceMethod ({ cls := "FogNets", name := "count", desc := "(I)I" } : Jvm.MethodName)) ∈ lw_all := lw_g (lw_at lw_m6 208 rfl) rfl
theorem q1501 : (Jvm.Cond.selects "FogNets" ({ cls := "FogNets", name := "count", desc := "(I)I" } : Jvm.MethodName) ({ cls := "FogNets", name := "count", desc := "(I)I" } : Jvm.MethodName)) ∈ lw_all := lw_g (lw_at lw_m6 209 rfl) rfl
theorem q1502 : (Jvm.Cond.code ({ cls := "FogNets", name := "count", desc := "(I)I" } : Jvm.MethodName) prog_1_method_45_code (2 : Nat) (Option.some Jvm.ClassFile.FieldType.int)) ∈ lw_all := lw_g (lw_at lw_m6 210 rfl) rfl
theorem q1508 : (Jvm.Cond.instanceMethod ({ cls := "FogNets", name := "yields", desc := "(I)I" } : Jvm.MethodName)) ∈ lw_all := lw_g (lw_at lw_m6 216 rfl) rfl
theorem q1509 : (Jvm.Cond.selects "FogNets" ({ cls := "FogNets", name := "yields", desc := "(I)I" } : Jvm.MethodName) ({ cls := "FogNets", name := "yields", desc := "(I)I" } : Jvm.MethodName)) ∈ lw_all := lw_g (lw_at lw_m6 217 rfl) rfl
theorem q1510 : (Jvm.Cond.code ({ cls := "FogNets", name := "yields", desc := "(I)I" } : Jvm.MethodName) prog_1_method_18_code (2 : Nat) (Option.some Jvm.ClassFile.FieldType.int)) ∈ lw_all := lw_g (lw_at lw_m6 218 rfl) rfl
theorem q1511 : (Jvm.Cond.classLink "FogNets" (228 : Nat) "java/util/NoSuchElementException") ∈ lw_all := lw_g (lw_at lw_m6 219 rfl) rfl
theorem q1522 : (Jvm.Cond.methodLink "FogNets" (230 : Nat) ({ cls := "java/util/NoSuchElementException", name := "<init>", desc := "()V" } : Jvm.MethodName)) ∈ lw_all := lw_g (lw_at lw_m6 230 rfl) rfl
theorem q1535 : (Jvm.Cond.instanceMethod ({ cls := "FogNets", name := "hole", desc := "(I)I" } : Jvm.MethodName)) ∈ lw_all := lw_g (lw_at lw_m7 3 rfl) rfl
theorem q1536 : (Jvm.Cond.selects "FogNets" ({ cls := "FogNets", name := "hole", desc := "(I)I" } : Jvm.MethodName) ({ cls := "FogNets", name := "hole", desc := "(I)I" } : Jvm.MethodName)) ∈ lw_all := lw_g (lw_at lw_m7 4 rfl) rfl
theorem q1537 : (Jvm.Cond.code ({ cls := "FogNets", name := "hole", desc := "(I)I" } : Jvm.MethodName) prog_1_method_26_code (4 : Nat) (Option.some Jvm.ClassFile.FieldType.int)) ∈ lw_all := lw_g (lw_at lw_m7 5 rfl) rfl
theorem q2064 : (Jvm.Cond.castable "FogNets" "java/lang/Object") ∈ lw_tbl := lw_at lw_m9 52 rfl
theorem in_X1 : ∀ w ∈ wsX10, w ∈ lw_all := lw_in wsX10 [465, 467, 469, 471, 473, 475, 477, 479, 481, 483, 485, 487, 489, 491] (by decide +kernel) (by decide +kernel)
