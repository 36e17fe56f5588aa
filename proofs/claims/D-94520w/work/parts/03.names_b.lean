/-! EndingTown -/
set_option maxRecDepth 100000
def RX1 : String := "EndingTown"
def TX1 : u_T := fun k => match k with
  | 0 => ("EndingTown", "village", "LEndingTown$Village;", false)
  | 1 => ("EndingTown", "said", "Ljava/util/List;", false)
  | 2 => ("EndingTown", "hows", "[LEndingTown$How;", true)
  | 3 => ("EndingTown", "day", "LEndingTown$Day;", true)
  | 4 => ("EndingTown", "tape", "[B", true)
  | 5 => ("EndingTown", "taped", "I", false)
  | 6 => ("EndingTown", "faultPlace", "I", false)
  | 7 => ("EndingTown", "refused", "[I", true)
  | 8 => ("EndingTown", "ways", "[I", true)
  | 9 => ("EndingTown", "wayMany", "I", false)
  | 10 => ("EndingTown", "mended", "[I", false)
  | 11 => ("EndingTown", "worldThings", "I", false)
  | 12 => ("EndingTown", "worlds", "I", false)
  | 13 => ("EndingTown", "keptSaid", "Ljava/util/List;", false)
  | 14 => ("EndingTown", "keptThings", "I", false)
  | _ => ("EndingTown", "keptWorlds", "I", false)
def tyX1 : Nat → FieldType := fun k => match k with
  | 0 => .object "EndingTown$Village"
  | 1 => .object "java/util/List"
  | 2 => .array (.object "EndingTown$How")
  | 3 => .object "EndingTown$Day"
  | 4 => .array .byte
  | 5 => .int
  | 6 => .int
  | 7 => .array .int
  | 8 => .array .int
  | 9 => .int
  | 10 => .array .int
  | 11 => .int
  | 12 => .int
  | 13 => .object "java/util/List"
  | 14 => .int
  | _ => .int
abbrev wsX10 : List Cond := u_ws RX1 TX1 16
set_option maxRecDepth 100000 in
theorem nmX1 : ∀ a, a < 16 → ∀ b, b < 16 → a ≠ b → (TX1 a).2.1 ≠ (TX1 b).2.1 := by decide +kernel
set_option maxRecDepth 100000 in
theorem tyX1_ok : ∀ k, k < 16 → parseFieldDescriptor (TX1 k).2.2.1 = some (tyX1 k) := by decide +kernel
abbrev cX1_init : ByteArray := prog_1_method_4_code
def yX1_init : MethodName := ⟨RX1, "<init>", "()V"⟩
def dkwX1_init_5 : List UInt8 := [181, 0, 67, 42, 17, 0, 180, 188, 10, 181, 0, 71, 177]
abbrev dktX1_init_5 : List UInt8 := dkwX1_init_5 ++ []
def dkwX1_init_4 : List UInt8 := [183, 0, 54, 181, 0, 55, 42, 17, 3, 32, 188, 8, 181, 0, 59, 42, 2, 181, 0, 63, 42, 6, 188, 10]
abbrev dktX1_init_4 : List UInt8 := dkwX1_init_4 ++ dktX1_init_5
def dkwX1_init_3 : List UInt8 := [183, 0, 44, 83, 89, 7, 187, 0, 45, 89, 42, 183, 0, 47, 83, 181, 0, 48, 42, 187, 0, 52, 89, 42]
abbrev dktX1_init_3 : List UInt8 := dkwX1_init_3 ++ dktX1_init_4
def dkwX1_init_2 : List UInt8 := [89, 42, 183, 0, 38, 83, 89, 5, 187, 0, 39, 89, 42, 183, 0, 41, 83, 89, 6, 187, 0, 42, 89, 42]
abbrev dktX1_init_2 : List UInt8 := dkwX1_init_2 ++ dktX1_init_3
def dkwX1_init_1 : List UInt8 := [181, 0, 25, 42, 8, 189, 0, 29, 89, 3, 187, 0, 31, 89, 42, 183, 0, 33, 83, 89, 4, 187, 0, 36]
abbrev dktX1_init_1 : List UInt8 := dkwX1_init_1 ++ dktX1_init_2
def dkwX1_init_0 : List UInt8 := [42, 183, 0, 10, 42, 187, 0, 13, 89, 183, 0, 15, 181, 0, 16, 42, 187, 0, 22, 89, 183, 0, 24]
abbrev dktX1_init_0 : List UInt8 := dkwX1_init_0 ++ dktX1_init_1
theorem dksX1_init_0 : cX1_init.data.toList.drop 0 = dktX1_init_0 := by decide +kernel
theorem dksX1_init_1 : cX1_init.data.toList.drop 23 = dktX1_init_1 := dk_seg dksX1_init_0 23 rfl rfl
theorem dksX1_init_2 : cX1_init.data.toList.drop 47 = dktX1_init_2 := dk_seg dksX1_init_1 24 rfl rfl
theorem dksX1_init_3 : cX1_init.data.toList.drop 71 = dktX1_init_3 := dk_seg dksX1_init_2 24 rfl rfl
theorem dksX1_init_4 : cX1_init.data.toList.drop 95 = dktX1_init_4 := dk_seg dksX1_init_3 24 rfl rfl
theorem dksX1_init_5 : cX1_init.data.toList.drop 119 = dktX1_init_5 := dk_seg dksX1_init_4 24 rfl rfl
theorem dX1_init_0 : decode cX1_init 0 = .ok (.aload_n 0, 1) := dk_42 (dk_at dksX1_init_0 0 rfl rfl)
theorem dX1_init_1 : decode cX1_init 1 = .ok (.invokespecial 10, 3) := dk_183 0 10 (dk_at dksX1_init_0 1 rfl rfl)
theorem dX1_init_4 : decode cX1_init 4 = .ok (.aload_n 0, 1) := dk_42 (dk_at dksX1_init_0 4 rfl rfl)
theorem dX1_init_5 : decode cX1_init 5 = .ok (.new 13, 3) := dk_187 0 13 (dk_at dksX1_init_0 5 rfl rfl)
theorem dX1_init_8 : decode cX1_init 8 = .ok (.dup, 1) := dk_89 (dk_at dksX1_init_0 8 rfl rfl)
theorem dX1_init_9 : decode cX1_init 9 = .ok (.invokespecial 15, 3) := dk_183 0 15 (dk_at dksX1_init_0 9 rfl rfl)
theorem dX1_init_12 : decode cX1_init 12 = .ok (.putfield 16, 3) := dk_181 0 16 (dk_at dksX1_init_0 12 rfl rfl)
theorem dX1_init_15 : decode cX1_init 15 = .ok (.aload_n 0, 1) := dk_42 (dk_at dksX1_init_0 15 rfl rfl)
theorem dX1_init_16 : decode cX1_init 16 = .ok (.new 22, 3) := dk_187 0 22 (dk_at dksX1_init_0 16 rfl rfl)
theorem dX1_init_19 : decode cX1_init 19 = .ok (.dup, 1) := dk_89 (dk_at dksX1_init_0 19 rfl rfl)
theorem dX1_init_20 : decode cX1_init 20 = .ok (.invokespecial 24, 3) := dk_183 0 24 (dk_at dksX1_init_0 20 rfl rfl)
theorem dX1_init_23 : decode cX1_init 23 = .ok (.putfield 25, 3) := dk_181 0 25 (dk_at dksX1_init_1 0 rfl rfl)
theorem dX1_init_26 : decode cX1_init 26 = .ok (.aload_n 0, 1) := dk_42 (dk_at dksX1_init_1 3 rfl rfl)
theorem dX1_init_27 : decode cX1_init 27 = .ok (.iconst 5, 1) := dk_8 (dk_at dksX1_init_1 4 rfl rfl)
theorem dX1_init_28 : decode cX1_init 28 = .ok (.anewarray 29, 3) := dk_189 0 29 (dk_at dksX1_init_1 5 rfl rfl)
theorem dX1_init_31 : decode cX1_init 31 = .ok (.dup, 1) := dk_89 (dk_at dksX1_init_1 8 rfl rfl)
theorem dX1_init_32 : decode cX1_init 32 = .ok (.iconst 0, 1) := dk_3 (dk_at dksX1_init_1 9 rfl rfl)
theorem dX1_init_33 : decode cX1_init 33 = .ok (.new 31, 3) := dk_187 0 31 (dk_at dksX1_init_1 10 rfl rfl)
theorem dX1_init_36 : decode cX1_init 36 = .ok (.dup, 1) := dk_89 (dk_at dksX1_init_1 13 rfl rfl)
theorem dX1_init_37 : decode cX1_init 37 = .ok (.aload_n 0, 1) := dk_42 (dk_at dksX1_init_1 14 rfl rfl)
theorem dX1_init_38 : decode cX1_init 38 = .ok (.invokespecial 33, 3) := dk_183 0 33 (dk_at dksX1_init_1 15 rfl rfl)
theorem dX1_init_41 : decode cX1_init 41 = .ok (.aastore, 1) := dk_83 (dk_at dksX1_init_1 18 rfl rfl)
theorem dX1_init_42 : decode cX1_init 42 = .ok (.dup, 1) := dk_89 (dk_at dksX1_init_1 19 rfl rfl)
theorem dX1_init_43 : decode cX1_init 43 = .ok (.iconst 1, 1) := dk_4 (dk_at dksX1_init_1 20 rfl rfl)
theorem dX1_init_44 : decode cX1_init 44 = .ok (.new 36, 3) := dk_187 0 36 (dk_at dksX1_init_1 21 rfl rfl)
theorem dX1_init_47 : decode cX1_init 47 = .ok (.dup, 1) := dk_89 (dk_at dksX1_init_2 0 rfl rfl)
theorem dX1_init_48 : decode cX1_init 48 = .ok (.aload_n 0, 1) := dk_42 (dk_at dksX1_init_2 1 rfl rfl)
theorem dX1_init_49 : decode cX1_init 49 = .ok (.invokespecial 38, 3) := dk_183 0 38 (dk_at dksX1_init_2 2 rfl rfl)
theorem dX1_init_52 : decode cX1_init 52 = .ok (.aastore, 1) := dk_83 (dk_at dksX1_init_2 5 rfl rfl)
theorem dX1_init_53 : decode cX1_init 53 = .ok (.dup, 1) := dk_89 (dk_at dksX1_init_2 6 rfl rfl)
theorem dX1_init_54 : decode cX1_init 54 = .ok (.iconst 2, 1) := dk_5 (dk_at dksX1_init_2 7 rfl rfl)
theorem dX1_init_55 : decode cX1_init 55 = .ok (.new 39, 3) := dk_187 0 39 (dk_at dksX1_init_2 8 rfl rfl)
theorem dX1_init_58 : decode cX1_init 58 = .ok (.dup, 1) := dk_89 (dk_at dksX1_init_2 11 rfl rfl)
theorem dX1_init_59 : decode cX1_init 59 = .ok (.aload_n 0, 1) := dk_42 (dk_at dksX1_init_2 12 rfl rfl)
theorem dX1_init_60 : decode cX1_init 60 = .ok (.invokespecial 41, 3) := dk_183 0 41 (dk_at dksX1_init_2 13 rfl rfl)
theorem dX1_init_63 : decode cX1_init 63 = .ok (.aastore, 1) := dk_83 (dk_at dksX1_init_2 16 rfl rfl)
theorem dX1_init_64 : decode cX1_init 64 = .ok (.dup, 1) := dk_89 (dk_at dksX1_init_2 17 rfl rfl)
theorem dX1_init_65 : decode cX1_init 65 = .ok (.iconst 3, 1) := dk_6 (dk_at dksX1_init_2 18 rfl rfl)
theorem dX1_init_66 : decode cX1_init 66 = .ok (.new 42, 3) := dk_187 0 42 (dk_at dksX1_init_2 19 rfl rfl)
theorem dX1_init_69 : decode cX1_init 69 = .ok (.dup, 1) := dk_89 (dk_at dksX1_init_2 22 rfl rfl)
theorem dX1_init_70 : decode cX1_init 70 = .ok (.aload_n 0, 1) := dk_42 (dk_at dksX1_init_2 23 rfl rfl)
theorem dX1_init_71 : decode cX1_init 71 = .ok (.invokespecial 44, 3) := dk_183 0 44 (dk_at dksX1_init_3 0 rfl rfl)
theorem dX1_init_74 : decode cX1_init 74 = .ok (.aastore, 1) := dk_83 (dk_at dksX1_init_3 3 rfl rfl)
theorem dX1_init_75 : decode cX1_init 75 = .ok (.dup, 1) := dk_89 (dk_at dksX1_init_3 4 rfl rfl)
theorem dX1_init_76 : decode cX1_init 76 = .ok (.iconst 4, 1) := dk_7 (dk_at dksX1_init_3 5 rfl rfl)
theorem dX1_init_77 : decode cX1_init 77 = .ok (.new 45, 3) := dk_187 0 45 (dk_at dksX1_init_3 6 rfl rfl)
theorem dX1_init_80 : decode cX1_init 80 = .ok (.dup, 1) := dk_89 (dk_at dksX1_init_3 9 rfl rfl)
theorem dX1_init_81 : decode cX1_init 81 = .ok (.aload_n 0, 1) := dk_42 (dk_at dksX1_init_3 10 rfl rfl)
theorem dX1_init_82 : decode cX1_init 82 = .ok (.invokespecial 47, 3) := dk_183 0 47 (dk_at dksX1_init_3 11 rfl rfl)
theorem dX1_init_85 : decode cX1_init 85 = .ok (.aastore, 1) := dk_83 (dk_at dksX1_init_3 14 rfl rfl)
theorem dX1_init_86 : decode cX1_init 86 = .ok (.putfield 48, 3) := dk_181 0 48 (dk_at dksX1_init_3 15 rfl rfl)
theorem dX1_init_89 : decode cX1_init 89 = .ok (.aload_n 0, 1) := dk_42 (dk_at dksX1_init_3 18 rfl rfl)
theorem dX1_init_90 : decode cX1_init 90 = .ok (.new 52, 3) := dk_187 0 52 (dk_at dksX1_init_3 19 rfl rfl)
theorem dX1_init_93 : decode cX1_init 93 = .ok (.dup, 1) := dk_89 (dk_at dksX1_init_3 22 rfl rfl)
theorem dX1_init_94 : decode cX1_init 94 = .ok (.aload_n 0, 1) := dk_42 (dk_at dksX1_init_3 23 rfl rfl)
theorem dX1_init_95 : decode cX1_init 95 = .ok (.invokespecial 54, 3) := dk_183 0 54 (dk_at dksX1_init_4 0 rfl rfl)
theorem dX1_init_98 : decode cX1_init 98 = .ok (.putfield 55, 3) := dk_181 0 55 (dk_at dksX1_init_4 3 rfl rfl)
theorem dX1_init_101 : decode cX1_init 101 = .ok (.aload_n 0, 1) := dk_42 (dk_at dksX1_init_4 6 rfl rfl)
theorem dX1_init_102 : decode cX1_init 102 = .ok (.sipush 800, 3) := dk_17 3 32 (dk_at dksX1_init_4 7 rfl rfl)
theorem dX1_init_105 : decode cX1_init 105 = .ok (.newarray .byte, 2) := dk_188_8 (dk_at dksX1_init_4 10 rfl rfl)
theorem dX1_init_107 : decode cX1_init 107 = .ok (.putfield 59, 3) := dk_181 0 59 (dk_at dksX1_init_4 12 rfl rfl)
theorem dX1_init_110 : decode cX1_init 110 = .ok (.aload_n 0, 1) := dk_42 (dk_at dksX1_init_4 15 rfl rfl)
theorem dX1_init_111 : decode cX1_init 111 = .ok (.iconst (-1), 1) := dk_2 (dk_at dksX1_init_4 16 rfl rfl)
theorem dX1_init_112 : decode cX1_init 112 = .ok (.putfield 63, 3) := dk_181 0 63 (dk_at dksX1_init_4 17 rfl rfl)
theorem dX1_init_115 : decode cX1_init 115 = .ok (.aload_n 0, 1) := dk_42 (dk_at dksX1_init_4 20 rfl rfl)
theorem dX1_init_116 : decode cX1_init 116 = .ok (.iconst 3, 1) := dk_6 (dk_at dksX1_init_4 21 rfl rfl)
theorem dX1_init_117 : decode cX1_init 117 = .ok (.newarray .int, 2) := dk_188_10 (dk_at dksX1_init_4 22 rfl rfl)
theorem dX1_init_119 : decode cX1_init 119 = .ok (.putfield 67, 3) := dk_181 0 67 (dk_at dksX1_init_5 0 rfl rfl)
theorem dX1_init_122 : decode cX1_init 122 = .ok (.aload_n 0, 1) := dk_42 (dk_at dksX1_init_5 3 rfl rfl)
theorem dX1_init_123 : decode cX1_init 123 = .ok (.sipush 180, 3) := dk_17 0 180 (dk_at dksX1_init_5 4 rfl rfl)
theorem dX1_init_126 : decode cX1_init 126 = .ok (.newarray .int, 2) := dk_188_10 (dk_at dksX1_init_5 7 rfl rfl)
theorem dX1_init_128 : decode cX1_init 128 = .ok (.putfield 71, 3) := dk_181 0 71 (dk_at dksX1_init_5 9 rfl rfl)
theorem dX1_init_131 : decode cX1_init 131 = .ok (.return_, 1) := dk_177 (dk_at dksX1_init_5 12 rfl rfl)
abbrev cX1_feed : ByteArray := prog_1_method_5_code
def yX1_feed : MethodName := ⟨RX1, "feed", "(IIIII)I"⟩
def dkwX1_feed_5 : List UInt8 := [180, 0, 74, 172]
abbrev dktX1_feed_5 : List UInt8 := dkwX1_feed_5 ++ []
def dkwX1_feed_4 : List UInt8 := [112, 104, 100, 122, 145, 84, 132, 6, 1, 167, 255, 172, 42, 89, 180, 0, 74, 16, 20, 96, 181, 0, 74, 42]
abbrev dktX1_feed_4 : List UInt8 := dkwX1_feed_4 ++ dktX1_feed_5
def dkwX1_feed_3 : List UInt8 := [21, 5, 54, 7, 42, 180, 0, 59, 42, 180, 0, 74, 21, 6, 96, 21, 7, 16, 24, 16, 8, 21, 6, 7]
abbrev dktX1_feed_3 : List UInt8 := dkwX1_feed_3 ++ dktX1_feed_4
def dkwX1_feed_2 : List UInt8 := [21, 6, 16, 12, 162, 0, 7, 29, 167, 0, 17, 21, 6, 16, 16, 162, 0, 8, 21, 4, 167, 0, 5]
abbrev dktX1_feed_2 : List UInt8 := dkwX1_feed_2 ++ dktX1_feed_3
def dkwX1_feed_1 : List UInt8 := [162, 0, 83, 21, 6, 7, 162, 0, 7, 27, 167, 0, 39, 21, 6, 16, 8, 162, 0, 7, 28, 167, 0, 28]
abbrev dktX1_feed_1 : List UInt8 := dkwX1_feed_1 ++ dktX1_feed_2
def dkwX1_feed_0 : List UInt8 := [42, 180, 0, 74, 16, 20, 96, 17, 3, 32, 164, 0, 5, 2, 172, 3, 54, 6, 21, 6, 16, 20]
abbrev dktX1_feed_0 : List UInt8 := dkwX1_feed_0 ++ dktX1_feed_1
theorem dksX1_feed_0 : cX1_feed.data.toList.drop 0 = dktX1_feed_0 := by decide +kernel
theorem dksX1_feed_1 : cX1_feed.data.toList.drop 22 = dktX1_feed_1 := dk_seg dksX1_feed_0 22 rfl rfl
theorem dksX1_feed_2 : cX1_feed.data.toList.drop 46 = dktX1_feed_2 := dk_seg dksX1_feed_1 24 rfl rfl
theorem dksX1_feed_3 : cX1_feed.data.toList.drop 69 = dktX1_feed_3 := dk_seg dksX1_feed_2 23 rfl rfl
theorem dksX1_feed_4 : cX1_feed.data.toList.drop 93 = dktX1_feed_4 := dk_seg dksX1_feed_3 24 rfl rfl
theorem dksX1_feed_5 : cX1_feed.data.toList.drop 117 = dktX1_feed_5 := dk_seg dksX1_feed_4 24 rfl rfl
theorem dX1_feed_0 : decode cX1_feed 0 = .ok (.aload_n 0, 1) := dk_42 (dk_at dksX1_feed_0 0 rfl rfl)
theorem dX1_feed_1 : decode cX1_feed 1 = .ok (.getfield 74, 3) := dk_180 0 74 (dk_at dksX1_feed_0 1 rfl rfl)
theorem dX1_feed_4 : decode cX1_feed 4 = .ok (.bipush 20, 2) := dk_16 20 (dk_at dksX1_feed_0 4 rfl rfl)
theorem dX1_feed_6 : decode cX1_feed 6 = .ok (.iadd, 1) := dk_96 (dk_at dksX1_feed_0 6 rfl rfl)
theorem dX1_feed_7 : decode cX1_feed 7 = .ok (.sipush 800, 3) := dk_17 3 32 (dk_at dksX1_feed_0 7 rfl rfl)
theorem dX1_feed_10 : decode cX1_feed 10 = .ok (.if_icmp .le 5, 3) := dk_164 0 5 (dk_at dksX1_feed_0 10 rfl rfl)
theorem dX1_feed_13 : decode cX1_feed 13 = .ok (.iconst (-1), 1) := dk_2 (dk_at dksX1_feed_0 13 rfl rfl)
theorem dX1_feed_14 : decode cX1_feed 14 = .ok (.ireturn, 1) := dk_172 (dk_at dksX1_feed_0 14 rfl rfl)
theorem dX1_feed_15 : decode cX1_feed 15 = .ok (.iconst 0, 1) := dk_3 (dk_at dksX1_feed_0 15 rfl rfl)
theorem dX1_feed_16 : decode cX1_feed 16 = .ok (.istore 6, 2) := dk_54 6 (dk_at dksX1_feed_0 16 rfl rfl)
theorem dX1_feed_18 : decode cX1_feed 18 = .ok (.iload 6, 2) := dk_21 6 (dk_at dksX1_feed_0 18 rfl rfl)
theorem dX1_feed_20 : decode cX1_feed 20 = .ok (.bipush 20, 2) := dk_16 20 (dk_at dksX1_feed_0 20 rfl rfl)
theorem dX1_feed_22 : decode cX1_feed 22 = .ok (.if_icmp .ge 83, 3) := dk_162 0 83 (dk_at dksX1_feed_1 0 rfl rfl)
theorem dX1_feed_25 : decode cX1_feed 25 = .ok (.iload 6, 2) := dk_21 6 (dk_at dksX1_feed_1 3 rfl rfl)
theorem dX1_feed_27 : decode cX1_feed 27 = .ok (.iconst 4, 1) := dk_7 (dk_at dksX1_feed_1 5 rfl rfl)
theorem dX1_feed_28 : decode cX1_feed 28 = .ok (.if_icmp .ge 7, 3) := dk_162 0 7 (dk_at dksX1_feed_1 6 rfl rfl)
theorem dX1_feed_31 : decode cX1_feed 31 = .ok (.iload_n 1, 1) := dk_27 (dk_at dksX1_feed_1 9 rfl rfl)
theorem dX1_feed_32 : decode cX1_feed 32 = .ok (.goto 39, 3) := dk_167 0 39 (dk_at dksX1_feed_1 10 rfl rfl)
theorem dX1_feed_35 : decode cX1_feed 35 = .ok (.iload 6, 2) := dk_21 6 (dk_at dksX1_feed_1 13 rfl rfl)
theorem dX1_feed_37 : decode cX1_feed 37 = .ok (.bipush 8, 2) := dk_16 8 (dk_at dksX1_feed_1 15 rfl rfl)
theorem dX1_feed_39 : decode cX1_feed 39 = .ok (.if_icmp .ge 7, 3) := dk_162 0 7 (dk_at dksX1_feed_1 17 rfl rfl)
theorem dX1_feed_42 : decode cX1_feed 42 = .ok (.iload_n 2, 1) := dk_28 (dk_at dksX1_feed_1 20 rfl rfl)
theorem dX1_feed_43 : decode cX1_feed 43 = .ok (.goto 28, 3) := dk_167 0 28 (dk_at dksX1_feed_1 21 rfl rfl)
theorem dX1_feed_46 : decode cX1_feed 46 = .ok (.iload 6, 2) := dk_21 6 (dk_at dksX1_feed_2 0 rfl rfl)
theorem dX1_feed_48 : decode cX1_feed 48 = .ok (.bipush 12, 2) := dk_16 12 (dk_at dksX1_feed_2 2 rfl rfl)
theorem dX1_feed_50 : decode cX1_feed 50 = .ok (.if_icmp .ge 7, 3) := dk_162 0 7 (dk_at dksX1_feed_2 4 rfl rfl)
theorem dX1_feed_53 : decode cX1_feed 53 = .ok (.iload_n 3, 1) := dk_29 (dk_at dksX1_feed_2 7 rfl rfl)
theorem dX1_feed_54 : decode cX1_feed 54 = .ok (.goto 17, 3) := dk_167 0 17 (dk_at dksX1_feed_2 8 rfl rfl)
theorem dX1_feed_57 : decode cX1_feed 57 = .ok (.iload 6, 2) := dk_21 6 (dk_at dksX1_feed_2 11 rfl rfl)
theorem dX1_feed_59 : decode cX1_feed 59 = .ok (.bipush 16, 2) := dk_16 16 (dk_at dksX1_feed_2 13 rfl rfl)
theorem dX1_feed_61 : decode cX1_feed 61 = .ok (.if_icmp .ge 8, 3) := dk_162 0 8 (dk_at dksX1_feed_2 15 rfl rfl)
theorem dX1_feed_64 : decode cX1_feed 64 = .ok (.iload 4, 2) := dk_21 4 (dk_at dksX1_feed_2 18 rfl rfl)
theorem dX1_feed_66 : decode cX1_feed 66 = .ok (.goto 5, 3) := dk_167 0 5 (dk_at dksX1_feed_2 20 rfl rfl)
theorem dX1_feed_69 : decode cX1_feed 69 = .ok (.iload 5, 2) := dk_21 5 (dk_at dksX1_feed_3 0 rfl rfl)
theorem dX1_feed_71 : decode cX1_feed 71 = .ok (.istore 7, 2) := dk_54 7 (dk_at dksX1_feed_3 2 rfl rfl)
theorem dX1_feed_73 : decode cX1_feed 73 = .ok (.aload_n 0, 1) := dk_42 (dk_at dksX1_feed_3 4 rfl rfl)
theorem dX1_feed_74 : decode cX1_feed 74 = .ok (.getfield 59, 3) := dk_180 0 59 (dk_at dksX1_feed_3 5 rfl rfl)
theorem dX1_feed_77 : decode cX1_feed 77 = .ok (.aload_n 0, 1) := dk_42 (dk_at dksX1_feed_3 8 rfl rfl)
theorem dX1_feed_78 : decode cX1_feed 78 = .ok (.getfield 74, 3) := dk_180 0 74 (dk_at dksX1_feed_3 9 rfl rfl)
theorem dX1_feed_81 : decode cX1_feed 81 = .ok (.iload 6, 2) := dk_21 6 (dk_at dksX1_feed_3 12 rfl rfl)
theorem dX1_feed_83 : decode cX1_feed 83 = .ok (.iadd, 1) := dk_96 (dk_at dksX1_feed_3 14 rfl rfl)
theorem dX1_feed_84 : decode cX1_feed 84 = .ok (.iload 7, 2) := dk_21 7 (dk_at dksX1_feed_3 15 rfl rfl)
theorem dX1_feed_86 : decode cX1_feed 86 = .ok (.bipush 24, 2) := dk_16 24 (dk_at dksX1_feed_3 17 rfl rfl)
theorem dX1_feed_88 : decode cX1_feed 88 = .ok (.bipush 8, 2) := dk_16 8 (dk_at dksX1_feed_3 19 rfl rfl)
theorem dX1_feed_90 : decode cX1_feed 90 = .ok (.iload 6, 2) := dk_21 6 (dk_at dksX1_feed_3 21 rfl rfl)
theorem dX1_feed_92 : decode cX1_feed 92 = .ok (.iconst 4, 1) := dk_7 (dk_at dksX1_feed_3 23 rfl rfl)
theorem dX1_feed_93 : decode cX1_feed 93 = .ok (.irem, 1) := dk_112 (dk_at dksX1_feed_4 0 rfl rfl)
theorem dX1_feed_94 : decode cX1_feed 94 = .ok (.imul, 1) := dk_104 (dk_at dksX1_feed_4 1 rfl rfl)
theorem dX1_feed_95 : decode cX1_feed 95 = .ok (.isub, 1) := dk_100 (dk_at dksX1_feed_4 2 rfl rfl)
theorem dX1_feed_96 : decode cX1_feed 96 = .ok (.ishr, 1) := dk_122 (dk_at dksX1_feed_4 3 rfl rfl)
theorem dX1_feed_97 : decode cX1_feed 97 = .ok (.i2b, 1) := dk_145 (dk_at dksX1_feed_4 4 rfl rfl)
theorem dX1_feed_98 : decode cX1_feed 98 = .ok (.bastore, 1) := dk_84 (dk_at dksX1_feed_4 5 rfl rfl)
theorem dX1_feed_99 : decode cX1_feed 99 = .ok (.iinc 6 1, 3) := dk_132 6 1 (dk_at dksX1_feed_4 6 rfl rfl)
theorem dX1_feed_102 : decode cX1_feed 102 = .ok (.goto (-84), 3) := dk_167 255 172 (dk_at dksX1_feed_4 9 rfl rfl)
theorem dX1_feed_105 : decode cX1_feed 105 = .ok (.aload_n 0, 1) := dk_42 (dk_at dksX1_feed_4 12 rfl rfl)
theorem dX1_feed_106 : decode cX1_feed 106 = .ok (.dup, 1) := dk_89 (dk_at dksX1_feed_4 13 rfl rfl)
theorem dX1_feed_107 : decode cX1_feed 107 = .ok (.getfield 74, 3) := dk_180 0 74 (dk_at dksX1_feed_4 14 rfl rfl)
theorem dX1_feed_110 : decode cX1_feed 110 = .ok (.bipush 20, 2) := dk_16 20 (dk_at dksX1_feed_4 17 rfl rfl)
theorem dX1_feed_112 : decode cX1_feed 112 = .ok (.iadd, 1) := dk_96 (dk_at dksX1_feed_4 19 rfl rfl)
theorem dX1_feed_113 : decode cX1_feed 113 = .ok (.putfield 74, 3) := dk_181 0 74 (dk_at dksX1_feed_4 20 rfl rfl)
theorem dX1_feed_116 : decode cX1_feed 116 = .ok (.aload_n 0, 1) := dk_42 (dk_at dksX1_feed_4 23 rfl rfl)
theorem dX1_feed_117 : decode cX1_feed 117 = .ok (.getfield 74, 3) := dk_180 0 74 (dk_at dksX1_feed_5 0 rfl rfl)
theorem dX1_feed_120 : decode cX1_feed 120 = .ok (.ireturn, 1) := dk_172 (dk_at dksX1_feed_5 3 rfl rfl)
abbrev cX1_fault : ByteArray := prog_1_method_7_code
def yX1_fault : MethodName := ⟨RX1, "fault", "()I"⟩
theorem dX1_fault_0 : decode cX1_fault 0 = .ok (.aload_n 0, 1) := by decide +kernel
theorem dX1_fault_1 : decode cX1_fault 1 = .ok (.getfield 63, 3) := by decide +kernel
theorem dX1_fault_4 : decode cX1_fault 4 = .ok (.ireturn, 1) := by decide +kernel
abbrev cX1_unsay : ByteArray := prog_1_method_22_code
def yX1_unsay : MethodName := ⟨RX1, "unsay", "()I"⟩
def dkwX1_unsay_1 : List UInt8 := [185, 0, 113, 1, 0, 4, 100, 185, 0, 236, 2, 0, 87, 42, 180, 0, 25, 185, 0, 113, 1, 0, 172]
abbrev dktX1_unsay_1 : List UInt8 := dkwX1_unsay_1 ++ []
def dkwX1_unsay_0 : List UInt8 := [42, 180, 0, 25, 185, 0, 232, 1, 0, 153, 0, 5, 2, 172, 42, 180, 0, 25, 42, 180, 0, 25]
abbrev dktX1_unsay_0 : List UInt8 := dkwX1_unsay_0 ++ dktX1_unsay_1
theorem dksX1_unsay_0 : cX1_unsay.data.toList.drop 0 = dktX1_unsay_0 := by decide +kernel
theorem dksX1_unsay_1 : cX1_unsay.data.toList.drop 22 = dktX1_unsay_1 := dk_seg dksX1_unsay_0 22 rfl rfl
theorem dX1_unsay_0 : decode cX1_unsay 0 = .ok (.aload_n 0, 1) := dk_42 (dk_at dksX1_unsay_0 0 rfl rfl)
theorem dX1_unsay_1 : decode cX1_unsay 1 = .ok (.getfield 25, 3) := dk_180 0 25 (dk_at dksX1_unsay_0 1 rfl rfl)
theorem dX1_unsay_4 : decode cX1_unsay 4 = .ok (.invokeinterface 232 1, 5) := by decide +kernel
theorem dX1_unsay_9 : decode cX1_unsay 9 = .ok (.ifCond .eq 5, 3) := dk_153 0 5 (dk_at dksX1_unsay_0 9 rfl rfl)
theorem dX1_unsay_12 : decode cX1_unsay 12 = .ok (.iconst (-1), 1) := dk_2 (dk_at dksX1_unsay_0 12 rfl rfl)
theorem dX1_unsay_13 : decode cX1_unsay 13 = .ok (.ireturn, 1) := dk_172 (dk_at dksX1_unsay_0 13 rfl rfl)
theorem dX1_unsay_14 : decode cX1_unsay 14 = .ok (.aload_n 0, 1) := dk_42 (dk_at dksX1_unsay_0 14 rfl rfl)
theorem dX1_unsay_15 : decode cX1_unsay 15 = .ok (.getfield 25, 3) := dk_180 0 25 (dk_at dksX1_unsay_0 15 rfl rfl)
theorem dX1_unsay_18 : decode cX1_unsay 18 = .ok (.aload_n 0, 1) := dk_42 (dk_at dksX1_unsay_0 18 rfl rfl)
theorem dX1_unsay_19 : decode cX1_unsay 19 = .ok (.getfield 25, 3) := dk_180 0 25 (dk_at dksX1_unsay_0 19 rfl rfl)
theorem dX1_unsay_22 : decode cX1_unsay 22 = .ok (.invokeinterface 113 1, 5) := by decide +kernel
theorem dX1_unsay_27 : decode cX1_unsay 27 = .ok (.iconst 1, 1) := dk_4 (dk_at dksX1_unsay_1 5 rfl rfl)
theorem dX1_unsay_28 : decode cX1_unsay 28 = .ok (.isub, 1) := dk_100 (dk_at dksX1_unsay_1 6 rfl rfl)
theorem dX1_unsay_29 : decode cX1_unsay 29 = .ok (.invokeinterface 236 2, 5) := by decide +kernel
theorem dX1_unsay_34 : decode cX1_unsay 34 = .ok (.pop, 1) := dk_87 (dk_at dksX1_unsay_1 12 rfl rfl)
theorem dX1_unsay_35 : decode cX1_unsay 35 = .ok (.aload_n 0, 1) := dk_42 (dk_at dksX1_unsay_1 13 rfl rfl)
theorem dX1_unsay_36 : decode cX1_unsay 36 = .ok (.getfield 25, 3) := dk_180 0 25 (dk_at dksX1_unsay_1 14 rfl rfl)
theorem dX1_unsay_39 : decode cX1_unsay 39 = .ok (.invokeinterface 113 1, 5) := by decide +kernel
theorem dX1_unsay_44 : decode cX1_unsay 44 = .ok (.ireturn, 1) := dk_172 (dk_at dksX1_unsay_1 22 rfl rfl)
abbrev cX1_mend : ByteArray := prog_1_method_30_code
def yX1_mend : MethodName := ⟨RX1, "mend", "()I"⟩
def dkwX1_mend_6 : List UInt8 := [132, 3, 1, 167, 255, 190, 28, 184, 0, 134, 172]
abbrev dktX1_mend_6 : List UInt8 := dkwX1_mend_6 ++ []
def dkwX1_mend_5 : List UInt8 := [180, 1, 6, 29, 46, 158, 0, 15, 42, 180, 0, 55, 180, 1, 18, 29, 46, 167, 0, 4, 7, 79]
abbrev dktX1_mend_5 : List UInt8 := dkwX1_mend_5 ++ dktX1_mend_6
def dkwX1_mend_4 : List UInt8 := [180, 0, 25, 29, 185, 0, 161, 2, 0, 192, 0, 213, 180, 0, 254, 167, 0, 28, 42, 180, 0, 55]
abbrev dktX1_mend_4 : List UInt8 := dkwX1_mend_4 ++ dktX1_mend_5
def dkwX1_mend_3 : List UInt8 := [181, 0, 104, 3, 62, 29, 27, 162, 0, 67, 42, 180, 0, 104, 29, 28, 29, 122, 4, 126, 154, 0, 22, 42]
abbrev dktX1_mend_3 : List UInt8 := dkwX1_mend_3 ++ dktX1_mend_4
def dkwX1_mend_2 : List UInt8 := [182, 1, 35, 153, 0, 5, 29, 61, 132, 3, 1, 167, 255, 220, 42, 28, 182, 1, 35, 87, 42, 27, 188, 10]
abbrev dktX1_mend_2 : List UInt8 := dkwX1_mend_2 ++ dktX1_mend_3
def dkwX1_mend_1 : List UInt8 := [27, 120, 162, 0, 35, 28, 2, 159, 0, 14, 29, 184, 0, 134, 28, 184, 0, 134, 162, 0, 13, 42, 29]
abbrev dktX1_mend_1 : List UInt8 := dkwX1_mend_1 ++ dktX1_mend_2
def dkwX1_mend_0 : List UInt8 := [42, 180, 0, 25, 185, 0, 113, 1, 0, 60, 27, 16, 12, 164, 0, 5, 2, 172, 2, 61, 3, 62, 29, 4]
abbrev dktX1_mend_0 : List UInt8 := dkwX1_mend_0 ++ dktX1_mend_1
theorem dksX1_mend_0 : cX1_mend.data.toList.drop 0 = dktX1_mend_0 := by decide +kernel
theorem dksX1_mend_1 : cX1_mend.data.toList.drop 24 = dktX1_mend_1 := dk_seg dksX1_mend_0 24 rfl rfl
theorem dksX1_mend_2 : cX1_mend.data.toList.drop 47 = dktX1_mend_2 := dk_seg dksX1_mend_1 23 rfl rfl
theorem dksX1_mend_3 : cX1_mend.data.toList.drop 71 = dktX1_mend_3 := dk_seg dksX1_mend_2 24 rfl rfl
theorem dksX1_mend_4 : cX1_mend.data.toList.drop 95 = dktX1_mend_4 := dk_seg dksX1_mend_3 24 rfl rfl
theorem dksX1_mend_5 : cX1_mend.data.toList.drop 117 = dktX1_mend_5 := dk_seg dksX1_mend_4 22 rfl rfl
theorem dksX1_mend_6 : cX1_mend.data.toList.drop 139 = dktX1_mend_6 := dk_seg dksX1_mend_5 22 rfl rfl
theorem dX1_mend_0 : decode cX1_mend 0 = .ok (.aload_n 0, 1) := dk_42 (dk_at dksX1_mend_0 0 rfl rfl)
theorem dX1_mend_1 : decode cX1_mend 1 = .ok (.getfield 25, 3) := dk_180 0 25 (dk_at dksX1_mend_0 1 rfl rfl)
theorem dX1_mend_4 : decode cX1_mend 4 = .ok (.invokeinterface 113 1, 5) := by decide +kernel
theorem dX1_mend_9 : decode cX1_mend 9 = .ok (.istore_n 1, 1) := dk_60 (dk_at dksX1_mend_0 9 rfl rfl)
theorem dX1_mend_10 : decode cX1_mend 10 = .ok (.iload_n 1, 1) := dk_27 (dk_at dksX1_mend_0 10 rfl rfl)
theorem dX1_mend_11 : decode cX1_mend 11 = .ok (.bipush 12, 2) := dk_16 12 (dk_at dksX1_mend_0 11 rfl rfl)
theorem dX1_mend_13 : decode cX1_mend 13 = .ok (.if_icmp .le 5, 3) := dk_164 0 5 (dk_at dksX1_mend_0 13 rfl rfl)
theorem dX1_mend_16 : decode cX1_mend 16 = .ok (.iconst (-1), 1) := dk_2 (dk_at dksX1_mend_0 16 rfl rfl)
theorem dX1_mend_17 : decode cX1_mend 17 = .ok (.ireturn, 1) := dk_172 (dk_at dksX1_mend_0 17 rfl rfl)
theorem dX1_mend_18 : decode cX1_mend 18 = .ok (.iconst (-1), 1) := dk_2 (dk_at dksX1_mend_0 18 rfl rfl)
theorem dX1_mend_19 : decode cX1_mend 19 = .ok (.istore_n 2, 1) := dk_61 (dk_at dksX1_mend_0 19 rfl rfl)
theorem dX1_mend_20 : decode cX1_mend 20 = .ok (.iconst 0, 1) := dk_3 (dk_at dksX1_mend_0 20 rfl rfl)
theorem dX1_mend_21 : decode cX1_mend 21 = .ok (.istore_n 3, 1) := dk_62 (dk_at dksX1_mend_0 21 rfl rfl)
theorem dX1_mend_22 : decode cX1_mend 22 = .ok (.iload_n 3, 1) := dk_29 (dk_at dksX1_mend_0 22 rfl rfl)
theorem dX1_mend_23 : decode cX1_mend 23 = .ok (.iconst 1, 1) := dk_4 (dk_at dksX1_mend_0 23 rfl rfl)
theorem dX1_mend_24 : decode cX1_mend 24 = .ok (.iload_n 1, 1) := dk_27 (dk_at dksX1_mend_1 0 rfl rfl)
theorem dX1_mend_25 : decode cX1_mend 25 = .ok (.ishl, 1) := dk_120 (dk_at dksX1_mend_1 1 rfl rfl)
theorem dX1_mend_26 : decode cX1_mend 26 = .ok (.if_icmp .ge 35, 3) := dk_162 0 35 (dk_at dksX1_mend_1 2 rfl rfl)
theorem dX1_mend_29 : decode cX1_mend 29 = .ok (.iload_n 2, 1) := dk_28 (dk_at dksX1_mend_1 5 rfl rfl)
theorem dX1_mend_30 : decode cX1_mend 30 = .ok (.iconst (-1), 1) := dk_2 (dk_at dksX1_mend_1 6 rfl rfl)
theorem dX1_mend_31 : decode cX1_mend 31 = .ok (.if_icmp .eq 14, 3) := dk_159 0 14 (dk_at dksX1_mend_1 7 rfl rfl)
theorem dX1_mend_34 : decode cX1_mend 34 = .ok (.iload_n 3, 1) := dk_29 (dk_at dksX1_mend_1 10 rfl rfl)
theorem dX1_mend_35 : decode cX1_mend 35 = .ok (.invokestatic 134, 3) := dk_184 0 134 (dk_at dksX1_mend_1 11 rfl rfl)
theorem dX1_mend_38 : decode cX1_mend 38 = .ok (.iload_n 2, 1) := dk_28 (dk_at dksX1_mend_1 14 rfl rfl)
theorem dX1_mend_39 : decode cX1_mend 39 = .ok (.invokestatic 134, 3) := dk_184 0 134 (dk_at dksX1_mend_1 15 rfl rfl)
theorem dX1_mend_42 : decode cX1_mend 42 = .ok (.if_icmp .ge 13, 3) := dk_162 0 13 (dk_at dksX1_mend_1 18 rfl rfl)
theorem dX1_mend_45 : decode cX1_mend 45 = .ok (.aload_n 0, 1) := dk_42 (dk_at dksX1_mend_1 21 rfl rfl)
theorem dX1_mend_46 : decode cX1_mend 46 = .ok (.iload_n 3, 1) := dk_29 (dk_at dksX1_mend_1 22 rfl rfl)
theorem dX1_mend_47 : decode cX1_mend 47 = .ok (.invokevirtual 291, 3) := dk_182 1 35 (dk_at dksX1_mend_2 0 rfl rfl)
theorem dX1_mend_50 : decode cX1_mend 50 = .ok (.ifCond .eq 5, 3) := dk_153 0 5 (dk_at dksX1_mend_2 3 rfl rfl)
theorem dX1_mend_53 : decode cX1_mend 53 = .ok (.iload_n 3, 1) := dk_29 (dk_at dksX1_mend_2 6 rfl rfl)
theorem dX1_mend_54 : decode cX1_mend 54 = .ok (.istore_n 2, 1) := dk_61 (dk_at dksX1_mend_2 7 rfl rfl)
theorem dX1_mend_55 : decode cX1_mend 55 = .ok (.iinc 3 1, 3) := dk_132 3 1 (dk_at dksX1_mend_2 8 rfl rfl)
theorem dX1_mend_58 : decode cX1_mend 58 = .ok (.goto (-36), 3) := dk_167 255 220 (dk_at dksX1_mend_2 11 rfl rfl)
theorem dX1_mend_61 : decode cX1_mend 61 = .ok (.aload_n 0, 1) := dk_42 (dk_at dksX1_mend_2 14 rfl rfl)
theorem dX1_mend_62 : decode cX1_mend 62 = .ok (.iload_n 2, 1) := dk_28 (dk_at dksX1_mend_2 15 rfl rfl)
theorem dX1_mend_63 : decode cX1_mend 63 = .ok (.invokevirtual 291, 3) := dk_182 1 35 (dk_at dksX1_mend_2 16 rfl rfl)
theorem dX1_mend_66 : decode cX1_mend 66 = .ok (.pop, 1) := dk_87 (dk_at dksX1_mend_2 19 rfl rfl)
theorem dX1_mend_67 : decode cX1_mend 67 = .ok (.aload_n 0, 1) := dk_42 (dk_at dksX1_mend_2 20 rfl rfl)
theorem dX1_mend_68 : decode cX1_mend 68 = .ok (.iload_n 1, 1) := dk_27 (dk_at dksX1_mend_2 21 rfl rfl)
theorem dX1_mend_69 : decode cX1_mend 69 = .ok (.newarray .int, 2) := dk_188_10 (dk_at dksX1_mend_2 22 rfl rfl)
theorem dX1_mend_71 : decode cX1_mend 71 = .ok (.putfield 104, 3) := dk_181 0 104 (dk_at dksX1_mend_3 0 rfl rfl)
theorem dX1_mend_74 : decode cX1_mend 74 = .ok (.iconst 0, 1) := dk_3 (dk_at dksX1_mend_3 3 rfl rfl)
theorem dX1_mend_75 : decode cX1_mend 75 = .ok (.istore_n 3, 1) := dk_62 (dk_at dksX1_mend_3 4 rfl rfl)
theorem dX1_mend_76 : decode cX1_mend 76 = .ok (.iload_n 3, 1) := dk_29 (dk_at dksX1_mend_3 5 rfl rfl)
theorem dX1_mend_77 : decode cX1_mend 77 = .ok (.iload_n 1, 1) := dk_27 (dk_at dksX1_mend_3 6 rfl rfl)
theorem dX1_mend_78 : decode cX1_mend 78 = .ok (.if_icmp .ge 67, 3) := dk_162 0 67 (dk_at dksX1_mend_3 7 rfl rfl)
theorem dX1_mend_81 : decode cX1_mend 81 = .ok (.aload_n 0, 1) := dk_42 (dk_at dksX1_mend_3 10 rfl rfl)
theorem dX1_mend_82 : decode cX1_mend 82 = .ok (.getfield 104, 3) := dk_180 0 104 (dk_at dksX1_mend_3 11 rfl rfl)
theorem dX1_mend_85 : decode cX1_mend 85 = .ok (.iload_n 3, 1) := dk_29 (dk_at dksX1_mend_3 14 rfl rfl)
theorem dX1_mend_86 : decode cX1_mend 86 = .ok (.iload_n 2, 1) := dk_28 (dk_at dksX1_mend_3 15 rfl rfl)
theorem dX1_mend_87 : decode cX1_mend 87 = .ok (.iload_n 3, 1) := dk_29 (dk_at dksX1_mend_3 16 rfl rfl)
theorem dX1_mend_88 : decode cX1_mend 88 = .ok (.ishr, 1) := dk_122 (dk_at dksX1_mend_3 17 rfl rfl)
theorem dX1_mend_89 : decode cX1_mend 89 = .ok (.iconst 1, 1) := dk_4 (dk_at dksX1_mend_3 18 rfl rfl)
theorem dX1_mend_90 : decode cX1_mend 90 = .ok (.iand, 1) := dk_126 (dk_at dksX1_mend_3 19 rfl rfl)
theorem dX1_mend_91 : decode cX1_mend 91 = .ok (.ifCond .ne 22, 3) := dk_154 0 22 (dk_at dksX1_mend_3 20 rfl rfl)
theorem dX1_mend_94 : decode cX1_mend 94 = .ok (.aload_n 0, 1) := dk_42 (dk_at dksX1_mend_3 23 rfl rfl)
theorem dX1_mend_95 : decode cX1_mend 95 = .ok (.getfield 25, 3) := dk_180 0 25 (dk_at dksX1_mend_4 0 rfl rfl)
theorem dX1_mend_98 : decode cX1_mend 98 = .ok (.iload_n 3, 1) := dk_29 (dk_at dksX1_mend_4 3 rfl rfl)
theorem dX1_mend_99 : decode cX1_mend 99 = .ok (.invokeinterface 161 2, 5) := by decide +kernel
theorem dX1_mend_104 : decode cX1_mend 104 = .ok (.checkcast 213, 3) := dk_192 0 213 (dk_at dksX1_mend_4 9 rfl rfl)
theorem dX1_mend_107 : decode cX1_mend 107 = .ok (.getfield 254, 3) := dk_180 0 254 (dk_at dksX1_mend_4 12 rfl rfl)
theorem dX1_mend_110 : decode cX1_mend 110 = .ok (.goto 28, 3) := dk_167 0 28 (dk_at dksX1_mend_4 15 rfl rfl)
theorem dX1_mend_113 : decode cX1_mend 113 = .ok (.aload_n 0, 1) := dk_42 (dk_at dksX1_mend_4 18 rfl rfl)
theorem dX1_mend_114 : decode cX1_mend 114 = .ok (.getfield 55, 3) := dk_180 0 55 (dk_at dksX1_mend_4 19 rfl rfl)
theorem dX1_mend_117 : decode cX1_mend 117 = .ok (.getfield 262, 3) := dk_180 1 6 (dk_at dksX1_mend_5 0 rfl rfl)
theorem dX1_mend_120 : decode cX1_mend 120 = .ok (.iload_n 3, 1) := dk_29 (dk_at dksX1_mend_5 3 rfl rfl)
theorem dX1_mend_121 : decode cX1_mend 121 = .ok (.iaload, 1) := dk_46 (dk_at dksX1_mend_5 4 rfl rfl)
theorem dX1_mend_122 : decode cX1_mend 122 = .ok (.ifCond .le 15, 3) := dk_158 0 15 (dk_at dksX1_mend_5 5 rfl rfl)
theorem dX1_mend_125 : decode cX1_mend 125 = .ok (.aload_n 0, 1) := dk_42 (dk_at dksX1_mend_5 8 rfl rfl)
theorem dX1_mend_126 : decode cX1_mend 126 = .ok (.getfield 55, 3) := dk_180 0 55 (dk_at dksX1_mend_5 9 rfl rfl)
theorem dX1_mend_129 : decode cX1_mend 129 = .ok (.getfield 274, 3) := dk_180 1 18 (dk_at dksX1_mend_5 12 rfl rfl)
theorem dX1_mend_132 : decode cX1_mend 132 = .ok (.iload_n 3, 1) := dk_29 (dk_at dksX1_mend_5 15 rfl rfl)
theorem dX1_mend_133 : decode cX1_mend 133 = .ok (.iaload, 1) := dk_46 (dk_at dksX1_mend_5 16 rfl rfl)
theorem dX1_mend_134 : decode cX1_mend 134 = .ok (.goto 4, 3) := dk_167 0 4 (dk_at dksX1_mend_5 17 rfl rfl)
theorem dX1_mend_137 : decode cX1_mend 137 = .ok (.iconst 4, 1) := dk_7 (dk_at dksX1_mend_5 20 rfl rfl)
theorem dX1_mend_138 : decode cX1_mend 138 = .ok (.iastore, 1) := dk_79 (dk_at dksX1_mend_5 21 rfl rfl)
theorem dX1_mend_139 : decode cX1_mend 139 = .ok (.iinc 3 1, 3) := dk_132 3 1 (dk_at dksX1_mend_6 0 rfl rfl)
theorem dX1_mend_142 : decode cX1_mend 142 = .ok (.goto (-66), 3) := dk_167 255 190 (dk_at dksX1_mend_6 3 rfl rfl)
theorem dX1_mend_145 : decode cX1_mend 145 = .ok (.iload_n 2, 1) := dk_28 (dk_at dksX1_mend_6 6 rfl rfl)
theorem dX1_mend_146 : decode cX1_mend 146 = .ok (.invokestatic 134, 3) := dk_184 0 134 (dk_at dksX1_mend_6 7 rfl rfl)
theorem dX1_mend_149 : decode cX1_mend 149 = .ok (.ireturn, 1) := dk_172 (dk_at dksX1_mend_6 10 rfl rfl)
abbrev cX1_mends : ByteArray := prog_1_method_29_code
def yX1_mends : MethodName := ⟨RX1, "mends", "(I)Z"⟩
def dkwX1_mends_2 : List UInt8 := [185, 0, 113, 1, 0, 120, 4, 100, 160, 0, 7, 4, 167, 0, 4, 3, 172]
abbrev dktX1_mends_2 : List UInt8 := dkwX1_mends_2 ++ []
def dkwX1_mends_1 : List UInt8 := [87, 42, 180, 0, 55, 3, 181, 1, 32, 42, 42, 180, 0, 55, 182, 1, 25, 27, 128, 4, 42, 180, 0, 25]
abbrev dktX1_mends_1 : List UInt8 := dkwX1_mends_1 ++ dktX1_mends_2
def dkwX1_mends_0 : List UInt8 := [42, 180, 0, 55, 3, 182, 0, 239, 87, 42, 180, 0, 55, 27, 181, 1, 32, 42, 180, 0, 55, 182, 0, 243]
abbrev dktX1_mends_0 : List UInt8 := dkwX1_mends_0 ++ dktX1_mends_1
theorem dksX1_mends_0 : cX1_mends.data.toList.drop 0 = dktX1_mends_0 := by decide +kernel
theorem dksX1_mends_1 : cX1_mends.data.toList.drop 24 = dktX1_mends_1 := dk_seg dksX1_mends_0 24 rfl rfl
theorem dksX1_mends_2 : cX1_mends.data.toList.drop 48 = dktX1_mends_2 := dk_seg dksX1_mends_1 24 rfl rfl
theorem dX1_mends_0 : decode cX1_mends 0 = .ok (.aload_n 0, 1) := dk_42 (dk_at dksX1_mends_0 0 rfl rfl)
theorem dX1_mends_1 : decode cX1_mends 1 = .ok (.getfield 55, 3) := dk_180 0 55 (dk_at dksX1_mends_0 1 rfl rfl)
theorem dX1_mends_4 : decode cX1_mends 4 = .ok (.iconst 0, 1) := dk_3 (dk_at dksX1_mends_0 4 rfl rfl)
theorem dX1_mends_5 : decode cX1_mends 5 = .ok (.invokevirtual 239, 3) := dk_182 0 239 (dk_at dksX1_mends_0 5 rfl rfl)
theorem dX1_mends_8 : decode cX1_mends 8 = .ok (.pop, 1) := dk_87 (dk_at dksX1_mends_0 8 rfl rfl)
theorem dX1_mends_9 : decode cX1_mends 9 = .ok (.aload_n 0, 1) := dk_42 (dk_at dksX1_mends_0 9 rfl rfl)
theorem dX1_mends_10 : decode cX1_mends 10 = .ok (.getfield 55, 3) := dk_180 0 55 (dk_at dksX1_mends_0 10 rfl rfl)
theorem dX1_mends_13 : decode cX1_mends 13 = .ok (.iload_n 1, 1) := dk_27 (dk_at dksX1_mends_0 13 rfl rfl)
theorem dX1_mends_14 : decode cX1_mends 14 = .ok (.putfield 288, 3) := dk_181 1 32 (dk_at dksX1_mends_0 14 rfl rfl)
theorem dX1_mends_17 : decode cX1_mends 17 = .ok (.aload_n 0, 1) := dk_42 (dk_at dksX1_mends_0 17 rfl rfl)
theorem dX1_mends_18 : decode cX1_mends 18 = .ok (.getfield 55, 3) := dk_180 0 55 (dk_at dksX1_mends_0 18 rfl rfl)
theorem dX1_mends_21 : decode cX1_mends 21 = .ok (.invokevirtual 243, 3) := dk_182 0 243 (dk_at dksX1_mends_0 21 rfl rfl)
theorem dX1_mends_24 : decode cX1_mends 24 = .ok (.pop, 1) := dk_87 (dk_at dksX1_mends_1 0 rfl rfl)
theorem dX1_mends_25 : decode cX1_mends 25 = .ok (.aload_n 0, 1) := dk_42 (dk_at dksX1_mends_1 1 rfl rfl)
theorem dX1_mends_26 : decode cX1_mends 26 = .ok (.getfield 55, 3) := dk_180 0 55 (dk_at dksX1_mends_1 2 rfl rfl)
theorem dX1_mends_29 : decode cX1_mends 29 = .ok (.iconst 0, 1) := dk_3 (dk_at dksX1_mends_1 5 rfl rfl)
theorem dX1_mends_30 : decode cX1_mends 30 = .ok (.putfield 288, 3) := dk_181 1 32 (dk_at dksX1_mends_1 6 rfl rfl)
theorem dX1_mends_33 : decode cX1_mends 33 = .ok (.aload_n 0, 1) := dk_42 (dk_at dksX1_mends_1 9 rfl rfl)
theorem dX1_mends_34 : decode cX1_mends 34 = .ok (.aload_n 0, 1) := dk_42 (dk_at dksX1_mends_1 10 rfl rfl)
theorem dX1_mends_35 : decode cX1_mends 35 = .ok (.getfield 55, 3) := dk_180 0 55 (dk_at dksX1_mends_1 11 rfl rfl)
theorem dX1_mends_38 : decode cX1_mends 38 = .ok (.invokevirtual 281, 3) := dk_182 1 25 (dk_at dksX1_mends_1 14 rfl rfl)
theorem dX1_mends_41 : decode cX1_mends 41 = .ok (.iload_n 1, 1) := dk_27 (dk_at dksX1_mends_1 17 rfl rfl)
theorem dX1_mends_42 : decode cX1_mends 42 = .ok (.ior, 1) := dk_128 (dk_at dksX1_mends_1 18 rfl rfl)
theorem dX1_mends_43 : decode cX1_mends 43 = .ok (.iconst 1, 1) := dk_4 (dk_at dksX1_mends_1 19 rfl rfl)
theorem dX1_mends_44 : decode cX1_mends 44 = .ok (.aload_n 0, 1) := dk_42 (dk_at dksX1_mends_1 20 rfl rfl)
theorem dX1_mends_45 : decode cX1_mends 45 = .ok (.getfield 25, 3) := dk_180 0 25 (dk_at dksX1_mends_1 21 rfl rfl)
theorem dX1_mends_48 : decode cX1_mends 48 = .ok (.invokeinterface 113 1, 5) := by decide +kernel
theorem dX1_mends_53 : decode cX1_mends 53 = .ok (.ishl, 1) := dk_120 (dk_at dksX1_mends_2 5 rfl rfl)
theorem dX1_mends_54 : decode cX1_mends 54 = .ok (.iconst 1, 1) := dk_4 (dk_at dksX1_mends_2 6 rfl rfl)
theorem dX1_mends_55 : decode cX1_mends 55 = .ok (.isub, 1) := dk_100 (dk_at dksX1_mends_2 7 rfl rfl)
theorem dX1_mends_56 : decode cX1_mends 56 = .ok (.if_icmp .ne 7, 3) := dk_160 0 7 (dk_at dksX1_mends_2 8 rfl rfl)
theorem dX1_mends_59 : decode cX1_mends 59 = .ok (.iconst 1, 1) := dk_4 (dk_at dksX1_mends_2 11 rfl rfl)
theorem dX1_mends_60 : decode cX1_mends 60 = .ok (.goto 4, 3) := dk_167 0 4 (dk_at dksX1_mends_2 12 rfl rfl)
theorem dX1_mends_63 : decode cX1_mends 63 = .ok (.iconst 0, 1) := dk_3 (dk_at dksX1_mends_2 15 rfl rfl)
theorem dX1_mends_64 : decode cX1_mends 64 = .ok (.ireturn, 1) := dk_172 (dk_at dksX1_mends_2 16 rfl rfl)
abbrev cX1_held : ByteArray := prog_1_method_26_code
def yX1_held : MethodName := ⟨RX1, "held", "(LEndingTown$Day;)I"⟩
def dkwX1_held_1 : List UInt8 := [158, 0, 9, 28, 4, 29, 120, 128, 61, 132, 3, 1, 167, 255, 225, 28, 172]
abbrev dktX1_held_1 : List UInt8 := dkwX1_held_1 ++ []
def dkwX1_held_0 : List UInt8 := [3, 61, 3, 62, 29, 42, 180, 0, 25, 185, 0, 113, 1, 0, 162, 0, 24, 43, 180, 1, 6, 29, 46]
abbrev dktX1_held_0 : List UInt8 := dkwX1_held_0 ++ dktX1_held_1
theorem dksX1_held_0 : cX1_held.data.toList.drop 0 = dktX1_held_0 := by decide +kernel
theorem dksX1_held_1 : cX1_held.data.toList.drop 23 = dktX1_held_1 := dk_seg dksX1_held_0 23 rfl rfl
theorem dX1_held_0 : decode cX1_held 0 = .ok (.iconst 0, 1) := dk_3 (dk_at dksX1_held_0 0 rfl rfl)
theorem dX1_held_1 : decode cX1_held 1 = .ok (.istore_n 2, 1) := dk_61 (dk_at dksX1_held_0 1 rfl rfl)
theorem dX1_held_2 : decode cX1_held 2 = .ok (.iconst 0, 1) := dk_3 (dk_at dksX1_held_0 2 rfl rfl)
theorem dX1_held_3 : decode cX1_held 3 = .ok (.istore_n 3, 1) := dk_62 (dk_at dksX1_held_0 3 rfl rfl)
theorem dX1_held_4 : decode cX1_held 4 = .ok (.iload_n 3, 1) := dk_29 (dk_at dksX1_held_0 4 rfl rfl)
theorem dX1_held_5 : decode cX1_held 5 = .ok (.aload_n 0, 1) := dk_42 (dk_at dksX1_held_0 5 rfl rfl)
theorem dX1_held_6 : decode cX1_held 6 = .ok (.getfield 25, 3) := dk_180 0 25 (dk_at dksX1_held_0 6 rfl rfl)
theorem dX1_held_9 : decode cX1_held 9 = .ok (.invokeinterface 113 1, 5) := by decide +kernel
theorem dX1_held_14 : decode cX1_held 14 = .ok (.if_icmp .ge 24, 3) := dk_162 0 24 (dk_at dksX1_held_0 14 rfl rfl)
theorem dX1_held_17 : decode cX1_held 17 = .ok (.aload_n 1, 1) := dk_43 (dk_at dksX1_held_0 17 rfl rfl)
theorem dX1_held_18 : decode cX1_held 18 = .ok (.getfield 262, 3) := dk_180 1 6 (dk_at dksX1_held_0 18 rfl rfl)
theorem dX1_held_21 : decode cX1_held 21 = .ok (.iload_n 3, 1) := dk_29 (dk_at dksX1_held_0 21 rfl rfl)
theorem dX1_held_22 : decode cX1_held 22 = .ok (.iaload, 1) := dk_46 (dk_at dksX1_held_0 22 rfl rfl)
theorem dX1_held_23 : decode cX1_held 23 = .ok (.ifCond .le 9, 3) := dk_158 0 9 (dk_at dksX1_held_1 0 rfl rfl)
theorem dX1_held_26 : decode cX1_held 26 = .ok (.iload_n 2, 1) := dk_28 (dk_at dksX1_held_1 3 rfl rfl)
theorem dX1_held_27 : decode cX1_held 27 = .ok (.iconst 1, 1) := dk_4 (dk_at dksX1_held_1 4 rfl rfl)
theorem dX1_held_28 : decode cX1_held 28 = .ok (.iload_n 3, 1) := dk_29 (dk_at dksX1_held_1 5 rfl rfl)
theorem dX1_held_29 : decode cX1_held 29 = .ok (.ishl, 1) := dk_120 (dk_at dksX1_held_1 6 rfl rfl)
theorem dX1_held_30 : decode cX1_held 30 = .ok (.ior, 1) := dk_128 (dk_at dksX1_held_1 7 rfl rfl)
theorem dX1_held_31 : decode cX1_held 31 = .ok (.istore_n 2, 1) := dk_61 (dk_at dksX1_held_1 8 rfl rfl)
theorem dX1_held_32 : decode cX1_held 32 = .ok (.iinc 3 1, 3) := dk_132 3 1 (dk_at dksX1_held_1 9 rfl rfl)
theorem dX1_held_35 : decode cX1_held 35 = .ok (.goto (-31), 3) := dk_167 255 225 (dk_at dksX1_held_1 12 rfl rfl)
theorem dX1_held_38 : decode cX1_held 38 = .ok (.iload_n 2, 1) := dk_28 (dk_at dksX1_held_1 15 rfl rfl)
theorem dX1_held_39 : decode cX1_held 39 = .ok (.ireturn, 1) := dk_172 (dk_at dksX1_held_1 16 rfl rfl)
abbrev cX1_image : ByteArray := prog_1_method_43_code
def yX1_image : MethodName := ⟨RX1, "image", "()V"⟩
def dkwX1_image_1 : List UInt8 := [42, 180, 0, 101, 181, 1, 75, 177]
abbrev dktX1_image_1 : List UInt8 := dkwX1_image_1 ++ []
def dkwX1_image_0 : List UInt8 := [42, 187, 0, 22, 89, 42, 180, 0, 25, 183, 1, 69, 181, 0, 107, 42, 42, 180, 0, 98, 181, 1, 72, 42]
abbrev dktX1_image_0 : List UInt8 := dkwX1_image_0 ++ dktX1_image_1
theorem dksX1_image_0 : cX1_image.data.toList.drop 0 = dktX1_image_0 := by decide +kernel
theorem dksX1_image_1 : cX1_image.data.toList.drop 24 = dktX1_image_1 := dk_seg dksX1_image_0 24 rfl rfl
theorem dX1_image_0 : decode cX1_image 0 = .ok (.aload_n 0, 1) := dk_42 (dk_at dksX1_image_0 0 rfl rfl)
theorem dX1_image_1 : decode cX1_image 1 = .ok (.new 22, 3) := dk_187 0 22 (dk_at dksX1_image_0 1 rfl rfl)
theorem dX1_image_4 : decode cX1_image 4 = .ok (.dup, 1) := dk_89 (dk_at dksX1_image_0 4 rfl rfl)
theorem dX1_image_5 : decode cX1_image 5 = .ok (.aload_n 0, 1) := dk_42 (dk_at dksX1_image_0 5 rfl rfl)
theorem dX1_image_6 : decode cX1_image 6 = .ok (.getfield 25, 3) := dk_180 0 25 (dk_at dksX1_image_0 6 rfl rfl)
theorem dX1_image_9 : decode cX1_image 9 = .ok (.invokespecial 325, 3) := dk_183 1 69 (dk_at dksX1_image_0 9 rfl rfl)
theorem dX1_image_12 : decode cX1_image 12 = .ok (.putfield 107, 3) := dk_181 0 107 (dk_at dksX1_image_0 12 rfl rfl)
theorem dX1_image_15 : decode cX1_image 15 = .ok (.aload_n 0, 1) := dk_42 (dk_at dksX1_image_0 15 rfl rfl)
theorem dX1_image_16 : decode cX1_image 16 = .ok (.aload_n 0, 1) := dk_42 (dk_at dksX1_image_0 16 rfl rfl)
theorem dX1_image_17 : decode cX1_image 17 = .ok (.getfield 98, 3) := dk_180 0 98 (dk_at dksX1_image_0 17 rfl rfl)
theorem dX1_image_20 : decode cX1_image 20 = .ok (.putfield 328, 3) := dk_181 1 72 (dk_at dksX1_image_0 20 rfl rfl)
theorem dX1_image_23 : decode cX1_image 23 = .ok (.aload_n 0, 1) := dk_42 (dk_at dksX1_image_0 23 rfl rfl)
theorem dX1_image_24 : decode cX1_image 24 = .ok (.aload_n 0, 1) := dk_42 (dk_at dksX1_image_1 0 rfl rfl)
theorem dX1_image_25 : decode cX1_image 25 = .ok (.getfield 101, 3) := dk_180 0 101 (dk_at dksX1_image_1 1 rfl rfl)
theorem dX1_image_28 : decode cX1_image 28 = .ok (.putfield 331, 3) := dk_181 1 75 (dk_at dksX1_image_1 4 rfl rfl)
theorem dX1_image_31 : decode cX1_image 31 = .ok (.return_, 1) := dk_177 (dk_at dksX1_image_1 7 rfl rfl)
abbrev cX1_restore : ByteArray := prog_1_method_44_code
def yX1_restore : MethodName := ⟨RX1, "restore", "()Z"⟩
def dkwX1_restore_1 : List UInt8 := [42, 42, 180, 1, 72, 181, 0, 98, 42, 42, 180, 1, 75, 181, 0, 101, 4, 172]
abbrev dktX1_restore_1 : List UInt8 := dkwX1_restore_1 ++ []
def dkwX1_restore_0 : List UInt8 := [42, 180, 0, 107, 199, 0, 5, 3, 172, 42, 187, 0, 22, 89, 42, 180, 0, 107, 183, 1, 69, 181, 0, 25]
abbrev dktX1_restore_0 : List UInt8 := dkwX1_restore_0 ++ dktX1_restore_1
theorem dksX1_restore_0 : cX1_restore.data.toList.drop 0 = dktX1_restore_0 := by decide +kernel
theorem dksX1_restore_1 : cX1_restore.data.toList.drop 24 = dktX1_restore_1 := dk_seg dksX1_restore_0 24 rfl rfl
theorem dX1_restore_0 : decode cX1_restore 0 = .ok (.aload_n 0, 1) := dk_42 (dk_at dksX1_restore_0 0 rfl rfl)
theorem dX1_restore_1 : decode cX1_restore 1 = .ok (.getfield 107, 3) := dk_180 0 107 (dk_at dksX1_restore_0 1 rfl rfl)
theorem dX1_restore_4 : decode cX1_restore 4 = .ok (.ifnonnull 5, 3) := dk_199 0 5 (dk_at dksX1_restore_0 4 rfl rfl)
theorem dX1_restore_7 : decode cX1_restore 7 = .ok (.iconst 0, 1) := dk_3 (dk_at dksX1_restore_0 7 rfl rfl)
theorem dX1_restore_8 : decode cX1_restore 8 = .ok (.ireturn, 1) := dk_172 (dk_at dksX1_restore_0 8 rfl rfl)
theorem dX1_restore_9 : decode cX1_restore 9 = .ok (.aload_n 0, 1) := dk_42 (dk_at dksX1_restore_0 9 rfl rfl)
theorem dX1_restore_10 : decode cX1_restore 10 = .ok (.new 22, 3) := dk_187 0 22 (dk_at dksX1_restore_0 10 rfl rfl)
theorem dX1_restore_13 : decode cX1_restore 13 = .ok (.dup, 1) := dk_89 (dk_at dksX1_restore_0 13 rfl rfl)
theorem dX1_restore_14 : decode cX1_restore 14 = .ok (.aload_n 0, 1) := dk_42 (dk_at dksX1_restore_0 14 rfl rfl)
theorem dX1_restore_15 : decode cX1_restore 15 = .ok (.getfield 107, 3) := dk_180 0 107 (dk_at dksX1_restore_0 15 rfl rfl)
theorem dX1_restore_18 : decode cX1_restore 18 = .ok (.invokespecial 325, 3) := dk_183 1 69 (dk_at dksX1_restore_0 18 rfl rfl)
theorem dX1_restore_21 : decode cX1_restore 21 = .ok (.putfield 25, 3) := dk_181 0 25 (dk_at dksX1_restore_0 21 rfl rfl)
theorem dX1_restore_24 : decode cX1_restore 24 = .ok (.aload_n 0, 1) := dk_42 (dk_at dksX1_restore_1 0 rfl rfl)
theorem dX1_restore_25 : decode cX1_restore 25 = .ok (.aload_n 0, 1) := dk_42 (dk_at dksX1_restore_1 1 rfl rfl)
theorem dX1_restore_26 : decode cX1_restore 26 = .ok (.getfield 328, 3) := dk_180 1 72 (dk_at dksX1_restore_1 2 rfl rfl)
theorem dX1_restore_29 : decode cX1_restore 29 = .ok (.putfield 98, 3) := dk_181 0 98 (dk_at dksX1_restore_1 5 rfl rfl)
theorem dX1_restore_32 : decode cX1_restore 32 = .ok (.aload_n 0, 1) := dk_42 (dk_at dksX1_restore_1 8 rfl rfl)
theorem dX1_restore_33 : decode cX1_restore 33 = .ok (.aload_n 0, 1) := dk_42 (dk_at dksX1_restore_1 9 rfl rfl)
theorem dX1_restore_34 : decode cX1_restore 34 = .ok (.getfield 331, 3) := dk_180 1 75 (dk_at dksX1_restore_1 10 rfl rfl)
theorem dX1_restore_37 : decode cX1_restore 37 = .ok (.putfield 101, 3) := dk_181 0 101 (dk_at dksX1_restore_1 13 rfl rfl)
theorem dX1_restore_40 : decode cX1_restore 40 = .ok (.iconst 1, 1) := dk_4 (dk_at dksX1_restore_1 16 rfl rfl)
theorem dX1_restore_41 : decode cX1_restore 41 = .ok (.ireturn, 1) := dk_172 (dk_at dksX1_restore_1 17 rfl rfl)
abbrev cX1_village : ByteArray := prog_1_method_6_code
def yX1_village : MethodName := ⟨RX1, "village", "(I)I"⟩
def dkwX1_village_4 : List UInt8 := [181, 0, 101, 42, 1, 181, 0, 104, 42, 1, 181, 0, 107, 3, 172]
abbrev dktX1_village_4 : List UInt8 := dkwX1_village_4 ++ []
def dkwX1_village_3 : List UInt8 := [79, 45, 180, 0, 95, 172, 42, 187, 0, 22, 89, 183, 0, 24, 181, 0, 25, 42, 3, 181, 0, 98, 42, 3]
abbrev dktX1_village_3 : List UInt8 := dkwX1_village_3 ++ dktX1_village_4
def dkwX1_village_2 : List UInt8 := [181, 0, 16, 167, 0, 27, 78, 42, 44, 180, 0, 92, 181, 0, 63, 42, 180, 0, 67, 3, 92, 46, 4, 96]
abbrev dktX1_village_2 : List UInt8 := dkwX1_village_2 ++ dktX1_village_3
def dkwX1_village_1 : List UInt8 := [181, 0, 74, 42, 2, 181, 0, 63, 187, 0, 81, 89, 42, 27, 183, 0, 83, 77, 42, 44, 182, 0, 86]
abbrev dktX1_village_1 : List UInt8 := dkwX1_village_1 ++ dktX1_village_2
def dkwX1_village_0 : List UInt8 := [27, 155, 0, 15, 27, 42, 180, 0, 74, 163, 0, 7, 4, 167, 0, 4, 3, 184, 0, 77, 42, 3]
abbrev dktX1_village_0 : List UInt8 := dkwX1_village_0 ++ dktX1_village_1
theorem dksX1_village_0 : cX1_village.data.toList.drop 0 = dktX1_village_0 := by decide +kernel
theorem dksX1_village_1 : cX1_village.data.toList.drop 22 = dktX1_village_1 := dk_seg dksX1_village_0 22 rfl rfl
theorem dksX1_village_2 : cX1_village.data.toList.drop 45 = dktX1_village_2 := dk_seg dksX1_village_1 23 rfl rfl
theorem dksX1_village_3 : cX1_village.data.toList.drop 69 = dktX1_village_3 := dk_seg dksX1_village_2 24 rfl rfl
theorem dksX1_village_4 : cX1_village.data.toList.drop 93 = dktX1_village_4 := dk_seg dksX1_village_3 24 rfl rfl
theorem dX1_village_0 : decode cX1_village 0 = .ok (.iload_n 1, 1) := dk_27 (dk_at dksX1_village_0 0 rfl rfl)
theorem dX1_village_1 : decode cX1_village 1 = .ok (.ifCond .lt 15, 3) := dk_155 0 15 (dk_at dksX1_village_0 1 rfl rfl)
theorem dX1_village_4 : decode cX1_village 4 = .ok (.iload_n 1, 1) := dk_27 (dk_at dksX1_village_0 4 rfl rfl)
theorem dX1_village_5 : decode cX1_village 5 = .ok (.aload_n 0, 1) := dk_42 (dk_at dksX1_village_0 5 rfl rfl)
theorem dX1_village_6 : decode cX1_village 6 = .ok (.getfield 74, 3) := dk_180 0 74 (dk_at dksX1_village_0 6 rfl rfl)
theorem dX1_village_9 : decode cX1_village 9 = .ok (.if_icmp .gt 7, 3) := dk_163 0 7 (dk_at dksX1_village_0 9 rfl rfl)
theorem dX1_village_12 : decode cX1_village 12 = .ok (.iconst 1, 1) := dk_4 (dk_at dksX1_village_0 12 rfl rfl)
theorem dX1_village_13 : decode cX1_village 13 = .ok (.goto 4, 3) := dk_167 0 4 (dk_at dksX1_village_0 13 rfl rfl)
theorem dX1_village_16 : decode cX1_village 16 = .ok (.iconst 0, 1) := dk_3 (dk_at dksX1_village_0 16 rfl rfl)
theorem dX1_village_17 : decode cX1_village 17 = .ok (.invokestatic 77, 3) := dk_184 0 77 (dk_at dksX1_village_0 17 rfl rfl)
theorem dX1_village_20 : decode cX1_village 20 = .ok (.aload_n 0, 1) := dk_42 (dk_at dksX1_village_0 20 rfl rfl)
theorem dX1_village_21 : decode cX1_village 21 = .ok (.iconst 0, 1) := dk_3 (dk_at dksX1_village_0 21 rfl rfl)
theorem dX1_village_22 : decode cX1_village 22 = .ok (.putfield 74, 3) := dk_181 0 74 (dk_at dksX1_village_1 0 rfl rfl)
theorem dX1_village_25 : decode cX1_village 25 = .ok (.aload_n 0, 1) := dk_42 (dk_at dksX1_village_1 3 rfl rfl)
theorem dX1_village_26 : decode cX1_village 26 = .ok (.iconst (-1), 1) := dk_2 (dk_at dksX1_village_1 4 rfl rfl)
theorem dX1_village_27 : decode cX1_village 27 = .ok (.putfield 63, 3) := dk_181 0 63 (dk_at dksX1_village_1 5 rfl rfl)
theorem dX1_village_30 : decode cX1_village 30 = .ok (.new 81, 3) := dk_187 0 81 (dk_at dksX1_village_1 8 rfl rfl)
theorem dX1_village_33 : decode cX1_village 33 = .ok (.dup, 1) := dk_89 (dk_at dksX1_village_1 11 rfl rfl)
theorem dX1_village_34 : decode cX1_village 34 = .ok (.aload_n 0, 1) := dk_42 (dk_at dksX1_village_1 12 rfl rfl)
theorem dX1_village_35 : decode cX1_village 35 = .ok (.iload_n 1, 1) := dk_27 (dk_at dksX1_village_1 13 rfl rfl)
theorem dX1_village_36 : decode cX1_village 36 = .ok (.invokespecial 83, 3) := dk_183 0 83 (dk_at dksX1_village_1 14 rfl rfl)
theorem dX1_village_39 : decode cX1_village 39 = .ok (.astore_n 2, 1) := dk_77 (dk_at dksX1_village_1 17 rfl rfl)
theorem dX1_village_40 : decode cX1_village 40 = .ok (.aload_n 0, 1) := dk_42 (dk_at dksX1_village_1 18 rfl rfl)
theorem dX1_village_41 : decode cX1_village 41 = .ok (.aload_n 2, 1) := dk_44 (dk_at dksX1_village_1 19 rfl rfl)
theorem dX1_village_42 : decode cX1_village 42 = .ok (.invokevirtual 86, 3) := dk_182 0 86 (dk_at dksX1_village_1 20 rfl rfl)
theorem dX1_village_45 : decode cX1_village 45 = .ok (.putfield 16, 3) := dk_181 0 16 (dk_at dksX1_village_2 0 rfl rfl)
theorem dX1_village_48 : decode cX1_village 48 = .ok (.goto 27, 3) := dk_167 0 27 (dk_at dksX1_village_2 3 rfl rfl)
theorem dX1_village_51 : decode cX1_village 51 = .ok (.astore_n 3, 1) := dk_78 (dk_at dksX1_village_2 6 rfl rfl)
theorem dX1_village_52 : decode cX1_village 52 = .ok (.aload_n 0, 1) := dk_42 (dk_at dksX1_village_2 7 rfl rfl)
theorem dX1_village_53 : decode cX1_village 53 = .ok (.aload_n 2, 1) := dk_44 (dk_at dksX1_village_2 8 rfl rfl)
theorem dX1_village_54 : decode cX1_village 54 = .ok (.getfield 92, 3) := dk_180 0 92 (dk_at dksX1_village_2 9 rfl rfl)
theorem dX1_village_57 : decode cX1_village 57 = .ok (.putfield 63, 3) := dk_181 0 63 (dk_at dksX1_village_2 12 rfl rfl)
theorem dX1_village_60 : decode cX1_village 60 = .ok (.aload_n 0, 1) := dk_42 (dk_at dksX1_village_2 15 rfl rfl)
theorem dX1_village_61 : decode cX1_village 61 = .ok (.getfield 67, 3) := dk_180 0 67 (dk_at dksX1_village_2 16 rfl rfl)
theorem dX1_village_64 : decode cX1_village 64 = .ok (.iconst 0, 1) := dk_3 (dk_at dksX1_village_2 19 rfl rfl)
theorem dX1_village_65 : decode cX1_village 65 = .ok (.dup2, 1) := dk_92 (dk_at dksX1_village_2 20 rfl rfl)
theorem dX1_village_66 : decode cX1_village 66 = .ok (.iaload, 1) := dk_46 (dk_at dksX1_village_2 21 rfl rfl)
theorem dX1_village_67 : decode cX1_village 67 = .ok (.iconst 1, 1) := dk_4 (dk_at dksX1_village_2 22 rfl rfl)
theorem dX1_village_68 : decode cX1_village 68 = .ok (.iadd, 1) := dk_96 (dk_at dksX1_village_2 23 rfl rfl)
theorem dX1_village_69 : decode cX1_village 69 = .ok (.iastore, 1) := dk_79 (dk_at dksX1_village_3 0 rfl rfl)
theorem dX1_village_70 : decode cX1_village 70 = .ok (.aload_n 3, 1) := dk_45 (dk_at dksX1_village_3 1 rfl rfl)
theorem dX1_village_71 : decode cX1_village 71 = .ok (.getfield 95, 3) := dk_180 0 95 (dk_at dksX1_village_3 2 rfl rfl)
theorem dX1_village_74 : decode cX1_village 74 = .ok (.ireturn, 1) := dk_172 (dk_at dksX1_village_3 5 rfl rfl)
theorem dX1_village_75 : decode cX1_village 75 = .ok (.aload_n 0, 1) := dk_42 (dk_at dksX1_village_3 6 rfl rfl)
theorem dX1_village_76 : decode cX1_village 76 = .ok (.new 22, 3) := dk_187 0 22 (dk_at dksX1_village_3 7 rfl rfl)
theorem dX1_village_79 : decode cX1_village 79 = .ok (.dup, 1) := dk_89 (dk_at dksX1_village_3 10 rfl rfl)
theorem dX1_village_80 : decode cX1_village 80 = .ok (.invokespecial 24, 3) := dk_183 0 24 (dk_at dksX1_village_3 11 rfl rfl)
theorem dX1_village_83 : decode cX1_village 83 = .ok (.putfield 25, 3) := dk_181 0 25 (dk_at dksX1_village_3 14 rfl rfl)
theorem dX1_village_86 : decode cX1_village 86 = .ok (.aload_n 0, 1) := dk_42 (dk_at dksX1_village_3 17 rfl rfl)
theorem dX1_village_87 : decode cX1_village 87 = .ok (.iconst 0, 1) := dk_3 (dk_at dksX1_village_3 18 rfl rfl)
theorem dX1_village_88 : decode cX1_village 88 = .ok (.putfield 98, 3) := dk_181 0 98 (dk_at dksX1_village_3 19 rfl rfl)
theorem dX1_village_91 : decode cX1_village 91 = .ok (.aload_n 0, 1) := dk_42 (dk_at dksX1_village_3 22 rfl rfl)
theorem dX1_village_92 : decode cX1_village 92 = .ok (.iconst 0, 1) := dk_3 (dk_at dksX1_village_3 23 rfl rfl)
theorem dX1_village_93 : decode cX1_village 93 = .ok (.putfield 101, 3) := dk_181 0 101 (dk_at dksX1_village_4 0 rfl rfl)
theorem dX1_village_96 : decode cX1_village 96 = .ok (.aload_n 0, 1) := dk_42 (dk_at dksX1_village_4 3 rfl rfl)
theorem dX1_village_97 : decode cX1_village 97 = .ok (.aconst_null, 1) := dk_1 (dk_at dksX1_village_4 4 rfl rfl)
theorem dX1_village_98 : decode cX1_village 98 = .ok (.putfield 104, 3) := dk_181 0 104 (dk_at dksX1_village_4 5 rfl rfl)
theorem dX1_village_101 : decode cX1_village 101 = .ok (.aload_n 0, 1) := dk_42 (dk_at dksX1_village_4 8 rfl rfl)
theorem dX1_village_102 : decode cX1_village 102 = .ok (.aconst_null, 1) := dk_1 (dk_at dksX1_village_4 9 rfl rfl)
theorem dX1_village_103 : decode cX1_village 103 = .ok (.putfield 107, 3) := dk_181 0 107 (dk_at dksX1_village_4 10 rfl rfl)
theorem dX1_village_106 : decode cX1_village 106 = .ok (.iconst 0, 1) := dk_3 (dk_at dksX1_village_4 13 rfl rfl)
theorem dX1_village_107 : decode cX1_village 107 = .ok (.ireturn, 1) := dk_172 (dk_at dksX1_village_4 14 rfl rfl)
abbrev cX1_right : ByteArray := prog_1_method_3_code
def yX1_right : MethodName := ⟨RX1, "right", "(Z)V"⟩
def dkwX1_right_0 : List UInt8 := [26, 154, 0, 11, 187, 0, 7, 89, 183, 0, 9, 191, 177]
abbrev dktX1_right_0 : List UInt8 := dkwX1_right_0 ++ []
theorem dksX1_right_0 : cX1_right.data.toList.drop 0 = dktX1_right_0 := by decide +kernel
theorem dX1_right_0 : decode cX1_right 0 = .ok (.iload_n 0, 1) := dk_26 (dk_at dksX1_right_0 0 rfl rfl)
theorem dX1_right_1 : decode cX1_right 1 = .ok (.ifCond .ne 11, 3) := dk_154 0 11 (dk_at dksX1_right_0 1 rfl rfl)
theorem dX1_right_4 : decode cX1_right 4 = .ok (.new 7, 3) := dk_187 0 7 (dk_at dksX1_right_0 4 rfl rfl)
theorem dX1_right_7 : decode cX1_right 7 = .ok (.dup, 1) := dk_89 (dk_at dksX1_right_0 7 rfl rfl)
theorem dX1_right_8 : decode cX1_right 8 = .ok (.invokespecial 9, 3) := dk_183 0 9 (dk_at dksX1_right_0 8 rfl rfl)
theorem dX1_right_11 : decode cX1_right 11 = .ok (.athrow, 1) := dk_191 (dk_at dksX1_right_0 11 rfl rfl)
theorem dX1_right_12 : decode cX1_right 12 = .ok (.return_, 1) := dk_177 (dk_at dksX1_right_0 12 rfl rfl)
abbrev cX1_in : ByteArray := prog_1_method_1_code
def yX1_in : MethodName := ⟨RX1, "in", "(III)Z"⟩
def dkwX1_in_0 : List UInt8 := [26, 27, 161, 0, 12, 26, 28, 163, 0, 7, 4, 167, 0, 4, 3, 172]
abbrev dktX1_in_0 : List UInt8 := dkwX1_in_0 ++ []
theorem dksX1_in_0 : cX1_in.data.toList.drop 0 = dktX1_in_0 := by decide +kernel
theorem dX1_in_0 : decode cX1_in 0 = .ok (.iload_n 0, 1) := dk_26 (dk_at dksX1_in_0 0 rfl rfl)
theorem dX1_in_1 : decode cX1_in 1 = .ok (.iload_n 1, 1) := dk_27 (dk_at dksX1_in_0 1 rfl rfl)
theorem dX1_in_2 : decode cX1_in 2 = .ok (.if_icmp .lt 12, 3) := dk_161 0 12 (dk_at dksX1_in_0 2 rfl rfl)
theorem dX1_in_5 : decode cX1_in 5 = .ok (.iload_n 0, 1) := dk_26 (dk_at dksX1_in_0 5 rfl rfl)
theorem dX1_in_6 : decode cX1_in 6 = .ok (.iload_n 2, 1) := dk_28 (dk_at dksX1_in_0 6 rfl rfl)
theorem dX1_in_7 : decode cX1_in 7 = .ok (.if_icmp .gt 7, 3) := dk_163 0 7 (dk_at dksX1_in_0 7 rfl rfl)
theorem dX1_in_10 : decode cX1_in 10 = .ok (.iconst 1, 1) := dk_4 (dk_at dksX1_in_0 10 rfl rfl)
theorem dX1_in_11 : decode cX1_in 11 = .ok (.goto 4, 3) := dk_167 0 4 (dk_at dksX1_in_0 11 rfl rfl)
theorem dX1_in_14 : decode cX1_in 14 = .ok (.iconst 0, 1) := dk_3 (dk_at dksX1_in_0 14 rfl rfl)
theorem dX1_in_15 : decode cX1_in 15 = .ok (.ireturn, 1) := dk_172 (dk_at dksX1_in_0 15 rfl rfl)
abbrev cX1_count : ByteArray := prog_1_method_8_code
def yX1_count : MethodName := ⟨RX1, "count", "(I)I"⟩
def dkwX1_count_6 : List UInt8 := [46, 172, 42, 180, 0, 101, 184, 0, 134, 172, 187, 0, 1, 89, 183, 0, 3, 191]
abbrev dktX1_count_6 : List UInt8 := dkwX1_count_6 ++ []
def dkwX1_count_5 : List UInt8 := [172, 42, 180, 0, 25, 185, 0, 113, 1, 0, 172, 42, 180, 0, 74, 172, 42, 180, 0, 67, 27, 16, 8, 100]
abbrev dktX1_count_5 : List UInt8 := dkwX1_count_5 ++ dktX1_count_6
def dkwX1_count_4 : List UInt8 := [180, 0, 16, 180, 0, 128, 185, 0, 113, 1, 0, 172, 42, 180, 0, 16, 180, 0, 131, 185, 0, 113, 1, 0]
abbrev dktX1_count_4 : List UInt8 := dkwX1_count_4 ++ dktX1_count_5
def dkwX1_count_3 : List UInt8 := [185, 0, 113, 1, 0, 172, 42, 180, 0, 16, 180, 0, 122, 172, 42, 180, 0, 16, 180, 0, 125, 172, 42]
abbrev dktX1_count_3 : List UInt8 := dkwX1_count_3 ++ dktX1_count_4
def dkwX1_count_2 : List UInt8 := [42, 180, 0, 16, 180, 0, 110, 185, 0, 113, 1, 0, 172, 42, 180, 0, 16, 180, 0, 119]
abbrev dktX1_count_2 : List UInt8 := dkwX1_count_2 ++ dktX1_count_3
def dkwX1_count_1 : List UInt8 := [170, 0, 0, 0, 0, 0, 164, 0, 0, 0, 0, 0, 0, 0, 11, 0, 0, 0, 63, 0, 0, 0, 76, 0, 0, 0, 89, 0, 0, 0, 97, 0, 0, 0, 105, 0, 0, 0, 118, 0, 0, 0, 131, 0, 0, 0, 141, 0, 0, 0, 146, 0, 0, 0, 146, 0, 0, 0, 146, 0, 0, 0, 156]
abbrev dktX1_count_1 : List UInt8 := dkwX1_count_1 ++ dktX1_count_2
def dkwX1_count_0 : List UInt8 := [27]
abbrev dktX1_count_0 : List UInt8 := dkwX1_count_0 ++ dktX1_count_1
theorem dksX1_count_0 : cX1_count.data.toList.drop 0 = dktX1_count_0 := by decide +kernel
theorem dksX1_count_1 : cX1_count.data.toList.drop 1 = dktX1_count_1 := dk_seg dksX1_count_0 1 rfl rfl
theorem dksX1_count_2 : cX1_count.data.toList.drop 64 = dktX1_count_2 := dk_seg dksX1_count_1 63 rfl rfl
theorem dksX1_count_3 : cX1_count.data.toList.drop 84 = dktX1_count_3 := dk_seg dksX1_count_2 20 rfl rfl
theorem dksX1_count_4 : cX1_count.data.toList.drop 107 = dktX1_count_4 := dk_seg dksX1_count_3 23 rfl rfl
theorem dksX1_count_5 : cX1_count.data.toList.drop 131 = dktX1_count_5 := dk_seg dksX1_count_4 24 rfl rfl
theorem dksX1_count_6 : cX1_count.data.toList.drop 155 = dktX1_count_6 := dk_seg dksX1_count_5 24 rfl rfl
theorem dX1_count_0 : decode cX1_count 0 = .ok (.iload_n 1, 1) := dk_27 (dk_at dksX1_count_0 0 rfl rfl)
theorem dX1_count_1 : decode cX1_count 1 = .ok (.tableswitch 164 0 11 #[63, 76, 89, 97, 105, 118, 131, 141, 146, 146, 146, 156], 63) := by decide +kernel
theorem dX1_count_64 : decode cX1_count 64 = .ok (.aload_n 0, 1) := dk_42 (dk_at dksX1_count_2 0 rfl rfl)
theorem dX1_count_65 : decode cX1_count 65 = .ok (.getfield 16, 3) := dk_180 0 16 (dk_at dksX1_count_2 1 rfl rfl)
theorem dX1_count_68 : decode cX1_count 68 = .ok (.getfield 110, 3) := dk_180 0 110 (dk_at dksX1_count_2 4 rfl rfl)
theorem dX1_count_71 : decode cX1_count 71 = .ok (.invokeinterface 113 1, 5) := by decide +kernel
theorem dX1_count_76 : decode cX1_count 76 = .ok (.ireturn, 1) := dk_172 (dk_at dksX1_count_2 12 rfl rfl)
theorem dX1_count_77 : decode cX1_count 77 = .ok (.aload_n 0, 1) := dk_42 (dk_at dksX1_count_2 13 rfl rfl)
theorem dX1_count_78 : decode cX1_count 78 = .ok (.getfield 16, 3) := dk_180 0 16 (dk_at dksX1_count_2 14 rfl rfl)
theorem dX1_count_81 : decode cX1_count 81 = .ok (.getfield 119, 3) := dk_180 0 119 (dk_at dksX1_count_2 17 rfl rfl)
theorem dX1_count_84 : decode cX1_count 84 = .ok (.invokeinterface 113 1, 5) := by decide +kernel
theorem dX1_count_89 : decode cX1_count 89 = .ok (.ireturn, 1) := dk_172 (dk_at dksX1_count_3 5 rfl rfl)
theorem dX1_count_90 : decode cX1_count 90 = .ok (.aload_n 0, 1) := dk_42 (dk_at dksX1_count_3 6 rfl rfl)
theorem dX1_count_91 : decode cX1_count 91 = .ok (.getfield 16, 3) := dk_180 0 16 (dk_at dksX1_count_3 7 rfl rfl)
theorem dX1_count_94 : decode cX1_count 94 = .ok (.getfield 122, 3) := dk_180 0 122 (dk_at dksX1_count_3 10 rfl rfl)
theorem dX1_count_97 : decode cX1_count 97 = .ok (.ireturn, 1) := dk_172 (dk_at dksX1_count_3 13 rfl rfl)
theorem dX1_count_98 : decode cX1_count 98 = .ok (.aload_n 0, 1) := dk_42 (dk_at dksX1_count_3 14 rfl rfl)
theorem dX1_count_99 : decode cX1_count 99 = .ok (.getfield 16, 3) := dk_180 0 16 (dk_at dksX1_count_3 15 rfl rfl)
theorem dX1_count_102 : decode cX1_count 102 = .ok (.getfield 125, 3) := dk_180 0 125 (dk_at dksX1_count_3 18 rfl rfl)
theorem dX1_count_105 : decode cX1_count 105 = .ok (.ireturn, 1) := dk_172 (dk_at dksX1_count_3 21 rfl rfl)
theorem dX1_count_106 : decode cX1_count 106 = .ok (.aload_n 0, 1) := dk_42 (dk_at dksX1_count_3 22 rfl rfl)
theorem dX1_count_107 : decode cX1_count 107 = .ok (.getfield 16, 3) := dk_180 0 16 (dk_at dksX1_count_4 0 rfl rfl)
theorem dX1_count_110 : decode cX1_count 110 = .ok (.getfield 128, 3) := dk_180 0 128 (dk_at dksX1_count_4 3 rfl rfl)
theorem dX1_count_113 : decode cX1_count 113 = .ok (.invokeinterface 113 1, 5) := by decide +kernel
theorem dX1_count_118 : decode cX1_count 118 = .ok (.ireturn, 1) := dk_172 (dk_at dksX1_count_4 11 rfl rfl)
theorem dX1_count_119 : decode cX1_count 119 = .ok (.aload_n 0, 1) := dk_42 (dk_at dksX1_count_4 12 rfl rfl)
theorem dX1_count_120 : decode cX1_count 120 = .ok (.getfield 16, 3) := dk_180 0 16 (dk_at dksX1_count_4 13 rfl rfl)
theorem dX1_count_123 : decode cX1_count 123 = .ok (.getfield 131, 3) := dk_180 0 131 (dk_at dksX1_count_4 16 rfl rfl)
theorem dX1_count_126 : decode cX1_count 126 = .ok (.invokeinterface 113 1, 5) := by decide +kernel
theorem dX1_count_131 : decode cX1_count 131 = .ok (.ireturn, 1) := dk_172 (dk_at dksX1_count_5 0 rfl rfl)
theorem dX1_count_132 : decode cX1_count 132 = .ok (.aload_n 0, 1) := dk_42 (dk_at dksX1_count_5 1 rfl rfl)
theorem dX1_count_133 : decode cX1_count 133 = .ok (.getfield 25, 3) := dk_180 0 25 (dk_at dksX1_count_5 2 rfl rfl)
theorem dX1_count_136 : decode cX1_count 136 = .ok (.invokeinterface 113 1, 5) := by decide +kernel
theorem dX1_count_141 : decode cX1_count 141 = .ok (.ireturn, 1) := dk_172 (dk_at dksX1_count_5 10 rfl rfl)
theorem dX1_count_142 : decode cX1_count 142 = .ok (.aload_n 0, 1) := dk_42 (dk_at dksX1_count_5 11 rfl rfl)
theorem dX1_count_143 : decode cX1_count 143 = .ok (.getfield 74, 3) := dk_180 0 74 (dk_at dksX1_count_5 12 rfl rfl)
theorem dX1_count_146 : decode cX1_count 146 = .ok (.ireturn, 1) := dk_172 (dk_at dksX1_count_5 15 rfl rfl)
theorem dX1_count_147 : decode cX1_count 147 = .ok (.aload_n 0, 1) := dk_42 (dk_at dksX1_count_5 16 rfl rfl)
theorem dX1_count_148 : decode cX1_count 148 = .ok (.getfield 67, 3) := dk_180 0 67 (dk_at dksX1_count_5 17 rfl rfl)
theorem dX1_count_151 : decode cX1_count 151 = .ok (.iload_n 1, 1) := dk_27 (dk_at dksX1_count_5 20 rfl rfl)
theorem dX1_count_152 : decode cX1_count 152 = .ok (.bipush 8, 2) := dk_16 8 (dk_at dksX1_count_5 21 rfl rfl)
theorem dX1_count_154 : decode cX1_count 154 = .ok (.isub, 1) := dk_100 (dk_at dksX1_count_5 23 rfl rfl)
theorem dX1_count_155 : decode cX1_count 155 = .ok (.iaload, 1) := dk_46 (dk_at dksX1_count_6 0 rfl rfl)
theorem dX1_count_156 : decode cX1_count 156 = .ok (.ireturn, 1) := dk_172 (dk_at dksX1_count_6 1 rfl rfl)
theorem dX1_count_157 : decode cX1_count 157 = .ok (.aload_n 0, 1) := dk_42 (dk_at dksX1_count_6 2 rfl rfl)
theorem dX1_count_158 : decode cX1_count 158 = .ok (.getfield 101, 3) := dk_180 0 101 (dk_at dksX1_count_6 3 rfl rfl)
theorem dX1_count_161 : decode cX1_count 161 = .ok (.invokestatic 134, 3) := dk_184 0 134 (dk_at dksX1_count_6 6 rfl rfl)
theorem dX1_count_164 : decode cX1_count 164 = .ok (.ireturn, 1) := dk_172 (dk_at dksX1_count_6 9 rfl rfl)
theorem dX1_count_165 : decode cX1_count 165 = .ok (.new 1, 3) := dk_187 0 1 (dk_at dksX1_count_6 10 rfl rfl)
theorem dX1_count_168 : decode cX1_count 168 = .ok (.dup, 1) := dk_89 (dk_at dksX1_count_6 13 rfl rfl)
theorem dX1_count_169 : decode cX1_count 169 = .ok (.invokespecial 3, 3) := dk_183 0 3 (dk_at dksX1_count_6 14 rfl rfl)
theorem dX1_count_172 : decode cX1_count 172 = .ok (.athrow, 1) := dk_191 (dk_at dksX1_count_6 17 rfl rfl)
abbrev cX1_where : ByteArray := prog_1_method_12_code
def yX1_where : MethodName := ⟨RX1, "where", "(II)I"⟩
def dkwX1_where_0 : List UInt8 := [42, 27, 182, 0, 147, 42, 28, 182, 0, 151, 42, 180, 0, 16, 27, 28, 182, 0, 154, 172]
abbrev dktX1_where_0 : List UInt8 := dkwX1_where_0 ++ []
theorem dksX1_where_0 : cX1_where.data.toList.drop 0 = dktX1_where_0 := by decide +kernel
theorem dX1_where_0 : decode cX1_where 0 = .ok (.aload_n 0, 1) := dk_42 (dk_at dksX1_where_0 0 rfl rfl)
theorem dX1_where_1 : decode cX1_where 1 = .ok (.iload_n 1, 1) := dk_27 (dk_at dksX1_where_0 1 rfl rfl)
theorem dX1_where_2 : decode cX1_where 2 = .ok (.invokevirtual 147, 3) := dk_182 0 147 (dk_at dksX1_where_0 2 rfl rfl)
theorem dX1_where_5 : decode cX1_where 5 = .ok (.aload_n 0, 1) := dk_42 (dk_at dksX1_where_0 5 rfl rfl)
theorem dX1_where_6 : decode cX1_where 6 = .ok (.iload_n 2, 1) := dk_28 (dk_at dksX1_where_0 6 rfl rfl)
theorem dX1_where_7 : decode cX1_where 7 = .ok (.invokevirtual 151, 3) := dk_182 0 151 (dk_at dksX1_where_0 7 rfl rfl)
theorem dX1_where_10 : decode cX1_where 10 = .ok (.aload_n 0, 1) := dk_42 (dk_at dksX1_where_0 10 rfl rfl)
theorem dX1_where_11 : decode cX1_where 11 = .ok (.getfield 16, 3) := dk_180 0 16 (dk_at dksX1_where_0 11 rfl rfl)
theorem dX1_where_14 : decode cX1_where 14 = .ok (.iload_n 1, 1) := dk_27 (dk_at dksX1_where_0 14 rfl rfl)
theorem dX1_where_15 : decode cX1_where 15 = .ok (.iload_n 2, 1) := dk_28 (dk_at dksX1_where_0 15 rfl rfl)
theorem dX1_where_16 : decode cX1_where 16 = .ok (.invokevirtual 154, 3) := dk_182 0 154 (dk_at dksX1_where_0 16 rfl rfl)
theorem dX1_where_19 : decode cX1_where 19 = .ok (.ireturn, 1) := dk_172 (dk_at dksX1_where_0 19 rfl rfl)
abbrev cX1_aPerson : ByteArray := prog_1_method_9_code
def yX1_aPerson : MethodName := ⟨RX1, "aPerson", "(I)V"⟩
def dkwX1_aPerson_0 : List UInt8 := [27, 3, 42, 180, 0, 16, 180, 0, 125, 4, 100, 184, 0, 140, 184, 0, 144, 177]
abbrev dktX1_aPerson_0 : List UInt8 := dkwX1_aPerson_0 ++ []
theorem dksX1_aPerson_0 : cX1_aPerson.data.toList.drop 0 = dktX1_aPerson_0 := by decide +kernel
theorem dX1_aPerson_0 : decode cX1_aPerson 0 = .ok (.iload_n 1, 1) := dk_27 (dk_at dksX1_aPerson_0 0 rfl rfl)
theorem dX1_aPerson_1 : decode cX1_aPerson 1 = .ok (.iconst 0, 1) := dk_3 (dk_at dksX1_aPerson_0 1 rfl rfl)
theorem dX1_aPerson_2 : decode cX1_aPerson 2 = .ok (.aload_n 0, 1) := dk_42 (dk_at dksX1_aPerson_0 2 rfl rfl)
theorem dX1_aPerson_3 : decode cX1_aPerson 3 = .ok (.getfield 16, 3) := dk_180 0 16 (dk_at dksX1_aPerson_0 3 rfl rfl)
theorem dX1_aPerson_6 : decode cX1_aPerson 6 = .ok (.getfield 125, 3) := dk_180 0 125 (dk_at dksX1_aPerson_0 6 rfl rfl)
theorem dX1_aPerson_9 : decode cX1_aPerson 9 = .ok (.iconst 1, 1) := dk_4 (dk_at dksX1_aPerson_0 9 rfl rfl)
theorem dX1_aPerson_10 : decode cX1_aPerson 10 = .ok (.isub, 1) := dk_100 (dk_at dksX1_aPerson_0 10 rfl rfl)
theorem dX1_aPerson_11 : decode cX1_aPerson 11 = .ok (.invokestatic 140, 3) := dk_184 0 140 (dk_at dksX1_aPerson_0 11 rfl rfl)
theorem dX1_aPerson_14 : decode cX1_aPerson 14 = .ok (.invokestatic 144, 3) := dk_184 0 144 (dk_at dksX1_aPerson_0 14 rfl rfl)
theorem dX1_aPerson_17 : decode cX1_aPerson 17 = .ok (.return_, 1) := dk_177 (dk_at dksX1_aPerson_0 17 rfl rfl)
abbrev cX1_found : ByteArray := prog_1_method_2_code
def yX1_found : MethodName := ⟨RX1, "found", "(Z)V"⟩
def dkwX1_found_0 : List UInt8 := [26, 154, 0, 11, 187, 0, 1, 89, 183, 0, 3, 191, 177]
abbrev dktX1_found_0 : List UInt8 := dkwX1_found_0 ++ []
theorem dksX1_found_0 : cX1_found.data.toList.drop 0 = dktX1_found_0 := by decide +kernel
theorem dX1_found_0 : decode cX1_found 0 = .ok (.iload_n 0, 1) := dk_26 (dk_at dksX1_found_0 0 rfl rfl)
theorem dX1_found_1 : decode cX1_found 1 = .ok (.ifCond .ne 11, 3) := dk_154 0 11 (dk_at dksX1_found_0 1 rfl rfl)
theorem dX1_found_4 : decode cX1_found 4 = .ok (.new 1, 3) := dk_187 0 1 (dk_at dksX1_found_0 4 rfl rfl)
theorem dX1_found_7 : decode cX1_found 7 = .ok (.dup, 1) := dk_89 (dk_at dksX1_found_0 7 rfl rfl)
theorem dX1_found_8 : decode cX1_found 8 = .ok (.invokespecial 3, 3) := dk_183 0 3 (dk_at dksX1_found_0 8 rfl rfl)
theorem dX1_found_11 : decode cX1_found 11 = .ok (.athrow, 1) := dk_191 (dk_at dksX1_found_0 11 rfl rfl)
theorem dX1_found_12 : decode cX1_found 12 = .ok (.return_, 1) := dk_177 (dk_at dksX1_found_0 12 rfl rfl)
abbrev cX1_anHour : ByteArray := prog_1_method_10_code
def yX1_anHour : MethodName := ⟨RX1, "anHour", "(I)V"⟩
def dkwX1_anHour_0 : List UInt8 := [27, 3, 16, 23, 184, 0, 140, 184, 0, 144, 177]
abbrev dktX1_anHour_0 : List UInt8 := dkwX1_anHour_0 ++ []
theorem dksX1_anHour_0 : cX1_anHour.data.toList.drop 0 = dktX1_anHour_0 := by decide +kernel
theorem dX1_anHour_0 : decode cX1_anHour 0 = .ok (.iload_n 1, 1) := dk_27 (dk_at dksX1_anHour_0 0 rfl rfl)
theorem dX1_anHour_1 : decode cX1_anHour 1 = .ok (.iconst 0, 1) := dk_3 (dk_at dksX1_anHour_0 1 rfl rfl)
theorem dX1_anHour_2 : decode cX1_anHour 2 = .ok (.bipush 23, 2) := dk_16 23 (dk_at dksX1_anHour_0 2 rfl rfl)
theorem dX1_anHour_4 : decode cX1_anHour 4 = .ok (.invokestatic 140, 3) := dk_184 0 140 (dk_at dksX1_anHour_0 4 rfl rfl)
theorem dX1_anHour_7 : decode cX1_anHour 7 = .ok (.invokestatic 144, 3) := dk_184 0 144 (dk_at dksX1_anHour_0 7 rfl rfl)
theorem dX1_anHour_10 : decode cX1_anHour 10 = .ok (.return_, 1) := dk_177 (dk_at dksX1_anHour_0 10 rfl rfl)
abbrev cX1_thing : ByteArray := prog_1_method_13_code
def yX1_thing : MethodName := ⟨RX1, "thing", "(II)I"⟩
def dkwX1_thing_4 : List UInt8 := [183, 0, 3, 191]
abbrev dktX1_thing_4 : List UInt8 := dkwX1_thing_4 ++ []
def dkwX1_thing_3 : List UInt8 := [167, 0, 4, 3, 172, 45, 180, 0, 180, 153, 0, 7, 4, 167, 0, 4, 3, 172, 187, 0, 1, 89]
abbrev dktX1_thing_3 : List UInt8 := dkwX1_thing_3 ++ dktX1_thing_4
def dkwX1_thing_2 : List UInt8 := [45, 180, 0, 167, 172, 45, 180, 0, 170, 172, 45, 180, 0, 173, 172, 45, 180, 0, 176, 153, 0, 7, 4]
abbrev dktX1_thing_2 : List UInt8 := dkwX1_thing_2 ++ dktX1_thing_3
def dkwX1_thing_1 : List UInt8 := [170, 0, 0, 0, 74, 0, 0, 0, 0, 0, 0, 0, 4, 0, 0, 0, 33, 0, 0, 0, 38, 0, 0, 0, 43, 0, 0, 0, 48, 0, 0, 0, 61]
abbrev dktX1_thing_1 : List UInt8 := dkwX1_thing_1 ++ dktX1_thing_2
def dkwX1_thing_0 : List UInt8 := [42, 27, 182, 0, 158, 42, 180, 0, 16, 180, 0, 128, 27, 185, 0, 161, 2, 0, 192, 0, 165, 78, 28]
abbrev dktX1_thing_0 : List UInt8 := dkwX1_thing_0 ++ dktX1_thing_1
theorem dksX1_thing_0 : cX1_thing.data.toList.drop 0 = dktX1_thing_0 := by decide +kernel
theorem dksX1_thing_1 : cX1_thing.data.toList.drop 23 = dktX1_thing_1 := dk_seg dksX1_thing_0 23 rfl rfl
theorem dksX1_thing_2 : cX1_thing.data.toList.drop 56 = dktX1_thing_2 := dk_seg dksX1_thing_1 33 rfl rfl
theorem dksX1_thing_3 : cX1_thing.data.toList.drop 79 = dktX1_thing_3 := dk_seg dksX1_thing_2 23 rfl rfl
theorem dksX1_thing_4 : cX1_thing.data.toList.drop 101 = dktX1_thing_4 := dk_seg dksX1_thing_3 22 rfl rfl
theorem dX1_thing_0 : decode cX1_thing 0 = .ok (.aload_n 0, 1) := dk_42 (dk_at dksX1_thing_0 0 rfl rfl)
theorem dX1_thing_1 : decode cX1_thing 1 = .ok (.iload_n 1, 1) := dk_27 (dk_at dksX1_thing_0 1 rfl rfl)
theorem dX1_thing_2 : decode cX1_thing 2 = .ok (.invokevirtual 158, 3) := dk_182 0 158 (dk_at dksX1_thing_0 2 rfl rfl)
theorem dX1_thing_5 : decode cX1_thing 5 = .ok (.aload_n 0, 1) := dk_42 (dk_at dksX1_thing_0 5 rfl rfl)
theorem dX1_thing_6 : decode cX1_thing 6 = .ok (.getfield 16, 3) := dk_180 0 16 (dk_at dksX1_thing_0 6 rfl rfl)
theorem dX1_thing_9 : decode cX1_thing 9 = .ok (.getfield 128, 3) := dk_180 0 128 (dk_at dksX1_thing_0 9 rfl rfl)
theorem dX1_thing_12 : decode cX1_thing 12 = .ok (.iload_n 1, 1) := dk_27 (dk_at dksX1_thing_0 12 rfl rfl)
theorem dX1_thing_13 : decode cX1_thing 13 = .ok (.invokeinterface 161 2, 5) := by decide +kernel
theorem dX1_thing_18 : decode cX1_thing 18 = .ok (.checkcast 165, 3) := dk_192 0 165 (dk_at dksX1_thing_0 18 rfl rfl)
theorem dX1_thing_21 : decode cX1_thing 21 = .ok (.astore_n 3, 1) := dk_78 (dk_at dksX1_thing_0 21 rfl rfl)
theorem dX1_thing_22 : decode cX1_thing 22 = .ok (.iload_n 2, 1) := dk_28 (dk_at dksX1_thing_0 22 rfl rfl)
theorem dX1_thing_23 : decode cX1_thing 23 = .ok (.tableswitch 74 0 4 #[33, 38, 43, 48, 61], 33) := by decide +kernel
theorem dX1_thing_56 : decode cX1_thing 56 = .ok (.aload_n 3, 1) := dk_45 (dk_at dksX1_thing_2 0 rfl rfl)
theorem dX1_thing_57 : decode cX1_thing 57 = .ok (.getfield 167, 3) := dk_180 0 167 (dk_at dksX1_thing_2 1 rfl rfl)
theorem dX1_thing_60 : decode cX1_thing 60 = .ok (.ireturn, 1) := dk_172 (dk_at dksX1_thing_2 4 rfl rfl)
theorem dX1_thing_61 : decode cX1_thing 61 = .ok (.aload_n 3, 1) := dk_45 (dk_at dksX1_thing_2 5 rfl rfl)
theorem dX1_thing_62 : decode cX1_thing 62 = .ok (.getfield 170, 3) := dk_180 0 170 (dk_at dksX1_thing_2 6 rfl rfl)
theorem dX1_thing_65 : decode cX1_thing 65 = .ok (.ireturn, 1) := dk_172 (dk_at dksX1_thing_2 9 rfl rfl)
theorem dX1_thing_66 : decode cX1_thing 66 = .ok (.aload_n 3, 1) := dk_45 (dk_at dksX1_thing_2 10 rfl rfl)
theorem dX1_thing_67 : decode cX1_thing 67 = .ok (.getfield 173, 3) := dk_180 0 173 (dk_at dksX1_thing_2 11 rfl rfl)
theorem dX1_thing_70 : decode cX1_thing 70 = .ok (.ireturn, 1) := dk_172 (dk_at dksX1_thing_2 14 rfl rfl)
theorem dX1_thing_71 : decode cX1_thing 71 = .ok (.aload_n 3, 1) := dk_45 (dk_at dksX1_thing_2 15 rfl rfl)
theorem dX1_thing_72 : decode cX1_thing 72 = .ok (.getfield 176, 3) := dk_180 0 176 (dk_at dksX1_thing_2 16 rfl rfl)
theorem dX1_thing_75 : decode cX1_thing 75 = .ok (.ifCond .eq 7, 3) := dk_153 0 7 (dk_at dksX1_thing_2 19 rfl rfl)
theorem dX1_thing_78 : decode cX1_thing 78 = .ok (.iconst 1, 1) := dk_4 (dk_at dksX1_thing_2 22 rfl rfl)
theorem dX1_thing_79 : decode cX1_thing 79 = .ok (.goto 4, 3) := dk_167 0 4 (dk_at dksX1_thing_3 0 rfl rfl)
theorem dX1_thing_82 : decode cX1_thing 82 = .ok (.iconst 0, 1) := dk_3 (dk_at dksX1_thing_3 3 rfl rfl)
theorem dX1_thing_83 : decode cX1_thing 83 = .ok (.ireturn, 1) := dk_172 (dk_at dksX1_thing_3 4 rfl rfl)
theorem dX1_thing_84 : decode cX1_thing 84 = .ok (.aload_n 3, 1) := dk_45 (dk_at dksX1_thing_3 5 rfl rfl)
theorem dX1_thing_85 : decode cX1_thing 85 = .ok (.getfield 180, 3) := dk_180 0 180 (dk_at dksX1_thing_3 6 rfl rfl)
theorem dX1_thing_88 : decode cX1_thing 88 = .ok (.ifCond .eq 7, 3) := dk_153 0 7 (dk_at dksX1_thing_3 9 rfl rfl)
theorem dX1_thing_91 : decode cX1_thing 91 = .ok (.iconst 1, 1) := dk_4 (dk_at dksX1_thing_3 12 rfl rfl)
theorem dX1_thing_92 : decode cX1_thing 92 = .ok (.goto 4, 3) := dk_167 0 4 (dk_at dksX1_thing_3 13 rfl rfl)
theorem dX1_thing_95 : decode cX1_thing 95 = .ok (.iconst 0, 1) := dk_3 (dk_at dksX1_thing_3 16 rfl rfl)
theorem dX1_thing_96 : decode cX1_thing 96 = .ok (.ireturn, 1) := dk_172 (dk_at dksX1_thing_3 17 rfl rfl)
theorem dX1_thing_97 : decode cX1_thing 97 = .ok (.new 1, 3) := dk_187 0 1 (dk_at dksX1_thing_3 18 rfl rfl)
theorem dX1_thing_100 : decode cX1_thing 100 = .ok (.dup, 1) := dk_89 (dk_at dksX1_thing_3 21 rfl rfl)
theorem dX1_thing_101 : decode cX1_thing 101 = .ok (.invokespecial 3, 3) := dk_183 0 3 (dk_at dksX1_thing_4 0 rfl rfl)
theorem dX1_thing_104 : decode cX1_thing 104 = .ok (.athrow, 1) := dk_191 (dk_at dksX1_thing_4 3 rfl rfl)
abbrev cX1_aThing : ByteArray := prog_1_method_11_code
def yX1_aThing : MethodName := ⟨RX1, "aThing", "(I)V"⟩
def dkwX1_aThing_0 : List UInt8 := [27, 3, 42, 180, 0, 16, 180, 0, 128, 185, 0, 113, 1, 0, 4, 100, 184, 0, 140, 184, 0, 144, 177]
abbrev dktX1_aThing_0 : List UInt8 := dkwX1_aThing_0 ++ []
theorem dksX1_aThing_0 : cX1_aThing.data.toList.drop 0 = dktX1_aThing_0 := by decide +kernel
theorem dX1_aThing_0 : decode cX1_aThing 0 = .ok (.iload_n 1, 1) := dk_27 (dk_at dksX1_aThing_0 0 rfl rfl)
theorem dX1_aThing_1 : decode cX1_aThing 1 = .ok (.iconst 0, 1) := dk_3 (dk_at dksX1_aThing_0 1 rfl rfl)
theorem dX1_aThing_2 : decode cX1_aThing 2 = .ok (.aload_n 0, 1) := dk_42 (dk_at dksX1_aThing_0 2 rfl rfl)
theorem dX1_aThing_3 : decode cX1_aThing 3 = .ok (.getfield 16, 3) := dk_180 0 16 (dk_at dksX1_aThing_0 3 rfl rfl)
theorem dX1_aThing_6 : decode cX1_aThing 6 = .ok (.getfield 128, 3) := dk_180 0 128 (dk_at dksX1_aThing_0 6 rfl rfl)
theorem dX1_aThing_9 : decode cX1_aThing 9 = .ok (.invokeinterface 113 1, 5) := by decide +kernel
theorem dX1_aThing_14 : decode cX1_aThing 14 = .ok (.iconst 1, 1) := dk_4 (dk_at dksX1_aThing_0 14 rfl rfl)
theorem dX1_aThing_15 : decode cX1_aThing 15 = .ok (.isub, 1) := dk_100 (dk_at dksX1_aThing_0 15 rfl rfl)
theorem dX1_aThing_16 : decode cX1_aThing 16 = .ok (.invokestatic 140, 3) := dk_184 0 140 (dk_at dksX1_aThing_0 16 rfl rfl)
theorem dX1_aThing_19 : decode cX1_aThing 19 = .ok (.invokestatic 144, 3) := dk_184 0 144 (dk_at dksX1_aThing_0 19 rfl rfl)
theorem dX1_aThing_22 : decode cX1_aThing 22 = .ok (.return_, 1) := dk_177 (dk_at dksX1_aThing_0 22 rfl rfl)
abbrev cX1_word : ByteArray := prog_1_method_14_code
def yX1_word : MethodName := ⟨RX1, "word", "(IIII)I"⟩
def dkwX1_word_5 : List UInt8 := [172]
abbrev dktX1_word_5 : List UInt8 := dkwX1_word_5 ++ []
def dkwX1_word_4 : List UInt8 := [4, 100, 184, 0, 140, 153, 0, 7, 4, 167, 0, 4, 3, 184, 0, 144, 25, 5, 180, 0, 187, 21, 4, 51]
abbrev dktX1_word_4 : List UInt8 := dkwX1_word_4 ++ dktX1_word_5
def dkwX1_word_3 : List UInt8 := [167, 0, 9, 25, 5, 180, 0, 187, 190, 172, 25, 5, 198, 0, 24, 21, 4, 3, 25, 5, 180, 0, 187, 190]
abbrev dktX1_word_3 : List UInt8 := dkwX1_word_3 ++ dktX1_word_4
def dkwX1_word_2 : List UInt8 := [42, 180, 0, 16, 27, 28, 29, 182, 0, 183, 58, 5, 21, 4, 2, 160, 0, 19, 25, 5, 199, 0, 7, 3]
abbrev dktX1_word_2 : List UInt8 := dkwX1_word_2 ++ dktX1_word_3
def dkwX1_word_1 : List UInt8 := [5, 184, 0, 140, 153, 0, 16, 29, 3, 7, 184, 0, 140, 153, 0, 7, 4, 167, 0, 4, 3, 184, 0, 144]
abbrev dktX1_word_1 : List UInt8 := dkwX1_word_1 ++ dktX1_word_2
def dkwX1_word_0 : List UInt8 := [27, 3, 42, 180, 0, 16, 180, 0, 110, 185, 0, 113, 1, 0, 4, 100, 184, 0, 140, 153, 0, 25, 28, 3]
abbrev dktX1_word_0 : List UInt8 := dkwX1_word_0 ++ dktX1_word_1
theorem dksX1_word_0 : cX1_word.data.toList.drop 0 = dktX1_word_0 := by decide +kernel
theorem dksX1_word_1 : cX1_word.data.toList.drop 24 = dktX1_word_1 := dk_seg dksX1_word_0 24 rfl rfl
theorem dksX1_word_2 : cX1_word.data.toList.drop 48 = dktX1_word_2 := dk_seg dksX1_word_1 24 rfl rfl
theorem dksX1_word_3 : cX1_word.data.toList.drop 72 = dktX1_word_3 := dk_seg dksX1_word_2 24 rfl rfl
theorem dksX1_word_4 : cX1_word.data.toList.drop 96 = dktX1_word_4 := dk_seg dksX1_word_3 24 rfl rfl
theorem dksX1_word_5 : cX1_word.data.toList.drop 120 = dktX1_word_5 := dk_seg dksX1_word_4 24 rfl rfl
theorem dX1_word_0 : decode cX1_word 0 = .ok (.iload_n 1, 1) := dk_27 (dk_at dksX1_word_0 0 rfl rfl)
theorem dX1_word_1 : decode cX1_word 1 = .ok (.iconst 0, 1) := dk_3 (dk_at dksX1_word_0 1 rfl rfl)
theorem dX1_word_2 : decode cX1_word 2 = .ok (.aload_n 0, 1) := dk_42 (dk_at dksX1_word_0 2 rfl rfl)
theorem dX1_word_3 : decode cX1_word 3 = .ok (.getfield 16, 3) := dk_180 0 16 (dk_at dksX1_word_0 3 rfl rfl)
theorem dX1_word_6 : decode cX1_word 6 = .ok (.getfield 110, 3) := dk_180 0 110 (dk_at dksX1_word_0 6 rfl rfl)
theorem dX1_word_9 : decode cX1_word 9 = .ok (.invokeinterface 113 1, 5) := by decide +kernel
theorem dX1_word_14 : decode cX1_word 14 = .ok (.iconst 1, 1) := dk_4 (dk_at dksX1_word_0 14 rfl rfl)
theorem dX1_word_15 : decode cX1_word 15 = .ok (.isub, 1) := dk_100 (dk_at dksX1_word_0 15 rfl rfl)
theorem dX1_word_16 : decode cX1_word 16 = .ok (.invokestatic 140, 3) := dk_184 0 140 (dk_at dksX1_word_0 16 rfl rfl)
theorem dX1_word_19 : decode cX1_word 19 = .ok (.ifCond .eq 25, 3) := dk_153 0 25 (dk_at dksX1_word_0 19 rfl rfl)
theorem dX1_word_22 : decode cX1_word 22 = .ok (.iload_n 2, 1) := dk_28 (dk_at dksX1_word_0 22 rfl rfl)
theorem dX1_word_23 : decode cX1_word 23 = .ok (.iconst 0, 1) := dk_3 (dk_at dksX1_word_0 23 rfl rfl)
theorem dX1_word_24 : decode cX1_word 24 = .ok (.iconst 2, 1) := dk_5 (dk_at dksX1_word_1 0 rfl rfl)
theorem dX1_word_25 : decode cX1_word 25 = .ok (.invokestatic 140, 3) := dk_184 0 140 (dk_at dksX1_word_1 1 rfl rfl)
theorem dX1_word_28 : decode cX1_word 28 = .ok (.ifCond .eq 16, 3) := dk_153 0 16 (dk_at dksX1_word_1 4 rfl rfl)
theorem dX1_word_31 : decode cX1_word 31 = .ok (.iload_n 3, 1) := dk_29 (dk_at dksX1_word_1 7 rfl rfl)
theorem dX1_word_32 : decode cX1_word 32 = .ok (.iconst 0, 1) := dk_3 (dk_at dksX1_word_1 8 rfl rfl)
theorem dX1_word_33 : decode cX1_word 33 = .ok (.iconst 4, 1) := dk_7 (dk_at dksX1_word_1 9 rfl rfl)
theorem dX1_word_34 : decode cX1_word 34 = .ok (.invokestatic 140, 3) := dk_184 0 140 (dk_at dksX1_word_1 10 rfl rfl)
theorem dX1_word_37 : decode cX1_word 37 = .ok (.ifCond .eq 7, 3) := dk_153 0 7 (dk_at dksX1_word_1 13 rfl rfl)
theorem dX1_word_40 : decode cX1_word 40 = .ok (.iconst 1, 1) := dk_4 (dk_at dksX1_word_1 16 rfl rfl)
theorem dX1_word_41 : decode cX1_word 41 = .ok (.goto 4, 3) := dk_167 0 4 (dk_at dksX1_word_1 17 rfl rfl)
theorem dX1_word_44 : decode cX1_word 44 = .ok (.iconst 0, 1) := dk_3 (dk_at dksX1_word_1 20 rfl rfl)
theorem dX1_word_45 : decode cX1_word 45 = .ok (.invokestatic 144, 3) := dk_184 0 144 (dk_at dksX1_word_1 21 rfl rfl)
theorem dX1_word_48 : decode cX1_word 48 = .ok (.aload_n 0, 1) := dk_42 (dk_at dksX1_word_2 0 rfl rfl)
theorem dX1_word_49 : decode cX1_word 49 = .ok (.getfield 16, 3) := dk_180 0 16 (dk_at dksX1_word_2 1 rfl rfl)
theorem dX1_word_52 : decode cX1_word 52 = .ok (.iload_n 1, 1) := dk_27 (dk_at dksX1_word_2 4 rfl rfl)
theorem dX1_word_53 : decode cX1_word 53 = .ok (.iload_n 2, 1) := dk_28 (dk_at dksX1_word_2 5 rfl rfl)
theorem dX1_word_54 : decode cX1_word 54 = .ok (.iload_n 3, 1) := dk_29 (dk_at dksX1_word_2 6 rfl rfl)
theorem dX1_word_55 : decode cX1_word 55 = .ok (.invokevirtual 183, 3) := dk_182 0 183 (dk_at dksX1_word_2 7 rfl rfl)
theorem dX1_word_58 : decode cX1_word 58 = .ok (.astore 5, 2) := dk_58 5 (dk_at dksX1_word_2 10 rfl rfl)
theorem dX1_word_60 : decode cX1_word 60 = .ok (.iload 4, 2) := dk_21 4 (dk_at dksX1_word_2 12 rfl rfl)
theorem dX1_word_62 : decode cX1_word 62 = .ok (.iconst (-1), 1) := dk_2 (dk_at dksX1_word_2 14 rfl rfl)
theorem dX1_word_63 : decode cX1_word 63 = .ok (.if_icmp .ne 19, 3) := dk_160 0 19 (dk_at dksX1_word_2 15 rfl rfl)
theorem dX1_word_66 : decode cX1_word 66 = .ok (.aload 5, 2) := dk_25 5 (dk_at dksX1_word_2 18 rfl rfl)
theorem dX1_word_68 : decode cX1_word 68 = .ok (.ifnonnull 7, 3) := dk_199 0 7 (dk_at dksX1_word_2 20 rfl rfl)
theorem dX1_word_71 : decode cX1_word 71 = .ok (.iconst 0, 1) := dk_3 (dk_at dksX1_word_2 23 rfl rfl)
theorem dX1_word_72 : decode cX1_word 72 = .ok (.goto 9, 3) := dk_167 0 9 (dk_at dksX1_word_3 0 rfl rfl)
theorem dX1_word_75 : decode cX1_word 75 = .ok (.aload 5, 2) := dk_25 5 (dk_at dksX1_word_3 3 rfl rfl)
theorem dX1_word_77 : decode cX1_word 77 = .ok (.getfield 187, 3) := dk_180 0 187 (dk_at dksX1_word_3 5 rfl rfl)
theorem dX1_word_80 : decode cX1_word 80 = .ok (.arraylength, 1) := dk_190 (dk_at dksX1_word_3 8 rfl rfl)
theorem dX1_word_81 : decode cX1_word 81 = .ok (.ireturn, 1) := dk_172 (dk_at dksX1_word_3 9 rfl rfl)
theorem dX1_word_82 : decode cX1_word 82 = .ok (.aload 5, 2) := dk_25 5 (dk_at dksX1_word_3 10 rfl rfl)
theorem dX1_word_84 : decode cX1_word 84 = .ok (.ifnull 24, 3) := dk_198 0 24 (dk_at dksX1_word_3 12 rfl rfl)
theorem dX1_word_87 : decode cX1_word 87 = .ok (.iload 4, 2) := dk_21 4 (dk_at dksX1_word_3 15 rfl rfl)
theorem dX1_word_89 : decode cX1_word 89 = .ok (.iconst 0, 1) := dk_3 (dk_at dksX1_word_3 17 rfl rfl)
theorem dX1_word_90 : decode cX1_word 90 = .ok (.aload 5, 2) := dk_25 5 (dk_at dksX1_word_3 18 rfl rfl)
theorem dX1_word_92 : decode cX1_word 92 = .ok (.getfield 187, 3) := dk_180 0 187 (dk_at dksX1_word_3 20 rfl rfl)
theorem dX1_word_95 : decode cX1_word 95 = .ok (.arraylength, 1) := dk_190 (dk_at dksX1_word_3 23 rfl rfl)
theorem dX1_word_96 : decode cX1_word 96 = .ok (.iconst 1, 1) := dk_4 (dk_at dksX1_word_4 0 rfl rfl)
theorem dX1_word_97 : decode cX1_word 97 = .ok (.isub, 1) := dk_100 (dk_at dksX1_word_4 1 rfl rfl)
theorem dX1_word_98 : decode cX1_word 98 = .ok (.invokestatic 140, 3) := dk_184 0 140 (dk_at dksX1_word_4 2 rfl rfl)
theorem dX1_word_101 : decode cX1_word 101 = .ok (.ifCond .eq 7, 3) := dk_153 0 7 (dk_at dksX1_word_4 5 rfl rfl)
theorem dX1_word_104 : decode cX1_word 104 = .ok (.iconst 1, 1) := dk_4 (dk_at dksX1_word_4 8 rfl rfl)
theorem dX1_word_105 : decode cX1_word 105 = .ok (.goto 4, 3) := dk_167 0 4 (dk_at dksX1_word_4 9 rfl rfl)
theorem dX1_word_108 : decode cX1_word 108 = .ok (.iconst 0, 1) := dk_3 (dk_at dksX1_word_4 12 rfl rfl)
theorem dX1_word_109 : decode cX1_word 109 = .ok (.invokestatic 144, 3) := dk_184 0 144 (dk_at dksX1_word_4 13 rfl rfl)
theorem dX1_word_112 : decode cX1_word 112 = .ok (.aload 5, 2) := dk_25 5 (dk_at dksX1_word_4 16 rfl rfl)
theorem dX1_word_114 : decode cX1_word 114 = .ok (.getfield 187, 3) := dk_180 0 187 (dk_at dksX1_word_4 18 rfl rfl)
theorem dX1_word_117 : decode cX1_word 117 = .ok (.iload 4, 2) := dk_21 4 (dk_at dksX1_word_4 21 rfl rfl)
theorem dX1_word_119 : decode cX1_word 119 = .ok (.baload, 1) := dk_51 (dk_at dksX1_word_4 23 rfl rfl)
theorem dX1_word_120 : decode cX1_word 120 = .ok (.ireturn, 1) := dk_172 (dk_at dksX1_word_5 0 rfl rfl)
abbrev cX1_apart : ByteArray := prog_1_method_16_code
def yX1_apart : MethodName := ⟨RX1, "apart", "(I)I"⟩
def dkwX1_apart_4 : List UInt8 := [182, 0, 199, 167, 0, 4, 3, 181, 0, 203, 42, 180, 0, 203, 172]
abbrev dktX1_apart_4 : List UInt8 := dkwX1_apart_4 ++ []
def dkwX1_apart_3 : List UInt8 := [16, 122, 184, 0, 140, 126, 62, 132, 4, 1, 167, 255, 230, 42, 29, 153, 0, 15, 42, 44, 42, 180, 0, 71]
abbrev dktX1_apart_3 : List UInt8 := dkwX1_apart_3 ++ dktX1_apart_4
def dkwX1_apart_2 : List UInt8 := [167, 0, 4, 3, 62, 3, 54, 4, 21, 4, 27, 162, 0, 26, 29, 44, 180, 0, 187, 21, 4, 51, 16, 97]
abbrev dktX1_apart_2 : List UInt8 := dkwX1_apart_2 ++ dktX1_apart_3
def dkwX1_apart_1 : List UInt8 := [181, 0, 74, 187, 0, 188, 89, 42, 180, 0, 59, 3, 27, 183, 0, 196, 77, 27, 158, 0, 7, 4]
abbrev dktX1_apart_1 : List UInt8 := dkwX1_apart_1 ++ dktX1_apart_2
def dkwX1_apart_0 : List UInt8 := [27, 155, 0, 15, 27, 42, 180, 0, 74, 163, 0, 7, 4, 167, 0, 4, 3, 184, 0, 77, 42, 3]
abbrev dktX1_apart_0 : List UInt8 := dkwX1_apart_0 ++ dktX1_apart_1
theorem dksX1_apart_0 : cX1_apart.data.toList.drop 0 = dktX1_apart_0 := by decide +kernel
theorem dksX1_apart_1 : cX1_apart.data.toList.drop 22 = dktX1_apart_1 := dk_seg dksX1_apart_0 22 rfl rfl
theorem dksX1_apart_2 : cX1_apart.data.toList.drop 44 = dktX1_apart_2 := dk_seg dksX1_apart_1 22 rfl rfl
theorem dksX1_apart_3 : cX1_apart.data.toList.drop 68 = dktX1_apart_3 := dk_seg dksX1_apart_2 24 rfl rfl
theorem dksX1_apart_4 : cX1_apart.data.toList.drop 92 = dktX1_apart_4 := dk_seg dksX1_apart_3 24 rfl rfl
theorem dX1_apart_0 : decode cX1_apart 0 = .ok (.iload_n 1, 1) := dk_27 (dk_at dksX1_apart_0 0 rfl rfl)
theorem dX1_apart_1 : decode cX1_apart 1 = .ok (.ifCond .lt 15, 3) := dk_155 0 15 (dk_at dksX1_apart_0 1 rfl rfl)
theorem dX1_apart_4 : decode cX1_apart 4 = .ok (.iload_n 1, 1) := dk_27 (dk_at dksX1_apart_0 4 rfl rfl)
theorem dX1_apart_5 : decode cX1_apart 5 = .ok (.aload_n 0, 1) := dk_42 (dk_at dksX1_apart_0 5 rfl rfl)
theorem dX1_apart_6 : decode cX1_apart 6 = .ok (.getfield 74, 3) := dk_180 0 74 (dk_at dksX1_apart_0 6 rfl rfl)
theorem dX1_apart_9 : decode cX1_apart 9 = .ok (.if_icmp .gt 7, 3) := dk_163 0 7 (dk_at dksX1_apart_0 9 rfl rfl)
theorem dX1_apart_12 : decode cX1_apart 12 = .ok (.iconst 1, 1) := dk_4 (dk_at dksX1_apart_0 12 rfl rfl)
theorem dX1_apart_13 : decode cX1_apart 13 = .ok (.goto 4, 3) := dk_167 0 4 (dk_at dksX1_apart_0 13 rfl rfl)
theorem dX1_apart_16 : decode cX1_apart 16 = .ok (.iconst 0, 1) := dk_3 (dk_at dksX1_apart_0 16 rfl rfl)
theorem dX1_apart_17 : decode cX1_apart 17 = .ok (.invokestatic 77, 3) := dk_184 0 77 (dk_at dksX1_apart_0 17 rfl rfl)
theorem dX1_apart_20 : decode cX1_apart 20 = .ok (.aload_n 0, 1) := dk_42 (dk_at dksX1_apart_0 20 rfl rfl)
theorem dX1_apart_21 : decode cX1_apart 21 = .ok (.iconst 0, 1) := dk_3 (dk_at dksX1_apart_0 21 rfl rfl)
theorem dX1_apart_22 : decode cX1_apart 22 = .ok (.putfield 74, 3) := dk_181 0 74 (dk_at dksX1_apart_1 0 rfl rfl)
theorem dX1_apart_25 : decode cX1_apart 25 = .ok (.new 188, 3) := dk_187 0 188 (dk_at dksX1_apart_1 3 rfl rfl)
theorem dX1_apart_28 : decode cX1_apart 28 = .ok (.dup, 1) := dk_89 (dk_at dksX1_apart_1 6 rfl rfl)
theorem dX1_apart_29 : decode cX1_apart 29 = .ok (.aload_n 0, 1) := dk_42 (dk_at dksX1_apart_1 7 rfl rfl)
theorem dX1_apart_30 : decode cX1_apart 30 = .ok (.getfield 59, 3) := dk_180 0 59 (dk_at dksX1_apart_1 8 rfl rfl)
theorem dX1_apart_33 : decode cX1_apart 33 = .ok (.iconst 0, 1) := dk_3 (dk_at dksX1_apart_1 11 rfl rfl)
theorem dX1_apart_34 : decode cX1_apart 34 = .ok (.iload_n 1, 1) := dk_27 (dk_at dksX1_apart_1 12 rfl rfl)
theorem dX1_apart_35 : decode cX1_apart 35 = .ok (.invokespecial 196, 3) := dk_183 0 196 (dk_at dksX1_apart_1 13 rfl rfl)
theorem dX1_apart_38 : decode cX1_apart 38 = .ok (.astore_n 2, 1) := dk_77 (dk_at dksX1_apart_1 16 rfl rfl)
theorem dX1_apart_39 : decode cX1_apart 39 = .ok (.iload_n 1, 1) := dk_27 (dk_at dksX1_apart_1 17 rfl rfl)
theorem dX1_apart_40 : decode cX1_apart 40 = .ok (.ifCond .le 7, 3) := dk_158 0 7 (dk_at dksX1_apart_1 18 rfl rfl)
theorem dX1_apart_43 : decode cX1_apart 43 = .ok (.iconst 1, 1) := dk_4 (dk_at dksX1_apart_1 21 rfl rfl)
theorem dX1_apart_44 : decode cX1_apart 44 = .ok (.goto 4, 3) := dk_167 0 4 (dk_at dksX1_apart_2 0 rfl rfl)
theorem dX1_apart_47 : decode cX1_apart 47 = .ok (.iconst 0, 1) := dk_3 (dk_at dksX1_apart_2 3 rfl rfl)
theorem dX1_apart_48 : decode cX1_apart 48 = .ok (.istore_n 3, 1) := dk_62 (dk_at dksX1_apart_2 4 rfl rfl)
theorem dX1_apart_49 : decode cX1_apart 49 = .ok (.iconst 0, 1) := dk_3 (dk_at dksX1_apart_2 5 rfl rfl)
theorem dX1_apart_50 : decode cX1_apart 50 = .ok (.istore 4, 2) := dk_54 4 (dk_at dksX1_apart_2 6 rfl rfl)
theorem dX1_apart_52 : decode cX1_apart 52 = .ok (.iload 4, 2) := dk_21 4 (dk_at dksX1_apart_2 8 rfl rfl)
theorem dX1_apart_54 : decode cX1_apart 54 = .ok (.iload_n 1, 1) := dk_27 (dk_at dksX1_apart_2 10 rfl rfl)
theorem dX1_apart_55 : decode cX1_apart 55 = .ok (.if_icmp .ge 26, 3) := dk_162 0 26 (dk_at dksX1_apart_2 11 rfl rfl)
theorem dX1_apart_58 : decode cX1_apart 58 = .ok (.iload_n 3, 1) := dk_29 (dk_at dksX1_apart_2 14 rfl rfl)
theorem dX1_apart_59 : decode cX1_apart 59 = .ok (.aload_n 2, 1) := dk_44 (dk_at dksX1_apart_2 15 rfl rfl)
theorem dX1_apart_60 : decode cX1_apart 60 = .ok (.getfield 187, 3) := dk_180 0 187 (dk_at dksX1_apart_2 16 rfl rfl)
theorem dX1_apart_63 : decode cX1_apart 63 = .ok (.iload 4, 2) := dk_21 4 (dk_at dksX1_apart_2 19 rfl rfl)
theorem dX1_apart_65 : decode cX1_apart 65 = .ok (.baload, 1) := dk_51 (dk_at dksX1_apart_2 21 rfl rfl)
theorem dX1_apart_66 : decode cX1_apart 66 = .ok (.bipush 97, 2) := dk_16 97 (dk_at dksX1_apart_2 22 rfl rfl)
theorem dX1_apart_68 : decode cX1_apart 68 = .ok (.bipush 122, 2) := dk_16 122 (dk_at dksX1_apart_3 0 rfl rfl)
theorem dX1_apart_70 : decode cX1_apart 70 = .ok (.invokestatic 140, 3) := dk_184 0 140 (dk_at dksX1_apart_3 2 rfl rfl)
theorem dX1_apart_73 : decode cX1_apart 73 = .ok (.iand, 1) := dk_126 (dk_at dksX1_apart_3 5 rfl rfl)
theorem dX1_apart_74 : decode cX1_apart 74 = .ok (.istore_n 3, 1) := dk_62 (dk_at dksX1_apart_3 6 rfl rfl)
theorem dX1_apart_75 : decode cX1_apart 75 = .ok (.iinc 4 1, 3) := dk_132 4 1 (dk_at dksX1_apart_3 7 rfl rfl)
theorem dX1_apart_78 : decode cX1_apart 78 = .ok (.goto (-26), 3) := dk_167 255 230 (dk_at dksX1_apart_3 10 rfl rfl)
theorem dX1_apart_81 : decode cX1_apart 81 = .ok (.aload_n 0, 1) := dk_42 (dk_at dksX1_apart_3 13 rfl rfl)
theorem dX1_apart_82 : decode cX1_apart 82 = .ok (.iload_n 3, 1) := dk_29 (dk_at dksX1_apart_3 14 rfl rfl)
theorem dX1_apart_83 : decode cX1_apart 83 = .ok (.ifCond .eq 15, 3) := dk_153 0 15 (dk_at dksX1_apart_3 15 rfl rfl)
theorem dX1_apart_86 : decode cX1_apart 86 = .ok (.aload_n 0, 1) := dk_42 (dk_at dksX1_apart_3 18 rfl rfl)
theorem dX1_apart_87 : decode cX1_apart 87 = .ok (.aload_n 2, 1) := dk_44 (dk_at dksX1_apart_3 19 rfl rfl)
theorem dX1_apart_88 : decode cX1_apart 88 = .ok (.aload_n 0, 1) := dk_42 (dk_at dksX1_apart_3 20 rfl rfl)
theorem dX1_apart_89 : decode cX1_apart 89 = .ok (.getfield 71, 3) := dk_180 0 71 (dk_at dksX1_apart_3 21 rfl rfl)
theorem dX1_apart_92 : decode cX1_apart 92 = .ok (.invokevirtual 199, 3) := dk_182 0 199 (dk_at dksX1_apart_4 0 rfl rfl)
theorem dX1_apart_95 : decode cX1_apart 95 = .ok (.goto 4, 3) := dk_167 0 4 (dk_at dksX1_apart_4 3 rfl rfl)
theorem dX1_apart_98 : decode cX1_apart 98 = .ok (.iconst 0, 1) := dk_3 (dk_at dksX1_apart_4 6 rfl rfl)
theorem dX1_apart_99 : decode cX1_apart 99 = .ok (.putfield 203, 3) := dk_181 0 203 (dk_at dksX1_apart_4 7 rfl rfl)
theorem dX1_apart_102 : decode cX1_apart 102 = .ok (.aload_n 0, 1) := dk_42 (dk_at dksX1_apart_4 10 rfl rfl)
theorem dX1_apart_103 : decode cX1_apart 103 = .ok (.getfield 203, 3) := dk_180 0 203 (dk_at dksX1_apart_4 11 rfl rfl)
theorem dX1_apart_106 : decode cX1_apart 106 = .ok (.ireturn, 1) := dk_172 (dk_at dksX1_apart_4 14 rfl rfl)
abbrev cX1_waysOf : ByteArray := prog_1_method_15_code
def yX1_waysOf : MethodName := ⟨RX1, "waysOf", "(LEndingTown$Letters;[I)I"⟩
def dkwX1_waysOf_4 : List UInt8 := [29, 172]
abbrev dktX1_waysOf_4 : List UInt8 := dkwX1_waysOf_4 ++ []
def dkwX1_waysOf_3 : List UInt8 := [16, 15, 21, 4, 104, 21, 5, 96, 79, 132, 3, 1, 132, 5, 1, 167, 255, 196, 132, 4, 1, 167, 255, 170]
abbrev dktX1_waysOf_3 : List UInt8 := dkwX1_waysOf_3 ++ dktX1_waysOf_4
def dkwX1_waysOf_2 : List UInt8 := [182, 0, 183, 58, 6, 25, 6, 198, 0, 29, 25, 6, 43, 182, 0, 192, 154, 0, 6, 167, 0, 17, 44, 29]
abbrev dktX1_waysOf_2 : List UInt8 := dkwX1_waysOf_2 ++ dktX1_waysOf_3
def dkwX1_waysOf_1 : List UInt8 := [54, 5, 21, 5, 16, 15, 162, 0, 59, 42, 180, 0, 16, 21, 4, 21, 5, 8, 108, 21, 5, 8, 112]
abbrev dktX1_waysOf_1 : List UInt8 := dkwX1_waysOf_1 ++ dktX1_waysOf_2
def dkwX1_waysOf_0 : List UInt8 := [3, 62, 3, 54, 4, 21, 4, 42, 180, 0, 16, 180, 0, 110, 185, 0, 113, 1, 0, 162, 0, 75, 3]
abbrev dktX1_waysOf_0 : List UInt8 := dkwX1_waysOf_0 ++ dktX1_waysOf_1
theorem dksX1_waysOf_0 : cX1_waysOf.data.toList.drop 0 = dktX1_waysOf_0 := by decide +kernel
theorem dksX1_waysOf_1 : cX1_waysOf.data.toList.drop 23 = dktX1_waysOf_1 := dk_seg dksX1_waysOf_0 23 rfl rfl
theorem dksX1_waysOf_2 : cX1_waysOf.data.toList.drop 46 = dktX1_waysOf_2 := dk_seg dksX1_waysOf_1 23 rfl rfl
theorem dksX1_waysOf_3 : cX1_waysOf.data.toList.drop 70 = dktX1_waysOf_3 := dk_seg dksX1_waysOf_2 24 rfl rfl
theorem dksX1_waysOf_4 : cX1_waysOf.data.toList.drop 94 = dktX1_waysOf_4 := dk_seg dksX1_waysOf_3 24 rfl rfl
theorem dX1_waysOf_0 : decode cX1_waysOf 0 = .ok (.iconst 0, 1) := dk_3 (dk_at dksX1_waysOf_0 0 rfl rfl)
theorem dX1_waysOf_1 : decode cX1_waysOf 1 = .ok (.istore_n 3, 1) := dk_62 (dk_at dksX1_waysOf_0 1 rfl rfl)
theorem dX1_waysOf_2 : decode cX1_waysOf 2 = .ok (.iconst 0, 1) := dk_3 (dk_at dksX1_waysOf_0 2 rfl rfl)
theorem dX1_waysOf_3 : decode cX1_waysOf 3 = .ok (.istore 4, 2) := dk_54 4 (dk_at dksX1_waysOf_0 3 rfl rfl)
theorem dX1_waysOf_5 : decode cX1_waysOf 5 = .ok (.iload 4, 2) := dk_21 4 (dk_at dksX1_waysOf_0 5 rfl rfl)
theorem dX1_waysOf_7 : decode cX1_waysOf 7 = .ok (.aload_n 0, 1) := dk_42 (dk_at dksX1_waysOf_0 7 rfl rfl)
theorem dX1_waysOf_8 : decode cX1_waysOf 8 = .ok (.getfield 16, 3) := dk_180 0 16 (dk_at dksX1_waysOf_0 8 rfl rfl)
theorem dX1_waysOf_11 : decode cX1_waysOf 11 = .ok (.getfield 110, 3) := dk_180 0 110 (dk_at dksX1_waysOf_0 11 rfl rfl)
theorem dX1_waysOf_14 : decode cX1_waysOf 14 = .ok (.invokeinterface 113 1, 5) := by decide +kernel
theorem dX1_waysOf_19 : decode cX1_waysOf 19 = .ok (.if_icmp .ge 75, 3) := dk_162 0 75 (dk_at dksX1_waysOf_0 19 rfl rfl)
theorem dX1_waysOf_22 : decode cX1_waysOf 22 = .ok (.iconst 0, 1) := dk_3 (dk_at dksX1_waysOf_0 22 rfl rfl)
theorem dX1_waysOf_23 : decode cX1_waysOf 23 = .ok (.istore 5, 2) := dk_54 5 (dk_at dksX1_waysOf_1 0 rfl rfl)
theorem dX1_waysOf_25 : decode cX1_waysOf 25 = .ok (.iload 5, 2) := dk_21 5 (dk_at dksX1_waysOf_1 2 rfl rfl)
theorem dX1_waysOf_27 : decode cX1_waysOf 27 = .ok (.bipush 15, 2) := dk_16 15 (dk_at dksX1_waysOf_1 4 rfl rfl)
theorem dX1_waysOf_29 : decode cX1_waysOf 29 = .ok (.if_icmp .ge 59, 3) := dk_162 0 59 (dk_at dksX1_waysOf_1 6 rfl rfl)
theorem dX1_waysOf_32 : decode cX1_waysOf 32 = .ok (.aload_n 0, 1) := dk_42 (dk_at dksX1_waysOf_1 9 rfl rfl)
theorem dX1_waysOf_33 : decode cX1_waysOf 33 = .ok (.getfield 16, 3) := dk_180 0 16 (dk_at dksX1_waysOf_1 10 rfl rfl)
theorem dX1_waysOf_36 : decode cX1_waysOf 36 = .ok (.iload 4, 2) := dk_21 4 (dk_at dksX1_waysOf_1 13 rfl rfl)
theorem dX1_waysOf_38 : decode cX1_waysOf 38 = .ok (.iload 5, 2) := dk_21 5 (dk_at dksX1_waysOf_1 15 rfl rfl)
theorem dX1_waysOf_40 : decode cX1_waysOf 40 = .ok (.iconst 5, 1) := dk_8 (dk_at dksX1_waysOf_1 17 rfl rfl)
theorem dX1_waysOf_41 : decode cX1_waysOf 41 = .ok (.idiv, 1) := dk_108 (dk_at dksX1_waysOf_1 18 rfl rfl)
theorem dX1_waysOf_42 : decode cX1_waysOf 42 = .ok (.iload 5, 2) := dk_21 5 (dk_at dksX1_waysOf_1 19 rfl rfl)
theorem dX1_waysOf_44 : decode cX1_waysOf 44 = .ok (.iconst 5, 1) := dk_8 (dk_at dksX1_waysOf_1 21 rfl rfl)
theorem dX1_waysOf_45 : decode cX1_waysOf 45 = .ok (.irem, 1) := dk_112 (dk_at dksX1_waysOf_1 22 rfl rfl)
theorem dX1_waysOf_46 : decode cX1_waysOf 46 = .ok (.invokevirtual 183, 3) := dk_182 0 183 (dk_at dksX1_waysOf_2 0 rfl rfl)
theorem dX1_waysOf_49 : decode cX1_waysOf 49 = .ok (.astore 6, 2) := dk_58 6 (dk_at dksX1_waysOf_2 3 rfl rfl)
theorem dX1_waysOf_51 : decode cX1_waysOf 51 = .ok (.aload 6, 2) := dk_25 6 (dk_at dksX1_waysOf_2 5 rfl rfl)
theorem dX1_waysOf_53 : decode cX1_waysOf 53 = .ok (.ifnull 29, 3) := dk_198 0 29 (dk_at dksX1_waysOf_2 7 rfl rfl)
theorem dX1_waysOf_56 : decode cX1_waysOf 56 = .ok (.aload 6, 2) := dk_25 6 (dk_at dksX1_waysOf_2 10 rfl rfl)
theorem dX1_waysOf_58 : decode cX1_waysOf 58 = .ok (.aload_n 1, 1) := dk_43 (dk_at dksX1_waysOf_2 12 rfl rfl)
theorem dX1_waysOf_59 : decode cX1_waysOf 59 = .ok (.invokevirtual 192, 3) := dk_182 0 192 (dk_at dksX1_waysOf_2 13 rfl rfl)
theorem dX1_waysOf_62 : decode cX1_waysOf 62 = .ok (.ifCond .ne 6, 3) := dk_154 0 6 (dk_at dksX1_waysOf_2 16 rfl rfl)
theorem dX1_waysOf_65 : decode cX1_waysOf 65 = .ok (.goto 17, 3) := dk_167 0 17 (dk_at dksX1_waysOf_2 19 rfl rfl)
theorem dX1_waysOf_68 : decode cX1_waysOf 68 = .ok (.aload_n 2, 1) := dk_44 (dk_at dksX1_waysOf_2 22 rfl rfl)
theorem dX1_waysOf_69 : decode cX1_waysOf 69 = .ok (.iload_n 3, 1) := dk_29 (dk_at dksX1_waysOf_2 23 rfl rfl)
theorem dX1_waysOf_70 : decode cX1_waysOf 70 = .ok (.bipush 15, 2) := dk_16 15 (dk_at dksX1_waysOf_3 0 rfl rfl)
theorem dX1_waysOf_72 : decode cX1_waysOf 72 = .ok (.iload 4, 2) := dk_21 4 (dk_at dksX1_waysOf_3 2 rfl rfl)
theorem dX1_waysOf_74 : decode cX1_waysOf 74 = .ok (.imul, 1) := dk_104 (dk_at dksX1_waysOf_3 4 rfl rfl)
theorem dX1_waysOf_75 : decode cX1_waysOf 75 = .ok (.iload 5, 2) := dk_21 5 (dk_at dksX1_waysOf_3 5 rfl rfl)
theorem dX1_waysOf_77 : decode cX1_waysOf 77 = .ok (.iadd, 1) := dk_96 (dk_at dksX1_waysOf_3 7 rfl rfl)
theorem dX1_waysOf_78 : decode cX1_waysOf 78 = .ok (.iastore, 1) := dk_79 (dk_at dksX1_waysOf_3 8 rfl rfl)
theorem dX1_waysOf_79 : decode cX1_waysOf 79 = .ok (.iinc 3 1, 3) := dk_132 3 1 (dk_at dksX1_waysOf_3 9 rfl rfl)
theorem dX1_waysOf_82 : decode cX1_waysOf 82 = .ok (.iinc 5 1, 3) := dk_132 5 1 (dk_at dksX1_waysOf_3 12 rfl rfl)
theorem dX1_waysOf_85 : decode cX1_waysOf 85 = .ok (.goto (-60), 3) := dk_167 255 196 (dk_at dksX1_waysOf_3 15 rfl rfl)
theorem dX1_waysOf_88 : decode cX1_waysOf 88 = .ok (.iinc 4 1, 3) := dk_132 4 1 (dk_at dksX1_waysOf_3 18 rfl rfl)
theorem dX1_waysOf_91 : decode cX1_waysOf 91 = .ok (.goto (-86), 3) := dk_167 255 170 (dk_at dksX1_waysOf_3 21 rfl rfl)
theorem dX1_waysOf_94 : decode cX1_waysOf 94 = .ok (.iload_n 3, 1) := dk_29 (dk_at dksX1_waysOf_4 0 rfl rfl)
theorem dX1_waysOf_95 : decode cX1_waysOf 95 = .ok (.ireturn, 1) := dk_172 (dk_at dksX1_waysOf_4 1 rfl rfl)
abbrev cX1_way : ByteArray := prog_1_method_17_code
def yX1_way : MethodName := ⟨RX1, "way", "(I)I"⟩
def dkwX1_way_0 : List UInt8 := [27, 3, 42, 180, 0, 203, 4, 100, 184, 0, 140, 184, 0, 144, 42, 180, 0, 71, 27, 46, 172]
abbrev dktX1_way_0 : List UInt8 := dkwX1_way_0 ++ []
theorem dksX1_way_0 : cX1_way.data.toList.drop 0 = dktX1_way_0 := by decide +kernel
theorem dX1_way_0 : decode cX1_way 0 = .ok (.iload_n 1, 1) := dk_27 (dk_at dksX1_way_0 0 rfl rfl)
theorem dX1_way_1 : decode cX1_way 1 = .ok (.iconst 0, 1) := dk_3 (dk_at dksX1_way_0 1 rfl rfl)
theorem dX1_way_2 : decode cX1_way 2 = .ok (.aload_n 0, 1) := dk_42 (dk_at dksX1_way_0 2 rfl rfl)
theorem dX1_way_3 : decode cX1_way 3 = .ok (.getfield 203, 3) := dk_180 0 203 (dk_at dksX1_way_0 3 rfl rfl)
theorem dX1_way_6 : decode cX1_way 6 = .ok (.iconst 1, 1) := dk_4 (dk_at dksX1_way_0 6 rfl rfl)
theorem dX1_way_7 : decode cX1_way 7 = .ok (.isub, 1) := dk_100 (dk_at dksX1_way_0 7 rfl rfl)
theorem dX1_way_8 : decode cX1_way 8 = .ok (.invokestatic 140, 3) := dk_184 0 140 (dk_at dksX1_way_0 8 rfl rfl)
theorem dX1_way_11 : decode cX1_way 11 = .ok (.invokestatic 144, 3) := dk_184 0 144 (dk_at dksX1_way_0 11 rfl rfl)
theorem dX1_way_14 : decode cX1_way 14 = .ok (.aload_n 0, 1) := dk_42 (dk_at dksX1_way_0 14 rfl rfl)
theorem dX1_way_15 : decode cX1_way 15 = .ok (.getfield 71, 3) := dk_180 0 71 (dk_at dksX1_way_0 15 rfl rfl)
theorem dX1_way_18 : decode cX1_way 18 = .ok (.iload_n 1, 1) := dk_27 (dk_at dksX1_way_0 18 rfl rfl)
theorem dX1_way_19 : decode cX1_way 19 = .ok (.iaload, 1) := dk_46 (dk_at dksX1_way_0 19 rfl rfl)
theorem dX1_way_20 : decode cX1_way 20 = .ok (.ireturn, 1) := dk_172 (dk_at dksX1_way_0 20 rfl rfl)
abbrev cX1_say : ByteArray := prog_1_method_20_code
def yX1_say : MethodName := ⟨RX1, "say", "(IIIIZ)I"⟩
def dkwX1_say_2 : List UInt8 := [42, 182, 0, 206, 172]
abbrev dktX1_say_2 : List UInt8 := dkwX1_say_2 ++ []
def dkwX1_say_1 : List UInt8 := [153, 0, 24, 42, 187, 0, 213, 89, 27, 28, 29, 21, 4, 21, 5, 183, 0, 215, 182, 0, 218, 167, 0, 7]
abbrev dktX1_say_1 : List UInt8 := dkwX1_say_1 ++ dktX1_say_2
def dkwX1_say_0 : List UInt8 := [42, 27, 182, 0, 147, 42, 28, 182, 0, 151, 42, 29, 182, 0, 158, 21, 4, 3, 7, 184, 0, 140]
abbrev dktX1_say_0 : List UInt8 := dkwX1_say_0 ++ dktX1_say_1
theorem dksX1_say_0 : cX1_say.data.toList.drop 0 = dktX1_say_0 := by decide +kernel
theorem dksX1_say_1 : cX1_say.data.toList.drop 22 = dktX1_say_1 := dk_seg dksX1_say_0 22 rfl rfl
theorem dksX1_say_2 : cX1_say.data.toList.drop 46 = dktX1_say_2 := dk_seg dksX1_say_1 24 rfl rfl
theorem dX1_say_0 : decode cX1_say 0 = .ok (.aload_n 0, 1) := dk_42 (dk_at dksX1_say_0 0 rfl rfl)
theorem dX1_say_1 : decode cX1_say 1 = .ok (.iload_n 1, 1) := dk_27 (dk_at dksX1_say_0 1 rfl rfl)
theorem dX1_say_2 : decode cX1_say 2 = .ok (.invokevirtual 147, 3) := dk_182 0 147 (dk_at dksX1_say_0 2 rfl rfl)
theorem dX1_say_5 : decode cX1_say 5 = .ok (.aload_n 0, 1) := dk_42 (dk_at dksX1_say_0 5 rfl rfl)
theorem dX1_say_6 : decode cX1_say 6 = .ok (.iload_n 2, 1) := dk_28 (dk_at dksX1_say_0 6 rfl rfl)
theorem dX1_say_7 : decode cX1_say 7 = .ok (.invokevirtual 151, 3) := dk_182 0 151 (dk_at dksX1_say_0 7 rfl rfl)
theorem dX1_say_10 : decode cX1_say 10 = .ok (.aload_n 0, 1) := dk_42 (dk_at dksX1_say_0 10 rfl rfl)
theorem dX1_say_11 : decode cX1_say 11 = .ok (.iload_n 3, 1) := dk_29 (dk_at dksX1_say_0 11 rfl rfl)
theorem dX1_say_12 : decode cX1_say 12 = .ok (.invokevirtual 158, 3) := dk_182 0 158 (dk_at dksX1_say_0 12 rfl rfl)
theorem dX1_say_15 : decode cX1_say 15 = .ok (.iload 4, 2) := dk_21 4 (dk_at dksX1_say_0 15 rfl rfl)
theorem dX1_say_17 : decode cX1_say 17 = .ok (.iconst 0, 1) := dk_3 (dk_at dksX1_say_0 17 rfl rfl)
theorem dX1_say_18 : decode cX1_say 18 = .ok (.iconst 4, 1) := dk_7 (dk_at dksX1_say_0 18 rfl rfl)
theorem dX1_say_19 : decode cX1_say 19 = .ok (.invokestatic 140, 3) := dk_184 0 140 (dk_at dksX1_say_0 19 rfl rfl)
theorem dX1_say_22 : decode cX1_say 22 = .ok (.ifCond .eq 24, 3) := dk_153 0 24 (dk_at dksX1_say_1 0 rfl rfl)
theorem dX1_say_25 : decode cX1_say 25 = .ok (.aload_n 0, 1) := dk_42 (dk_at dksX1_say_1 3 rfl rfl)
theorem dX1_say_26 : decode cX1_say 26 = .ok (.new 213, 3) := dk_187 0 213 (dk_at dksX1_say_1 4 rfl rfl)
theorem dX1_say_29 : decode cX1_say 29 = .ok (.dup, 1) := dk_89 (dk_at dksX1_say_1 7 rfl rfl)
theorem dX1_say_30 : decode cX1_say 30 = .ok (.iload_n 1, 1) := dk_27 (dk_at dksX1_say_1 8 rfl rfl)
theorem dX1_say_31 : decode cX1_say 31 = .ok (.iload_n 2, 1) := dk_28 (dk_at dksX1_say_1 9 rfl rfl)
theorem dX1_say_32 : decode cX1_say 32 = .ok (.iload_n 3, 1) := dk_29 (dk_at dksX1_say_1 10 rfl rfl)
theorem dX1_say_33 : decode cX1_say 33 = .ok (.iload 4, 2) := dk_21 4 (dk_at dksX1_say_1 11 rfl rfl)
theorem dX1_say_35 : decode cX1_say 35 = .ok (.iload 5, 2) := dk_21 5 (dk_at dksX1_say_1 13 rfl rfl)
theorem dX1_say_37 : decode cX1_say 37 = .ok (.invokespecial 215, 3) := dk_183 0 215 (dk_at dksX1_say_1 15 rfl rfl)
theorem dX1_say_40 : decode cX1_say 40 = .ok (.invokevirtual 218, 3) := dk_182 0 218 (dk_at dksX1_say_1 18 rfl rfl)
theorem dX1_say_43 : decode cX1_say 43 = .ok (.goto 7, 3) := dk_167 0 7 (dk_at dksX1_say_1 21 rfl rfl)
theorem dX1_say_46 : decode cX1_say 46 = .ok (.aload_n 0, 1) := dk_42 (dk_at dksX1_say_2 0 rfl rfl)
theorem dX1_say_47 : decode cX1_say 47 = .ok (.invokevirtual 206, 3) := dk_182 0 206 (dk_at dksX1_say_2 1 rfl rfl)
theorem dX1_say_50 : decode cX1_say 50 = .ok (.ireturn, 1) := dk_172 (dk_at dksX1_say_2 4 rfl rfl)
abbrev cX1_add : ByteArray := prog_1_method_19_code
def yX1_add : MethodName := ⟨RX1, "add", "(LEndingTown$Saying;)I"⟩
def dkwX1_add_1 : List UInt8 := [185, 0, 209, 2, 0, 87, 42, 180, 0, 25, 185, 0, 113, 1, 0, 172]
abbrev dktX1_add_1 : List UInt8 := dkwX1_add_1 ++ []
def dkwX1_add_0 : List UInt8 := [42, 180, 0, 25, 185, 0, 113, 1, 0, 16, 20, 160, 0, 8, 42, 182, 0, 206, 172, 42, 180, 0, 25, 43]
abbrev dktX1_add_0 : List UInt8 := dkwX1_add_0 ++ dktX1_add_1
theorem dksX1_add_0 : cX1_add.data.toList.drop 0 = dktX1_add_0 := by decide +kernel
theorem dksX1_add_1 : cX1_add.data.toList.drop 24 = dktX1_add_1 := dk_seg dksX1_add_0 24 rfl rfl
theorem dX1_add_0 : decode cX1_add 0 = .ok (.aload_n 0, 1) := dk_42 (dk_at dksX1_add_0 0 rfl rfl)
theorem dX1_add_1 : decode cX1_add 1 = .ok (.getfield 25, 3) := dk_180 0 25 (dk_at dksX1_add_0 1 rfl rfl)
theorem dX1_add_4 : decode cX1_add 4 = .ok (.invokeinterface 113 1, 5) := by decide +kernel
theorem dX1_add_9 : decode cX1_add 9 = .ok (.bipush 20, 2) := dk_16 20 (dk_at dksX1_add_0 9 rfl rfl)
theorem dX1_add_11 : decode cX1_add 11 = .ok (.if_icmp .ne 8, 3) := dk_160 0 8 (dk_at dksX1_add_0 11 rfl rfl)
theorem dX1_add_14 : decode cX1_add 14 = .ok (.aload_n 0, 1) := dk_42 (dk_at dksX1_add_0 14 rfl rfl)
theorem dX1_add_15 : decode cX1_add 15 = .ok (.invokevirtual 206, 3) := dk_182 0 206 (dk_at dksX1_add_0 15 rfl rfl)
theorem dX1_add_18 : decode cX1_add 18 = .ok (.ireturn, 1) := dk_172 (dk_at dksX1_add_0 18 rfl rfl)
theorem dX1_add_19 : decode cX1_add 19 = .ok (.aload_n 0, 1) := dk_42 (dk_at dksX1_add_0 19 rfl rfl)
theorem dX1_add_20 : decode cX1_add 20 = .ok (.getfield 25, 3) := dk_180 0 25 (dk_at dksX1_add_0 20 rfl rfl)
theorem dX1_add_23 : decode cX1_add 23 = .ok (.aload_n 1, 1) := dk_43 (dk_at dksX1_add_0 23 rfl rfl)
theorem dX1_add_24 : decode cX1_add 24 = .ok (.invokeinterface 209 2, 5) := by decide +kernel
theorem dX1_add_29 : decode cX1_add 29 = .ok (.pop, 1) := dk_87 (dk_at dksX1_add_1 5 rfl rfl)
theorem dX1_add_30 : decode cX1_add 30 = .ok (.aload_n 0, 1) := dk_42 (dk_at dksX1_add_1 6 rfl rfl)
theorem dX1_add_31 : decode cX1_add 31 = .ok (.getfield 25, 3) := dk_180 0 25 (dk_at dksX1_add_1 7 rfl rfl)
theorem dX1_add_34 : decode cX1_add 34 = .ok (.invokeinterface 113 1, 5) := by decide +kernel
theorem dX1_add_39 : decode cX1_add 39 = .ok (.ireturn, 1) := dk_172 (dk_at dksX1_add_1 15 rfl rfl)
abbrev cX1_refuse : ByteArray := prog_1_method_18_code
def yX1_refuse : MethodName := ⟨RX1, "refuse", "()I"⟩
def dkwX1_refuse_0 : List UInt8 := [42, 180, 0, 67, 4, 92, 46, 4, 96, 79, 2, 172]
abbrev dktX1_refuse_0 : List UInt8 := dkwX1_refuse_0 ++ []
theorem dksX1_refuse_0 : cX1_refuse.data.toList.drop 0 = dktX1_refuse_0 := by decide +kernel
theorem dX1_refuse_0 : decode cX1_refuse 0 = .ok (.aload_n 0, 1) := dk_42 (dk_at dksX1_refuse_0 0 rfl rfl)
theorem dX1_refuse_1 : decode cX1_refuse 1 = .ok (.getfield 67, 3) := dk_180 0 67 (dk_at dksX1_refuse_0 1 rfl rfl)
theorem dX1_refuse_4 : decode cX1_refuse 4 = .ok (.iconst 1, 1) := dk_4 (dk_at dksX1_refuse_0 4 rfl rfl)
theorem dX1_refuse_5 : decode cX1_refuse 5 = .ok (.dup2, 1) := dk_92 (dk_at dksX1_refuse_0 5 rfl rfl)
theorem dX1_refuse_6 : decode cX1_refuse 6 = .ok (.iaload, 1) := dk_46 (dk_at dksX1_refuse_0 6 rfl rfl)
theorem dX1_refuse_7 : decode cX1_refuse 7 = .ok (.iconst 1, 1) := dk_4 (dk_at dksX1_refuse_0 7 rfl rfl)
theorem dX1_refuse_8 : decode cX1_refuse 8 = .ok (.iadd, 1) := dk_96 (dk_at dksX1_refuse_0 8 rfl rfl)
theorem dX1_refuse_9 : decode cX1_refuse 9 = .ok (.iastore, 1) := dk_79 (dk_at dksX1_refuse_0 9 rfl rfl)
theorem dX1_refuse_10 : decode cX1_refuse 10 = .ok (.iconst (-1), 1) := dk_2 (dk_at dksX1_refuse_0 10 rfl rfl)
theorem dX1_refuse_11 : decode cX1_refuse 11 = .ok (.ireturn, 1) := dk_172 (dk_at dksX1_refuse_0 11 rfl rfl)
abbrev cX1_utter : ByteArray := prog_1_method_21_code
def yX1_utter : MethodName := ⟨RX1, "utter", "(III)I"⟩
def dkwX1_utter_9 : List UInt8 := [89, 27, 28, 21, 8, 25, 6, 3, 46, 8, 112, 21, 5, 183, 0, 215, 182, 0, 218, 172]
abbrev dktX1_utter_9 : List UInt8 := dkwX1_utter_9 ++ []
def dkwX1_utter_8 : List UInt8 := [159, 0, 15, 25, 6, 3, 46, 8, 108, 6, 112, 5, 159, 0, 8, 42, 182, 0, 206, 172, 42, 187, 0, 213]
abbrev dktX1_utter_8 : List UInt8 := dkwX1_utter_8 ++ dktX1_utter_9
def dkwX1_utter_7 : List UInt8 := [180, 0, 16, 25, 6, 3, 46, 16, 15, 108, 182, 0, 229, 167, 0, 4, 2, 54, 8, 21, 8, 2]
abbrev dktX1_utter_7 : List UInt8 := dkwX1_utter_7 ++ dktX1_utter_8
def dkwX1_utter_6 : List UInt8 := [185, 0, 161, 2, 0, 192, 0, 188, 25, 6, 182, 0, 199, 54, 7, 21, 7, 4, 160, 0, 20, 42]
abbrev dktX1_utter_6 : List UInt8 := dkwX1_utter_6 ++ dktX1_utter_7
def dkwX1_utter_5 : List UInt8 := [182, 0, 206, 172, 17, 0, 180, 188, 10, 58, 6, 42, 25, 4, 25, 4, 185, 0, 113, 1, 0, 4, 100]
abbrev dktX1_utter_5 : List UInt8 := dkwX1_utter_5 ++ dktX1_utter_6
def dkwX1_utter_4 : List UInt8 := [180, 0, 16, 180, 0, 225, 25, 4, 3, 185, 0, 161, 2, 0, 192, 0, 188, 182, 0, 192, 154, 0, 8, 42]
abbrev dktX1_utter_4 : List UInt8 := dkwX1_utter_4 ++ dktX1_utter_5
def dkwX1_utter_3 : List UInt8 := [167, 0, 4, 3, 54, 5, 21, 5, 153, 0, 42, 42, 180, 0, 16, 180, 0, 225, 198, 0, 27, 42]
abbrev dktX1_utter_3 : List UInt8 := dkwX1_utter_3 ++ dktX1_utter_4
def dkwX1_utter_2 : List UInt8 := [58, 4, 25, 4, 199, 0, 8, 42, 182, 0, 206, 172, 25, 4, 185, 0, 113, 1, 0, 5, 160, 0, 7, 4]
abbrev dktX1_utter_2 : List UInt8 := dkwX1_utter_2 ++ dktX1_utter_3
def dkwX1_utter_1 : List UInt8 := [167, 0, 4, 3, 184, 0, 77, 42, 3, 181, 0, 74, 187, 0, 81, 89, 42, 29, 183, 0, 83, 182, 0, 221]
abbrev dktX1_utter_1 : List UInt8 := dkwX1_utter_1 ++ dktX1_utter_2
def dkwX1_utter_0 : List UInt8 := [42, 27, 182, 0, 147, 42, 28, 182, 0, 151, 29, 155, 0, 15, 29, 42, 180, 0, 74, 163, 0, 7, 4]
abbrev dktX1_utter_0 : List UInt8 := dkwX1_utter_0 ++ dktX1_utter_1
theorem dksX1_utter_0 : cX1_utter.data.toList.drop 0 = dktX1_utter_0 := by decide +kernel
theorem dksX1_utter_1 : cX1_utter.data.toList.drop 23 = dktX1_utter_1 := dk_seg dksX1_utter_0 23 rfl rfl
theorem dksX1_utter_2 : cX1_utter.data.toList.drop 47 = dktX1_utter_2 := dk_seg dksX1_utter_1 24 rfl rfl
theorem dksX1_utter_3 : cX1_utter.data.toList.drop 71 = dktX1_utter_3 := dk_seg dksX1_utter_2 24 rfl rfl
theorem dksX1_utter_4 : cX1_utter.data.toList.drop 93 = dktX1_utter_4 := dk_seg dksX1_utter_3 22 rfl rfl
theorem dksX1_utter_5 : cX1_utter.data.toList.drop 117 = dktX1_utter_5 := dk_seg dksX1_utter_4 24 rfl rfl
theorem dksX1_utter_6 : cX1_utter.data.toList.drop 140 = dktX1_utter_6 := dk_seg dksX1_utter_5 23 rfl rfl
theorem dksX1_utter_7 : cX1_utter.data.toList.drop 162 = dktX1_utter_7 := dk_seg dksX1_utter_6 22 rfl rfl
theorem dksX1_utter_8 : cX1_utter.data.toList.drop 184 = dktX1_utter_8 := dk_seg dksX1_utter_7 22 rfl rfl
theorem dksX1_utter_9 : cX1_utter.data.toList.drop 208 = dktX1_utter_9 := dk_seg dksX1_utter_8 24 rfl rfl
theorem dX1_utter_0 : decode cX1_utter 0 = .ok (.aload_n 0, 1) := dk_42 (dk_at dksX1_utter_0 0 rfl rfl)
theorem dX1_utter_1 : decode cX1_utter 1 = .ok (.iload_n 1, 1) := dk_27 (dk_at dksX1_utter_0 1 rfl rfl)
theorem dX1_utter_2 : decode cX1_utter 2 = .ok (.invokevirtual 147, 3) := dk_182 0 147 (dk_at dksX1_utter_0 2 rfl rfl)
theorem dX1_utter_5 : decode cX1_utter 5 = .ok (.aload_n 0, 1) := dk_42 (dk_at dksX1_utter_0 5 rfl rfl)
theorem dX1_utter_6 : decode cX1_utter 6 = .ok (.iload_n 2, 1) := dk_28 (dk_at dksX1_utter_0 6 rfl rfl)
theorem dX1_utter_7 : decode cX1_utter 7 = .ok (.invokevirtual 151, 3) := dk_182 0 151 (dk_at dksX1_utter_0 7 rfl rfl)
theorem dX1_utter_10 : decode cX1_utter 10 = .ok (.iload_n 3, 1) := dk_29 (dk_at dksX1_utter_0 10 rfl rfl)
theorem dX1_utter_11 : decode cX1_utter 11 = .ok (.ifCond .lt 15, 3) := dk_155 0 15 (dk_at dksX1_utter_0 11 rfl rfl)
theorem dX1_utter_14 : decode cX1_utter 14 = .ok (.iload_n 3, 1) := dk_29 (dk_at dksX1_utter_0 14 rfl rfl)
theorem dX1_utter_15 : decode cX1_utter 15 = .ok (.aload_n 0, 1) := dk_42 (dk_at dksX1_utter_0 15 rfl rfl)
theorem dX1_utter_16 : decode cX1_utter 16 = .ok (.getfield 74, 3) := dk_180 0 74 (dk_at dksX1_utter_0 16 rfl rfl)
theorem dX1_utter_19 : decode cX1_utter 19 = .ok (.if_icmp .gt 7, 3) := dk_163 0 7 (dk_at dksX1_utter_0 19 rfl rfl)
theorem dX1_utter_22 : decode cX1_utter 22 = .ok (.iconst 1, 1) := dk_4 (dk_at dksX1_utter_0 22 rfl rfl)
theorem dX1_utter_23 : decode cX1_utter 23 = .ok (.goto 4, 3) := dk_167 0 4 (dk_at dksX1_utter_1 0 rfl rfl)
theorem dX1_utter_26 : decode cX1_utter 26 = .ok (.iconst 0, 1) := dk_3 (dk_at dksX1_utter_1 3 rfl rfl)
theorem dX1_utter_27 : decode cX1_utter 27 = .ok (.invokestatic 77, 3) := dk_184 0 77 (dk_at dksX1_utter_1 4 rfl rfl)
theorem dX1_utter_30 : decode cX1_utter 30 = .ok (.aload_n 0, 1) := dk_42 (dk_at dksX1_utter_1 7 rfl rfl)
theorem dX1_utter_31 : decode cX1_utter 31 = .ok (.iconst 0, 1) := dk_3 (dk_at dksX1_utter_1 8 rfl rfl)
theorem dX1_utter_32 : decode cX1_utter 32 = .ok (.putfield 74, 3) := dk_181 0 74 (dk_at dksX1_utter_1 9 rfl rfl)
theorem dX1_utter_35 : decode cX1_utter 35 = .ok (.new 81, 3) := dk_187 0 81 (dk_at dksX1_utter_1 12 rfl rfl)
theorem dX1_utter_38 : decode cX1_utter 38 = .ok (.dup, 1) := dk_89 (dk_at dksX1_utter_1 15 rfl rfl)
theorem dX1_utter_39 : decode cX1_utter 39 = .ok (.aload_n 0, 1) := dk_42 (dk_at dksX1_utter_1 16 rfl rfl)
theorem dX1_utter_40 : decode cX1_utter 40 = .ok (.iload_n 3, 1) := dk_29 (dk_at dksX1_utter_1 17 rfl rfl)
theorem dX1_utter_41 : decode cX1_utter 41 = .ok (.invokespecial 83, 3) := dk_183 0 83 (dk_at dksX1_utter_1 18 rfl rfl)
theorem dX1_utter_44 : decode cX1_utter 44 = .ok (.invokevirtual 221, 3) := dk_182 0 221 (dk_at dksX1_utter_1 21 rfl rfl)
theorem dX1_utter_47 : decode cX1_utter 47 = .ok (.astore 4, 2) := dk_58 4 (dk_at dksX1_utter_2 0 rfl rfl)
theorem dX1_utter_49 : decode cX1_utter 49 = .ok (.aload 4, 2) := dk_25 4 (dk_at dksX1_utter_2 2 rfl rfl)
theorem dX1_utter_51 : decode cX1_utter 51 = .ok (.ifnonnull 8, 3) := dk_199 0 8 (dk_at dksX1_utter_2 4 rfl rfl)
theorem dX1_utter_54 : decode cX1_utter 54 = .ok (.aload_n 0, 1) := dk_42 (dk_at dksX1_utter_2 7 rfl rfl)
theorem dX1_utter_55 : decode cX1_utter 55 = .ok (.invokevirtual 206, 3) := dk_182 0 206 (dk_at dksX1_utter_2 8 rfl rfl)
theorem dX1_utter_58 : decode cX1_utter 58 = .ok (.ireturn, 1) := dk_172 (dk_at dksX1_utter_2 11 rfl rfl)
theorem dX1_utter_59 : decode cX1_utter 59 = .ok (.aload 4, 2) := dk_25 4 (dk_at dksX1_utter_2 12 rfl rfl)
theorem dX1_utter_61 : decode cX1_utter 61 = .ok (.invokeinterface 113 1, 5) := by decide +kernel
theorem dX1_utter_66 : decode cX1_utter 66 = .ok (.iconst 2, 1) := dk_5 (dk_at dksX1_utter_2 19 rfl rfl)
theorem dX1_utter_67 : decode cX1_utter 67 = .ok (.if_icmp .ne 7, 3) := dk_160 0 7 (dk_at dksX1_utter_2 20 rfl rfl)
theorem dX1_utter_70 : decode cX1_utter 70 = .ok (.iconst 1, 1) := dk_4 (dk_at dksX1_utter_2 23 rfl rfl)
theorem dX1_utter_71 : decode cX1_utter 71 = .ok (.goto 4, 3) := dk_167 0 4 (dk_at dksX1_utter_3 0 rfl rfl)
theorem dX1_utter_74 : decode cX1_utter 74 = .ok (.iconst 0, 1) := dk_3 (dk_at dksX1_utter_3 3 rfl rfl)
theorem dX1_utter_75 : decode cX1_utter 75 = .ok (.istore 5, 2) := dk_54 5 (dk_at dksX1_utter_3 4 rfl rfl)
theorem dX1_utter_77 : decode cX1_utter 77 = .ok (.iload 5, 2) := dk_21 5 (dk_at dksX1_utter_3 6 rfl rfl)
theorem dX1_utter_79 : decode cX1_utter 79 = .ok (.ifCond .eq 42, 3) := dk_153 0 42 (dk_at dksX1_utter_3 8 rfl rfl)
theorem dX1_utter_82 : decode cX1_utter 82 = .ok (.aload_n 0, 1) := dk_42 (dk_at dksX1_utter_3 11 rfl rfl)
theorem dX1_utter_83 : decode cX1_utter 83 = .ok (.getfield 16, 3) := dk_180 0 16 (dk_at dksX1_utter_3 12 rfl rfl)
theorem dX1_utter_86 : decode cX1_utter 86 = .ok (.getfield 225, 3) := dk_180 0 225 (dk_at dksX1_utter_3 15 rfl rfl)
theorem dX1_utter_89 : decode cX1_utter 89 = .ok (.ifnull 27, 3) := dk_198 0 27 (dk_at dksX1_utter_3 18 rfl rfl)
theorem dX1_utter_92 : decode cX1_utter 92 = .ok (.aload_n 0, 1) := dk_42 (dk_at dksX1_utter_3 21 rfl rfl)
theorem dX1_utter_93 : decode cX1_utter 93 = .ok (.getfield 16, 3) := dk_180 0 16 (dk_at dksX1_utter_4 0 rfl rfl)
theorem dX1_utter_96 : decode cX1_utter 96 = .ok (.getfield 225, 3) := dk_180 0 225 (dk_at dksX1_utter_4 3 rfl rfl)
theorem dX1_utter_99 : decode cX1_utter 99 = .ok (.aload 4, 2) := dk_25 4 (dk_at dksX1_utter_4 6 rfl rfl)
theorem dX1_utter_101 : decode cX1_utter 101 = .ok (.iconst 0, 1) := dk_3 (dk_at dksX1_utter_4 8 rfl rfl)
theorem dX1_utter_102 : decode cX1_utter 102 = .ok (.invokeinterface 161 2, 5) := by decide +kernel
theorem dX1_utter_107 : decode cX1_utter 107 = .ok (.checkcast 188, 3) := dk_192 0 188 (dk_at dksX1_utter_4 14 rfl rfl)
theorem dX1_utter_110 : decode cX1_utter 110 = .ok (.invokevirtual 192, 3) := dk_182 0 192 (dk_at dksX1_utter_4 17 rfl rfl)
theorem dX1_utter_113 : decode cX1_utter 113 = .ok (.ifCond .ne 8, 3) := dk_154 0 8 (dk_at dksX1_utter_4 20 rfl rfl)
theorem dX1_utter_116 : decode cX1_utter 116 = .ok (.aload_n 0, 1) := dk_42 (dk_at dksX1_utter_4 23 rfl rfl)
theorem dX1_utter_117 : decode cX1_utter 117 = .ok (.invokevirtual 206, 3) := dk_182 0 206 (dk_at dksX1_utter_5 0 rfl rfl)
theorem dX1_utter_120 : decode cX1_utter 120 = .ok (.ireturn, 1) := dk_172 (dk_at dksX1_utter_5 3 rfl rfl)
theorem dX1_utter_121 : decode cX1_utter 121 = .ok (.sipush 180, 3) := dk_17 0 180 (dk_at dksX1_utter_5 4 rfl rfl)
theorem dX1_utter_124 : decode cX1_utter 124 = .ok (.newarray .int, 2) := dk_188_10 (dk_at dksX1_utter_5 7 rfl rfl)
theorem dX1_utter_126 : decode cX1_utter 126 = .ok (.astore 6, 2) := dk_58 6 (dk_at dksX1_utter_5 9 rfl rfl)
theorem dX1_utter_128 : decode cX1_utter 128 = .ok (.aload_n 0, 1) := dk_42 (dk_at dksX1_utter_5 11 rfl rfl)
theorem dX1_utter_129 : decode cX1_utter 129 = .ok (.aload 4, 2) := dk_25 4 (dk_at dksX1_utter_5 12 rfl rfl)
theorem dX1_utter_131 : decode cX1_utter 131 = .ok (.aload 4, 2) := dk_25 4 (dk_at dksX1_utter_5 14 rfl rfl)
theorem dX1_utter_133 : decode cX1_utter 133 = .ok (.invokeinterface 113 1, 5) := by decide +kernel
theorem dX1_utter_138 : decode cX1_utter 138 = .ok (.iconst 1, 1) := dk_4 (dk_at dksX1_utter_5 21 rfl rfl)
theorem dX1_utter_139 : decode cX1_utter 139 = .ok (.isub, 1) := dk_100 (dk_at dksX1_utter_5 22 rfl rfl)
theorem dX1_utter_140 : decode cX1_utter 140 = .ok (.invokeinterface 161 2, 5) := by decide +kernel
theorem dX1_utter_145 : decode cX1_utter 145 = .ok (.checkcast 188, 3) := dk_192 0 188 (dk_at dksX1_utter_6 5 rfl rfl)
theorem dX1_utter_148 : decode cX1_utter 148 = .ok (.aload 6, 2) := dk_25 6 (dk_at dksX1_utter_6 8 rfl rfl)
theorem dX1_utter_150 : decode cX1_utter 150 = .ok (.invokevirtual 199, 3) := dk_182 0 199 (dk_at dksX1_utter_6 10 rfl rfl)
theorem dX1_utter_153 : decode cX1_utter 153 = .ok (.istore 7, 2) := dk_54 7 (dk_at dksX1_utter_6 13 rfl rfl)
theorem dX1_utter_155 : decode cX1_utter 155 = .ok (.iload 7, 2) := dk_21 7 (dk_at dksX1_utter_6 15 rfl rfl)
theorem dX1_utter_157 : decode cX1_utter 157 = .ok (.iconst 1, 1) := dk_4 (dk_at dksX1_utter_6 17 rfl rfl)
theorem dX1_utter_158 : decode cX1_utter 158 = .ok (.if_icmp .ne 20, 3) := dk_160 0 20 (dk_at dksX1_utter_6 18 rfl rfl)
theorem dX1_utter_161 : decode cX1_utter 161 = .ok (.aload_n 0, 1) := dk_42 (dk_at dksX1_utter_6 21 rfl rfl)
theorem dX1_utter_162 : decode cX1_utter 162 = .ok (.getfield 16, 3) := dk_180 0 16 (dk_at dksX1_utter_7 0 rfl rfl)
theorem dX1_utter_165 : decode cX1_utter 165 = .ok (.aload 6, 2) := dk_25 6 (dk_at dksX1_utter_7 3 rfl rfl)
theorem dX1_utter_167 : decode cX1_utter 167 = .ok (.iconst 0, 1) := dk_3 (dk_at dksX1_utter_7 5 rfl rfl)
theorem dX1_utter_168 : decode cX1_utter 168 = .ok (.iaload, 1) := dk_46 (dk_at dksX1_utter_7 6 rfl rfl)
theorem dX1_utter_169 : decode cX1_utter 169 = .ok (.bipush 15, 2) := dk_16 15 (dk_at dksX1_utter_7 7 rfl rfl)
theorem dX1_utter_171 : decode cX1_utter 171 = .ok (.idiv, 1) := dk_108 (dk_at dksX1_utter_7 9 rfl rfl)
theorem dX1_utter_172 : decode cX1_utter 172 = .ok (.invokevirtual 229, 3) := dk_182 0 229 (dk_at dksX1_utter_7 10 rfl rfl)
theorem dX1_utter_175 : decode cX1_utter 175 = .ok (.goto 4, 3) := dk_167 0 4 (dk_at dksX1_utter_7 13 rfl rfl)
theorem dX1_utter_178 : decode cX1_utter 178 = .ok (.iconst (-1), 1) := dk_2 (dk_at dksX1_utter_7 16 rfl rfl)
theorem dX1_utter_179 : decode cX1_utter 179 = .ok (.istore 8, 2) := dk_54 8 (dk_at dksX1_utter_7 17 rfl rfl)
theorem dX1_utter_181 : decode cX1_utter 181 = .ok (.iload 8, 2) := dk_21 8 (dk_at dksX1_utter_7 19 rfl rfl)
theorem dX1_utter_183 : decode cX1_utter 183 = .ok (.iconst (-1), 1) := dk_2 (dk_at dksX1_utter_7 21 rfl rfl)
theorem dX1_utter_184 : decode cX1_utter 184 = .ok (.if_icmp .eq 15, 3) := dk_159 0 15 (dk_at dksX1_utter_8 0 rfl rfl)
theorem dX1_utter_187 : decode cX1_utter 187 = .ok (.aload 6, 2) := dk_25 6 (dk_at dksX1_utter_8 3 rfl rfl)
theorem dX1_utter_189 : decode cX1_utter 189 = .ok (.iconst 0, 1) := dk_3 (dk_at dksX1_utter_8 5 rfl rfl)
theorem dX1_utter_190 : decode cX1_utter 190 = .ok (.iaload, 1) := dk_46 (dk_at dksX1_utter_8 6 rfl rfl)
theorem dX1_utter_191 : decode cX1_utter 191 = .ok (.iconst 5, 1) := dk_8 (dk_at dksX1_utter_8 7 rfl rfl)
theorem dX1_utter_192 : decode cX1_utter 192 = .ok (.idiv, 1) := dk_108 (dk_at dksX1_utter_8 8 rfl rfl)
theorem dX1_utter_193 : decode cX1_utter 193 = .ok (.iconst 3, 1) := dk_6 (dk_at dksX1_utter_8 9 rfl rfl)
theorem dX1_utter_194 : decode cX1_utter 194 = .ok (.irem, 1) := dk_112 (dk_at dksX1_utter_8 10 rfl rfl)
theorem dX1_utter_195 : decode cX1_utter 195 = .ok (.iconst 2, 1) := dk_5 (dk_at dksX1_utter_8 11 rfl rfl)
theorem dX1_utter_196 : decode cX1_utter 196 = .ok (.if_icmp .eq 8, 3) := dk_159 0 8 (dk_at dksX1_utter_8 12 rfl rfl)
theorem dX1_utter_199 : decode cX1_utter 199 = .ok (.aload_n 0, 1) := dk_42 (dk_at dksX1_utter_8 15 rfl rfl)
theorem dX1_utter_200 : decode cX1_utter 200 = .ok (.invokevirtual 206, 3) := dk_182 0 206 (dk_at dksX1_utter_8 16 rfl rfl)
theorem dX1_utter_203 : decode cX1_utter 203 = .ok (.ireturn, 1) := dk_172 (dk_at dksX1_utter_8 19 rfl rfl)
theorem dX1_utter_204 : decode cX1_utter 204 = .ok (.aload_n 0, 1) := dk_42 (dk_at dksX1_utter_8 20 rfl rfl)
theorem dX1_utter_205 : decode cX1_utter 205 = .ok (.new 213, 3) := dk_187 0 213 (dk_at dksX1_utter_8 21 rfl rfl)
theorem dX1_utter_208 : decode cX1_utter 208 = .ok (.dup, 1) := dk_89 (dk_at dksX1_utter_9 0 rfl rfl)
theorem dX1_utter_209 : decode cX1_utter 209 = .ok (.iload_n 1, 1) := dk_27 (dk_at dksX1_utter_9 1 rfl rfl)
theorem dX1_utter_210 : decode cX1_utter 210 = .ok (.iload_n 2, 1) := dk_28 (dk_at dksX1_utter_9 2 rfl rfl)
theorem dX1_utter_211 : decode cX1_utter 211 = .ok (.iload 8, 2) := dk_21 8 (dk_at dksX1_utter_9 3 rfl rfl)
theorem dX1_utter_213 : decode cX1_utter 213 = .ok (.aload 6, 2) := dk_25 6 (dk_at dksX1_utter_9 5 rfl rfl)
theorem dX1_utter_215 : decode cX1_utter 215 = .ok (.iconst 0, 1) := dk_3 (dk_at dksX1_utter_9 7 rfl rfl)
theorem dX1_utter_216 : decode cX1_utter 216 = .ok (.iaload, 1) := dk_46 (dk_at dksX1_utter_9 8 rfl rfl)
theorem dX1_utter_217 : decode cX1_utter 217 = .ok (.iconst 5, 1) := dk_8 (dk_at dksX1_utter_9 9 rfl rfl)
theorem dX1_utter_218 : decode cX1_utter 218 = .ok (.irem, 1) := dk_112 (dk_at dksX1_utter_9 10 rfl rfl)
theorem dX1_utter_219 : decode cX1_utter 219 = .ok (.iload 5, 2) := dk_21 5 (dk_at dksX1_utter_9 11 rfl rfl)
theorem dX1_utter_221 : decode cX1_utter 221 = .ok (.invokespecial 215, 3) := dk_183 0 215 (dk_at dksX1_utter_9 13 rfl rfl)
theorem dX1_utter_224 : decode cX1_utter 224 = .ok (.invokevirtual 218, 3) := dk_182 0 218 (dk_at dksX1_utter_9 16 rfl rfl)
theorem dX1_utter_227 : decode cX1_utter 227 = .ok (.ireturn, 1) := dk_172 (dk_at dksX1_utter_9 19 rfl rfl)
abbrev cX1_saying : ByteArray := prog_1_method_24_code
def yX1_saying : MethodName := ⟨RX1, "saying", "(II)I"⟩
def dkwX1_saying_7 : List UInt8 := [180, 0, 55, 180, 1, 12, 27, 46, 172]
abbrev dktX1_saying_7 : List UInt8 := dkwX1_saying_7 ++ []
def dkwX1_saying_6 : List UInt8 := [167, 0, 4, 3, 172, 42, 182, 1, 3, 180, 1, 6, 27, 46, 172, 42, 182, 1, 3, 182, 1, 9, 42]
abbrev dktX1_saying_6 : List UInt8 := dkwX1_saying_6 ++ dktX1_saying_7
def dkwX1_saying_5 : List UInt8 := [153, 0, 7, 4, 167, 0, 4, 3, 172, 42, 182, 1, 3, 180, 1, 6, 27, 46, 158, 0, 7, 4]
abbrev dktX1_saying_5 : List UInt8 := dkwX1_saying_5 ++ dktX1_saying_6
def dkwX1_saying_4 : List UInt8 := [45, 180, 0, 247, 172, 45, 180, 0, 250, 172, 45, 180, 0, 251, 172, 45, 180, 0, 254, 172, 45, 180, 1, 1]
abbrev dktX1_saying_4 : List UInt8 := dkwX1_saying_4 ++ dktX1_saying_5
def dkwX1_saying_3 : List UInt8 := [170, 0, 0, 0, 0, 0, 0, 105, 0, 0, 0, 0, 0, 0, 0, 6, 0, 0, 0, 44, 0, 0, 0, 49, 0, 0, 0, 54, 0, 0, 0, 59, 0, 0, 0, 64, 0, 0, 0, 77, 0, 0, 0, 95]
abbrev dktX1_saying_3 : List UInt8 := dkwX1_saying_3 ++ dktX1_saying_4
def dkwX1_saying_2 : List UInt8 := [192, 0, 213, 78, 28]
abbrev dktX1_saying_2 : List UInt8 := dkwX1_saying_2 ++ dktX1_saying_3
def dkwX1_saying_1 : List UInt8 := [184, 0, 140, 153, 0, 7, 4, 167, 0, 4, 3, 184, 0, 144, 42, 180, 0, 25, 27, 185, 0, 161, 2, 0]
abbrev dktX1_saying_1 : List UInt8 := dkwX1_saying_1 ++ dktX1_saying_2
def dkwX1_saying_0 : List UInt8 := [27, 3, 42, 180, 0, 25, 185, 0, 113, 1, 0, 4, 100, 184, 0, 140, 153, 0, 17, 28, 3, 16, 7]
abbrev dktX1_saying_0 : List UInt8 := dkwX1_saying_0 ++ dktX1_saying_1
theorem dksX1_saying_0 : cX1_saying.data.toList.drop 0 = dktX1_saying_0 := by decide +kernel
theorem dksX1_saying_1 : cX1_saying.data.toList.drop 23 = dktX1_saying_1 := dk_seg dksX1_saying_0 23 rfl rfl
theorem dksX1_saying_2 : cX1_saying.data.toList.drop 47 = dktX1_saying_2 := dk_seg dksX1_saying_1 24 rfl rfl
theorem dksX1_saying_3 : cX1_saying.data.toList.drop 52 = dktX1_saying_3 := dk_seg dksX1_saying_2 5 rfl rfl
theorem dksX1_saying_4 : cX1_saying.data.toList.drop 96 = dktX1_saying_4 := dk_seg dksX1_saying_3 44 rfl rfl
theorem dksX1_saying_5 : cX1_saying.data.toList.drop 120 = dktX1_saying_5 := dk_seg dksX1_saying_4 24 rfl rfl
theorem dksX1_saying_6 : cX1_saying.data.toList.drop 142 = dktX1_saying_6 := dk_seg dksX1_saying_5 22 rfl rfl
theorem dksX1_saying_7 : cX1_saying.data.toList.drop 165 = dktX1_saying_7 := dk_seg dksX1_saying_6 23 rfl rfl
theorem dX1_saying_0 : decode cX1_saying 0 = .ok (.iload_n 1, 1) := dk_27 (dk_at dksX1_saying_0 0 rfl rfl)
theorem dX1_saying_1 : decode cX1_saying 1 = .ok (.iconst 0, 1) := dk_3 (dk_at dksX1_saying_0 1 rfl rfl)
theorem dX1_saying_2 : decode cX1_saying 2 = .ok (.aload_n 0, 1) := dk_42 (dk_at dksX1_saying_0 2 rfl rfl)
theorem dX1_saying_3 : decode cX1_saying 3 = .ok (.getfield 25, 3) := dk_180 0 25 (dk_at dksX1_saying_0 3 rfl rfl)
theorem dX1_saying_6 : decode cX1_saying 6 = .ok (.invokeinterface 113 1, 5) := by decide +kernel
theorem dX1_saying_11 : decode cX1_saying 11 = .ok (.iconst 1, 1) := dk_4 (dk_at dksX1_saying_0 11 rfl rfl)
theorem dX1_saying_12 : decode cX1_saying 12 = .ok (.isub, 1) := dk_100 (dk_at dksX1_saying_0 12 rfl rfl)
theorem dX1_saying_13 : decode cX1_saying 13 = .ok (.invokestatic 140, 3) := dk_184 0 140 (dk_at dksX1_saying_0 13 rfl rfl)
theorem dX1_saying_16 : decode cX1_saying 16 = .ok (.ifCond .eq 17, 3) := dk_153 0 17 (dk_at dksX1_saying_0 16 rfl rfl)
theorem dX1_saying_19 : decode cX1_saying 19 = .ok (.iload_n 2, 1) := dk_28 (dk_at dksX1_saying_0 19 rfl rfl)
theorem dX1_saying_20 : decode cX1_saying 20 = .ok (.iconst 0, 1) := dk_3 (dk_at dksX1_saying_0 20 rfl rfl)
theorem dX1_saying_21 : decode cX1_saying 21 = .ok (.bipush 7, 2) := dk_16 7 (dk_at dksX1_saying_0 21 rfl rfl)
theorem dX1_saying_23 : decode cX1_saying 23 = .ok (.invokestatic 140, 3) := dk_184 0 140 (dk_at dksX1_saying_1 0 rfl rfl)
theorem dX1_saying_26 : decode cX1_saying 26 = .ok (.ifCond .eq 7, 3) := dk_153 0 7 (dk_at dksX1_saying_1 3 rfl rfl)
theorem dX1_saying_29 : decode cX1_saying 29 = .ok (.iconst 1, 1) := dk_4 (dk_at dksX1_saying_1 6 rfl rfl)
theorem dX1_saying_30 : decode cX1_saying 30 = .ok (.goto 4, 3) := dk_167 0 4 (dk_at dksX1_saying_1 7 rfl rfl)
theorem dX1_saying_33 : decode cX1_saying 33 = .ok (.iconst 0, 1) := dk_3 (dk_at dksX1_saying_1 10 rfl rfl)
theorem dX1_saying_34 : decode cX1_saying 34 = .ok (.invokestatic 144, 3) := dk_184 0 144 (dk_at dksX1_saying_1 11 rfl rfl)
theorem dX1_saying_37 : decode cX1_saying 37 = .ok (.aload_n 0, 1) := dk_42 (dk_at dksX1_saying_1 14 rfl rfl)
theorem dX1_saying_38 : decode cX1_saying 38 = .ok (.getfield 25, 3) := dk_180 0 25 (dk_at dksX1_saying_1 15 rfl rfl)
theorem dX1_saying_41 : decode cX1_saying 41 = .ok (.iload_n 1, 1) := dk_27 (dk_at dksX1_saying_1 18 rfl rfl)
theorem dX1_saying_42 : decode cX1_saying 42 = .ok (.invokeinterface 161 2, 5) := by decide +kernel
theorem dX1_saying_47 : decode cX1_saying 47 = .ok (.checkcast 213, 3) := dk_192 0 213 (dk_at dksX1_saying_2 0 rfl rfl)
theorem dX1_saying_50 : decode cX1_saying 50 = .ok (.astore_n 3, 1) := dk_78 (dk_at dksX1_saying_2 3 rfl rfl)
theorem dX1_saying_51 : decode cX1_saying 51 = .ok (.iload_n 2, 1) := dk_28 (dk_at dksX1_saying_2 4 rfl rfl)
theorem dX1_saying_52 : decode cX1_saying 52 = .ok (.tableswitch 105 0 6 #[44, 49, 54, 59, 64, 77, 95], 44) := by decide +kernel
theorem dX1_saying_96 : decode cX1_saying 96 = .ok (.aload_n 3, 1) := dk_45 (dk_at dksX1_saying_4 0 rfl rfl)
theorem dX1_saying_97 : decode cX1_saying 97 = .ok (.getfield 247, 3) := dk_180 0 247 (dk_at dksX1_saying_4 1 rfl rfl)
theorem dX1_saying_100 : decode cX1_saying 100 = .ok (.ireturn, 1) := dk_172 (dk_at dksX1_saying_4 4 rfl rfl)
theorem dX1_saying_101 : decode cX1_saying 101 = .ok (.aload_n 3, 1) := dk_45 (dk_at dksX1_saying_4 5 rfl rfl)
theorem dX1_saying_102 : decode cX1_saying 102 = .ok (.getfield 250, 3) := dk_180 0 250 (dk_at dksX1_saying_4 6 rfl rfl)
theorem dX1_saying_105 : decode cX1_saying 105 = .ok (.ireturn, 1) := dk_172 (dk_at dksX1_saying_4 9 rfl rfl)
theorem dX1_saying_106 : decode cX1_saying 106 = .ok (.aload_n 3, 1) := dk_45 (dk_at dksX1_saying_4 10 rfl rfl)
theorem dX1_saying_107 : decode cX1_saying 107 = .ok (.getfield 251, 3) := dk_180 0 251 (dk_at dksX1_saying_4 11 rfl rfl)
theorem dX1_saying_110 : decode cX1_saying 110 = .ok (.ireturn, 1) := dk_172 (dk_at dksX1_saying_4 14 rfl rfl)
theorem dX1_saying_111 : decode cX1_saying 111 = .ok (.aload_n 3, 1) := dk_45 (dk_at dksX1_saying_4 15 rfl rfl)
theorem dX1_saying_112 : decode cX1_saying 112 = .ok (.getfield 254, 3) := dk_180 0 254 (dk_at dksX1_saying_4 16 rfl rfl)
theorem dX1_saying_115 : decode cX1_saying 115 = .ok (.ireturn, 1) := dk_172 (dk_at dksX1_saying_4 19 rfl rfl)
theorem dX1_saying_116 : decode cX1_saying 116 = .ok (.aload_n 3, 1) := dk_45 (dk_at dksX1_saying_4 20 rfl rfl)
theorem dX1_saying_117 : decode cX1_saying 117 = .ok (.getfield 257, 3) := dk_180 1 1 (dk_at dksX1_saying_4 21 rfl rfl)
theorem dX1_saying_120 : decode cX1_saying 120 = .ok (.ifCond .eq 7, 3) := dk_153 0 7 (dk_at dksX1_saying_5 0 rfl rfl)
theorem dX1_saying_123 : decode cX1_saying 123 = .ok (.iconst 1, 1) := dk_4 (dk_at dksX1_saying_5 3 rfl rfl)
theorem dX1_saying_124 : decode cX1_saying 124 = .ok (.goto 4, 3) := dk_167 0 4 (dk_at dksX1_saying_5 4 rfl rfl)
theorem dX1_saying_127 : decode cX1_saying 127 = .ok (.iconst 0, 1) := dk_3 (dk_at dksX1_saying_5 7 rfl rfl)
theorem dX1_saying_128 : decode cX1_saying 128 = .ok (.ireturn, 1) := dk_172 (dk_at dksX1_saying_5 8 rfl rfl)
theorem dX1_saying_129 : decode cX1_saying 129 = .ok (.aload_n 0, 1) := dk_42 (dk_at dksX1_saying_5 9 rfl rfl)
theorem dX1_saying_130 : decode cX1_saying 130 = .ok (.invokevirtual 259, 3) := dk_182 1 3 (dk_at dksX1_saying_5 10 rfl rfl)
theorem dX1_saying_133 : decode cX1_saying 133 = .ok (.getfield 262, 3) := dk_180 1 6 (dk_at dksX1_saying_5 13 rfl rfl)
theorem dX1_saying_136 : decode cX1_saying 136 = .ok (.iload_n 1, 1) := dk_27 (dk_at dksX1_saying_5 16 rfl rfl)
theorem dX1_saying_137 : decode cX1_saying 137 = .ok (.iaload, 1) := dk_46 (dk_at dksX1_saying_5 17 rfl rfl)
theorem dX1_saying_138 : decode cX1_saying 138 = .ok (.ifCond .le 7, 3) := dk_158 0 7 (dk_at dksX1_saying_5 18 rfl rfl)
theorem dX1_saying_141 : decode cX1_saying 141 = .ok (.iconst 1, 1) := dk_4 (dk_at dksX1_saying_5 21 rfl rfl)
theorem dX1_saying_142 : decode cX1_saying 142 = .ok (.goto 4, 3) := dk_167 0 4 (dk_at dksX1_saying_6 0 rfl rfl)
theorem dX1_saying_145 : decode cX1_saying 145 = .ok (.iconst 0, 1) := dk_3 (dk_at dksX1_saying_6 3 rfl rfl)
theorem dX1_saying_146 : decode cX1_saying 146 = .ok (.ireturn, 1) := dk_172 (dk_at dksX1_saying_6 4 rfl rfl)
theorem dX1_saying_147 : decode cX1_saying 147 = .ok (.aload_n 0, 1) := dk_42 (dk_at dksX1_saying_6 5 rfl rfl)
theorem dX1_saying_148 : decode cX1_saying 148 = .ok (.invokevirtual 259, 3) := dk_182 1 3 (dk_at dksX1_saying_6 6 rfl rfl)
theorem dX1_saying_151 : decode cX1_saying 151 = .ok (.getfield 262, 3) := dk_180 1 6 (dk_at dksX1_saying_6 9 rfl rfl)
theorem dX1_saying_154 : decode cX1_saying 154 = .ok (.iload_n 1, 1) := dk_27 (dk_at dksX1_saying_6 12 rfl rfl)
theorem dX1_saying_155 : decode cX1_saying 155 = .ok (.iaload, 1) := dk_46 (dk_at dksX1_saying_6 13 rfl rfl)
theorem dX1_saying_156 : decode cX1_saying 156 = .ok (.ireturn, 1) := dk_172 (dk_at dksX1_saying_6 14 rfl rfl)
theorem dX1_saying_157 : decode cX1_saying 157 = .ok (.aload_n 0, 1) := dk_42 (dk_at dksX1_saying_6 15 rfl rfl)
theorem dX1_saying_158 : decode cX1_saying 158 = .ok (.invokevirtual 259, 3) := dk_182 1 3 (dk_at dksX1_saying_6 16 rfl rfl)
theorem dX1_saying_161 : decode cX1_saying 161 = .ok (.invokevirtual 265, 3) := dk_182 1 9 (dk_at dksX1_saying_6 19 rfl rfl)
theorem dX1_saying_164 : decode cX1_saying 164 = .ok (.aload_n 0, 1) := dk_42 (dk_at dksX1_saying_6 22 rfl rfl)
theorem dX1_saying_165 : decode cX1_saying 165 = .ok (.getfield 55, 3) := dk_180 0 55 (dk_at dksX1_saying_7 0 rfl rfl)
theorem dX1_saying_168 : decode cX1_saying 168 = .ok (.getfield 268, 3) := dk_180 1 12 (dk_at dksX1_saying_7 3 rfl rfl)
theorem dX1_saying_171 : decode cX1_saying 171 = .ok (.iload_n 1, 1) := dk_27 (dk_at dksX1_saying_7 6 rfl rfl)
theorem dX1_saying_172 : decode cX1_saying 172 = .ok (.iaload, 1) := dk_46 (dk_at dksX1_saying_7 7 rfl rfl)
theorem dX1_saying_173 : decode cX1_saying 173 = .ok (.ireturn, 1) := dk_172 (dk_at dksX1_saying_7 8 rfl rfl)
abbrev cX1_whole : ByteArray := prog_1_method_23_code
def yX1_whole : MethodName := ⟨RX1, "whole", "()LEndingTown$Day;"⟩
def dkwX1_whole_0 : List UInt8 := [42, 180, 0, 55, 3, 182, 0, 239, 182, 0, 243, 176]
abbrev dktX1_whole_0 : List UInt8 := dkwX1_whole_0 ++ []
theorem dksX1_whole_0 : cX1_whole.data.toList.drop 0 = dktX1_whole_0 := by decide +kernel
theorem dX1_whole_0 : decode cX1_whole 0 = .ok (.aload_n 0, 1) := dk_42 (dk_at dksX1_whole_0 0 rfl rfl)
theorem dX1_whole_1 : decode cX1_whole 1 = .ok (.getfield 55, 3) := dk_180 0 55 (dk_at dksX1_whole_0 1 rfl rfl)
theorem dX1_whole_4 : decode cX1_whole 4 = .ok (.iconst 0, 1) := dk_3 (dk_at dksX1_whole_0 4 rfl rfl)
theorem dX1_whole_5 : decode cX1_whole 5 = .ok (.invokevirtual 239, 3) := dk_182 0 239 (dk_at dksX1_whole_0 5 rfl rfl)
theorem dX1_whole_8 : decode cX1_whole 8 = .ok (.invokevirtual 243, 3) := dk_182 0 243 (dk_at dksX1_whole_0 8 rfl rfl)
theorem dX1_whole_11 : decode cX1_whole 11 = .ok (.areturn, 1) := dk_176 (dk_at dksX1_whole_0 11 rfl rfl)
abbrev cX1_could : ByteArray := prog_1_method_25_code
def yX1_could : MethodName := ⟨RX1, "could", "(IIIZ)I"⟩
def dkwX1_could_2 : List UInt8 := [182, 1, 15, 158, 0, 12, 21, 6, 4, 21, 7, 120, 128, 54, 6, 132, 7, 1, 167, 255, 218, 21, 6, 172]
abbrev dktX1_could_2 : List UInt8 := dkwX1_could_2 ++ []
def dkwX1_could_1 : List UInt8 := [3, 54, 7, 21, 7, 8, 162, 0, 38, 42, 180, 0, 48, 21, 7, 50, 25, 5, 27, 28, 29, 21, 4]
abbrev dktX1_could_1 : List UInt8 := dkwX1_could_1 ++ dktX1_could_2
def dkwX1_could_0 : List UInt8 := [42, 27, 182, 0, 147, 42, 28, 182, 0, 151, 42, 29, 182, 0, 158, 42, 182, 1, 3, 58, 5, 3, 54, 6]
abbrev dktX1_could_0 : List UInt8 := dkwX1_could_0 ++ dktX1_could_1
theorem dksX1_could_0 : cX1_could.data.toList.drop 0 = dktX1_could_0 := by decide +kernel
theorem dksX1_could_1 : cX1_could.data.toList.drop 24 = dktX1_could_1 := dk_seg dksX1_could_0 24 rfl rfl
theorem dksX1_could_2 : cX1_could.data.toList.drop 47 = dktX1_could_2 := dk_seg dksX1_could_1 23 rfl rfl
theorem dX1_could_0 : decode cX1_could 0 = .ok (.aload_n 0, 1) := dk_42 (dk_at dksX1_could_0 0 rfl rfl)
theorem dX1_could_1 : decode cX1_could 1 = .ok (.iload_n 1, 1) := dk_27 (dk_at dksX1_could_0 1 rfl rfl)
theorem dX1_could_2 : decode cX1_could 2 = .ok (.invokevirtual 147, 3) := dk_182 0 147 (dk_at dksX1_could_0 2 rfl rfl)
theorem dX1_could_5 : decode cX1_could 5 = .ok (.aload_n 0, 1) := dk_42 (dk_at dksX1_could_0 5 rfl rfl)
theorem dX1_could_6 : decode cX1_could 6 = .ok (.iload_n 2, 1) := dk_28 (dk_at dksX1_could_0 6 rfl rfl)
theorem dX1_could_7 : decode cX1_could 7 = .ok (.invokevirtual 151, 3) := dk_182 0 151 (dk_at dksX1_could_0 7 rfl rfl)
theorem dX1_could_10 : decode cX1_could 10 = .ok (.aload_n 0, 1) := dk_42 (dk_at dksX1_could_0 10 rfl rfl)
theorem dX1_could_11 : decode cX1_could 11 = .ok (.iload_n 3, 1) := dk_29 (dk_at dksX1_could_0 11 rfl rfl)
theorem dX1_could_12 : decode cX1_could 12 = .ok (.invokevirtual 158, 3) := dk_182 0 158 (dk_at dksX1_could_0 12 rfl rfl)
theorem dX1_could_15 : decode cX1_could 15 = .ok (.aload_n 0, 1) := dk_42 (dk_at dksX1_could_0 15 rfl rfl)
theorem dX1_could_16 : decode cX1_could 16 = .ok (.invokevirtual 259, 3) := dk_182 1 3 (dk_at dksX1_could_0 16 rfl rfl)
theorem dX1_could_19 : decode cX1_could 19 = .ok (.astore 5, 2) := dk_58 5 (dk_at dksX1_could_0 19 rfl rfl)
theorem dX1_could_21 : decode cX1_could 21 = .ok (.iconst 0, 1) := dk_3 (dk_at dksX1_could_0 21 rfl rfl)
theorem dX1_could_22 : decode cX1_could 22 = .ok (.istore 6, 2) := dk_54 6 (dk_at dksX1_could_0 22 rfl rfl)
theorem dX1_could_24 : decode cX1_could 24 = .ok (.iconst 0, 1) := dk_3 (dk_at dksX1_could_1 0 rfl rfl)
theorem dX1_could_25 : decode cX1_could 25 = .ok (.istore 7, 2) := dk_54 7 (dk_at dksX1_could_1 1 rfl rfl)
theorem dX1_could_27 : decode cX1_could 27 = .ok (.iload 7, 2) := dk_21 7 (dk_at dksX1_could_1 3 rfl rfl)
theorem dX1_could_29 : decode cX1_could 29 = .ok (.iconst 5, 1) := dk_8 (dk_at dksX1_could_1 5 rfl rfl)
theorem dX1_could_30 : decode cX1_could 30 = .ok (.if_icmp .ge 38, 3) := dk_162 0 38 (dk_at dksX1_could_1 6 rfl rfl)
theorem dX1_could_33 : decode cX1_could 33 = .ok (.aload_n 0, 1) := dk_42 (dk_at dksX1_could_1 9 rfl rfl)
theorem dX1_could_34 : decode cX1_could 34 = .ok (.getfield 48, 3) := dk_180 0 48 (dk_at dksX1_could_1 10 rfl rfl)
theorem dX1_could_37 : decode cX1_could 37 = .ok (.iload 7, 2) := dk_21 7 (dk_at dksX1_could_1 13 rfl rfl)
theorem dX1_could_39 : decode cX1_could 39 = .ok (.aaload, 1) := dk_50 (dk_at dksX1_could_1 15 rfl rfl)
theorem dX1_could_40 : decode cX1_could 40 = .ok (.aload 5, 2) := dk_25 5 (dk_at dksX1_could_1 16 rfl rfl)
theorem dX1_could_42 : decode cX1_could 42 = .ok (.iload_n 1, 1) := dk_27 (dk_at dksX1_could_1 18 rfl rfl)
theorem dX1_could_43 : decode cX1_could 43 = .ok (.iload_n 2, 1) := dk_28 (dk_at dksX1_could_1 19 rfl rfl)
theorem dX1_could_44 : decode cX1_could 44 = .ok (.iload_n 3, 1) := dk_29 (dk_at dksX1_could_1 20 rfl rfl)
theorem dX1_could_45 : decode cX1_could 45 = .ok (.iload 4, 2) := dk_21 4 (dk_at dksX1_could_1 21 rfl rfl)
theorem dX1_could_47 : decode cX1_could 47 = .ok (.invokevirtual 271, 3) := dk_182 1 15 (dk_at dksX1_could_2 0 rfl rfl)
theorem dX1_could_50 : decode cX1_could 50 = .ok (.ifCond .le 12, 3) := dk_158 0 12 (dk_at dksX1_could_2 3 rfl rfl)
theorem dX1_could_53 : decode cX1_could 53 = .ok (.iload 6, 2) := dk_21 6 (dk_at dksX1_could_2 6 rfl rfl)
theorem dX1_could_55 : decode cX1_could 55 = .ok (.iconst 1, 1) := dk_4 (dk_at dksX1_could_2 8 rfl rfl)
theorem dX1_could_56 : decode cX1_could 56 = .ok (.iload 7, 2) := dk_21 7 (dk_at dksX1_could_2 9 rfl rfl)
theorem dX1_could_58 : decode cX1_could 58 = .ok (.ishl, 1) := dk_120 (dk_at dksX1_could_2 11 rfl rfl)
theorem dX1_could_59 : decode cX1_could 59 = .ok (.ior, 1) := dk_128 (dk_at dksX1_could_2 12 rfl rfl)
theorem dX1_could_60 : decode cX1_could 60 = .ok (.istore 6, 2) := dk_54 6 (dk_at dksX1_could_2 13 rfl rfl)
theorem dX1_could_62 : decode cX1_could 62 = .ok (.iinc 7 1, 3) := dk_132 7 1 (dk_at dksX1_could_2 15 rfl rfl)
theorem dX1_could_65 : decode cX1_could 65 = .ok (.goto (-38), 3) := dk_167 255 218 (dk_at dksX1_could_2 18 rfl rfl)
theorem dX1_could_68 : decode cX1_could 68 = .ok (.iload 6, 2) := dk_21 6 (dk_at dksX1_could_2 21 rfl rfl)
theorem dX1_could_70 : decode cX1_could 70 = .ok (.ireturn, 1) := dk_172 (dk_at dksX1_could_2 23 rfl rfl)
abbrev cX1_wrong : ByteArray := prog_1_method_28_code
def yX1_wrong : MethodName := ⟨RX1, "wrong", "(I)I"⟩
def dkwX1_wrong_2 : List UInt8 := [182, 1, 29, 61, 28, 42, 42, 182, 1, 3, 182, 1, 25, 2, 130, 126, 172]
abbrev dktX1_wrong_2 : List UInt8 := dkwX1_wrong_2 ++ []
def dkwX1_wrong_1 : List UInt8 := [180, 0, 25, 185, 0, 113, 1, 0, 120, 4, 100, 42, 42, 182, 1, 3, 182, 1, 25, 2, 130, 126, 172, 42]
abbrev dktX1_wrong_1 : List UInt8 := dkwX1_wrong_1 ++ dktX1_wrong_2
def dkwX1_wrong_0 : List UInt8 := [27, 153, 0, 8, 27, 4, 160, 0, 7, 4, 167, 0, 4, 3, 184, 0, 144, 27, 154, 0, 28, 4, 42]
abbrev dktX1_wrong_0 : List UInt8 := dkwX1_wrong_0 ++ dktX1_wrong_1
theorem dksX1_wrong_0 : cX1_wrong.data.toList.drop 0 = dktX1_wrong_0 := by decide +kernel
theorem dksX1_wrong_1 : cX1_wrong.data.toList.drop 23 = dktX1_wrong_1 := dk_seg dksX1_wrong_0 23 rfl rfl
theorem dksX1_wrong_2 : cX1_wrong.data.toList.drop 47 = dktX1_wrong_2 := dk_seg dksX1_wrong_1 24 rfl rfl
theorem dX1_wrong_0 : decode cX1_wrong 0 = .ok (.iload_n 1, 1) := dk_27 (dk_at dksX1_wrong_0 0 rfl rfl)
theorem dX1_wrong_1 : decode cX1_wrong 1 = .ok (.ifCond .eq 8, 3) := dk_153 0 8 (dk_at dksX1_wrong_0 1 rfl rfl)
theorem dX1_wrong_4 : decode cX1_wrong 4 = .ok (.iload_n 1, 1) := dk_27 (dk_at dksX1_wrong_0 4 rfl rfl)
theorem dX1_wrong_5 : decode cX1_wrong 5 = .ok (.iconst 1, 1) := dk_4 (dk_at dksX1_wrong_0 5 rfl rfl)
theorem dX1_wrong_6 : decode cX1_wrong 6 = .ok (.if_icmp .ne 7, 3) := dk_160 0 7 (dk_at dksX1_wrong_0 6 rfl rfl)
theorem dX1_wrong_9 : decode cX1_wrong 9 = .ok (.iconst 1, 1) := dk_4 (dk_at dksX1_wrong_0 9 rfl rfl)
theorem dX1_wrong_10 : decode cX1_wrong 10 = .ok (.goto 4, 3) := dk_167 0 4 (dk_at dksX1_wrong_0 10 rfl rfl)
theorem dX1_wrong_13 : decode cX1_wrong 13 = .ok (.iconst 0, 1) := dk_3 (dk_at dksX1_wrong_0 13 rfl rfl)
theorem dX1_wrong_14 : decode cX1_wrong 14 = .ok (.invokestatic 144, 3) := dk_184 0 144 (dk_at dksX1_wrong_0 14 rfl rfl)
theorem dX1_wrong_17 : decode cX1_wrong 17 = .ok (.iload_n 1, 1) := dk_27 (dk_at dksX1_wrong_0 17 rfl rfl)
theorem dX1_wrong_18 : decode cX1_wrong 18 = .ok (.ifCond .ne 28, 3) := dk_154 0 28 (dk_at dksX1_wrong_0 18 rfl rfl)
theorem dX1_wrong_21 : decode cX1_wrong 21 = .ok (.iconst 1, 1) := dk_4 (dk_at dksX1_wrong_0 21 rfl rfl)
theorem dX1_wrong_22 : decode cX1_wrong 22 = .ok (.aload_n 0, 1) := dk_42 (dk_at dksX1_wrong_0 22 rfl rfl)
theorem dX1_wrong_23 : decode cX1_wrong 23 = .ok (.getfield 25, 3) := dk_180 0 25 (dk_at dksX1_wrong_1 0 rfl rfl)
theorem dX1_wrong_26 : decode cX1_wrong 26 = .ok (.invokeinterface 113 1, 5) := by decide +kernel
theorem dX1_wrong_31 : decode cX1_wrong 31 = .ok (.ishl, 1) := dk_120 (dk_at dksX1_wrong_1 8 rfl rfl)
theorem dX1_wrong_32 : decode cX1_wrong 32 = .ok (.iconst 1, 1) := dk_4 (dk_at dksX1_wrong_1 9 rfl rfl)
theorem dX1_wrong_33 : decode cX1_wrong 33 = .ok (.isub, 1) := dk_100 (dk_at dksX1_wrong_1 10 rfl rfl)
theorem dX1_wrong_34 : decode cX1_wrong 34 = .ok (.aload_n 0, 1) := dk_42 (dk_at dksX1_wrong_1 11 rfl rfl)
theorem dX1_wrong_35 : decode cX1_wrong 35 = .ok (.aload_n 0, 1) := dk_42 (dk_at dksX1_wrong_1 12 rfl rfl)
theorem dX1_wrong_36 : decode cX1_wrong 36 = .ok (.invokevirtual 259, 3) := dk_182 1 3 (dk_at dksX1_wrong_1 13 rfl rfl)
theorem dX1_wrong_39 : decode cX1_wrong 39 = .ok (.invokevirtual 281, 3) := dk_182 1 25 (dk_at dksX1_wrong_1 16 rfl rfl)
theorem dX1_wrong_42 : decode cX1_wrong 42 = .ok (.iconst (-1), 1) := dk_2 (dk_at dksX1_wrong_1 19 rfl rfl)
theorem dX1_wrong_43 : decode cX1_wrong 43 = .ok (.ixor, 1) := dk_130 (dk_at dksX1_wrong_1 20 rfl rfl)
theorem dX1_wrong_44 : decode cX1_wrong 44 = .ok (.iand, 1) := dk_126 (dk_at dksX1_wrong_1 21 rfl rfl)
theorem dX1_wrong_45 : decode cX1_wrong 45 = .ok (.ireturn, 1) := dk_172 (dk_at dksX1_wrong_1 22 rfl rfl)
theorem dX1_wrong_46 : decode cX1_wrong 46 = .ok (.aload_n 0, 1) := dk_42 (dk_at dksX1_wrong_1 23 rfl rfl)
theorem dX1_wrong_47 : decode cX1_wrong 47 = .ok (.invokevirtual 285, 3) := dk_182 1 29 (dk_at dksX1_wrong_2 0 rfl rfl)
theorem dX1_wrong_50 : decode cX1_wrong 50 = .ok (.istore_n 2, 1) := dk_61 (dk_at dksX1_wrong_2 3 rfl rfl)
theorem dX1_wrong_51 : decode cX1_wrong 51 = .ok (.iload_n 2, 1) := dk_28 (dk_at dksX1_wrong_2 4 rfl rfl)
theorem dX1_wrong_52 : decode cX1_wrong 52 = .ok (.aload_n 0, 1) := dk_42 (dk_at dksX1_wrong_2 5 rfl rfl)
theorem dX1_wrong_53 : decode cX1_wrong 53 = .ok (.aload_n 0, 1) := dk_42 (dk_at dksX1_wrong_2 6 rfl rfl)
theorem dX1_wrong_54 : decode cX1_wrong 54 = .ok (.invokevirtual 259, 3) := dk_182 1 3 (dk_at dksX1_wrong_2 7 rfl rfl)
theorem dX1_wrong_57 : decode cX1_wrong 57 = .ok (.invokevirtual 281, 3) := dk_182 1 25 (dk_at dksX1_wrong_2 10 rfl rfl)
theorem dX1_wrong_60 : decode cX1_wrong 60 = .ok (.iconst (-1), 1) := dk_2 (dk_at dksX1_wrong_2 13 rfl rfl)
theorem dX1_wrong_61 : decode cX1_wrong 61 = .ok (.ixor, 1) := dk_130 (dk_at dksX1_wrong_2 14 rfl rfl)
theorem dX1_wrong_62 : decode cX1_wrong 62 = .ok (.iand, 1) := dk_126 (dk_at dksX1_wrong_2 15 rfl rfl)
theorem dX1_wrong_63 : decode cX1_wrong 63 = .ok (.ireturn, 1) := dk_172 (dk_at dksX1_wrong_2 16 rfl rfl)
abbrev cX1_above : ByteArray := prog_1_method_27_code
def yX1_above : MethodName := ⟨RX1, "above", "()I"⟩
def dkwX1_above_10 : List UInt8 := [29, 27, 159, 0, 7, 4, 167, 0, 4, 3, 61, 29, 60, 167, 255, 90, 27, 172]
abbrev dktX1_above_10 : List UInt8 := dkwX1_above_10 ++ []
def dkwX1_above_9 : List UInt8 := [21, 4, 29, 21, 4, 122, 4, 126, 4, 160, 0, 7, 4, 167, 0, 4, 3, 84, 132, 4, 1, 167, 255, 214]
abbrev dktX1_above_9 : List UInt8 := dkwX1_above_9 ++ dktX1_above_10
def dkwX1_above_8 : List UInt8 := [3, 54, 4, 21, 4, 42, 180, 0, 25, 185, 0, 113, 1, 0, 162, 0, 34, 42, 180, 0, 55, 180, 1, 21]
abbrev dktX1_above_8 : List UInt8 := dkwX1_above_8 ++ dktX1_above_9
def dkwX1_above_7 : List UInt8 := [25, 5, 180, 1, 1, 182, 1, 15, 158, 0, 10, 29, 4, 21, 4, 120, 128, 62, 132, 4, 1, 167, 255, 163]
abbrev dktX1_above_7 : List UInt8 := dkwX1_above_7 ++ dktX1_above_8
def dkwX1_above_6 : List UInt8 := [180, 0, 254, 50, 42, 180, 0, 55, 25, 5, 180, 0, 247, 25, 5, 180, 0, 250, 25, 5, 180, 0, 251]
abbrev dktX1_above_6 : List UInt8 := dkwX1_above_6 ++ dktX1_above_7
def dkwX1_above_5 : List UInt8 := [192, 0, 213, 58, 5, 42, 180, 0, 55, 180, 1, 21, 21, 4, 51, 153, 0, 50, 42, 180, 0, 48, 25, 5]
abbrev dktX1_above_5 : List UInt8 := dkwX1_above_5 ++ dktX1_above_6
def dkwX1_above_4 : List UInt8 := [180, 0, 25, 185, 0, 113, 1, 0, 162, 0, 85, 42, 180, 0, 25, 21, 4, 185, 0, 161, 2, 0]
abbrev dktX1_above_4 : List UInt8 := dkwX1_above_4 ++ dktX1_above_5
def dkwX1_above_3 : List UInt8 := [185, 0, 113, 1, 0, 120, 4, 100, 60, 4, 61, 28, 153, 0, 168, 3, 62, 3, 54, 4, 21, 4, 42]
abbrev dktX1_above_3 : List UInt8 := dkwX1_above_3 ++ dktX1_above_4
def dkwX1_above_2 : List UInt8 := [185, 0, 161, 2, 0, 192, 0, 213, 180, 0, 254, 79, 132, 1, 1, 167, 255, 205, 4, 42, 180, 0, 25]
abbrev dktX1_above_2 : List UInt8 := dkwX1_above_2 ++ dktX1_above_3
def dkwX1_above_1 : List UInt8 := [42, 180, 0, 55, 180, 1, 6, 27, 4, 79, 42, 180, 0, 55, 180, 1, 18, 27, 42, 180, 0, 25, 27]
abbrev dktX1_above_1 : List UInt8 := dkwX1_above_1 ++ dktX1_above_2
def dkwX1_above_0 : List UInt8 := [42, 180, 0, 55, 3, 182, 0, 239, 87, 3, 60, 27, 42, 180, 0, 25, 185, 0, 113, 1, 0, 162, 0, 44]
abbrev dktX1_above_0 : List UInt8 := dkwX1_above_0 ++ dktX1_above_1
theorem dksX1_above_0 : cX1_above.data.toList.drop 0 = dktX1_above_0 := by decide +kernel
theorem dksX1_above_1 : cX1_above.data.toList.drop 24 = dktX1_above_1 := dk_seg dksX1_above_0 24 rfl rfl
theorem dksX1_above_2 : cX1_above.data.toList.drop 47 = dktX1_above_2 := dk_seg dksX1_above_1 23 rfl rfl
theorem dksX1_above_3 : cX1_above.data.toList.drop 70 = dktX1_above_3 := dk_seg dksX1_above_2 23 rfl rfl
theorem dksX1_above_4 : cX1_above.data.toList.drop 93 = dktX1_above_4 := dk_seg dksX1_above_3 23 rfl rfl
theorem dksX1_above_5 : cX1_above.data.toList.drop 115 = dktX1_above_5 := dk_seg dksX1_above_4 22 rfl rfl
theorem dksX1_above_6 : cX1_above.data.toList.drop 139 = dktX1_above_6 := dk_seg dksX1_above_5 24 rfl rfl
theorem dksX1_above_7 : cX1_above.data.toList.drop 162 = dktX1_above_7 := dk_seg dksX1_above_6 23 rfl rfl
theorem dksX1_above_8 : cX1_above.data.toList.drop 186 = dktX1_above_8 := dk_seg dksX1_above_7 24 rfl rfl
theorem dksX1_above_9 : cX1_above.data.toList.drop 210 = dktX1_above_9 := dk_seg dksX1_above_8 24 rfl rfl
theorem dksX1_above_10 : cX1_above.data.toList.drop 234 = dktX1_above_10 := dk_seg dksX1_above_9 24 rfl rfl
theorem dX1_above_0 : decode cX1_above 0 = .ok (.aload_n 0, 1) := dk_42 (dk_at dksX1_above_0 0 rfl rfl)
theorem dX1_above_1 : decode cX1_above 1 = .ok (.getfield 55, 3) := dk_180 0 55 (dk_at dksX1_above_0 1 rfl rfl)
theorem dX1_above_4 : decode cX1_above 4 = .ok (.iconst 0, 1) := dk_3 (dk_at dksX1_above_0 4 rfl rfl)
theorem dX1_above_5 : decode cX1_above 5 = .ok (.invokevirtual 239, 3) := dk_182 0 239 (dk_at dksX1_above_0 5 rfl rfl)
theorem dX1_above_8 : decode cX1_above 8 = .ok (.pop, 1) := dk_87 (dk_at dksX1_above_0 8 rfl rfl)
theorem dX1_above_9 : decode cX1_above 9 = .ok (.iconst 0, 1) := dk_3 (dk_at dksX1_above_0 9 rfl rfl)
theorem dX1_above_10 : decode cX1_above 10 = .ok (.istore_n 1, 1) := dk_60 (dk_at dksX1_above_0 10 rfl rfl)
theorem dX1_above_11 : decode cX1_above 11 = .ok (.iload_n 1, 1) := dk_27 (dk_at dksX1_above_0 11 rfl rfl)
theorem dX1_above_12 : decode cX1_above 12 = .ok (.aload_n 0, 1) := dk_42 (dk_at dksX1_above_0 12 rfl rfl)
theorem dX1_above_13 : decode cX1_above 13 = .ok (.getfield 25, 3) := dk_180 0 25 (dk_at dksX1_above_0 13 rfl rfl)
theorem dX1_above_16 : decode cX1_above 16 = .ok (.invokeinterface 113 1, 5) := by decide +kernel
theorem dX1_above_21 : decode cX1_above 21 = .ok (.if_icmp .ge 44, 3) := dk_162 0 44 (dk_at dksX1_above_0 21 rfl rfl)
theorem dX1_above_24 : decode cX1_above 24 = .ok (.aload_n 0, 1) := dk_42 (dk_at dksX1_above_1 0 rfl rfl)
theorem dX1_above_25 : decode cX1_above 25 = .ok (.getfield 55, 3) := dk_180 0 55 (dk_at dksX1_above_1 1 rfl rfl)
theorem dX1_above_28 : decode cX1_above 28 = .ok (.getfield 262, 3) := dk_180 1 6 (dk_at dksX1_above_1 4 rfl rfl)
theorem dX1_above_31 : decode cX1_above 31 = .ok (.iload_n 1, 1) := dk_27 (dk_at dksX1_above_1 7 rfl rfl)
theorem dX1_above_32 : decode cX1_above 32 = .ok (.iconst 1, 1) := dk_4 (dk_at dksX1_above_1 8 rfl rfl)
theorem dX1_above_33 : decode cX1_above 33 = .ok (.iastore, 1) := dk_79 (dk_at dksX1_above_1 9 rfl rfl)
theorem dX1_above_34 : decode cX1_above 34 = .ok (.aload_n 0, 1) := dk_42 (dk_at dksX1_above_1 10 rfl rfl)
theorem dX1_above_35 : decode cX1_above 35 = .ok (.getfield 55, 3) := dk_180 0 55 (dk_at dksX1_above_1 11 rfl rfl)
theorem dX1_above_38 : decode cX1_above 38 = .ok (.getfield 274, 3) := dk_180 1 18 (dk_at dksX1_above_1 14 rfl rfl)
theorem dX1_above_41 : decode cX1_above 41 = .ok (.iload_n 1, 1) := dk_27 (dk_at dksX1_above_1 17 rfl rfl)
theorem dX1_above_42 : decode cX1_above 42 = .ok (.aload_n 0, 1) := dk_42 (dk_at dksX1_above_1 18 rfl rfl)
theorem dX1_above_43 : decode cX1_above 43 = .ok (.getfield 25, 3) := dk_180 0 25 (dk_at dksX1_above_1 19 rfl rfl)
theorem dX1_above_46 : decode cX1_above 46 = .ok (.iload_n 1, 1) := dk_27 (dk_at dksX1_above_1 22 rfl rfl)
theorem dX1_above_47 : decode cX1_above 47 = .ok (.invokeinterface 161 2, 5) := by decide +kernel
theorem dX1_above_52 : decode cX1_above 52 = .ok (.checkcast 213, 3) := dk_192 0 213 (dk_at dksX1_above_2 5 rfl rfl)
theorem dX1_above_55 : decode cX1_above 55 = .ok (.getfield 254, 3) := dk_180 0 254 (dk_at dksX1_above_2 8 rfl rfl)
theorem dX1_above_58 : decode cX1_above 58 = .ok (.iastore, 1) := dk_79 (dk_at dksX1_above_2 11 rfl rfl)
theorem dX1_above_59 : decode cX1_above 59 = .ok (.iinc 1 1, 3) := dk_132 1 1 (dk_at dksX1_above_2 12 rfl rfl)
theorem dX1_above_62 : decode cX1_above 62 = .ok (.goto (-51), 3) := dk_167 255 205 (dk_at dksX1_above_2 15 rfl rfl)
theorem dX1_above_65 : decode cX1_above 65 = .ok (.iconst 1, 1) := dk_4 (dk_at dksX1_above_2 18 rfl rfl)
theorem dX1_above_66 : decode cX1_above 66 = .ok (.aload_n 0, 1) := dk_42 (dk_at dksX1_above_2 19 rfl rfl)
theorem dX1_above_67 : decode cX1_above 67 = .ok (.getfield 25, 3) := dk_180 0 25 (dk_at dksX1_above_2 20 rfl rfl)
theorem dX1_above_70 : decode cX1_above 70 = .ok (.invokeinterface 113 1, 5) := by decide +kernel
theorem dX1_above_75 : decode cX1_above 75 = .ok (.ishl, 1) := dk_120 (dk_at dksX1_above_3 5 rfl rfl)
theorem dX1_above_76 : decode cX1_above 76 = .ok (.iconst 1, 1) := dk_4 (dk_at dksX1_above_3 6 rfl rfl)
theorem dX1_above_77 : decode cX1_above 77 = .ok (.isub, 1) := dk_100 (dk_at dksX1_above_3 7 rfl rfl)
theorem dX1_above_78 : decode cX1_above 78 = .ok (.istore_n 1, 1) := dk_60 (dk_at dksX1_above_3 8 rfl rfl)
theorem dX1_above_79 : decode cX1_above 79 = .ok (.iconst 1, 1) := dk_4 (dk_at dksX1_above_3 9 rfl rfl)
theorem dX1_above_80 : decode cX1_above 80 = .ok (.istore_n 2, 1) := dk_61 (dk_at dksX1_above_3 10 rfl rfl)
theorem dX1_above_81 : decode cX1_above 81 = .ok (.iload_n 2, 1) := dk_28 (dk_at dksX1_above_3 11 rfl rfl)
theorem dX1_above_82 : decode cX1_above 82 = .ok (.ifCond .eq 168, 3) := dk_153 0 168 (dk_at dksX1_above_3 12 rfl rfl)
theorem dX1_above_85 : decode cX1_above 85 = .ok (.iconst 0, 1) := dk_3 (dk_at dksX1_above_3 15 rfl rfl)
theorem dX1_above_86 : decode cX1_above 86 = .ok (.istore_n 3, 1) := dk_62 (dk_at dksX1_above_3 16 rfl rfl)
theorem dX1_above_87 : decode cX1_above 87 = .ok (.iconst 0, 1) := dk_3 (dk_at dksX1_above_3 17 rfl rfl)
theorem dX1_above_88 : decode cX1_above 88 = .ok (.istore 4, 2) := dk_54 4 (dk_at dksX1_above_3 18 rfl rfl)
theorem dX1_above_90 : decode cX1_above 90 = .ok (.iload 4, 2) := dk_21 4 (dk_at dksX1_above_3 20 rfl rfl)
theorem dX1_above_92 : decode cX1_above 92 = .ok (.aload_n 0, 1) := dk_42 (dk_at dksX1_above_3 22 rfl rfl)
theorem dX1_above_93 : decode cX1_above 93 = .ok (.getfield 25, 3) := dk_180 0 25 (dk_at dksX1_above_4 0 rfl rfl)
theorem dX1_above_96 : decode cX1_above 96 = .ok (.invokeinterface 113 1, 5) := by decide +kernel
theorem dX1_above_101 : decode cX1_above 101 = .ok (.if_icmp .ge 85, 3) := dk_162 0 85 (dk_at dksX1_above_4 8 rfl rfl)
theorem dX1_above_104 : decode cX1_above 104 = .ok (.aload_n 0, 1) := dk_42 (dk_at dksX1_above_4 11 rfl rfl)
theorem dX1_above_105 : decode cX1_above 105 = .ok (.getfield 25, 3) := dk_180 0 25 (dk_at dksX1_above_4 12 rfl rfl)
theorem dX1_above_108 : decode cX1_above 108 = .ok (.iload 4, 2) := dk_21 4 (dk_at dksX1_above_4 15 rfl rfl)
theorem dX1_above_110 : decode cX1_above 110 = .ok (.invokeinterface 161 2, 5) := by decide +kernel
theorem dX1_above_115 : decode cX1_above 115 = .ok (.checkcast 213, 3) := dk_192 0 213 (dk_at dksX1_above_5 0 rfl rfl)
theorem dX1_above_118 : decode cX1_above 118 = .ok (.astore 5, 2) := dk_58 5 (dk_at dksX1_above_5 3 rfl rfl)
theorem dX1_above_120 : decode cX1_above 120 = .ok (.aload_n 0, 1) := dk_42 (dk_at dksX1_above_5 5 rfl rfl)
theorem dX1_above_121 : decode cX1_above 121 = .ok (.getfield 55, 3) := dk_180 0 55 (dk_at dksX1_above_5 6 rfl rfl)
theorem dX1_above_124 : decode cX1_above 124 = .ok (.getfield 277, 3) := dk_180 1 21 (dk_at dksX1_above_5 9 rfl rfl)
theorem dX1_above_127 : decode cX1_above 127 = .ok (.iload 4, 2) := dk_21 4 (dk_at dksX1_above_5 12 rfl rfl)
theorem dX1_above_129 : decode cX1_above 129 = .ok (.baload, 1) := dk_51 (dk_at dksX1_above_5 14 rfl rfl)
theorem dX1_above_130 : decode cX1_above 130 = .ok (.ifCond .eq 50, 3) := dk_153 0 50 (dk_at dksX1_above_5 15 rfl rfl)
theorem dX1_above_133 : decode cX1_above 133 = .ok (.aload_n 0, 1) := dk_42 (dk_at dksX1_above_5 18 rfl rfl)
theorem dX1_above_134 : decode cX1_above 134 = .ok (.getfield 48, 3) := dk_180 0 48 (dk_at dksX1_above_5 19 rfl rfl)
theorem dX1_above_137 : decode cX1_above 137 = .ok (.aload 5, 2) := dk_25 5 (dk_at dksX1_above_5 22 rfl rfl)
theorem dX1_above_139 : decode cX1_above 139 = .ok (.getfield 254, 3) := dk_180 0 254 (dk_at dksX1_above_6 0 rfl rfl)
theorem dX1_above_142 : decode cX1_above 142 = .ok (.aaload, 1) := dk_50 (dk_at dksX1_above_6 3 rfl rfl)
theorem dX1_above_143 : decode cX1_above 143 = .ok (.aload_n 0, 1) := dk_42 (dk_at dksX1_above_6 4 rfl rfl)
theorem dX1_above_144 : decode cX1_above 144 = .ok (.getfield 55, 3) := dk_180 0 55 (dk_at dksX1_above_6 5 rfl rfl)
theorem dX1_above_147 : decode cX1_above 147 = .ok (.aload 5, 2) := dk_25 5 (dk_at dksX1_above_6 8 rfl rfl)
theorem dX1_above_149 : decode cX1_above 149 = .ok (.getfield 247, 3) := dk_180 0 247 (dk_at dksX1_above_6 10 rfl rfl)
theorem dX1_above_152 : decode cX1_above 152 = .ok (.aload 5, 2) := dk_25 5 (dk_at dksX1_above_6 13 rfl rfl)
theorem dX1_above_154 : decode cX1_above 154 = .ok (.getfield 250, 3) := dk_180 0 250 (dk_at dksX1_above_6 15 rfl rfl)
theorem dX1_above_157 : decode cX1_above 157 = .ok (.aload 5, 2) := dk_25 5 (dk_at dksX1_above_6 18 rfl rfl)
theorem dX1_above_159 : decode cX1_above 159 = .ok (.getfield 251, 3) := dk_180 0 251 (dk_at dksX1_above_6 20 rfl rfl)
theorem dX1_above_162 : decode cX1_above 162 = .ok (.aload 5, 2) := dk_25 5 (dk_at dksX1_above_7 0 rfl rfl)
theorem dX1_above_164 : decode cX1_above 164 = .ok (.getfield 257, 3) := dk_180 1 1 (dk_at dksX1_above_7 2 rfl rfl)
theorem dX1_above_167 : decode cX1_above 167 = .ok (.invokevirtual 271, 3) := dk_182 1 15 (dk_at dksX1_above_7 5 rfl rfl)
theorem dX1_above_170 : decode cX1_above 170 = .ok (.ifCond .le 10, 3) := dk_158 0 10 (dk_at dksX1_above_7 8 rfl rfl)
theorem dX1_above_173 : decode cX1_above 173 = .ok (.iload_n 3, 1) := dk_29 (dk_at dksX1_above_7 11 rfl rfl)
theorem dX1_above_174 : decode cX1_above 174 = .ok (.iconst 1, 1) := dk_4 (dk_at dksX1_above_7 12 rfl rfl)
theorem dX1_above_175 : decode cX1_above 175 = .ok (.iload 4, 2) := dk_21 4 (dk_at dksX1_above_7 13 rfl rfl)
theorem dX1_above_177 : decode cX1_above 177 = .ok (.ishl, 1) := dk_120 (dk_at dksX1_above_7 15 rfl rfl)
theorem dX1_above_178 : decode cX1_above 178 = .ok (.ior, 1) := dk_128 (dk_at dksX1_above_7 16 rfl rfl)
theorem dX1_above_179 : decode cX1_above 179 = .ok (.istore_n 3, 1) := dk_62 (dk_at dksX1_above_7 17 rfl rfl)
theorem dX1_above_180 : decode cX1_above 180 = .ok (.iinc 4 1, 3) := dk_132 4 1 (dk_at dksX1_above_7 18 rfl rfl)
theorem dX1_above_183 : decode cX1_above 183 = .ok (.goto (-93), 3) := dk_167 255 163 (dk_at dksX1_above_7 21 rfl rfl)
theorem dX1_above_186 : decode cX1_above 186 = .ok (.iconst 0, 1) := dk_3 (dk_at dksX1_above_8 0 rfl rfl)
theorem dX1_above_187 : decode cX1_above 187 = .ok (.istore 4, 2) := dk_54 4 (dk_at dksX1_above_8 1 rfl rfl)
theorem dX1_above_189 : decode cX1_above 189 = .ok (.iload 4, 2) := dk_21 4 (dk_at dksX1_above_8 3 rfl rfl)
theorem dX1_above_191 : decode cX1_above 191 = .ok (.aload_n 0, 1) := dk_42 (dk_at dksX1_above_8 5 rfl rfl)
theorem dX1_above_192 : decode cX1_above 192 = .ok (.getfield 25, 3) := dk_180 0 25 (dk_at dksX1_above_8 6 rfl rfl)
theorem dX1_above_195 : decode cX1_above 195 = .ok (.invokeinterface 113 1, 5) := by decide +kernel
theorem dX1_above_200 : decode cX1_above 200 = .ok (.if_icmp .ge 34, 3) := dk_162 0 34 (dk_at dksX1_above_8 14 rfl rfl)
theorem dX1_above_203 : decode cX1_above 203 = .ok (.aload_n 0, 1) := dk_42 (dk_at dksX1_above_8 17 rfl rfl)
theorem dX1_above_204 : decode cX1_above 204 = .ok (.getfield 55, 3) := dk_180 0 55 (dk_at dksX1_above_8 18 rfl rfl)
theorem dX1_above_207 : decode cX1_above 207 = .ok (.getfield 277, 3) := dk_180 1 21 (dk_at dksX1_above_8 21 rfl rfl)
theorem dX1_above_210 : decode cX1_above 210 = .ok (.iload 4, 2) := dk_21 4 (dk_at dksX1_above_9 0 rfl rfl)
theorem dX1_above_212 : decode cX1_above 212 = .ok (.iload_n 3, 1) := dk_29 (dk_at dksX1_above_9 2 rfl rfl)
theorem dX1_above_213 : decode cX1_above 213 = .ok (.iload 4, 2) := dk_21 4 (dk_at dksX1_above_9 3 rfl rfl)
theorem dX1_above_215 : decode cX1_above 215 = .ok (.ishr, 1) := dk_122 (dk_at dksX1_above_9 5 rfl rfl)
theorem dX1_above_216 : decode cX1_above 216 = .ok (.iconst 1, 1) := dk_4 (dk_at dksX1_above_9 6 rfl rfl)
theorem dX1_above_217 : decode cX1_above 217 = .ok (.iand, 1) := dk_126 (dk_at dksX1_above_9 7 rfl rfl)
theorem dX1_above_218 : decode cX1_above 218 = .ok (.iconst 1, 1) := dk_4 (dk_at dksX1_above_9 8 rfl rfl)
theorem dX1_above_219 : decode cX1_above 219 = .ok (.if_icmp .ne 7, 3) := dk_160 0 7 (dk_at dksX1_above_9 9 rfl rfl)
theorem dX1_above_222 : decode cX1_above 222 = .ok (.iconst 1, 1) := dk_4 (dk_at dksX1_above_9 12 rfl rfl)
theorem dX1_above_223 : decode cX1_above 223 = .ok (.goto 4, 3) := dk_167 0 4 (dk_at dksX1_above_9 13 rfl rfl)
theorem dX1_above_226 : decode cX1_above 226 = .ok (.iconst 0, 1) := dk_3 (dk_at dksX1_above_9 16 rfl rfl)
theorem dX1_above_227 : decode cX1_above 227 = .ok (.bastore, 1) := dk_84 (dk_at dksX1_above_9 17 rfl rfl)
theorem dX1_above_228 : decode cX1_above 228 = .ok (.iinc 4 1, 3) := dk_132 4 1 (dk_at dksX1_above_9 18 rfl rfl)
theorem dX1_above_231 : decode cX1_above 231 = .ok (.goto (-42), 3) := dk_167 255 214 (dk_at dksX1_above_9 21 rfl rfl)
theorem dX1_above_234 : decode cX1_above 234 = .ok (.iload_n 3, 1) := dk_29 (dk_at dksX1_above_10 0 rfl rfl)
theorem dX1_above_235 : decode cX1_above 235 = .ok (.iload_n 1, 1) := dk_27 (dk_at dksX1_above_10 1 rfl rfl)
theorem dX1_above_236 : decode cX1_above 236 = .ok (.if_icmp .eq 7, 3) := dk_159 0 7 (dk_at dksX1_above_10 2 rfl rfl)
theorem dX1_above_239 : decode cX1_above 239 = .ok (.iconst 1, 1) := dk_4 (dk_at dksX1_above_10 5 rfl rfl)
theorem dX1_above_240 : decode cX1_above 240 = .ok (.goto 4, 3) := dk_167 0 4 (dk_at dksX1_above_10 6 rfl rfl)
theorem dX1_above_243 : decode cX1_above 243 = .ok (.iconst 0, 1) := dk_3 (dk_at dksX1_above_10 9 rfl rfl)
theorem dX1_above_244 : decode cX1_above 244 = .ok (.istore_n 2, 1) := dk_61 (dk_at dksX1_above_10 10 rfl rfl)
theorem dX1_above_245 : decode cX1_above 245 = .ok (.iload_n 3, 1) := dk_29 (dk_at dksX1_above_10 11 rfl rfl)
theorem dX1_above_246 : decode cX1_above 246 = .ok (.istore_n 1, 1) := dk_60 (dk_at dksX1_above_10 12 rfl rfl)
theorem dX1_above_247 : decode cX1_above 247 = .ok (.goto (-166), 3) := dk_167 255 90 (dk_at dksX1_above_10 13 rfl rfl)
theorem dX1_above_250 : decode cX1_above 250 = .ok (.iload_n 1, 1) := dk_27 (dk_at dksX1_above_10 16 rfl rfl)
theorem dX1_above_251 : decode cX1_above 251 = .ok (.ireturn, 1) := dk_172 (dk_at dksX1_above_10 17 rfl rfl)
abbrev cX1_mended : ByteArray := prog_1_method_31_code
def yX1_mended : MethodName := ⟨RX1, "mended", "(I)I"⟩
def dkwX1_mended_1 : List UInt8 := [167, 0, 4, 3, 184, 0, 144, 42, 180, 0, 104, 27, 46, 172]
abbrev dktX1_mended_1 : List UInt8 := dkwX1_mended_1 ++ []
def dkwX1_mended_0 : List UInt8 := [42, 180, 0, 104, 198, 0, 22, 27, 3, 42, 180, 0, 104, 190, 4, 100, 184, 0, 140, 153, 0, 7, 4]
abbrev dktX1_mended_0 : List UInt8 := dkwX1_mended_0 ++ dktX1_mended_1
theorem dksX1_mended_0 : cX1_mended.data.toList.drop 0 = dktX1_mended_0 := by decide +kernel
theorem dksX1_mended_1 : cX1_mended.data.toList.drop 23 = dktX1_mended_1 := dk_seg dksX1_mended_0 23 rfl rfl
theorem dX1_mended_0 : decode cX1_mended 0 = .ok (.aload_n 0, 1) := dk_42 (dk_at dksX1_mended_0 0 rfl rfl)
theorem dX1_mended_1 : decode cX1_mended 1 = .ok (.getfield 104, 3) := dk_180 0 104 (dk_at dksX1_mended_0 1 rfl rfl)
theorem dX1_mended_4 : decode cX1_mended 4 = .ok (.ifnull 22, 3) := dk_198 0 22 (dk_at dksX1_mended_0 4 rfl rfl)
theorem dX1_mended_7 : decode cX1_mended 7 = .ok (.iload_n 1, 1) := dk_27 (dk_at dksX1_mended_0 7 rfl rfl)
theorem dX1_mended_8 : decode cX1_mended 8 = .ok (.iconst 0, 1) := dk_3 (dk_at dksX1_mended_0 8 rfl rfl)
theorem dX1_mended_9 : decode cX1_mended 9 = .ok (.aload_n 0, 1) := dk_42 (dk_at dksX1_mended_0 9 rfl rfl)
theorem dX1_mended_10 : decode cX1_mended 10 = .ok (.getfield 104, 3) := dk_180 0 104 (dk_at dksX1_mended_0 10 rfl rfl)
theorem dX1_mended_13 : decode cX1_mended 13 = .ok (.arraylength, 1) := dk_190 (dk_at dksX1_mended_0 13 rfl rfl)
theorem dX1_mended_14 : decode cX1_mended 14 = .ok (.iconst 1, 1) := dk_4 (dk_at dksX1_mended_0 14 rfl rfl)
theorem dX1_mended_15 : decode cX1_mended 15 = .ok (.isub, 1) := dk_100 (dk_at dksX1_mended_0 15 rfl rfl)
theorem dX1_mended_16 : decode cX1_mended 16 = .ok (.invokestatic 140, 3) := dk_184 0 140 (dk_at dksX1_mended_0 16 rfl rfl)
theorem dX1_mended_19 : decode cX1_mended 19 = .ok (.ifCond .eq 7, 3) := dk_153 0 7 (dk_at dksX1_mended_0 19 rfl rfl)
theorem dX1_mended_22 : decode cX1_mended 22 = .ok (.iconst 1, 1) := dk_4 (dk_at dksX1_mended_0 22 rfl rfl)
theorem dX1_mended_23 : decode cX1_mended 23 = .ok (.goto 4, 3) := dk_167 0 4 (dk_at dksX1_mended_1 0 rfl rfl)
theorem dX1_mended_26 : decode cX1_mended 26 = .ok (.iconst 0, 1) := dk_3 (dk_at dksX1_mended_1 3 rfl rfl)
theorem dX1_mended_27 : decode cX1_mended 27 = .ok (.invokestatic 144, 3) := dk_184 0 144 (dk_at dksX1_mended_1 4 rfl rfl)
theorem dX1_mended_30 : decode cX1_mended 30 = .ok (.aload_n 0, 1) := dk_42 (dk_at dksX1_mended_1 7 rfl rfl)
theorem dX1_mended_31 : decode cX1_mended 31 = .ok (.getfield 104, 3) := dk_180 0 104 (dk_at dksX1_mended_1 8 rfl rfl)
theorem dX1_mended_34 : decode cX1_mended 34 = .ok (.iload_n 1, 1) := dk_27 (dk_at dksX1_mended_1 11 rfl rfl)
theorem dX1_mended_35 : decode cX1_mended 35 = .ok (.iaload, 1) := dk_46 (dk_at dksX1_mended_1 12 rfl rfl)
theorem dX1_mended_36 : decode cX1_mended 36 = .ok (.ireturn, 1) := dk_172 (dk_at dksX1_mended_1 13 rfl rfl)
abbrev cX1_silence : ByteArray := prog_1_method_32_code
def yX1_silence : MethodName := ⟨RX1, "silence", "(II)I"⟩
def dkwX1_silence_4 : List UInt8 := [132, 4, 1, 167, 255, 177, 29, 172]
abbrev dktX1_silence_4 : List UInt8 := dkwX1_silence_4 ++ []
def dkwX1_silence_3 : List UInt8 := [21, 4, 182, 0, 239, 182, 0, 243, 27, 16, 23, 28, 3, 182, 1, 15, 154, 0, 6, 21, 4, 62]
abbrev dktX1_silence_3 : List UInt8 := dkwX1_silence_3 ++ dktX1_silence_4
def dkwX1_silence_2 : List UInt8 := [184, 0, 134, 29, 184, 0, 134, 161, 0, 6, 167, 0, 35, 42, 180, 0, 48, 5, 50, 42, 180, 0, 55]
abbrev dktX1_silence_2 : List UInt8 := dkwX1_silence_2 ++ dktX1_silence_3
def dkwX1_silence_1 : List UInt8 := [180, 0, 125, 120, 162, 0, 71, 21, 4, 27, 122, 4, 126, 4, 159, 0, 55, 29, 2, 159, 0, 18, 21, 4]
abbrev dktX1_silence_1 : List UInt8 := dkwX1_silence_1 ++ dktX1_silence_2
def dkwX1_silence_0 : List UInt8 := [42, 27, 182, 0, 147, 42, 28, 182, 0, 158, 2, 62, 3, 54, 4, 21, 4, 4, 42, 180, 0, 16]
abbrev dktX1_silence_0 : List UInt8 := dkwX1_silence_0 ++ dktX1_silence_1
theorem dksX1_silence_0 : cX1_silence.data.toList.drop 0 = dktX1_silence_0 := by decide +kernel
theorem dksX1_silence_1 : cX1_silence.data.toList.drop 22 = dktX1_silence_1 := dk_seg dksX1_silence_0 22 rfl rfl
theorem dksX1_silence_2 : cX1_silence.data.toList.drop 46 = dktX1_silence_2 := dk_seg dksX1_silence_1 24 rfl rfl
theorem dksX1_silence_3 : cX1_silence.data.toList.drop 69 = dktX1_silence_3 := dk_seg dksX1_silence_2 23 rfl rfl
theorem dksX1_silence_4 : cX1_silence.data.toList.drop 91 = dktX1_silence_4 := dk_seg dksX1_silence_3 22 rfl rfl
theorem dX1_silence_0 : decode cX1_silence 0 = .ok (.aload_n 0, 1) := dk_42 (dk_at dksX1_silence_0 0 rfl rfl)
theorem dX1_silence_1 : decode cX1_silence 1 = .ok (.iload_n 1, 1) := dk_27 (dk_at dksX1_silence_0 1 rfl rfl)
theorem dX1_silence_2 : decode cX1_silence 2 = .ok (.invokevirtual 147, 3) := dk_182 0 147 (dk_at dksX1_silence_0 2 rfl rfl)
theorem dX1_silence_5 : decode cX1_silence 5 = .ok (.aload_n 0, 1) := dk_42 (dk_at dksX1_silence_0 5 rfl rfl)
theorem dX1_silence_6 : decode cX1_silence 6 = .ok (.iload_n 2, 1) := dk_28 (dk_at dksX1_silence_0 6 rfl rfl)
theorem dX1_silence_7 : decode cX1_silence 7 = .ok (.invokevirtual 158, 3) := dk_182 0 158 (dk_at dksX1_silence_0 7 rfl rfl)
theorem dX1_silence_10 : decode cX1_silence 10 = .ok (.iconst (-1), 1) := dk_2 (dk_at dksX1_silence_0 10 rfl rfl)
theorem dX1_silence_11 : decode cX1_silence 11 = .ok (.istore_n 3, 1) := dk_62 (dk_at dksX1_silence_0 11 rfl rfl)
theorem dX1_silence_12 : decode cX1_silence 12 = .ok (.iconst 0, 1) := dk_3 (dk_at dksX1_silence_0 12 rfl rfl)
theorem dX1_silence_13 : decode cX1_silence 13 = .ok (.istore 4, 2) := dk_54 4 (dk_at dksX1_silence_0 13 rfl rfl)
theorem dX1_silence_15 : decode cX1_silence 15 = .ok (.iload 4, 2) := dk_21 4 (dk_at dksX1_silence_0 15 rfl rfl)
theorem dX1_silence_17 : decode cX1_silence 17 = .ok (.iconst 1, 1) := dk_4 (dk_at dksX1_silence_0 17 rfl rfl)
theorem dX1_silence_18 : decode cX1_silence 18 = .ok (.aload_n 0, 1) := dk_42 (dk_at dksX1_silence_0 18 rfl rfl)
theorem dX1_silence_19 : decode cX1_silence 19 = .ok (.getfield 16, 3) := dk_180 0 16 (dk_at dksX1_silence_0 19 rfl rfl)
theorem dX1_silence_22 : decode cX1_silence 22 = .ok (.getfield 125, 3) := dk_180 0 125 (dk_at dksX1_silence_1 0 rfl rfl)
theorem dX1_silence_25 : decode cX1_silence 25 = .ok (.ishl, 1) := dk_120 (dk_at dksX1_silence_1 3 rfl rfl)
theorem dX1_silence_26 : decode cX1_silence 26 = .ok (.if_icmp .ge 71, 3) := dk_162 0 71 (dk_at dksX1_silence_1 4 rfl rfl)
theorem dX1_silence_29 : decode cX1_silence 29 = .ok (.iload 4, 2) := dk_21 4 (dk_at dksX1_silence_1 7 rfl rfl)
theorem dX1_silence_31 : decode cX1_silence 31 = .ok (.iload_n 1, 1) := dk_27 (dk_at dksX1_silence_1 9 rfl rfl)
theorem dX1_silence_32 : decode cX1_silence 32 = .ok (.ishr, 1) := dk_122 (dk_at dksX1_silence_1 10 rfl rfl)
theorem dX1_silence_33 : decode cX1_silence 33 = .ok (.iconst 1, 1) := dk_4 (dk_at dksX1_silence_1 11 rfl rfl)
theorem dX1_silence_34 : decode cX1_silence 34 = .ok (.iand, 1) := dk_126 (dk_at dksX1_silence_1 12 rfl rfl)
theorem dX1_silence_35 : decode cX1_silence 35 = .ok (.iconst 1, 1) := dk_4 (dk_at dksX1_silence_1 13 rfl rfl)
theorem dX1_silence_36 : decode cX1_silence 36 = .ok (.if_icmp .eq 55, 3) := dk_159 0 55 (dk_at dksX1_silence_1 14 rfl rfl)
theorem dX1_silence_39 : decode cX1_silence 39 = .ok (.iload_n 3, 1) := dk_29 (dk_at dksX1_silence_1 17 rfl rfl)
theorem dX1_silence_40 : decode cX1_silence 40 = .ok (.iconst (-1), 1) := dk_2 (dk_at dksX1_silence_1 18 rfl rfl)
theorem dX1_silence_41 : decode cX1_silence 41 = .ok (.if_icmp .eq 18, 3) := dk_159 0 18 (dk_at dksX1_silence_1 19 rfl rfl)
theorem dX1_silence_44 : decode cX1_silence 44 = .ok (.iload 4, 2) := dk_21 4 (dk_at dksX1_silence_1 22 rfl rfl)
theorem dX1_silence_46 : decode cX1_silence 46 = .ok (.invokestatic 134, 3) := dk_184 0 134 (dk_at dksX1_silence_2 0 rfl rfl)
theorem dX1_silence_49 : decode cX1_silence 49 = .ok (.iload_n 3, 1) := dk_29 (dk_at dksX1_silence_2 3 rfl rfl)
theorem dX1_silence_50 : decode cX1_silence 50 = .ok (.invokestatic 134, 3) := dk_184 0 134 (dk_at dksX1_silence_2 4 rfl rfl)
theorem dX1_silence_53 : decode cX1_silence 53 = .ok (.if_icmp .lt 6, 3) := dk_161 0 6 (dk_at dksX1_silence_2 7 rfl rfl)
theorem dX1_silence_56 : decode cX1_silence 56 = .ok (.goto 35, 3) := dk_167 0 35 (dk_at dksX1_silence_2 10 rfl rfl)
theorem dX1_silence_59 : decode cX1_silence 59 = .ok (.aload_n 0, 1) := dk_42 (dk_at dksX1_silence_2 13 rfl rfl)
theorem dX1_silence_60 : decode cX1_silence 60 = .ok (.getfield 48, 3) := dk_180 0 48 (dk_at dksX1_silence_2 14 rfl rfl)
theorem dX1_silence_63 : decode cX1_silence 63 = .ok (.iconst 2, 1) := dk_5 (dk_at dksX1_silence_2 17 rfl rfl)
theorem dX1_silence_64 : decode cX1_silence 64 = .ok (.aaload, 1) := dk_50 (dk_at dksX1_silence_2 18 rfl rfl)
theorem dX1_silence_65 : decode cX1_silence 65 = .ok (.aload_n 0, 1) := dk_42 (dk_at dksX1_silence_2 19 rfl rfl)
theorem dX1_silence_66 : decode cX1_silence 66 = .ok (.getfield 55, 3) := dk_180 0 55 (dk_at dksX1_silence_2 20 rfl rfl)
theorem dX1_silence_69 : decode cX1_silence 69 = .ok (.iload 4, 2) := dk_21 4 (dk_at dksX1_silence_3 0 rfl rfl)
theorem dX1_silence_71 : decode cX1_silence 71 = .ok (.invokevirtual 239, 3) := dk_182 0 239 (dk_at dksX1_silence_3 2 rfl rfl)
theorem dX1_silence_74 : decode cX1_silence 74 = .ok (.invokevirtual 243, 3) := dk_182 0 243 (dk_at dksX1_silence_3 5 rfl rfl)
theorem dX1_silence_77 : decode cX1_silence 77 = .ok (.iload_n 1, 1) := dk_27 (dk_at dksX1_silence_3 8 rfl rfl)
theorem dX1_silence_78 : decode cX1_silence 78 = .ok (.bipush 23, 2) := dk_16 23 (dk_at dksX1_silence_3 9 rfl rfl)
theorem dX1_silence_80 : decode cX1_silence 80 = .ok (.iload_n 2, 1) := dk_28 (dk_at dksX1_silence_3 11 rfl rfl)
theorem dX1_silence_81 : decode cX1_silence 81 = .ok (.iconst 0, 1) := dk_3 (dk_at dksX1_silence_3 12 rfl rfl)
theorem dX1_silence_82 : decode cX1_silence 82 = .ok (.invokevirtual 271, 3) := dk_182 1 15 (dk_at dksX1_silence_3 13 rfl rfl)
theorem dX1_silence_85 : decode cX1_silence 85 = .ok (.ifCond .ne 6, 3) := dk_154 0 6 (dk_at dksX1_silence_3 16 rfl rfl)
theorem dX1_silence_88 : decode cX1_silence 88 = .ok (.iload 4, 2) := dk_21 4 (dk_at dksX1_silence_3 19 rfl rfl)
theorem dX1_silence_90 : decode cX1_silence 90 = .ok (.istore_n 3, 1) := dk_62 (dk_at dksX1_silence_3 21 rfl rfl)
theorem dX1_silence_91 : decode cX1_silence 91 = .ok (.iinc 4 1, 3) := dk_132 4 1 (dk_at dksX1_silence_4 0 rfl rfl)
theorem dX1_silence_94 : decode cX1_silence 94 = .ok (.goto (-79), 3) := dk_167 255 177 (dk_at dksX1_silence_4 3 rfl rfl)
theorem dX1_silence_97 : decode cX1_silence 97 = .ok (.iload_n 3, 1) := dk_29 (dk_at dksX1_silence_4 6 rfl rfl)
theorem dX1_silence_98 : decode cX1_silence 98 = .ok (.ireturn, 1) := dk_172 (dk_at dksX1_silence_4 7 rfl rfl)
abbrev cX1_likely : ByteArray := prog_1_method_33_code
def yX1_likely : MethodName := ⟨RX1, "likely", "(II)I"⟩
def dkwX1_likely_9 : List UInt8 := [22, 7, 66, 132, 5, 1, 167, 255, 58, 33, 136, 172]
abbrev dktX1_likely_9 : List UInt8 := dkwX1_likely_9 ++ []
def dkwX1_likely_8 : List UInt8 := [105, 22, 11, 109, 55, 7, 25, 6, 180, 1, 1, 153, 0, 12, 20, 1, 41, 22, 7, 101, 167, 0, 5]
abbrev dktX1_likely_8 : List UInt8 := dkwX1_likely_8 ++ dktX1_likely_9
def dkwX1_likely_7 : List UInt8 := [104, 4, 96, 46, 133, 105, 97, 55, 11, 22, 11, 9, 148, 154, 0, 6, 167, 0, 34, 22, 9, 20, 1, 41]
abbrev dktX1_likely_7 : List UInt8 := dkwX1_likely_7 ++ dktX1_likely_8
def dkwX1_likely_6 : List UInt8 := [105, 55, 9, 22, 9, 20, 1, 41, 22, 7, 101, 42, 180, 0, 16, 180, 1, 43, 5, 25, 6, 180, 0, 254]
abbrev dktX1_likely_6 : List UInt8 := dkwX1_likely_6 ++ dktX1_likely_7
def dkwX1_likely_5 : List UInt8 := [167, 0, 4, 33, 55, 7, 22, 7, 42, 180, 0, 16, 180, 1, 43, 5, 25, 6, 180, 0, 254, 104, 46, 133]
abbrev dktX1_likely_5 : List UInt8 := dkwX1_likely_5 ++ dktX1_likely_6
def dkwX1_likely_4 : List UInt8 := [182, 0, 154, 159, 0, 6, 167, 0, 114, 25, 6, 180, 1, 1, 153, 0, 11, 20, 1, 41, 33, 101]
abbrev dktX1_likely_4 : List UInt8 := dkwX1_likely_4 ++ dktX1_likely_5
def dkwX1_likely_3 : List UInt8 := [25, 6, 180, 0, 250, 182, 0, 154, 42, 180, 0, 16, 25, 6, 180, 0, 247, 25, 6, 180, 0, 250]
abbrev dktX1_likely_3 : List UInt8 := dkwX1_likely_3 ++ dktX1_likely_4
def dkwX1_likely_2 : List UInt8 := [25, 6, 180, 0, 251, 28, 160, 0, 159, 25, 6, 180, 0, 247, 27, 159, 0, 150, 42, 180, 0, 16, 27]
abbrev dktX1_likely_2 : List UInt8 := dkwX1_likely_2 ++ dktX1_likely_3
def dkwX1_likely_1 : List UInt8 := [185, 0, 113, 1, 0, 162, 0, 190, 42, 180, 0, 25, 21, 5, 185, 0, 161, 2, 0, 192, 0, 213, 58, 6]
abbrev dktX1_likely_1 : List UInt8 := dkwX1_likely_1 ++ dktX1_likely_2
def dkwX1_likely_0 : List UInt8 := [42, 27, 182, 0, 147, 42, 28, 182, 0, 158, 20, 1, 39, 66, 3, 54, 5, 21, 5, 42, 180, 0, 25]
abbrev dktX1_likely_0 : List UInt8 := dkwX1_likely_0 ++ dktX1_likely_1
theorem dksX1_likely_0 : cX1_likely.data.toList.drop 0 = dktX1_likely_0 := by decide +kernel
theorem dksX1_likely_1 : cX1_likely.data.toList.drop 23 = dktX1_likely_1 := dk_seg dksX1_likely_0 23 rfl rfl
theorem dksX1_likely_2 : cX1_likely.data.toList.drop 47 = dktX1_likely_2 := dk_seg dksX1_likely_1 24 rfl rfl
theorem dksX1_likely_3 : cX1_likely.data.toList.drop 70 = dktX1_likely_3 := dk_seg dksX1_likely_2 23 rfl rfl
theorem dksX1_likely_4 : cX1_likely.data.toList.drop 92 = dktX1_likely_4 := dk_seg dksX1_likely_3 22 rfl rfl
theorem dksX1_likely_5 : cX1_likely.data.toList.drop 114 = dktX1_likely_5 := dk_seg dksX1_likely_4 22 rfl rfl
theorem dksX1_likely_6 : cX1_likely.data.toList.drop 138 = dktX1_likely_6 := dk_seg dksX1_likely_5 24 rfl rfl
theorem dksX1_likely_7 : cX1_likely.data.toList.drop 162 = dktX1_likely_7 := dk_seg dksX1_likely_6 24 rfl rfl
theorem dksX1_likely_8 : cX1_likely.data.toList.drop 186 = dktX1_likely_8 := dk_seg dksX1_likely_7 24 rfl rfl
theorem dksX1_likely_9 : cX1_likely.data.toList.drop 209 = dktX1_likely_9 := dk_seg dksX1_likely_8 23 rfl rfl
theorem dX1_likely_0 : decode cX1_likely 0 = .ok (.aload_n 0, 1) := dk_42 (dk_at dksX1_likely_0 0 rfl rfl)
theorem dX1_likely_1 : decode cX1_likely 1 = .ok (.iload_n 1, 1) := dk_27 (dk_at dksX1_likely_0 1 rfl rfl)
theorem dX1_likely_2 : decode cX1_likely 2 = .ok (.invokevirtual 147, 3) := dk_182 0 147 (dk_at dksX1_likely_0 2 rfl rfl)
theorem dX1_likely_5 : decode cX1_likely 5 = .ok (.aload_n 0, 1) := dk_42 (dk_at dksX1_likely_0 5 rfl rfl)
theorem dX1_likely_6 : decode cX1_likely 6 = .ok (.iload_n 2, 1) := dk_28 (dk_at dksX1_likely_0 6 rfl rfl)
theorem dX1_likely_7 : decode cX1_likely 7 = .ok (.invokevirtual 158, 3) := dk_182 0 158 (dk_at dksX1_likely_0 7 rfl rfl)
theorem dX1_likely_10 : decode cX1_likely 10 = .ok (.ldc2_w 295, 3) := dk_20 1 39 (dk_at dksX1_likely_0 10 rfl rfl)
theorem dX1_likely_13 : decode cX1_likely 13 = .ok (.lstore_n 3, 1) := dk_66 (dk_at dksX1_likely_0 13 rfl rfl)
theorem dX1_likely_14 : decode cX1_likely 14 = .ok (.iconst 0, 1) := dk_3 (dk_at dksX1_likely_0 14 rfl rfl)
theorem dX1_likely_15 : decode cX1_likely 15 = .ok (.istore 5, 2) := dk_54 5 (dk_at dksX1_likely_0 15 rfl rfl)
theorem dX1_likely_17 : decode cX1_likely 17 = .ok (.iload 5, 2) := dk_21 5 (dk_at dksX1_likely_0 17 rfl rfl)
theorem dX1_likely_19 : decode cX1_likely 19 = .ok (.aload_n 0, 1) := dk_42 (dk_at dksX1_likely_0 19 rfl rfl)
theorem dX1_likely_20 : decode cX1_likely 20 = .ok (.getfield 25, 3) := dk_180 0 25 (dk_at dksX1_likely_0 20 rfl rfl)
theorem dX1_likely_23 : decode cX1_likely 23 = .ok (.invokeinterface 113 1, 5) := by decide +kernel
theorem dX1_likely_28 : decode cX1_likely 28 = .ok (.if_icmp .ge 190, 3) := dk_162 0 190 (dk_at dksX1_likely_1 5 rfl rfl)
theorem dX1_likely_31 : decode cX1_likely 31 = .ok (.aload_n 0, 1) := dk_42 (dk_at dksX1_likely_1 8 rfl rfl)
theorem dX1_likely_32 : decode cX1_likely 32 = .ok (.getfield 25, 3) := dk_180 0 25 (dk_at dksX1_likely_1 9 rfl rfl)
theorem dX1_likely_35 : decode cX1_likely 35 = .ok (.iload 5, 2) := dk_21 5 (dk_at dksX1_likely_1 12 rfl rfl)
theorem dX1_likely_37 : decode cX1_likely 37 = .ok (.invokeinterface 161 2, 5) := by decide +kernel
theorem dX1_likely_42 : decode cX1_likely 42 = .ok (.checkcast 213, 3) := dk_192 0 213 (dk_at dksX1_likely_1 19 rfl rfl)
theorem dX1_likely_45 : decode cX1_likely 45 = .ok (.astore 6, 2) := dk_58 6 (dk_at dksX1_likely_1 22 rfl rfl)
theorem dX1_likely_47 : decode cX1_likely 47 = .ok (.aload 6, 2) := dk_25 6 (dk_at dksX1_likely_2 0 rfl rfl)
theorem dX1_likely_49 : decode cX1_likely 49 = .ok (.getfield 251, 3) := dk_180 0 251 (dk_at dksX1_likely_2 2 rfl rfl)
theorem dX1_likely_52 : decode cX1_likely 52 = .ok (.iload_n 2, 1) := dk_28 (dk_at dksX1_likely_2 5 rfl rfl)
theorem dX1_likely_53 : decode cX1_likely 53 = .ok (.if_icmp .ne 159, 3) := dk_160 0 159 (dk_at dksX1_likely_2 6 rfl rfl)
theorem dX1_likely_56 : decode cX1_likely 56 = .ok (.aload 6, 2) := dk_25 6 (dk_at dksX1_likely_2 9 rfl rfl)
theorem dX1_likely_58 : decode cX1_likely 58 = .ok (.getfield 247, 3) := dk_180 0 247 (dk_at dksX1_likely_2 11 rfl rfl)
theorem dX1_likely_61 : decode cX1_likely 61 = .ok (.iload_n 1, 1) := dk_27 (dk_at dksX1_likely_2 14 rfl rfl)
theorem dX1_likely_62 : decode cX1_likely 62 = .ok (.if_icmp .eq 150, 3) := dk_159 0 150 (dk_at dksX1_likely_2 15 rfl rfl)
theorem dX1_likely_65 : decode cX1_likely 65 = .ok (.aload_n 0, 1) := dk_42 (dk_at dksX1_likely_2 18 rfl rfl)
theorem dX1_likely_66 : decode cX1_likely 66 = .ok (.getfield 16, 3) := dk_180 0 16 (dk_at dksX1_likely_2 19 rfl rfl)
theorem dX1_likely_69 : decode cX1_likely 69 = .ok (.iload_n 1, 1) := dk_27 (dk_at dksX1_likely_2 22 rfl rfl)
theorem dX1_likely_70 : decode cX1_likely 70 = .ok (.aload 6, 2) := dk_25 6 (dk_at dksX1_likely_3 0 rfl rfl)
theorem dX1_likely_72 : decode cX1_likely 72 = .ok (.getfield 250, 3) := dk_180 0 250 (dk_at dksX1_likely_3 2 rfl rfl)
theorem dX1_likely_75 : decode cX1_likely 75 = .ok (.invokevirtual 154, 3) := dk_182 0 154 (dk_at dksX1_likely_3 5 rfl rfl)
theorem dX1_likely_78 : decode cX1_likely 78 = .ok (.aload_n 0, 1) := dk_42 (dk_at dksX1_likely_3 8 rfl rfl)
theorem dX1_likely_79 : decode cX1_likely 79 = .ok (.getfield 16, 3) := dk_180 0 16 (dk_at dksX1_likely_3 9 rfl rfl)
theorem dX1_likely_82 : decode cX1_likely 82 = .ok (.aload 6, 2) := dk_25 6 (dk_at dksX1_likely_3 12 rfl rfl)
theorem dX1_likely_84 : decode cX1_likely 84 = .ok (.getfield 247, 3) := dk_180 0 247 (dk_at dksX1_likely_3 14 rfl rfl)
theorem dX1_likely_87 : decode cX1_likely 87 = .ok (.aload 6, 2) := dk_25 6 (dk_at dksX1_likely_3 17 rfl rfl)
theorem dX1_likely_89 : decode cX1_likely 89 = .ok (.getfield 250, 3) := dk_180 0 250 (dk_at dksX1_likely_3 19 rfl rfl)
theorem dX1_likely_92 : decode cX1_likely 92 = .ok (.invokevirtual 154, 3) := dk_182 0 154 (dk_at dksX1_likely_4 0 rfl rfl)
theorem dX1_likely_95 : decode cX1_likely 95 = .ok (.if_icmp .eq 6, 3) := dk_159 0 6 (dk_at dksX1_likely_4 3 rfl rfl)
theorem dX1_likely_98 : decode cX1_likely 98 = .ok (.goto 114, 3) := dk_167 0 114 (dk_at dksX1_likely_4 6 rfl rfl)
theorem dX1_likely_101 : decode cX1_likely 101 = .ok (.aload 6, 2) := dk_25 6 (dk_at dksX1_likely_4 9 rfl rfl)
theorem dX1_likely_103 : decode cX1_likely 103 = .ok (.getfield 257, 3) := dk_180 1 1 (dk_at dksX1_likely_4 11 rfl rfl)
theorem dX1_likely_106 : decode cX1_likely 106 = .ok (.ifCond .eq 11, 3) := dk_153 0 11 (dk_at dksX1_likely_4 14 rfl rfl)
theorem dX1_likely_109 : decode cX1_likely 109 = .ok (.ldc2_w 297, 3) := dk_20 1 41 (dk_at dksX1_likely_4 17 rfl rfl)
theorem dX1_likely_112 : decode cX1_likely 112 = .ok (.lload_n 3, 1) := dk_33 (dk_at dksX1_likely_4 20 rfl rfl)
theorem dX1_likely_113 : decode cX1_likely 113 = .ok (.lsub, 1) := dk_101 (dk_at dksX1_likely_4 21 rfl rfl)
theorem dX1_likely_114 : decode cX1_likely 114 = .ok (.goto 4, 3) := dk_167 0 4 (dk_at dksX1_likely_5 0 rfl rfl)
theorem dX1_likely_117 : decode cX1_likely 117 = .ok (.lload_n 3, 1) := dk_33 (dk_at dksX1_likely_5 3 rfl rfl)
theorem dX1_likely_118 : decode cX1_likely 118 = .ok (.lstore 7, 2) := dk_55 7 (dk_at dksX1_likely_5 4 rfl rfl)
theorem dX1_likely_120 : decode cX1_likely 120 = .ok (.lload 7, 2) := dk_22 7 (dk_at dksX1_likely_5 6 rfl rfl)
theorem dX1_likely_122 : decode cX1_likely 122 = .ok (.aload_n 0, 1) := dk_42 (dk_at dksX1_likely_5 8 rfl rfl)
theorem dX1_likely_123 : decode cX1_likely 123 = .ok (.getfield 16, 3) := dk_180 0 16 (dk_at dksX1_likely_5 9 rfl rfl)
theorem dX1_likely_126 : decode cX1_likely 126 = .ok (.getfield 299, 3) := dk_180 1 43 (dk_at dksX1_likely_5 12 rfl rfl)
theorem dX1_likely_129 : decode cX1_likely 129 = .ok (.iconst 2, 1) := dk_5 (dk_at dksX1_likely_5 15 rfl rfl)
theorem dX1_likely_130 : decode cX1_likely 130 = .ok (.aload 6, 2) := dk_25 6 (dk_at dksX1_likely_5 16 rfl rfl)
theorem dX1_likely_132 : decode cX1_likely 132 = .ok (.getfield 254, 3) := dk_180 0 254 (dk_at dksX1_likely_5 18 rfl rfl)
theorem dX1_likely_135 : decode cX1_likely 135 = .ok (.imul, 1) := dk_104 (dk_at dksX1_likely_5 21 rfl rfl)
theorem dX1_likely_136 : decode cX1_likely 136 = .ok (.iaload, 1) := dk_46 (dk_at dksX1_likely_5 22 rfl rfl)
theorem dX1_likely_137 : decode cX1_likely 137 = .ok (.i2l, 1) := dk_133 (dk_at dksX1_likely_5 23 rfl rfl)
theorem dX1_likely_138 : decode cX1_likely 138 = .ok (.lmul, 1) := dk_105 (dk_at dksX1_likely_6 0 rfl rfl)
theorem dX1_likely_139 : decode cX1_likely 139 = .ok (.lstore 9, 2) := dk_55 9 (dk_at dksX1_likely_6 1 rfl rfl)
theorem dX1_likely_141 : decode cX1_likely 141 = .ok (.lload 9, 2) := dk_22 9 (dk_at dksX1_likely_6 3 rfl rfl)
theorem dX1_likely_143 : decode cX1_likely 143 = .ok (.ldc2_w 297, 3) := dk_20 1 41 (dk_at dksX1_likely_6 5 rfl rfl)
theorem dX1_likely_146 : decode cX1_likely 146 = .ok (.lload 7, 2) := dk_22 7 (dk_at dksX1_likely_6 8 rfl rfl)
theorem dX1_likely_148 : decode cX1_likely 148 = .ok (.lsub, 1) := dk_101 (dk_at dksX1_likely_6 10 rfl rfl)
theorem dX1_likely_149 : decode cX1_likely 149 = .ok (.aload_n 0, 1) := dk_42 (dk_at dksX1_likely_6 11 rfl rfl)
theorem dX1_likely_150 : decode cX1_likely 150 = .ok (.getfield 16, 3) := dk_180 0 16 (dk_at dksX1_likely_6 12 rfl rfl)
theorem dX1_likely_153 : decode cX1_likely 153 = .ok (.getfield 299, 3) := dk_180 1 43 (dk_at dksX1_likely_6 15 rfl rfl)
theorem dX1_likely_156 : decode cX1_likely 156 = .ok (.iconst 2, 1) := dk_5 (dk_at dksX1_likely_6 18 rfl rfl)
theorem dX1_likely_157 : decode cX1_likely 157 = .ok (.aload 6, 2) := dk_25 6 (dk_at dksX1_likely_6 19 rfl rfl)
theorem dX1_likely_159 : decode cX1_likely 159 = .ok (.getfield 254, 3) := dk_180 0 254 (dk_at dksX1_likely_6 21 rfl rfl)
theorem dX1_likely_162 : decode cX1_likely 162 = .ok (.imul, 1) := dk_104 (dk_at dksX1_likely_7 0 rfl rfl)
theorem dX1_likely_163 : decode cX1_likely 163 = .ok (.iconst 1, 1) := dk_4 (dk_at dksX1_likely_7 1 rfl rfl)
theorem dX1_likely_164 : decode cX1_likely 164 = .ok (.iadd, 1) := dk_96 (dk_at dksX1_likely_7 2 rfl rfl)
theorem dX1_likely_165 : decode cX1_likely 165 = .ok (.iaload, 1) := dk_46 (dk_at dksX1_likely_7 3 rfl rfl)
theorem dX1_likely_166 : decode cX1_likely 166 = .ok (.i2l, 1) := dk_133 (dk_at dksX1_likely_7 4 rfl rfl)
theorem dX1_likely_167 : decode cX1_likely 167 = .ok (.lmul, 1) := dk_105 (dk_at dksX1_likely_7 5 rfl rfl)
theorem dX1_likely_168 : decode cX1_likely 168 = .ok (.ladd, 1) := dk_97 (dk_at dksX1_likely_7 6 rfl rfl)
theorem dX1_likely_169 : decode cX1_likely 169 = .ok (.lstore 11, 2) := dk_55 11 (dk_at dksX1_likely_7 7 rfl rfl)
theorem dX1_likely_171 : decode cX1_likely 171 = .ok (.lload 11, 2) := dk_22 11 (dk_at dksX1_likely_7 9 rfl rfl)
theorem dX1_likely_173 : decode cX1_likely 173 = .ok (.lconst 0, 1) := dk_9 (dk_at dksX1_likely_7 11 rfl rfl)
theorem dX1_likely_174 : decode cX1_likely 174 = .ok (.lcmp, 1) := dk_148 (dk_at dksX1_likely_7 12 rfl rfl)
theorem dX1_likely_175 : decode cX1_likely 175 = .ok (.ifCond .ne 6, 3) := dk_154 0 6 (dk_at dksX1_likely_7 13 rfl rfl)
theorem dX1_likely_178 : decode cX1_likely 178 = .ok (.goto 34, 3) := dk_167 0 34 (dk_at dksX1_likely_7 16 rfl rfl)
theorem dX1_likely_181 : decode cX1_likely 181 = .ok (.lload 9, 2) := dk_22 9 (dk_at dksX1_likely_7 19 rfl rfl)
theorem dX1_likely_183 : decode cX1_likely 183 = .ok (.ldc2_w 297, 3) := dk_20 1 41 (dk_at dksX1_likely_7 21 rfl rfl)
theorem dX1_likely_186 : decode cX1_likely 186 = .ok (.lmul, 1) := dk_105 (dk_at dksX1_likely_8 0 rfl rfl)
theorem dX1_likely_187 : decode cX1_likely 187 = .ok (.lload 11, 2) := dk_22 11 (dk_at dksX1_likely_8 1 rfl rfl)
theorem dX1_likely_189 : decode cX1_likely 189 = .ok (.ldiv, 1) := dk_109 (dk_at dksX1_likely_8 3 rfl rfl)
theorem dX1_likely_190 : decode cX1_likely 190 = .ok (.lstore 7, 2) := dk_55 7 (dk_at dksX1_likely_8 4 rfl rfl)
theorem dX1_likely_192 : decode cX1_likely 192 = .ok (.aload 6, 2) := dk_25 6 (dk_at dksX1_likely_8 6 rfl rfl)
theorem dX1_likely_194 : decode cX1_likely 194 = .ok (.getfield 257, 3) := dk_180 1 1 (dk_at dksX1_likely_8 8 rfl rfl)
theorem dX1_likely_197 : decode cX1_likely 197 = .ok (.ifCond .eq 12, 3) := dk_153 0 12 (dk_at dksX1_likely_8 11 rfl rfl)
theorem dX1_likely_200 : decode cX1_likely 200 = .ok (.ldc2_w 297, 3) := dk_20 1 41 (dk_at dksX1_likely_8 14 rfl rfl)
theorem dX1_likely_203 : decode cX1_likely 203 = .ok (.lload 7, 2) := dk_22 7 (dk_at dksX1_likely_8 17 rfl rfl)
theorem dX1_likely_205 : decode cX1_likely 205 = .ok (.lsub, 1) := dk_101 (dk_at dksX1_likely_8 19 rfl rfl)
theorem dX1_likely_206 : decode cX1_likely 206 = .ok (.goto 5, 3) := dk_167 0 5 (dk_at dksX1_likely_8 20 rfl rfl)
theorem dX1_likely_209 : decode cX1_likely 209 = .ok (.lload 7, 2) := dk_22 7 (dk_at dksX1_likely_9 0 rfl rfl)
theorem dX1_likely_211 : decode cX1_likely 211 = .ok (.lstore_n 3, 1) := dk_66 (dk_at dksX1_likely_9 2 rfl rfl)
theorem dX1_likely_212 : decode cX1_likely 212 = .ok (.iinc 5 1, 3) := dk_132 5 1 (dk_at dksX1_likely_9 3 rfl rfl)
theorem dX1_likely_215 : decode cX1_likely 215 = .ok (.goto (-198), 3) := dk_167 255 58 (dk_at dksX1_likely_9 6 rfl rfl)
theorem dX1_likely_218 : decode cX1_likely 218 = .ok (.lload_n 3, 1) := dk_33 (dk_at dksX1_likely_9 9 rfl rfl)
theorem dX1_likely_219 : decode cX1_likely 219 = .ok (.l2i, 1) := dk_136 (dk_at dksX1_likely_9 10 rfl rfl)
theorem dX1_likely_220 : decode cX1_likely 220 = .ok (.ireturn, 1) := dk_172 (dk_at dksX1_likely_9 11 rfl rfl)
abbrev cX1_worlds : ByteArray := prog_1_method_40_code
def yX1_worlds : MethodName := ⟨RX1, "worlds", "(I)I"⟩
def dkwX1_worlds_2 : List UInt8 := [184, 0, 134, 120, 120, 4, 100, 181, 0, 101, 42, 180, 0, 101, 184, 0, 134, 172]
abbrev dktX1_worlds_2 : List UInt8 := dkwX1_worlds_2 ++ []
def dkwX1_worlds_1 : List UInt8 := [184, 0, 134, 7, 163, 0, 7, 4, 167, 0, 4, 3, 184, 0, 77, 42, 27, 181, 0, 98, 42, 4, 4, 27]
abbrev dktX1_worlds_1 : List UInt8 := dkwX1_worlds_1 ++ dktX1_worlds_2
def dkwX1_worlds_0 : List UInt8 := [27, 158, 0, 33, 27, 4, 42, 180, 0, 16, 180, 0, 128, 185, 0, 113, 1, 0, 120, 162, 0, 15, 27]
abbrev dktX1_worlds_0 : List UInt8 := dkwX1_worlds_0 ++ dktX1_worlds_1
theorem dksX1_worlds_0 : cX1_worlds.data.toList.drop 0 = dktX1_worlds_0 := by decide +kernel
theorem dksX1_worlds_1 : cX1_worlds.data.toList.drop 23 = dktX1_worlds_1 := dk_seg dksX1_worlds_0 23 rfl rfl
theorem dksX1_worlds_2 : cX1_worlds.data.toList.drop 47 = dktX1_worlds_2 := dk_seg dksX1_worlds_1 24 rfl rfl
theorem dX1_worlds_0 : decode cX1_worlds 0 = .ok (.iload_n 1, 1) := dk_27 (dk_at dksX1_worlds_0 0 rfl rfl)
theorem dX1_worlds_1 : decode cX1_worlds 1 = .ok (.ifCond .le 33, 3) := dk_158 0 33 (dk_at dksX1_worlds_0 1 rfl rfl)
theorem dX1_worlds_4 : decode cX1_worlds 4 = .ok (.iload_n 1, 1) := dk_27 (dk_at dksX1_worlds_0 4 rfl rfl)
theorem dX1_worlds_5 : decode cX1_worlds 5 = .ok (.iconst 1, 1) := dk_4 (dk_at dksX1_worlds_0 5 rfl rfl)
theorem dX1_worlds_6 : decode cX1_worlds 6 = .ok (.aload_n 0, 1) := dk_42 (dk_at dksX1_worlds_0 6 rfl rfl)
theorem dX1_worlds_7 : decode cX1_worlds 7 = .ok (.getfield 16, 3) := dk_180 0 16 (dk_at dksX1_worlds_0 7 rfl rfl)
theorem dX1_worlds_10 : decode cX1_worlds 10 = .ok (.getfield 128, 3) := dk_180 0 128 (dk_at dksX1_worlds_0 10 rfl rfl)
theorem dX1_worlds_13 : decode cX1_worlds 13 = .ok (.invokeinterface 113 1, 5) := by decide +kernel
theorem dX1_worlds_18 : decode cX1_worlds 18 = .ok (.ishl, 1) := dk_120 (dk_at dksX1_worlds_0 18 rfl rfl)
theorem dX1_worlds_19 : decode cX1_worlds 19 = .ok (.if_icmp .ge 15, 3) := dk_162 0 15 (dk_at dksX1_worlds_0 19 rfl rfl)
theorem dX1_worlds_22 : decode cX1_worlds 22 = .ok (.iload_n 1, 1) := dk_27 (dk_at dksX1_worlds_0 22 rfl rfl)
theorem dX1_worlds_23 : decode cX1_worlds 23 = .ok (.invokestatic 134, 3) := dk_184 0 134 (dk_at dksX1_worlds_1 0 rfl rfl)
theorem dX1_worlds_26 : decode cX1_worlds 26 = .ok (.iconst 4, 1) := dk_7 (dk_at dksX1_worlds_1 3 rfl rfl)
theorem dX1_worlds_27 : decode cX1_worlds 27 = .ok (.if_icmp .gt 7, 3) := dk_163 0 7 (dk_at dksX1_worlds_1 4 rfl rfl)
theorem dX1_worlds_30 : decode cX1_worlds 30 = .ok (.iconst 1, 1) := dk_4 (dk_at dksX1_worlds_1 7 rfl rfl)
theorem dX1_worlds_31 : decode cX1_worlds 31 = .ok (.goto 4, 3) := dk_167 0 4 (dk_at dksX1_worlds_1 8 rfl rfl)
theorem dX1_worlds_34 : decode cX1_worlds 34 = .ok (.iconst 0, 1) := dk_3 (dk_at dksX1_worlds_1 11 rfl rfl)
theorem dX1_worlds_35 : decode cX1_worlds 35 = .ok (.invokestatic 77, 3) := dk_184 0 77 (dk_at dksX1_worlds_1 12 rfl rfl)
theorem dX1_worlds_38 : decode cX1_worlds 38 = .ok (.aload_n 0, 1) := dk_42 (dk_at dksX1_worlds_1 15 rfl rfl)
theorem dX1_worlds_39 : decode cX1_worlds 39 = .ok (.iload_n 1, 1) := dk_27 (dk_at dksX1_worlds_1 16 rfl rfl)
theorem dX1_worlds_40 : decode cX1_worlds 40 = .ok (.putfield 98, 3) := dk_181 0 98 (dk_at dksX1_worlds_1 17 rfl rfl)
theorem dX1_worlds_43 : decode cX1_worlds 43 = .ok (.aload_n 0, 1) := dk_42 (dk_at dksX1_worlds_1 20 rfl rfl)
theorem dX1_worlds_44 : decode cX1_worlds 44 = .ok (.iconst 1, 1) := dk_4 (dk_at dksX1_worlds_1 21 rfl rfl)
theorem dX1_worlds_45 : decode cX1_worlds 45 = .ok (.iconst 1, 1) := dk_4 (dk_at dksX1_worlds_1 22 rfl rfl)
theorem dX1_worlds_46 : decode cX1_worlds 46 = .ok (.iload_n 1, 1) := dk_27 (dk_at dksX1_worlds_1 23 rfl rfl)
theorem dX1_worlds_47 : decode cX1_worlds 47 = .ok (.invokestatic 134, 3) := dk_184 0 134 (dk_at dksX1_worlds_2 0 rfl rfl)
theorem dX1_worlds_50 : decode cX1_worlds 50 = .ok (.ishl, 1) := dk_120 (dk_at dksX1_worlds_2 3 rfl rfl)
theorem dX1_worlds_51 : decode cX1_worlds 51 = .ok (.ishl, 1) := dk_120 (dk_at dksX1_worlds_2 4 rfl rfl)
theorem dX1_worlds_52 : decode cX1_worlds 52 = .ok (.iconst 1, 1) := dk_4 (dk_at dksX1_worlds_2 5 rfl rfl)
theorem dX1_worlds_53 : decode cX1_worlds 53 = .ok (.isub, 1) := dk_100 (dk_at dksX1_worlds_2 6 rfl rfl)
theorem dX1_worlds_54 : decode cX1_worlds 54 = .ok (.putfield 101, 3) := dk_181 0 101 (dk_at dksX1_worlds_2 7 rfl rfl)
theorem dX1_worlds_57 : decode cX1_worlds 57 = .ok (.aload_n 0, 1) := dk_42 (dk_at dksX1_worlds_2 10 rfl rfl)
theorem dX1_worlds_58 : decode cX1_worlds 58 = .ok (.getfield 101, 3) := dk_180 0 101 (dk_at dksX1_worlds_2 11 rfl rfl)
theorem dX1_worlds_61 : decode cX1_worlds 61 = .ok (.invokestatic 134, 3) := dk_184 0 134 (dk_at dksX1_worlds_2 14 rfl rfl)
theorem dX1_worlds_64 : decode cX1_worlds 64 = .ok (.ireturn, 1) := dk_172 (dk_at dksX1_worlds_2 17 rfl rfl)
abbrev cX1_tell : ByteArray := prog_1_method_41_code
def yX1_tell : MethodName := ⟨RX1, "tell", "(IIZ)I"⟩
def dkwX1_tell_3 : List UInt8 := [180, 0, 101, 184, 0, 134, 172]
abbrev dktX1_tell_3 : List UInt8 := dkwX1_tell_3 ++ []
def dkwX1_tell_2 : List UInt8 := [154, 0, 15, 42, 180, 0, 67, 5, 92, 46, 4, 96, 79, 2, 172, 42, 21, 4, 181, 0, 101, 42]
abbrev dktX1_tell_2 : List UInt8 := dkwX1_tell_2 ++ dktX1_tell_3
def dkwX1_tell_1 : List UInt8 := [42, 28, 29, 182, 1, 59, 182, 1, 63, 167, 0, 4, 3, 54, 4, 21, 4, 42, 182, 1, 66, 122, 4, 126]
abbrev dktX1_tell_1 : List UInt8 := dkwX1_tell_1 ++ dktX1_tell_2
def dkwX1_tell_0 : List UInt8 := [42, 27, 182, 0, 147, 42, 28, 182, 0, 158, 42, 180, 0, 98, 28, 122, 4, 126, 4, 160, 0, 17, 42, 27]
abbrev dktX1_tell_0 : List UInt8 := dkwX1_tell_0 ++ dktX1_tell_1
theorem dksX1_tell_0 : cX1_tell.data.toList.drop 0 = dktX1_tell_0 := by decide +kernel
theorem dksX1_tell_1 : cX1_tell.data.toList.drop 24 = dktX1_tell_1 := dk_seg dksX1_tell_0 24 rfl rfl
theorem dksX1_tell_2 : cX1_tell.data.toList.drop 48 = dktX1_tell_2 := dk_seg dksX1_tell_1 24 rfl rfl
theorem dksX1_tell_3 : cX1_tell.data.toList.drop 70 = dktX1_tell_3 := dk_seg dksX1_tell_2 22 rfl rfl
theorem dX1_tell_0 : decode cX1_tell 0 = .ok (.aload_n 0, 1) := dk_42 (dk_at dksX1_tell_0 0 rfl rfl)
theorem dX1_tell_1 : decode cX1_tell 1 = .ok (.iload_n 1, 1) := dk_27 (dk_at dksX1_tell_0 1 rfl rfl)
theorem dX1_tell_2 : decode cX1_tell 2 = .ok (.invokevirtual 147, 3) := dk_182 0 147 (dk_at dksX1_tell_0 2 rfl rfl)
theorem dX1_tell_5 : decode cX1_tell 5 = .ok (.aload_n 0, 1) := dk_42 (dk_at dksX1_tell_0 5 rfl rfl)
theorem dX1_tell_6 : decode cX1_tell 6 = .ok (.iload_n 2, 1) := dk_28 (dk_at dksX1_tell_0 6 rfl rfl)
theorem dX1_tell_7 : decode cX1_tell 7 = .ok (.invokevirtual 158, 3) := dk_182 0 158 (dk_at dksX1_tell_0 7 rfl rfl)
theorem dX1_tell_10 : decode cX1_tell 10 = .ok (.aload_n 0, 1) := dk_42 (dk_at dksX1_tell_0 10 rfl rfl)
theorem dX1_tell_11 : decode cX1_tell 11 = .ok (.getfield 98, 3) := dk_180 0 98 (dk_at dksX1_tell_0 11 rfl rfl)
theorem dX1_tell_14 : decode cX1_tell 14 = .ok (.iload_n 2, 1) := dk_28 (dk_at dksX1_tell_0 14 rfl rfl)
theorem dX1_tell_15 : decode cX1_tell 15 = .ok (.ishr, 1) := dk_122 (dk_at dksX1_tell_0 15 rfl rfl)
theorem dX1_tell_16 : decode cX1_tell 16 = .ok (.iconst 1, 1) := dk_4 (dk_at dksX1_tell_0 16 rfl rfl)
theorem dX1_tell_17 : decode cX1_tell 17 = .ok (.iand, 1) := dk_126 (dk_at dksX1_tell_0 17 rfl rfl)
theorem dX1_tell_18 : decode cX1_tell 18 = .ok (.iconst 1, 1) := dk_4 (dk_at dksX1_tell_0 18 rfl rfl)
theorem dX1_tell_19 : decode cX1_tell 19 = .ok (.if_icmp .ne 17, 3) := dk_160 0 17 (dk_at dksX1_tell_0 19 rfl rfl)
theorem dX1_tell_22 : decode cX1_tell 22 = .ok (.aload_n 0, 1) := dk_42 (dk_at dksX1_tell_0 22 rfl rfl)
theorem dX1_tell_23 : decode cX1_tell 23 = .ok (.iload_n 1, 1) := dk_27 (dk_at dksX1_tell_0 23 rfl rfl)
theorem dX1_tell_24 : decode cX1_tell 24 = .ok (.aload_n 0, 1) := dk_42 (dk_at dksX1_tell_1 0 rfl rfl)
theorem dX1_tell_25 : decode cX1_tell 25 = .ok (.iload_n 2, 1) := dk_28 (dk_at dksX1_tell_1 1 rfl rfl)
theorem dX1_tell_26 : decode cX1_tell 26 = .ok (.iload_n 3, 1) := dk_29 (dk_at dksX1_tell_1 2 rfl rfl)
theorem dX1_tell_27 : decode cX1_tell 27 = .ok (.invokevirtual 315, 3) := dk_182 1 59 (dk_at dksX1_tell_1 3 rfl rfl)
theorem dX1_tell_30 : decode cX1_tell 30 = .ok (.invokevirtual 319, 3) := dk_182 1 63 (dk_at dksX1_tell_1 6 rfl rfl)
theorem dX1_tell_33 : decode cX1_tell 33 = .ok (.goto 4, 3) := dk_167 0 4 (dk_at dksX1_tell_1 9 rfl rfl)
theorem dX1_tell_36 : decode cX1_tell 36 = .ok (.iconst 0, 1) := dk_3 (dk_at dksX1_tell_1 12 rfl rfl)
theorem dX1_tell_37 : decode cX1_tell 37 = .ok (.istore 4, 2) := dk_54 4 (dk_at dksX1_tell_1 13 rfl rfl)
theorem dX1_tell_39 : decode cX1_tell 39 = .ok (.iload 4, 2) := dk_21 4 (dk_at dksX1_tell_1 15 rfl rfl)
theorem dX1_tell_41 : decode cX1_tell 41 = .ok (.aload_n 0, 1) := dk_42 (dk_at dksX1_tell_1 17 rfl rfl)
theorem dX1_tell_42 : decode cX1_tell 42 = .ok (.invokevirtual 322, 3) := dk_182 1 66 (dk_at dksX1_tell_1 18 rfl rfl)
theorem dX1_tell_45 : decode cX1_tell 45 = .ok (.ishr, 1) := dk_122 (dk_at dksX1_tell_1 21 rfl rfl)
theorem dX1_tell_46 : decode cX1_tell 46 = .ok (.iconst 1, 1) := dk_4 (dk_at dksX1_tell_1 22 rfl rfl)
theorem dX1_tell_47 : decode cX1_tell 47 = .ok (.iand, 1) := dk_126 (dk_at dksX1_tell_1 23 rfl rfl)
theorem dX1_tell_48 : decode cX1_tell 48 = .ok (.ifCond .ne 15, 3) := dk_154 0 15 (dk_at dksX1_tell_2 0 rfl rfl)
theorem dX1_tell_51 : decode cX1_tell 51 = .ok (.aload_n 0, 1) := dk_42 (dk_at dksX1_tell_2 3 rfl rfl)
theorem dX1_tell_52 : decode cX1_tell 52 = .ok (.getfield 67, 3) := dk_180 0 67 (dk_at dksX1_tell_2 4 rfl rfl)
theorem dX1_tell_55 : decode cX1_tell 55 = .ok (.iconst 2, 1) := dk_5 (dk_at dksX1_tell_2 7 rfl rfl)
theorem dX1_tell_56 : decode cX1_tell 56 = .ok (.dup2, 1) := dk_92 (dk_at dksX1_tell_2 8 rfl rfl)
theorem dX1_tell_57 : decode cX1_tell 57 = .ok (.iaload, 1) := dk_46 (dk_at dksX1_tell_2 9 rfl rfl)
theorem dX1_tell_58 : decode cX1_tell 58 = .ok (.iconst 1, 1) := dk_4 (dk_at dksX1_tell_2 10 rfl rfl)
theorem dX1_tell_59 : decode cX1_tell 59 = .ok (.iadd, 1) := dk_96 (dk_at dksX1_tell_2 11 rfl rfl)
theorem dX1_tell_60 : decode cX1_tell 60 = .ok (.iastore, 1) := dk_79 (dk_at dksX1_tell_2 12 rfl rfl)
theorem dX1_tell_61 : decode cX1_tell 61 = .ok (.iconst (-1), 1) := dk_2 (dk_at dksX1_tell_2 13 rfl rfl)
theorem dX1_tell_62 : decode cX1_tell 62 = .ok (.ireturn, 1) := dk_172 (dk_at dksX1_tell_2 14 rfl rfl)
theorem dX1_tell_63 : decode cX1_tell 63 = .ok (.aload_n 0, 1) := dk_42 (dk_at dksX1_tell_2 15 rfl rfl)
theorem dX1_tell_64 : decode cX1_tell 64 = .ok (.iload 4, 2) := dk_21 4 (dk_at dksX1_tell_2 16 rfl rfl)
theorem dX1_tell_66 : decode cX1_tell 66 = .ok (.putfield 101, 3) := dk_181 0 101 (dk_at dksX1_tell_2 18 rfl rfl)
theorem dX1_tell_69 : decode cX1_tell 69 = .ok (.aload_n 0, 1) := dk_42 (dk_at dksX1_tell_2 21 rfl rfl)
theorem dX1_tell_70 : decode cX1_tell 70 = .ok (.getfield 101, 3) := dk_180 0 101 (dk_at dksX1_tell_3 0 rfl rfl)
theorem dX1_tell_73 : decode cX1_tell 73 = .ok (.invokestatic 134, 3) := dk_184 0 134 (dk_at dksX1_tell_3 3 rfl rfl)
theorem dX1_tell_76 : decode cX1_tell 76 = .ok (.ireturn, 1) := dk_172 (dk_at dksX1_tell_3 6 rfl rfl)
abbrev cX1_worldsOf : ByteArray := prog_1_method_39_code
def yX1_worldsOf : MethodName := ⟨RX1, "worldsOf", "(IZ)I"⟩
def dkwX1_worldsOf_2 : List UInt8 := [167, 255, 215, 29, 172]
abbrev dktX1_worldsOf_2 : List UInt8 := dkwX1_worldsOf_2 ++ []
def dkwX1_worldsOf_1 : List UInt8 := [160, 0, 21, 42, 21, 4, 27, 182, 1, 55, 28, 159, 0, 10, 29, 4, 21, 4, 120, 128, 62, 132, 4, 1]
abbrev dktX1_worldsOf_1 : List UInt8 := dkwX1_worldsOf_1 ++ dktX1_worldsOf_2
def dkwX1_worldsOf_0 : List UInt8 := [3, 62, 3, 54, 4, 21, 4, 16, 16, 162, 0, 40, 42, 180, 0, 101, 21, 4, 122, 4, 126, 4]
abbrev dktX1_worldsOf_0 : List UInt8 := dkwX1_worldsOf_0 ++ dktX1_worldsOf_1
theorem dksX1_worldsOf_0 : cX1_worldsOf.data.toList.drop 0 = dktX1_worldsOf_0 := by decide +kernel
theorem dksX1_worldsOf_1 : cX1_worldsOf.data.toList.drop 22 = dktX1_worldsOf_1 := dk_seg dksX1_worldsOf_0 22 rfl rfl
theorem dksX1_worldsOf_2 : cX1_worldsOf.data.toList.drop 46 = dktX1_worldsOf_2 := dk_seg dksX1_worldsOf_1 24 rfl rfl
theorem dX1_worldsOf_0 : decode cX1_worldsOf 0 = .ok (.iconst 0, 1) := dk_3 (dk_at dksX1_worldsOf_0 0 rfl rfl)
theorem dX1_worldsOf_1 : decode cX1_worldsOf 1 = .ok (.istore_n 3, 1) := dk_62 (dk_at dksX1_worldsOf_0 1 rfl rfl)
theorem dX1_worldsOf_2 : decode cX1_worldsOf 2 = .ok (.iconst 0, 1) := dk_3 (dk_at dksX1_worldsOf_0 2 rfl rfl)
theorem dX1_worldsOf_3 : decode cX1_worldsOf 3 = .ok (.istore 4, 2) := dk_54 4 (dk_at dksX1_worldsOf_0 3 rfl rfl)
theorem dX1_worldsOf_5 : decode cX1_worldsOf 5 = .ok (.iload 4, 2) := dk_21 4 (dk_at dksX1_worldsOf_0 5 rfl rfl)
theorem dX1_worldsOf_7 : decode cX1_worldsOf 7 = .ok (.bipush 16, 2) := dk_16 16 (dk_at dksX1_worldsOf_0 7 rfl rfl)
theorem dX1_worldsOf_9 : decode cX1_worldsOf 9 = .ok (.if_icmp .ge 40, 3) := dk_162 0 40 (dk_at dksX1_worldsOf_0 9 rfl rfl)
theorem dX1_worldsOf_12 : decode cX1_worldsOf 12 = .ok (.aload_n 0, 1) := dk_42 (dk_at dksX1_worldsOf_0 12 rfl rfl)
theorem dX1_worldsOf_13 : decode cX1_worldsOf 13 = .ok (.getfield 101, 3) := dk_180 0 101 (dk_at dksX1_worldsOf_0 13 rfl rfl)
theorem dX1_worldsOf_16 : decode cX1_worldsOf 16 = .ok (.iload 4, 2) := dk_21 4 (dk_at dksX1_worldsOf_0 16 rfl rfl)
theorem dX1_worldsOf_18 : decode cX1_worldsOf 18 = .ok (.ishr, 1) := dk_122 (dk_at dksX1_worldsOf_0 18 rfl rfl)
theorem dX1_worldsOf_19 : decode cX1_worldsOf 19 = .ok (.iconst 1, 1) := dk_4 (dk_at dksX1_worldsOf_0 19 rfl rfl)
theorem dX1_worldsOf_20 : decode cX1_worldsOf 20 = .ok (.iand, 1) := dk_126 (dk_at dksX1_worldsOf_0 20 rfl rfl)
theorem dX1_worldsOf_21 : decode cX1_worldsOf 21 = .ok (.iconst 1, 1) := dk_4 (dk_at dksX1_worldsOf_0 21 rfl rfl)
theorem dX1_worldsOf_22 : decode cX1_worldsOf 22 = .ok (.if_icmp .ne 21, 3) := dk_160 0 21 (dk_at dksX1_worldsOf_1 0 rfl rfl)
theorem dX1_worldsOf_25 : decode cX1_worldsOf 25 = .ok (.aload_n 0, 1) := dk_42 (dk_at dksX1_worldsOf_1 3 rfl rfl)
theorem dX1_worldsOf_26 : decode cX1_worldsOf 26 = .ok (.iload 4, 2) := dk_21 4 (dk_at dksX1_worldsOf_1 4 rfl rfl)
theorem dX1_worldsOf_28 : decode cX1_worldsOf 28 = .ok (.iload_n 1, 1) := dk_27 (dk_at dksX1_worldsOf_1 6 rfl rfl)
theorem dX1_worldsOf_29 : decode cX1_worldsOf 29 = .ok (.invokevirtual 311, 3) := dk_182 1 55 (dk_at dksX1_worldsOf_1 7 rfl rfl)
theorem dX1_worldsOf_32 : decode cX1_worldsOf 32 = .ok (.iload_n 2, 1) := dk_28 (dk_at dksX1_worldsOf_1 10 rfl rfl)
theorem dX1_worldsOf_33 : decode cX1_worldsOf 33 = .ok (.if_icmp .eq 10, 3) := dk_159 0 10 (dk_at dksX1_worldsOf_1 11 rfl rfl)
theorem dX1_worldsOf_36 : decode cX1_worldsOf 36 = .ok (.iload_n 3, 1) := dk_29 (dk_at dksX1_worldsOf_1 14 rfl rfl)
theorem dX1_worldsOf_37 : decode cX1_worldsOf 37 = .ok (.iconst 1, 1) := dk_4 (dk_at dksX1_worldsOf_1 15 rfl rfl)
theorem dX1_worldsOf_38 : decode cX1_worldsOf 38 = .ok (.iload 4, 2) := dk_21 4 (dk_at dksX1_worldsOf_1 16 rfl rfl)
theorem dX1_worldsOf_40 : decode cX1_worldsOf 40 = .ok (.ishl, 1) := dk_120 (dk_at dksX1_worldsOf_1 18 rfl rfl)
theorem dX1_worldsOf_41 : decode cX1_worldsOf 41 = .ok (.ior, 1) := dk_128 (dk_at dksX1_worldsOf_1 19 rfl rfl)
theorem dX1_worldsOf_42 : decode cX1_worldsOf 42 = .ok (.istore_n 3, 1) := dk_62 (dk_at dksX1_worldsOf_1 20 rfl rfl)
theorem dX1_worldsOf_43 : decode cX1_worldsOf 43 = .ok (.iinc 4 1, 3) := dk_132 4 1 (dk_at dksX1_worldsOf_1 21 rfl rfl)
theorem dX1_worldsOf_46 : decode cX1_worldsOf 46 = .ok (.goto (-41), 3) := dk_167 255 215 (dk_at dksX1_worldsOf_2 0 rfl rfl)
theorem dX1_worldsOf_49 : decode cX1_worldsOf 49 = .ok (.iload_n 3, 1) := dk_29 (dk_at dksX1_worldsOf_2 3 rfl rfl)
theorem dX1_worldsOf_50 : decode cX1_worldsOf 50 = .ok (.ireturn, 1) := dk_172 (dk_at dksX1_worldsOf_2 4 rfl rfl)
abbrev cX1_isSo : ByteArray := prog_1_method_35_code
def yX1_isSo : MethodName := ⟨RX1, "isSo", "(II)Z"⟩
def dkwX1_isSo_1 : List UInt8 := [167, 0, 4, 3, 172]
abbrev dktX1_isSo_1 : List UInt8 := dkwX1_isSo_1 ++ []
def dkwX1_isSo_0 : List UInt8 := [27, 42, 180, 0, 98, 4, 28, 120, 4, 100, 126, 184, 0, 134, 122, 4, 126, 4, 160, 0, 7, 4]
abbrev dktX1_isSo_0 : List UInt8 := dkwX1_isSo_0 ++ dktX1_isSo_1
theorem dksX1_isSo_0 : cX1_isSo.data.toList.drop 0 = dktX1_isSo_0 := by decide +kernel
theorem dksX1_isSo_1 : cX1_isSo.data.toList.drop 22 = dktX1_isSo_1 := dk_seg dksX1_isSo_0 22 rfl rfl
theorem dX1_isSo_0 : decode cX1_isSo 0 = .ok (.iload_n 1, 1) := dk_27 (dk_at dksX1_isSo_0 0 rfl rfl)
theorem dX1_isSo_1 : decode cX1_isSo 1 = .ok (.aload_n 0, 1) := dk_42 (dk_at dksX1_isSo_0 1 rfl rfl)
theorem dX1_isSo_2 : decode cX1_isSo 2 = .ok (.getfield 98, 3) := dk_180 0 98 (dk_at dksX1_isSo_0 2 rfl rfl)
theorem dX1_isSo_5 : decode cX1_isSo 5 = .ok (.iconst 1, 1) := dk_4 (dk_at dksX1_isSo_0 5 rfl rfl)
theorem dX1_isSo_6 : decode cX1_isSo 6 = .ok (.iload_n 2, 1) := dk_28 (dk_at dksX1_isSo_0 6 rfl rfl)
theorem dX1_isSo_7 : decode cX1_isSo 7 = .ok (.ishl, 1) := dk_120 (dk_at dksX1_isSo_0 7 rfl rfl)
theorem dX1_isSo_8 : decode cX1_isSo 8 = .ok (.iconst 1, 1) := dk_4 (dk_at dksX1_isSo_0 8 rfl rfl)
theorem dX1_isSo_9 : decode cX1_isSo 9 = .ok (.isub, 1) := dk_100 (dk_at dksX1_isSo_0 9 rfl rfl)
theorem dX1_isSo_10 : decode cX1_isSo 10 = .ok (.iand, 1) := dk_126 (dk_at dksX1_isSo_0 10 rfl rfl)
theorem dX1_isSo_11 : decode cX1_isSo 11 = .ok (.invokestatic 134, 3) := dk_184 0 134 (dk_at dksX1_isSo_0 11 rfl rfl)
theorem dX1_isSo_14 : decode cX1_isSo 14 = .ok (.ishr, 1) := dk_122 (dk_at dksX1_isSo_0 14 rfl rfl)
theorem dX1_isSo_15 : decode cX1_isSo 15 = .ok (.iconst 1, 1) := dk_4 (dk_at dksX1_isSo_0 15 rfl rfl)
theorem dX1_isSo_16 : decode cX1_isSo 16 = .ok (.iand, 1) := dk_126 (dk_at dksX1_isSo_0 16 rfl rfl)
theorem dX1_isSo_17 : decode cX1_isSo 17 = .ok (.iconst 1, 1) := dk_4 (dk_at dksX1_isSo_0 17 rfl rfl)
theorem dX1_isSo_18 : decode cX1_isSo 18 = .ok (.if_icmp .ne 7, 3) := dk_160 0 7 (dk_at dksX1_isSo_0 18 rfl rfl)
theorem dX1_isSo_21 : decode cX1_isSo 21 = .ok (.iconst 1, 1) := dk_4 (dk_at dksX1_isSo_0 21 rfl rfl)
theorem dX1_isSo_22 : decode cX1_isSo 22 = .ok (.goto 4, 3) := dk_167 0 4 (dk_at dksX1_isSo_1 0 rfl rfl)
theorem dX1_isSo_25 : decode cX1_isSo 25 = .ok (.iconst 0, 1) := dk_3 (dk_at dksX1_isSo_1 3 rfl rfl)
theorem dX1_isSo_26 : decode cX1_isSo 26 = .ok (.ireturn, 1) := dk_172 (dk_at dksX1_isSo_1 4 rfl rfl)
abbrev cX1_knows : ByteArray := prog_1_method_38_code
def yX1_knows : MethodName := ⟨RX1, "knows", "(II)I"⟩
def dkwX1_knows_5 : List UInt8 := [167, 255, 152, 29, 172]
abbrev dktX1_knows_5 : List UInt8 := dkwX1_knows_5 ++ []
def dkwX1_knows_4 : List UInt8 := [54, 6, 132, 7, 1, 167, 255, 200, 21, 6, 153, 0, 10, 29, 4, 21, 5, 120, 128, 62, 132, 5, 1]
abbrev dktX1_knows_4 : List UInt8 := dkwX1_knows_4 ++ dktX1_knows_5
def dkwX1_knows_3 : List UInt8 := [21, 5, 130, 21, 4, 126, 154, 0, 20, 28, 21, 7, 122, 4, 126, 4, 160, 0, 7, 4, 167, 0, 4, 3]
abbrev dktX1_knows_3 : List UInt8 := dkwX1_knows_3 ++ dktX1_knows_4
def dkwX1_knows_2 : List UInt8 := [162, 0, 55, 21, 6, 153, 0, 50, 42, 180, 0, 101, 21, 7, 122, 4, 126, 4, 160, 0, 31, 21, 7]
abbrev dktX1_knows_2 : List UInt8 := dkwX1_knows_2 ++ dktX1_knows_3
def dkwX1_knows_1 : List UInt8 := [21, 5, 122, 4, 126, 4, 160, 0, 7, 4, 167, 0, 4, 3, 54, 6, 3, 54, 7, 21, 7, 16, 16]
abbrev dktX1_knows_1 : List UInt8 := dkwX1_knows_1 ++ dktX1_knows_2
def dkwX1_knows_0 : List UInt8 := [3, 62, 42, 27, 182, 1, 52, 54, 4, 3, 54, 5, 21, 5, 16, 16, 162, 0, 103, 42, 180, 0, 101]
abbrev dktX1_knows_0 : List UInt8 := dkwX1_knows_0 ++ dktX1_knows_1
theorem dksX1_knows_0 : cX1_knows.data.toList.drop 0 = dktX1_knows_0 := by decide +kernel
theorem dksX1_knows_1 : cX1_knows.data.toList.drop 23 = dktX1_knows_1 := dk_seg dksX1_knows_0 23 rfl rfl
theorem dksX1_knows_2 : cX1_knows.data.toList.drop 46 = dktX1_knows_2 := dk_seg dksX1_knows_1 23 rfl rfl
theorem dksX1_knows_3 : cX1_knows.data.toList.drop 69 = dktX1_knows_3 := dk_seg dksX1_knows_2 23 rfl rfl
theorem dksX1_knows_4 : cX1_knows.data.toList.drop 93 = dktX1_knows_4 := dk_seg dksX1_knows_3 24 rfl rfl
theorem dksX1_knows_5 : cX1_knows.data.toList.drop 116 = dktX1_knows_5 := dk_seg dksX1_knows_4 23 rfl rfl
theorem dX1_knows_0 : decode cX1_knows 0 = .ok (.iconst 0, 1) := dk_3 (dk_at dksX1_knows_0 0 rfl rfl)
theorem dX1_knows_1 : decode cX1_knows 1 = .ok (.istore_n 3, 1) := dk_62 (dk_at dksX1_knows_0 1 rfl rfl)
theorem dX1_knows_2 : decode cX1_knows 2 = .ok (.aload_n 0, 1) := dk_42 (dk_at dksX1_knows_0 2 rfl rfl)
theorem dX1_knows_3 : decode cX1_knows 3 = .ok (.iload_n 1, 1) := dk_27 (dk_at dksX1_knows_0 3 rfl rfl)
theorem dX1_knows_4 : decode cX1_knows 4 = .ok (.invokevirtual 308, 3) := dk_182 1 52 (dk_at dksX1_knows_0 4 rfl rfl)
theorem dX1_knows_7 : decode cX1_knows 7 = .ok (.istore 4, 2) := dk_54 4 (dk_at dksX1_knows_0 7 rfl rfl)
theorem dX1_knows_9 : decode cX1_knows 9 = .ok (.iconst 0, 1) := dk_3 (dk_at dksX1_knows_0 9 rfl rfl)
theorem dX1_knows_10 : decode cX1_knows 10 = .ok (.istore 5, 2) := dk_54 5 (dk_at dksX1_knows_0 10 rfl rfl)
theorem dX1_knows_12 : decode cX1_knows 12 = .ok (.iload 5, 2) := dk_21 5 (dk_at dksX1_knows_0 12 rfl rfl)
theorem dX1_knows_14 : decode cX1_knows 14 = .ok (.bipush 16, 2) := dk_16 16 (dk_at dksX1_knows_0 14 rfl rfl)
theorem dX1_knows_16 : decode cX1_knows 16 = .ok (.if_icmp .ge 103, 3) := dk_162 0 103 (dk_at dksX1_knows_0 16 rfl rfl)
theorem dX1_knows_19 : decode cX1_knows 19 = .ok (.aload_n 0, 1) := dk_42 (dk_at dksX1_knows_0 19 rfl rfl)
theorem dX1_knows_20 : decode cX1_knows 20 = .ok (.getfield 101, 3) := dk_180 0 101 (dk_at dksX1_knows_0 20 rfl rfl)
theorem dX1_knows_23 : decode cX1_knows 23 = .ok (.iload 5, 2) := dk_21 5 (dk_at dksX1_knows_1 0 rfl rfl)
theorem dX1_knows_25 : decode cX1_knows 25 = .ok (.ishr, 1) := dk_122 (dk_at dksX1_knows_1 2 rfl rfl)
theorem dX1_knows_26 : decode cX1_knows 26 = .ok (.iconst 1, 1) := dk_4 (dk_at dksX1_knows_1 3 rfl rfl)
theorem dX1_knows_27 : decode cX1_knows 27 = .ok (.iand, 1) := dk_126 (dk_at dksX1_knows_1 4 rfl rfl)
theorem dX1_knows_28 : decode cX1_knows 28 = .ok (.iconst 1, 1) := dk_4 (dk_at dksX1_knows_1 5 rfl rfl)
theorem dX1_knows_29 : decode cX1_knows 29 = .ok (.if_icmp .ne 7, 3) := dk_160 0 7 (dk_at dksX1_knows_1 6 rfl rfl)
theorem dX1_knows_32 : decode cX1_knows 32 = .ok (.iconst 1, 1) := dk_4 (dk_at dksX1_knows_1 9 rfl rfl)
theorem dX1_knows_33 : decode cX1_knows 33 = .ok (.goto 4, 3) := dk_167 0 4 (dk_at dksX1_knows_1 10 rfl rfl)
theorem dX1_knows_36 : decode cX1_knows 36 = .ok (.iconst 0, 1) := dk_3 (dk_at dksX1_knows_1 13 rfl rfl)
theorem dX1_knows_37 : decode cX1_knows 37 = .ok (.istore 6, 2) := dk_54 6 (dk_at dksX1_knows_1 14 rfl rfl)
theorem dX1_knows_39 : decode cX1_knows 39 = .ok (.iconst 0, 1) := dk_3 (dk_at dksX1_knows_1 16 rfl rfl)
theorem dX1_knows_40 : decode cX1_knows 40 = .ok (.istore 7, 2) := dk_54 7 (dk_at dksX1_knows_1 17 rfl rfl)
theorem dX1_knows_42 : decode cX1_knows 42 = .ok (.iload 7, 2) := dk_21 7 (dk_at dksX1_knows_1 19 rfl rfl)
theorem dX1_knows_44 : decode cX1_knows 44 = .ok (.bipush 16, 2) := dk_16 16 (dk_at dksX1_knows_1 21 rfl rfl)
theorem dX1_knows_46 : decode cX1_knows 46 = .ok (.if_icmp .ge 55, 3) := dk_162 0 55 (dk_at dksX1_knows_2 0 rfl rfl)
theorem dX1_knows_49 : decode cX1_knows 49 = .ok (.iload 6, 2) := dk_21 6 (dk_at dksX1_knows_2 3 rfl rfl)
theorem dX1_knows_51 : decode cX1_knows 51 = .ok (.ifCond .eq 50, 3) := dk_153 0 50 (dk_at dksX1_knows_2 5 rfl rfl)
theorem dX1_knows_54 : decode cX1_knows 54 = .ok (.aload_n 0, 1) := dk_42 (dk_at dksX1_knows_2 8 rfl rfl)
theorem dX1_knows_55 : decode cX1_knows 55 = .ok (.getfield 101, 3) := dk_180 0 101 (dk_at dksX1_knows_2 9 rfl rfl)
theorem dX1_knows_58 : decode cX1_knows 58 = .ok (.iload 7, 2) := dk_21 7 (dk_at dksX1_knows_2 12 rfl rfl)
theorem dX1_knows_60 : decode cX1_knows 60 = .ok (.ishr, 1) := dk_122 (dk_at dksX1_knows_2 14 rfl rfl)
theorem dX1_knows_61 : decode cX1_knows 61 = .ok (.iconst 1, 1) := dk_4 (dk_at dksX1_knows_2 15 rfl rfl)
theorem dX1_knows_62 : decode cX1_knows 62 = .ok (.iand, 1) := dk_126 (dk_at dksX1_knows_2 16 rfl rfl)
theorem dX1_knows_63 : decode cX1_knows 63 = .ok (.iconst 1, 1) := dk_4 (dk_at dksX1_knows_2 17 rfl rfl)
theorem dX1_knows_64 : decode cX1_knows 64 = .ok (.if_icmp .ne 31, 3) := dk_160 0 31 (dk_at dksX1_knows_2 18 rfl rfl)
theorem dX1_knows_67 : decode cX1_knows 67 = .ok (.iload 7, 2) := dk_21 7 (dk_at dksX1_knows_2 21 rfl rfl)
theorem dX1_knows_69 : decode cX1_knows 69 = .ok (.iload 5, 2) := dk_21 5 (dk_at dksX1_knows_3 0 rfl rfl)
theorem dX1_knows_71 : decode cX1_knows 71 = .ok (.ixor, 1) := dk_130 (dk_at dksX1_knows_3 2 rfl rfl)
theorem dX1_knows_72 : decode cX1_knows 72 = .ok (.iload 4, 2) := dk_21 4 (dk_at dksX1_knows_3 3 rfl rfl)
theorem dX1_knows_74 : decode cX1_knows 74 = .ok (.iand, 1) := dk_126 (dk_at dksX1_knows_3 5 rfl rfl)
theorem dX1_knows_75 : decode cX1_knows 75 = .ok (.ifCond .ne 20, 3) := dk_154 0 20 (dk_at dksX1_knows_3 6 rfl rfl)
theorem dX1_knows_78 : decode cX1_knows 78 = .ok (.iload_n 2, 1) := dk_28 (dk_at dksX1_knows_3 9 rfl rfl)
theorem dX1_knows_79 : decode cX1_knows 79 = .ok (.iload 7, 2) := dk_21 7 (dk_at dksX1_knows_3 10 rfl rfl)
theorem dX1_knows_81 : decode cX1_knows 81 = .ok (.ishr, 1) := dk_122 (dk_at dksX1_knows_3 12 rfl rfl)
theorem dX1_knows_82 : decode cX1_knows 82 = .ok (.iconst 1, 1) := dk_4 (dk_at dksX1_knows_3 13 rfl rfl)
theorem dX1_knows_83 : decode cX1_knows 83 = .ok (.iand, 1) := dk_126 (dk_at dksX1_knows_3 14 rfl rfl)
theorem dX1_knows_84 : decode cX1_knows 84 = .ok (.iconst 1, 1) := dk_4 (dk_at dksX1_knows_3 15 rfl rfl)
theorem dX1_knows_85 : decode cX1_knows 85 = .ok (.if_icmp .ne 7, 3) := dk_160 0 7 (dk_at dksX1_knows_3 16 rfl rfl)
theorem dX1_knows_88 : decode cX1_knows 88 = .ok (.iconst 1, 1) := dk_4 (dk_at dksX1_knows_3 19 rfl rfl)
theorem dX1_knows_89 : decode cX1_knows 89 = .ok (.goto 4, 3) := dk_167 0 4 (dk_at dksX1_knows_3 20 rfl rfl)
theorem dX1_knows_92 : decode cX1_knows 92 = .ok (.iconst 0, 1) := dk_3 (dk_at dksX1_knows_3 23 rfl rfl)
theorem dX1_knows_93 : decode cX1_knows 93 = .ok (.istore 6, 2) := dk_54 6 (dk_at dksX1_knows_4 0 rfl rfl)
theorem dX1_knows_95 : decode cX1_knows 95 = .ok (.iinc 7 1, 3) := dk_132 7 1 (dk_at dksX1_knows_4 2 rfl rfl)
theorem dX1_knows_98 : decode cX1_knows 98 = .ok (.goto (-56), 3) := dk_167 255 200 (dk_at dksX1_knows_4 5 rfl rfl)
theorem dX1_knows_101 : decode cX1_knows 101 = .ok (.iload 6, 2) := dk_21 6 (dk_at dksX1_knows_4 8 rfl rfl)
theorem dX1_knows_103 : decode cX1_knows 103 = .ok (.ifCond .eq 10, 3) := dk_153 0 10 (dk_at dksX1_knows_4 10 rfl rfl)
theorem dX1_knows_106 : decode cX1_knows 106 = .ok (.iload_n 3, 1) := dk_29 (dk_at dksX1_knows_4 13 rfl rfl)
theorem dX1_knows_107 : decode cX1_knows 107 = .ok (.iconst 1, 1) := dk_4 (dk_at dksX1_knows_4 14 rfl rfl)
theorem dX1_knows_108 : decode cX1_knows 108 = .ok (.iload 5, 2) := dk_21 5 (dk_at dksX1_knows_4 15 rfl rfl)
theorem dX1_knows_110 : decode cX1_knows 110 = .ok (.ishl, 1) := dk_120 (dk_at dksX1_knows_4 17 rfl rfl)
theorem dX1_knows_111 : decode cX1_knows 111 = .ok (.ior, 1) := dk_128 (dk_at dksX1_knows_4 18 rfl rfl)
theorem dX1_knows_112 : decode cX1_knows 112 = .ok (.istore_n 3, 1) := dk_62 (dk_at dksX1_knows_4 19 rfl rfl)
theorem dX1_knows_113 : decode cX1_knows 113 = .ok (.iinc 5 1, 3) := dk_132 5 1 (dk_at dksX1_knows_4 20 rfl rfl)
theorem dX1_knows_116 : decode cX1_knows 116 = .ok (.goto (-104), 3) := dk_167 255 152 (dk_at dksX1_knows_5 0 rfl rfl)
theorem dX1_knows_119 : decode cX1_knows 119 = .ok (.iload_n 3, 1) := dk_29 (dk_at dksX1_knows_5 3 rfl rfl)
theorem dX1_knows_120 : decode cX1_knows 120 = .ok (.ireturn, 1) := dk_172 (dk_at dksX1_knows_5 4 rfl rfl)
abbrev cX1_sees : ByteArray := prog_1_method_37_code
def yX1_sees : MethodName := ⟨RX1, "sees", "(I)I"⟩
def dkwX1_sees_3 : List UInt8 := [172]
abbrev dktX1_sees_3 : List UInt8 := dkwX1_sees_3 ++ []
def dkwX1_sees_2 : List UInt8 := [182, 0, 154, 25, 4, 180, 0, 170, 160, 0, 9, 28, 4, 29, 120, 128, 61, 132, 3, 1, 167, 255, 193, 28]
abbrev dktX1_sees_2 : List UInt8 := dkwX1_sees_2 ++ dktX1_sees_3
def dkwX1_sees_1 : List UInt8 := [182, 1, 49, 185, 0, 161, 2, 0, 192, 0, 165, 58, 4, 42, 180, 0, 16, 27, 25, 4, 180, 0, 173]
abbrev dktX1_sees_1 : List UInt8 := dkwX1_sees_1 ++ dktX1_sees_2
def dkwX1_sees_0 : List UInt8 := [3, 61, 3, 62, 29, 42, 180, 0, 98, 184, 0, 134, 162, 0, 58, 42, 180, 0, 16, 180, 0, 128, 42, 29]
abbrev dktX1_sees_0 : List UInt8 := dkwX1_sees_0 ++ dktX1_sees_1
theorem dksX1_sees_0 : cX1_sees.data.toList.drop 0 = dktX1_sees_0 := by decide +kernel
theorem dksX1_sees_1 : cX1_sees.data.toList.drop 24 = dktX1_sees_1 := dk_seg dksX1_sees_0 24 rfl rfl
theorem dksX1_sees_2 : cX1_sees.data.toList.drop 47 = dktX1_sees_2 := dk_seg dksX1_sees_1 23 rfl rfl
theorem dksX1_sees_3 : cX1_sees.data.toList.drop 71 = dktX1_sees_3 := dk_seg dksX1_sees_2 24 rfl rfl
theorem dX1_sees_0 : decode cX1_sees 0 = .ok (.iconst 0, 1) := dk_3 (dk_at dksX1_sees_0 0 rfl rfl)
theorem dX1_sees_1 : decode cX1_sees 1 = .ok (.istore_n 2, 1) := dk_61 (dk_at dksX1_sees_0 1 rfl rfl)
theorem dX1_sees_2 : decode cX1_sees 2 = .ok (.iconst 0, 1) := dk_3 (dk_at dksX1_sees_0 2 rfl rfl)
theorem dX1_sees_3 : decode cX1_sees 3 = .ok (.istore_n 3, 1) := dk_62 (dk_at dksX1_sees_0 3 rfl rfl)
theorem dX1_sees_4 : decode cX1_sees 4 = .ok (.iload_n 3, 1) := dk_29 (dk_at dksX1_sees_0 4 rfl rfl)
theorem dX1_sees_5 : decode cX1_sees 5 = .ok (.aload_n 0, 1) := dk_42 (dk_at dksX1_sees_0 5 rfl rfl)
theorem dX1_sees_6 : decode cX1_sees 6 = .ok (.getfield 98, 3) := dk_180 0 98 (dk_at dksX1_sees_0 6 rfl rfl)
theorem dX1_sees_9 : decode cX1_sees 9 = .ok (.invokestatic 134, 3) := dk_184 0 134 (dk_at dksX1_sees_0 9 rfl rfl)
theorem dX1_sees_12 : decode cX1_sees 12 = .ok (.if_icmp .ge 58, 3) := dk_162 0 58 (dk_at dksX1_sees_0 12 rfl rfl)
theorem dX1_sees_15 : decode cX1_sees 15 = .ok (.aload_n 0, 1) := dk_42 (dk_at dksX1_sees_0 15 rfl rfl)
theorem dX1_sees_16 : decode cX1_sees 16 = .ok (.getfield 16, 3) := dk_180 0 16 (dk_at dksX1_sees_0 16 rfl rfl)
theorem dX1_sees_19 : decode cX1_sees 19 = .ok (.getfield 128, 3) := dk_180 0 128 (dk_at dksX1_sees_0 19 rfl rfl)
theorem dX1_sees_22 : decode cX1_sees 22 = .ok (.aload_n 0, 1) := dk_42 (dk_at dksX1_sees_0 22 rfl rfl)
theorem dX1_sees_23 : decode cX1_sees 23 = .ok (.iload_n 3, 1) := dk_29 (dk_at dksX1_sees_0 23 rfl rfl)
theorem dX1_sees_24 : decode cX1_sees 24 = .ok (.invokevirtual 305, 3) := dk_182 1 49 (dk_at dksX1_sees_1 0 rfl rfl)
theorem dX1_sees_27 : decode cX1_sees 27 = .ok (.invokeinterface 161 2, 5) := by decide +kernel
theorem dX1_sees_32 : decode cX1_sees 32 = .ok (.checkcast 165, 3) := dk_192 0 165 (dk_at dksX1_sees_1 8 rfl rfl)
theorem dX1_sees_35 : decode cX1_sees 35 = .ok (.astore 4, 2) := dk_58 4 (dk_at dksX1_sees_1 11 rfl rfl)
theorem dX1_sees_37 : decode cX1_sees 37 = .ok (.aload_n 0, 1) := dk_42 (dk_at dksX1_sees_1 13 rfl rfl)
theorem dX1_sees_38 : decode cX1_sees 38 = .ok (.getfield 16, 3) := dk_180 0 16 (dk_at dksX1_sees_1 14 rfl rfl)
theorem dX1_sees_41 : decode cX1_sees 41 = .ok (.iload_n 1, 1) := dk_27 (dk_at dksX1_sees_1 17 rfl rfl)
theorem dX1_sees_42 : decode cX1_sees 42 = .ok (.aload 4, 2) := dk_25 4 (dk_at dksX1_sees_1 18 rfl rfl)
theorem dX1_sees_44 : decode cX1_sees 44 = .ok (.getfield 173, 3) := dk_180 0 173 (dk_at dksX1_sees_1 20 rfl rfl)
theorem dX1_sees_47 : decode cX1_sees 47 = .ok (.invokevirtual 154, 3) := dk_182 0 154 (dk_at dksX1_sees_2 0 rfl rfl)
theorem dX1_sees_50 : decode cX1_sees 50 = .ok (.aload 4, 2) := dk_25 4 (dk_at dksX1_sees_2 3 rfl rfl)
theorem dX1_sees_52 : decode cX1_sees 52 = .ok (.getfield 170, 3) := dk_180 0 170 (dk_at dksX1_sees_2 5 rfl rfl)
theorem dX1_sees_55 : decode cX1_sees 55 = .ok (.if_icmp .ne 9, 3) := dk_160 0 9 (dk_at dksX1_sees_2 8 rfl rfl)
theorem dX1_sees_58 : decode cX1_sees 58 = .ok (.iload_n 2, 1) := dk_28 (dk_at dksX1_sees_2 11 rfl rfl)
theorem dX1_sees_59 : decode cX1_sees 59 = .ok (.iconst 1, 1) := dk_4 (dk_at dksX1_sees_2 12 rfl rfl)
theorem dX1_sees_60 : decode cX1_sees 60 = .ok (.iload_n 3, 1) := dk_29 (dk_at dksX1_sees_2 13 rfl rfl)
theorem dX1_sees_61 : decode cX1_sees 61 = .ok (.ishl, 1) := dk_120 (dk_at dksX1_sees_2 14 rfl rfl)
theorem dX1_sees_62 : decode cX1_sees 62 = .ok (.ior, 1) := dk_128 (dk_at dksX1_sees_2 15 rfl rfl)
theorem dX1_sees_63 : decode cX1_sees 63 = .ok (.istore_n 2, 1) := dk_61 (dk_at dksX1_sees_2 16 rfl rfl)
theorem dX1_sees_64 : decode cX1_sees 64 = .ok (.iinc 3 1, 3) := dk_132 3 1 (dk_at dksX1_sees_2 17 rfl rfl)
theorem dX1_sees_67 : decode cX1_sees 67 = .ok (.goto (-63), 3) := dk_167 255 193 (dk_at dksX1_sees_2 20 rfl rfl)
theorem dX1_sees_70 : decode cX1_sees 70 = .ok (.iload_n 2, 1) := dk_28 (dk_at dksX1_sees_2 23 rfl rfl)
theorem dX1_sees_71 : decode cX1_sees 71 = .ok (.ireturn, 1) := dk_172 (dk_at dksX1_sees_3 0 rfl rfl)
abbrev cX1_worldThing : ByteArray := prog_1_method_34_code
def yX1_worldThing : MethodName := ⟨RX1, "worldThing", "(I)I"⟩
def dkwX1_worldThing_1 : List UInt8 := [28, 184, 1, 46, 172]
abbrev dktX1_worldThing_1 : List UInt8 := dkwX1_worldThing_1 ++ []
def dkwX1_worldThing_0 : List UInt8 := [42, 180, 0, 98, 61, 3, 62, 29, 27, 162, 0, 15, 28, 28, 4, 100, 126, 61, 132, 3, 1, 167, 255, 242]
abbrev dktX1_worldThing_0 : List UInt8 := dkwX1_worldThing_0 ++ dktX1_worldThing_1
theorem dksX1_worldThing_0 : cX1_worldThing.data.toList.drop 0 = dktX1_worldThing_0 := by decide +kernel
theorem dksX1_worldThing_1 : cX1_worldThing.data.toList.drop 24 = dktX1_worldThing_1 := dk_seg dksX1_worldThing_0 24 rfl rfl
theorem dX1_worldThing_0 : decode cX1_worldThing 0 = .ok (.aload_n 0, 1) := dk_42 (dk_at dksX1_worldThing_0 0 rfl rfl)
theorem dX1_worldThing_1 : decode cX1_worldThing 1 = .ok (.getfield 98, 3) := dk_180 0 98 (dk_at dksX1_worldThing_0 1 rfl rfl)
theorem dX1_worldThing_4 : decode cX1_worldThing 4 = .ok (.istore_n 2, 1) := dk_61 (dk_at dksX1_worldThing_0 4 rfl rfl)
theorem dX1_worldThing_5 : decode cX1_worldThing 5 = .ok (.iconst 0, 1) := dk_3 (dk_at dksX1_worldThing_0 5 rfl rfl)
theorem dX1_worldThing_6 : decode cX1_worldThing 6 = .ok (.istore_n 3, 1) := dk_62 (dk_at dksX1_worldThing_0 6 rfl rfl)
theorem dX1_worldThing_7 : decode cX1_worldThing 7 = .ok (.iload_n 3, 1) := dk_29 (dk_at dksX1_worldThing_0 7 rfl rfl)
theorem dX1_worldThing_8 : decode cX1_worldThing 8 = .ok (.iload_n 1, 1) := dk_27 (dk_at dksX1_worldThing_0 8 rfl rfl)
theorem dX1_worldThing_9 : decode cX1_worldThing 9 = .ok (.if_icmp .ge 15, 3) := dk_162 0 15 (dk_at dksX1_worldThing_0 9 rfl rfl)
theorem dX1_worldThing_12 : decode cX1_worldThing 12 = .ok (.iload_n 2, 1) := dk_28 (dk_at dksX1_worldThing_0 12 rfl rfl)
theorem dX1_worldThing_13 : decode cX1_worldThing 13 = .ok (.iload_n 2, 1) := dk_28 (dk_at dksX1_worldThing_0 13 rfl rfl)
theorem dX1_worldThing_14 : decode cX1_worldThing 14 = .ok (.iconst 1, 1) := dk_4 (dk_at dksX1_worldThing_0 14 rfl rfl)
theorem dX1_worldThing_15 : decode cX1_worldThing 15 = .ok (.isub, 1) := dk_100 (dk_at dksX1_worldThing_0 15 rfl rfl)
theorem dX1_worldThing_16 : decode cX1_worldThing 16 = .ok (.iand, 1) := dk_126 (dk_at dksX1_worldThing_0 16 rfl rfl)
theorem dX1_worldThing_17 : decode cX1_worldThing 17 = .ok (.istore_n 2, 1) := dk_61 (dk_at dksX1_worldThing_0 17 rfl rfl)
theorem dX1_worldThing_18 : decode cX1_worldThing 18 = .ok (.iinc 3 1, 3) := dk_132 3 1 (dk_at dksX1_worldThing_0 18 rfl rfl)
theorem dX1_worldThing_21 : decode cX1_worldThing 21 = .ok (.goto (-14), 3) := dk_167 255 242 (dk_at dksX1_worldThing_0 21 rfl rfl)
theorem dX1_worldThing_24 : decode cX1_worldThing 24 = .ok (.iload_n 2, 1) := dk_28 (dk_at dksX1_worldThing_1 0 rfl rfl)
theorem dX1_worldThing_25 : decode cX1_worldThing 25 = .ok (.invokestatic 302, 3) := dk_184 1 46 (dk_at dksX1_worldThing_1 1 rfl rfl)
theorem dX1_worldThing_28 : decode cX1_worldThing 28 = .ok (.ireturn, 1) := dk_172 (dk_at dksX1_worldThing_1 4 rfl rfl)
abbrev cX1_real : ByteArray := prog_1_method_36_code
def yX1_real : MethodName := ⟨RX1, "real", "()I"⟩
def dkwX1_real_2 : List UInt8 := [132, 2, 1, 167, 255, 210, 27, 172]
abbrev dktX1_real_2 : List UInt8 := dkwX1_real_2 ++ []
def dkwX1_real_1 : List UInt8 := [182, 1, 49, 185, 0, 161, 2, 0, 192, 0, 165, 180, 0, 180, 154, 0, 9, 27, 4, 28, 120, 128, 60]
abbrev dktX1_real_1 : List UInt8 := dkwX1_real_1 ++ dktX1_real_2
def dkwX1_real_0 : List UInt8 := [3, 60, 3, 61, 28, 42, 180, 0, 98, 184, 0, 134, 162, 0, 41, 42, 180, 0, 16, 180, 0, 128, 42, 28]
abbrev dktX1_real_0 : List UInt8 := dkwX1_real_0 ++ dktX1_real_1
theorem dksX1_real_0 : cX1_real.data.toList.drop 0 = dktX1_real_0 := by decide +kernel
theorem dksX1_real_1 : cX1_real.data.toList.drop 24 = dktX1_real_1 := dk_seg dksX1_real_0 24 rfl rfl
theorem dksX1_real_2 : cX1_real.data.toList.drop 47 = dktX1_real_2 := dk_seg dksX1_real_1 23 rfl rfl
theorem dX1_real_0 : decode cX1_real 0 = .ok (.iconst 0, 1) := dk_3 (dk_at dksX1_real_0 0 rfl rfl)
theorem dX1_real_1 : decode cX1_real 1 = .ok (.istore_n 1, 1) := dk_60 (dk_at dksX1_real_0 1 rfl rfl)
theorem dX1_real_2 : decode cX1_real 2 = .ok (.iconst 0, 1) := dk_3 (dk_at dksX1_real_0 2 rfl rfl)
theorem dX1_real_3 : decode cX1_real 3 = .ok (.istore_n 2, 1) := dk_61 (dk_at dksX1_real_0 3 rfl rfl)
theorem dX1_real_4 : decode cX1_real 4 = .ok (.iload_n 2, 1) := dk_28 (dk_at dksX1_real_0 4 rfl rfl)
theorem dX1_real_5 : decode cX1_real 5 = .ok (.aload_n 0, 1) := dk_42 (dk_at dksX1_real_0 5 rfl rfl)
theorem dX1_real_6 : decode cX1_real 6 = .ok (.getfield 98, 3) := dk_180 0 98 (dk_at dksX1_real_0 6 rfl rfl)
theorem dX1_real_9 : decode cX1_real 9 = .ok (.invokestatic 134, 3) := dk_184 0 134 (dk_at dksX1_real_0 9 rfl rfl)
theorem dX1_real_12 : decode cX1_real 12 = .ok (.if_icmp .ge 41, 3) := dk_162 0 41 (dk_at dksX1_real_0 12 rfl rfl)
theorem dX1_real_15 : decode cX1_real 15 = .ok (.aload_n 0, 1) := dk_42 (dk_at dksX1_real_0 15 rfl rfl)
theorem dX1_real_16 : decode cX1_real 16 = .ok (.getfield 16, 3) := dk_180 0 16 (dk_at dksX1_real_0 16 rfl rfl)
theorem dX1_real_19 : decode cX1_real 19 = .ok (.getfield 128, 3) := dk_180 0 128 (dk_at dksX1_real_0 19 rfl rfl)
theorem dX1_real_22 : decode cX1_real 22 = .ok (.aload_n 0, 1) := dk_42 (dk_at dksX1_real_0 22 rfl rfl)
theorem dX1_real_23 : decode cX1_real 23 = .ok (.iload_n 2, 1) := dk_28 (dk_at dksX1_real_0 23 rfl rfl)
theorem dX1_real_24 : decode cX1_real 24 = .ok (.invokevirtual 305, 3) := dk_182 1 49 (dk_at dksX1_real_1 0 rfl rfl)
theorem dX1_real_27 : decode cX1_real 27 = .ok (.invokeinterface 161 2, 5) := by decide +kernel
theorem dX1_real_32 : decode cX1_real 32 = .ok (.checkcast 165, 3) := dk_192 0 165 (dk_at dksX1_real_1 8 rfl rfl)
theorem dX1_real_35 : decode cX1_real 35 = .ok (.getfield 180, 3) := dk_180 0 180 (dk_at dksX1_real_1 11 rfl rfl)
theorem dX1_real_38 : decode cX1_real 38 = .ok (.ifCond .ne 9, 3) := dk_154 0 9 (dk_at dksX1_real_1 14 rfl rfl)
theorem dX1_real_41 : decode cX1_real 41 = .ok (.iload_n 1, 1) := dk_27 (dk_at dksX1_real_1 17 rfl rfl)
theorem dX1_real_42 : decode cX1_real 42 = .ok (.iconst 1, 1) := dk_4 (dk_at dksX1_real_1 18 rfl rfl)
theorem dX1_real_43 : decode cX1_real 43 = .ok (.iload_n 2, 1) := dk_28 (dk_at dksX1_real_1 19 rfl rfl)
theorem dX1_real_44 : decode cX1_real 44 = .ok (.ishl, 1) := dk_120 (dk_at dksX1_real_1 20 rfl rfl)
theorem dX1_real_45 : decode cX1_real 45 = .ok (.ior, 1) := dk_128 (dk_at dksX1_real_1 21 rfl rfl)
theorem dX1_real_46 : decode cX1_real 46 = .ok (.istore_n 1, 1) := dk_60 (dk_at dksX1_real_1 22 rfl rfl)
theorem dX1_real_47 : decode cX1_real 47 = .ok (.iinc 2 1, 3) := dk_132 2 1 (dk_at dksX1_real_2 0 rfl rfl)
theorem dX1_real_50 : decode cX1_real 50 = .ok (.goto (-46), 3) := dk_167 255 210 (dk_at dksX1_real_2 3 rfl rfl)
theorem dX1_real_53 : decode cX1_real 53 = .ok (.iload_n 1, 1) := dk_27 (dk_at dksX1_real_2 6 rfl rfl)
theorem dX1_real_54 : decode cX1_real 54 = .ok (.ireturn, 1) := dk_172 (dk_at dksX1_real_2 7 rfl rfl)
abbrev cX1_known : ByteArray := prog_1_method_42_code
def yX1_known : MethodName := ⟨RX1, "known", "(IIIZ)Z"⟩
def dkwX1_known_5 : List UInt8 := [126, 4, 160, 0, 7, 4, 167, 0, 4, 3, 172]
abbrev dktX1_known_5 : List UInt8 := dkwX1_known_5 ++ []
def dkwX1_known_4 : List UInt8 := [16, 7, 126, 21, 5, 182, 1, 63, 54, 5, 132, 6, 255, 167, 255, 231, 21, 5, 42, 182, 1, 66, 122, 4]
abbrev dktX1_known_4 : List UInt8 := dkwX1_known_4 ++ dktX1_known_5
def dkwX1_known_3 : List UInt8 := [21, 4, 182, 1, 59, 54, 5, 28, 4, 100, 54, 6, 21, 6, 155, 0, 26, 42, 27, 6, 21, 6, 104, 124]
abbrev dktX1_known_3 : List UInt8 := dkwX1_known_3 ++ dktX1_known_4
def dkwX1_known_2 : List UInt8 := [184, 0, 77, 132, 5, 1, 167, 255, 220, 42, 180, 0, 98, 29, 122, 4, 126, 154, 0, 5, 3, 172, 42, 29]
abbrev dktX1_known_2 : List UInt8 := dkwX1_known_2 ++ dktX1_known_3
def dkwX1_known_1 : List UInt8 := [6, 21, 5, 104, 124, 16, 7, 126, 42, 180, 0, 16, 180, 0, 125, 162, 0, 7, 4, 167, 0, 4, 3]
abbrev dktX1_known_1 : List UInt8 := dkwX1_known_1 ++ dktX1_known_2
def dkwX1_known_0 : List UInt8 := [42, 29, 182, 0, 158, 28, 4, 7, 184, 0, 140, 184, 0, 77, 3, 54, 5, 21, 5, 28, 162, 0, 36, 27]
abbrev dktX1_known_0 : List UInt8 := dkwX1_known_0 ++ dktX1_known_1
theorem dksX1_known_0 : cX1_known.data.toList.drop 0 = dktX1_known_0 := by decide +kernel
theorem dksX1_known_1 : cX1_known.data.toList.drop 24 = dktX1_known_1 := dk_seg dksX1_known_0 24 rfl rfl
theorem dksX1_known_2 : cX1_known.data.toList.drop 47 = dktX1_known_2 := dk_seg dksX1_known_1 23 rfl rfl
theorem dksX1_known_3 : cX1_known.data.toList.drop 71 = dktX1_known_3 := dk_seg dksX1_known_2 24 rfl rfl
theorem dksX1_known_4 : cX1_known.data.toList.drop 95 = dktX1_known_4 := dk_seg dksX1_known_3 24 rfl rfl
theorem dksX1_known_5 : cX1_known.data.toList.drop 119 = dktX1_known_5 := dk_seg dksX1_known_4 24 rfl rfl
theorem dX1_known_0 : decode cX1_known 0 = .ok (.aload_n 0, 1) := dk_42 (dk_at dksX1_known_0 0 rfl rfl)
theorem dX1_known_1 : decode cX1_known 1 = .ok (.iload_n 3, 1) := dk_29 (dk_at dksX1_known_0 1 rfl rfl)
theorem dX1_known_2 : decode cX1_known 2 = .ok (.invokevirtual 158, 3) := dk_182 0 158 (dk_at dksX1_known_0 2 rfl rfl)
theorem dX1_known_5 : decode cX1_known 5 = .ok (.iload_n 2, 1) := dk_28 (dk_at dksX1_known_0 5 rfl rfl)
theorem dX1_known_6 : decode cX1_known 6 = .ok (.iconst 1, 1) := dk_4 (dk_at dksX1_known_0 6 rfl rfl)
theorem dX1_known_7 : decode cX1_known 7 = .ok (.iconst 4, 1) := dk_7 (dk_at dksX1_known_0 7 rfl rfl)
theorem dX1_known_8 : decode cX1_known 8 = .ok (.invokestatic 140, 3) := dk_184 0 140 (dk_at dksX1_known_0 8 rfl rfl)
theorem dX1_known_11 : decode cX1_known 11 = .ok (.invokestatic 77, 3) := dk_184 0 77 (dk_at dksX1_known_0 11 rfl rfl)
theorem dX1_known_14 : decode cX1_known 14 = .ok (.iconst 0, 1) := dk_3 (dk_at dksX1_known_0 14 rfl rfl)
theorem dX1_known_15 : decode cX1_known 15 = .ok (.istore 5, 2) := dk_54 5 (dk_at dksX1_known_0 15 rfl rfl)
theorem dX1_known_17 : decode cX1_known 17 = .ok (.iload 5, 2) := dk_21 5 (dk_at dksX1_known_0 17 rfl rfl)
theorem dX1_known_19 : decode cX1_known 19 = .ok (.iload_n 2, 1) := dk_28 (dk_at dksX1_known_0 19 rfl rfl)
theorem dX1_known_20 : decode cX1_known 20 = .ok (.if_icmp .ge 36, 3) := dk_162 0 36 (dk_at dksX1_known_0 20 rfl rfl)
theorem dX1_known_23 : decode cX1_known 23 = .ok (.iload_n 1, 1) := dk_27 (dk_at dksX1_known_0 23 rfl rfl)
theorem dX1_known_24 : decode cX1_known 24 = .ok (.iconst 3, 1) := dk_6 (dk_at dksX1_known_1 0 rfl rfl)
theorem dX1_known_25 : decode cX1_known 25 = .ok (.iload 5, 2) := dk_21 5 (dk_at dksX1_known_1 1 rfl rfl)
theorem dX1_known_27 : decode cX1_known 27 = .ok (.imul, 1) := dk_104 (dk_at dksX1_known_1 3 rfl rfl)
theorem dX1_known_28 : decode cX1_known 28 = .ok (.iushr, 1) := dk_124 (dk_at dksX1_known_1 4 rfl rfl)
theorem dX1_known_29 : decode cX1_known 29 = .ok (.bipush 7, 2) := dk_16 7 (dk_at dksX1_known_1 5 rfl rfl)
theorem dX1_known_31 : decode cX1_known 31 = .ok (.iand, 1) := dk_126 (dk_at dksX1_known_1 7 rfl rfl)
theorem dX1_known_32 : decode cX1_known 32 = .ok (.aload_n 0, 1) := dk_42 (dk_at dksX1_known_1 8 rfl rfl)
theorem dX1_known_33 : decode cX1_known 33 = .ok (.getfield 16, 3) := dk_180 0 16 (dk_at dksX1_known_1 9 rfl rfl)
theorem dX1_known_36 : decode cX1_known 36 = .ok (.getfield 125, 3) := dk_180 0 125 (dk_at dksX1_known_1 12 rfl rfl)
theorem dX1_known_39 : decode cX1_known 39 = .ok (.if_icmp .ge 7, 3) := dk_162 0 7 (dk_at dksX1_known_1 15 rfl rfl)
theorem dX1_known_42 : decode cX1_known 42 = .ok (.iconst 1, 1) := dk_4 (dk_at dksX1_known_1 18 rfl rfl)
theorem dX1_known_43 : decode cX1_known 43 = .ok (.goto 4, 3) := dk_167 0 4 (dk_at dksX1_known_1 19 rfl rfl)
theorem dX1_known_46 : decode cX1_known 46 = .ok (.iconst 0, 1) := dk_3 (dk_at dksX1_known_1 22 rfl rfl)
theorem dX1_known_47 : decode cX1_known 47 = .ok (.invokestatic 77, 3) := dk_184 0 77 (dk_at dksX1_known_2 0 rfl rfl)
theorem dX1_known_50 : decode cX1_known 50 = .ok (.iinc 5 1, 3) := dk_132 5 1 (dk_at dksX1_known_2 3 rfl rfl)
theorem dX1_known_53 : decode cX1_known 53 = .ok (.goto (-36), 3) := dk_167 255 220 (dk_at dksX1_known_2 6 rfl rfl)
theorem dX1_known_56 : decode cX1_known 56 = .ok (.aload_n 0, 1) := dk_42 (dk_at dksX1_known_2 9 rfl rfl)
theorem dX1_known_57 : decode cX1_known 57 = .ok (.getfield 98, 3) := dk_180 0 98 (dk_at dksX1_known_2 10 rfl rfl)
theorem dX1_known_60 : decode cX1_known 60 = .ok (.iload_n 3, 1) := dk_29 (dk_at dksX1_known_2 13 rfl rfl)
theorem dX1_known_61 : decode cX1_known 61 = .ok (.ishr, 1) := dk_122 (dk_at dksX1_known_2 14 rfl rfl)
theorem dX1_known_62 : decode cX1_known 62 = .ok (.iconst 1, 1) := dk_4 (dk_at dksX1_known_2 15 rfl rfl)
theorem dX1_known_63 : decode cX1_known 63 = .ok (.iand, 1) := dk_126 (dk_at dksX1_known_2 16 rfl rfl)
theorem dX1_known_64 : decode cX1_known 64 = .ok (.ifCond .ne 5, 3) := dk_154 0 5 (dk_at dksX1_known_2 17 rfl rfl)
theorem dX1_known_67 : decode cX1_known 67 = .ok (.iconst 0, 1) := dk_3 (dk_at dksX1_known_2 20 rfl rfl)
theorem dX1_known_68 : decode cX1_known 68 = .ok (.ireturn, 1) := dk_172 (dk_at dksX1_known_2 21 rfl rfl)
theorem dX1_known_69 : decode cX1_known 69 = .ok (.aload_n 0, 1) := dk_42 (dk_at dksX1_known_2 22 rfl rfl)
theorem dX1_known_70 : decode cX1_known 70 = .ok (.iload_n 3, 1) := dk_29 (dk_at dksX1_known_2 23 rfl rfl)
theorem dX1_known_71 : decode cX1_known 71 = .ok (.iload 4, 2) := dk_21 4 (dk_at dksX1_known_3 0 rfl rfl)
theorem dX1_known_73 : decode cX1_known 73 = .ok (.invokevirtual 315, 3) := dk_182 1 59 (dk_at dksX1_known_3 2 rfl rfl)
theorem dX1_known_76 : decode cX1_known 76 = .ok (.istore 5, 2) := dk_54 5 (dk_at dksX1_known_3 5 rfl rfl)
theorem dX1_known_78 : decode cX1_known 78 = .ok (.iload_n 2, 1) := dk_28 (dk_at dksX1_known_3 7 rfl rfl)
theorem dX1_known_79 : decode cX1_known 79 = .ok (.iconst 1, 1) := dk_4 (dk_at dksX1_known_3 8 rfl rfl)
theorem dX1_known_80 : decode cX1_known 80 = .ok (.isub, 1) := dk_100 (dk_at dksX1_known_3 9 rfl rfl)
theorem dX1_known_81 : decode cX1_known 81 = .ok (.istore 6, 2) := dk_54 6 (dk_at dksX1_known_3 10 rfl rfl)
theorem dX1_known_83 : decode cX1_known 83 = .ok (.iload 6, 2) := dk_21 6 (dk_at dksX1_known_3 12 rfl rfl)
theorem dX1_known_85 : decode cX1_known 85 = .ok (.ifCond .lt 26, 3) := dk_155 0 26 (dk_at dksX1_known_3 14 rfl rfl)
theorem dX1_known_88 : decode cX1_known 88 = .ok (.aload_n 0, 1) := dk_42 (dk_at dksX1_known_3 17 rfl rfl)
theorem dX1_known_89 : decode cX1_known 89 = .ok (.iload_n 1, 1) := dk_27 (dk_at dksX1_known_3 18 rfl rfl)
theorem dX1_known_90 : decode cX1_known 90 = .ok (.iconst 3, 1) := dk_6 (dk_at dksX1_known_3 19 rfl rfl)
theorem dX1_known_91 : decode cX1_known 91 = .ok (.iload 6, 2) := dk_21 6 (dk_at dksX1_known_3 20 rfl rfl)
theorem dX1_known_93 : decode cX1_known 93 = .ok (.imul, 1) := dk_104 (dk_at dksX1_known_3 22 rfl rfl)
theorem dX1_known_94 : decode cX1_known 94 = .ok (.iushr, 1) := dk_124 (dk_at dksX1_known_3 23 rfl rfl)
theorem dX1_known_95 : decode cX1_known 95 = .ok (.bipush 7, 2) := dk_16 7 (dk_at dksX1_known_4 0 rfl rfl)
theorem dX1_known_97 : decode cX1_known 97 = .ok (.iand, 1) := dk_126 (dk_at dksX1_known_4 2 rfl rfl)
theorem dX1_known_98 : decode cX1_known 98 = .ok (.iload 5, 2) := dk_21 5 (dk_at dksX1_known_4 3 rfl rfl)
theorem dX1_known_100 : decode cX1_known 100 = .ok (.invokevirtual 319, 3) := dk_182 1 63 (dk_at dksX1_known_4 5 rfl rfl)
theorem dX1_known_103 : decode cX1_known 103 = .ok (.istore 5, 2) := dk_54 5 (dk_at dksX1_known_4 8 rfl rfl)
theorem dX1_known_105 : decode cX1_known 105 = .ok (.iinc 6 (-1), 3) := dk_132 6 255 (dk_at dksX1_known_4 10 rfl rfl)
theorem dX1_known_108 : decode cX1_known 108 = .ok (.goto (-25), 3) := dk_167 255 231 (dk_at dksX1_known_4 13 rfl rfl)
theorem dX1_known_111 : decode cX1_known 111 = .ok (.iload 5, 2) := dk_21 5 (dk_at dksX1_known_4 16 rfl rfl)
theorem dX1_known_113 : decode cX1_known 113 = .ok (.aload_n 0, 1) := dk_42 (dk_at dksX1_known_4 18 rfl rfl)
theorem dX1_known_114 : decode cX1_known 114 = .ok (.invokevirtual 322, 3) := dk_182 1 66 (dk_at dksX1_known_4 19 rfl rfl)
theorem dX1_known_117 : decode cX1_known 117 = .ok (.ishr, 1) := dk_122 (dk_at dksX1_known_4 22 rfl rfl)
theorem dX1_known_118 : decode cX1_known 118 = .ok (.iconst 1, 1) := dk_4 (dk_at dksX1_known_4 23 rfl rfl)
theorem dX1_known_119 : decode cX1_known 119 = .ok (.iand, 1) := dk_126 (dk_at dksX1_known_5 0 rfl rfl)
theorem dX1_known_120 : decode cX1_known 120 = .ok (.iconst 1, 1) := dk_4 (dk_at dksX1_known_5 1 rfl rfl)
theorem dX1_known_121 : decode cX1_known 121 = .ok (.if_icmp .ne 7, 3) := dk_160 0 7 (dk_at dksX1_known_5 2 rfl rfl)
theorem dX1_known_124 : decode cX1_known 124 = .ok (.iconst 1, 1) := dk_4 (dk_at dksX1_known_5 5 rfl rfl)
theorem dX1_known_125 : decode cX1_known 125 = .ok (.goto 4, 3) := dk_167 0 4 (dk_at dksX1_known_5 6 rfl rfl)
theorem dX1_known_128 : decode cX1_known 128 = .ok (.iconst 0, 1) := dk_3 (dk_at dksX1_known_5 9 rfl rfl)
theorem dX1_known_129 : decode cX1_known 129 = .ok (.ireturn, 1) := dk_172 (dk_at dksX1_known_5 10 rfl rfl)
theorem q100 : (Jvm.Cond.initialized "EndingTown") ∈ lw_all := lw_g (lw_at lw_m1 1 rfl) rfl
theorem q137 : (Jvm.Cond.instantiable "EndingTown" (16 : Nat)) ∈ lw_all := lw_g (lw_at lw_m1 38 rfl) rfl
theorem q139 : (Jvm.Cond.instanceMethod ({ cls := "EndingTown", name := "<init>", desc := "()V" } : Jvm.MethodName)) ∈ lw_all := lw_g (lw_at lw_m1 40 rfl) rfl
theorem q140 : (Jvm.Cond.code ({ cls := "EndingTown", name := "<init>", desc := "()V" } : Jvm.MethodName) prog_1_method_4_code (1 : Nat) (Option.none : Option Jvm.ClassFile.FieldType)) ∈ lw_all := lw_g (lw_at lw_m1 41 rfl) rfl
theorem q141 : (Jvm.Cond.methodLink "EndingTown" (10 : Nat) ({ cls := "java/lang/Object", name := "<init>", desc := "()V" } : Jvm.MethodName)) ∈ lw_all := lw_g (lw_at lw_m1 42 rfl) rfl
theorem q144 : (Jvm.Cond.classLink "EndingTown" (13 : Nat) "EndingTown$Village") ∈ lw_all := lw_g (lw_at lw_m1 45 rfl) rfl
theorem q146 : (Jvm.Cond.methodLink "EndingTown" (15 : Nat) ({ cls := "EndingTown$Village", name := "<init>", desc := "()V" } : Jvm.MethodName)) ∈ lw_all := lw_g (lw_at lw_m1 47 rfl) rfl
theorem q179 : (Jvm.Cond.fieldLinkNest "EndingTown" (110 : Nat) "EndingTown$Village" "stems" "Ljava/util/List;" "EndingTown") ∈ lw_tbl := lw_at lw_m1 80 rfl
theorem q184 : (Jvm.Cond.fieldLinkNest "EndingTown" (119 : Nat) "EndingTown$Village" "changes" "Ljava/util/List;" "EndingTown") ∈ lw_tbl := lw_at lw_m1 85 rfl
theorem q190 : (Jvm.Cond.fieldLinkNest "EndingTown" (128 : Nat) "EndingTown$Village" "things" "Ljava/util/List;" "EndingTown") ∈ lw_tbl := lw_at lw_m1 91 rfl
theorem q194 : (Jvm.Cond.fieldLinkNest "EndingTown" (131 : Nat) "EndingTown$Village" "rules" "Ljava/util/List;" "EndingTown") ∈ lw_tbl := lw_at lw_m1 95 rfl
theorem q203 : (Jvm.Cond.fieldLinkNest "EndingTown" (299 : Nat) "EndingTown$Village" "chance" "[I" "EndingTown") ∈ lw_tbl := lw_at lw_m1 104 rfl
theorem q204 : (Jvm.Cond.fieldLinkNest "EndingTown" (225 : Nat) "EndingTown$Village" "not" "LEndingTown$Letters;" "EndingTown") ∈ lw_tbl := lw_at lw_m1 105 rfl
theorem q207 : (Jvm.Cond.fieldLinkNest "EndingTown" (122 : Nat) "EndingTown$Village" "places" "I" "EndingTown") ∈ lw_tbl := lw_at lw_m1 108 rfl
theorem q209 : (Jvm.Cond.fieldLinkNest "EndingTown" (125 : Nat) "EndingTown$Village" "people" "I" "EndingTown") ∈ lw_tbl := lw_at lw_m1 110 rfl
theorem q235 : (Jvm.Cond.classLink "EndingTown" (22 : Nat) "java/util/ArrayList") ∈ lw_all := lw_g (lw_at lw_m1 136 rfl) rfl
theorem q236 : (Jvm.Cond.methodLink "EndingTown" (24 : Nat) ({ cls := "java/util/ArrayList", name := "<init>", desc := "()V" } : Jvm.MethodName)) ∈ lw_all := lw_g (lw_at lw_m1 137 rfl) rfl
theorem q237 : (Jvm.Cond.classLink "EndingTown" (29 : Nat) "EndingTown$How") ∈ lw_all := lw_g (lw_at lw_m1 138 rfl) rfl
theorem q239 : (Jvm.Cond.classLink "EndingTown" (31 : Nat) "EndingTown$Seen") ∈ lw_all := lw_g (lw_at lw_m1 140 rfl) rfl
theorem q241 : (Jvm.Cond.methodLinkNest "EndingTown" (33 : Nat) ({ cls := "EndingTown$Seen", name := "<init>", desc := "(LEndingTown;)V" } : Jvm.MethodName) "EndingTown") ∈ lw_tbl := lw_at lw_m1 142 rfl
theorem q261 : (Jvm.Cond.classLink "EndingTown" (36 : Nat) "EndingTown$Heard") ∈ lw_all := lw_g (lw_at lw_m1 162 rfl) rfl
theorem q263 : (Jvm.Cond.methodLinkNest "EndingTown" (38 : Nat) ({ cls := "EndingTown$Heard", name := "<init>", desc := "(LEndingTown;)V" } : Jvm.MethodName) "EndingTown") ∈ lw_tbl := lw_at lw_m1 164 rfl
theorem q273 : (Jvm.Cond.classLink "EndingTown" (39 : Nat) "EndingTown$Told") ∈ lw_all := lw_g (lw_at lw_m1 174 rfl) rfl
theorem q275 : (Jvm.Cond.methodLinkNest "EndingTown" (41 : Nat) ({ cls := "EndingTown$Told", name := "<init>", desc := "(LEndingTown;)V" } : Jvm.MethodName) "EndingTown") ∈ lw_tbl := lw_at lw_m1 176 rfl
theorem q284 : (Jvm.Cond.classLink "EndingTown" (42 : Nat) "EndingTown$Worked") ∈ lw_all := lw_g (lw_at lw_m1 185 rfl) rfl
theorem q286 : (Jvm.Cond.methodLinkNest "EndingTown" (44 : Nat) ({ cls := "EndingTown$Worked", name := "<init>", desc := "(LEndingTown;)V" } : Jvm.MethodName) "EndingTown") ∈ lw_tbl := lw_at lw_m1 187 rfl
theorem q298 : (Jvm.Cond.classLink "EndingTown" (45 : Nat) "EndingTown$Dreamt") ∈ lw_all := lw_g (lw_at lw_m1 199 rfl) rfl
theorem q300 : (Jvm.Cond.methodLinkNest "EndingTown" (47 : Nat) ({ cls := "EndingTown$Dreamt", name := "<init>", desc := "(LEndingTown;)V" } : Jvm.MethodName) "EndingTown") ∈ lw_tbl := lw_at lw_m1 201 rfl
theorem q309 : (Jvm.Cond.classLink "EndingTown" (52 : Nat) "EndingTown$Day") ∈ lw_all := lw_g (lw_at lw_m1 210 rfl) rfl
theorem q311 : (Jvm.Cond.methodLinkNest "EndingTown" (54 : Nat) ({ cls := "EndingTown$Day", name := "<init>", desc := "(LEndingTown;)V" } : Jvm.MethodName) "EndingTown") ∈ lw_tbl := lw_at lw_m1 212 rfl
theorem q317 : (Jvm.Cond.fieldLinkNest "EndingTown" (262 : Nat) "EndingTown$Day" "round" "[I" "EndingTown") ∈ lw_tbl := lw_at lw_m1 218 rfl
theorem q319 : (Jvm.Cond.fieldLinkNest "EndingTown" (274 : Nat) "EndingTown$Day" "by" "[I" "EndingTown") ∈ lw_tbl := lw_at lw_m1 220 rfl
theorem q322 : (Jvm.Cond.fieldLinkNest "EndingTown" (268 : Nat) "EndingTown$Day" "eyes" "[I" "EndingTown") ∈ lw_tbl := lw_at lw_m1 223 rfl
theorem q324 : (Jvm.Cond.fieldLinkNest "EndingTown" (277 : Nat) "EndingTown$Day" "isLeft" "[Z" "EndingTown") ∈ lw_tbl := lw_at lw_m1 225 rfl
theorem q326 : (Jvm.Cond.fieldLinkNest "EndingTown" (288 : Nat) "EndingTown$Day" "free" "I" "EndingTown") ∈ lw_tbl := lw_at lw_m1 227 rfl
theorem q346 : (Jvm.Cond.fieldLink "EndingTown" (16 : Nat) "EndingTown" "village" "LEndingTown$Village;") ∈ lw_all := lw_g (lw_at lw_m2 7 rfl) rfl
theorem q349 : (Jvm.Cond.fieldLink "EndingTown" (25 : Nat) "EndingTown" "said" "Ljava/util/List;") ∈ lw_all := lw_g (lw_at lw_m2 10 rfl) rfl
theorem q351 : (Jvm.Cond.fieldLink "EndingTown" (48 : Nat) "EndingTown" "hows" "[LEndingTown$How;") ∈ lw_all := lw_g (lw_at lw_m2 12 rfl) rfl
theorem q353 : (Jvm.Cond.fieldLink "EndingTown" (55 : Nat) "EndingTown" "day" "LEndingTown$Day;") ∈ lw_all := lw_g (lw_at lw_m2 14 rfl) rfl
theorem q355 : (Jvm.Cond.fieldLink "EndingTown" (59 : Nat) "EndingTown" "tape" "[B") ∈ lw_all := lw_g (lw_at lw_m2 16 rfl) rfl
theorem q356 : (Jvm.Cond.fieldLink "EndingTown" (74 : Nat) "EndingTown" "taped" "I") ∈ lw_all := lw_g (lw_at lw_m2 17 rfl) rfl
theorem q357 : (Jvm.Cond.fieldLink "EndingTown" (63 : Nat) "EndingTown" "faultPlace" "I") ∈ lw_all := lw_g (lw_at lw_m2 18 rfl) rfl
theorem q358 : (Jvm.Cond.fieldLink "EndingTown" (67 : Nat) "EndingTown" "refused" "[I") ∈ lw_all := lw_g (lw_at lw_m2 19 rfl) rfl
theorem q359 : (Jvm.Cond.fieldLink "EndingTown" (71 : Nat) "EndingTown" "ways" "[I") ∈ lw_all := lw_g (lw_at lw_m2 20 rfl) rfl
theorem q360 : (Jvm.Cond.fieldLink "EndingTown" (203 : Nat) "EndingTown" "wayMany" "I") ∈ lw_all := lw_g (lw_at lw_m2 21 rfl) rfl
theorem q361 : (Jvm.Cond.fieldLink "EndingTown" (104 : Nat) "EndingTown" "mended" "[I") ∈ lw_all := lw_g (lw_at lw_m2 22 rfl) rfl
theorem q362 : (Jvm.Cond.fieldLink "EndingTown" (98 : Nat) "EndingTown" "worldThings" "I") ∈ lw_all := lw_g (lw_at lw_m2 23 rfl) rfl
theorem q363 : (Jvm.Cond.fieldLink "EndingTown" (101 : Nat) "EndingTown" "worlds" "I") ∈ lw_all := lw_g (lw_at lw_m2 24 rfl) rfl
theorem q364 : (Jvm.Cond.fieldLink "EndingTown" (107 : Nat) "EndingTown" "keptSaid" "Ljava/util/List;") ∈ lw_all := lw_g (lw_at lw_m2 25 rfl) rfl
theorem q365 : (Jvm.Cond.fieldLink "EndingTown" (328 : Nat) "EndingTown" "keptThings" "I") ∈ lw_all := lw_g (lw_at lw_m2 26 rfl) rfl
theorem q366 : (Jvm.Cond.fieldLink "EndingTown" (331 : Nat) "EndingTown" "keptWorlds" "I") ∈ lw_all := lw_g (lw_at lw_m2 27 rfl) rfl
theorem q367 : (Jvm.Cond.lays "EndingTown" "EndingTown" "village" "LEndingTown$Village;") ∈ lw_all := lw_g (lw_at lw_m2 28 rfl) rfl
theorem q368 : (Jvm.Cond.soleField "EndingTown" "village") ∈ lw_all := lw_g (lw_at lw_m2 29 rfl) rfl
theorem q369 : (Jvm.Cond.lays "EndingTown" "EndingTown" "said" "Ljava/util/List;") ∈ lw_all := lw_g (lw_at lw_m2 30 rfl) rfl
theorem q370 : (Jvm.Cond.soleField "EndingTown" "said") ∈ lw_all := lw_g (lw_at lw_m2 31 rfl) rfl
theorem q371 : (Jvm.Cond.laysFinal "EndingTown" "EndingTown" "hows" "[LEndingTown$How;") ∈ lw_all := lw_g (lw_at lw_m2 32 rfl) rfl
theorem q372 : (Jvm.Cond.soleField "EndingTown" "hows") ∈ lw_all := lw_g (lw_at lw_m2 33 rfl) rfl
theorem q373 : (Jvm.Cond.laysFinal "EndingTown" "EndingTown" "day" "LEndingTown$Day;") ∈ lw_all := lw_g (lw_at lw_m2 34 rfl) rfl
theorem q374 : (Jvm.Cond.soleField "EndingTown" "day") ∈ lw_all := lw_g (lw_at lw_m2 35 rfl) rfl
theorem q375 : (Jvm.Cond.laysFinal "EndingTown" "EndingTown" "tape" "[B") ∈ lw_all := lw_g (lw_at lw_m2 36 rfl) rfl
theorem q376 : (Jvm.Cond.soleField "EndingTown" "tape") ∈ lw_all := lw_g (lw_at lw_m2 37 rfl) rfl
theorem q377 : (Jvm.Cond.lays "EndingTown" "EndingTown" "taped" "I") ∈ lw_all := lw_g (lw_at lw_m2 38 rfl) rfl
theorem q378 : (Jvm.Cond.soleField "EndingTown" "taped") ∈ lw_all := lw_g (lw_at lw_m2 39 rfl) rfl
theorem q379 : (Jvm.Cond.lays "EndingTown" "EndingTown" "faultPlace" "I") ∈ lw_all := lw_g (lw_at lw_m2 40 rfl) rfl
theorem q380 : (Jvm.Cond.soleField "EndingTown" "faultPlace") ∈ lw_all := lw_g (lw_at lw_m2 41 rfl) rfl
theorem q381 : (Jvm.Cond.laysFinal "EndingTown" "EndingTown" "refused" "[I") ∈ lw_all := lw_g (lw_at lw_m2 42 rfl) rfl
theorem q382 : (Jvm.Cond.soleField "EndingTown" "refused") ∈ lw_all := lw_g (lw_at lw_m2 43 rfl) rfl
theorem q383 : (Jvm.Cond.laysFinal "EndingTown" "EndingTown" "ways" "[I") ∈ lw_all := lw_g (lw_at lw_m2 44 rfl) rfl
theorem q384 : (Jvm.Cond.soleField "EndingTown" "ways") ∈ lw_all := lw_g (lw_at lw_m2 45 rfl) rfl
theorem q385 : (Jvm.Cond.lays "EndingTown" "EndingTown" "wayMany" "I") ∈ lw_all := lw_g (lw_at lw_m2 46 rfl) rfl
theorem q386 : (Jvm.Cond.soleField "EndingTown" "wayMany") ∈ lw_all := lw_g (lw_at lw_m2 47 rfl) rfl
theorem q387 : (Jvm.Cond.lays "EndingTown" "EndingTown" "mended" "[I") ∈ lw_all := lw_g (lw_at lw_m2 48 rfl) rfl
theorem q388 : (Jvm.Cond.soleField "EndingTown" "mended") ∈ lw_all := lw_g (lw_at lw_m2 49 rfl) rfl
theorem q389 : (Jvm.Cond.lays "EndingTown" "EndingTown" "worldThings" "I") ∈ lw_all := lw_g (lw_at lw_m2 50 rfl) rfl
theorem q390 : (Jvm.Cond.soleField "EndingTown" "worldThings") ∈ lw_all := lw_g (lw_at lw_m2 51 rfl) rfl
theorem q391 : (Jvm.Cond.lays "EndingTown" "EndingTown" "worlds" "I") ∈ lw_all := lw_g (lw_at lw_m2 52 rfl) rfl
theorem q392 : (Jvm.Cond.soleField "EndingTown" "worlds") ∈ lw_all := lw_g (lw_at lw_m2 53 rfl) rfl
theorem q393 : (Jvm.Cond.lays "EndingTown" "EndingTown" "keptSaid" "Ljava/util/List;") ∈ lw_all := lw_g (lw_at lw_m2 54 rfl) rfl
theorem q394 : (Jvm.Cond.soleField "EndingTown" "keptSaid") ∈ lw_all := lw_g (lw_at lw_m2 55 rfl) rfl
theorem q395 : (Jvm.Cond.lays "EndingTown" "EndingTown" "keptThings" "I") ∈ lw_all := lw_g (lw_at lw_m2 56 rfl) rfl
theorem q396 : (Jvm.Cond.soleField "EndingTown" "keptThings") ∈ lw_all := lw_g (lw_at lw_m2 57 rfl) rfl
theorem q397 : (Jvm.Cond.lays "EndingTown" "EndingTown" "keptWorlds" "I") ∈ lw_all := lw_g (lw_at lw_m2 58 rfl) rfl
theorem q398 : (Jvm.Cond.soleField "EndingTown" "keptWorlds") ∈ lw_all := lw_g (lw_at lw_m2 59 rfl) rfl
theorem q399 : (Jvm.Cond.superclass "EndingTown" "java/lang/Object") ∈ lw_all := lw_g (lw_at lw_m2 60 rfl) rfl
theorem q402 : (Jvm.Cond.instanceMethod ({ cls := "EndingTown", name := "feed", desc := "(IIIII)I" } : Jvm.MethodName)) ∈ lw_all := lw_g (lw_at lw_m2 63 rfl) rfl
theorem q403 : (Jvm.Cond.selects "EndingTown" ({ cls := "EndingTown", name := "feed", desc := "(IIIII)I" } : Jvm.MethodName) ({ cls := "EndingTown", name := "feed", desc := "(IIIII)I" } : Jvm.MethodName)) ∈ lw_all := lw_g (lw_at lw_m2 64 rfl) rfl
theorem q404 : (Jvm.Cond.code ({ cls := "EndingTown", name := "feed", desc := "(IIIII)I" } : Jvm.MethodName) prog_1_method_5_code (8 : Nat) (Option.some Jvm.ClassFile.FieldType.int)) ∈ lw_all := lw_g (lw_at lw_m2 65 rfl) rfl
theorem q406 : (Jvm.Cond.instanceMethod ({ cls := "EndingTown", name := "fault", desc := "()I" } : Jvm.MethodName)) ∈ lw_all := lw_g (lw_at lw_m2 67 rfl) rfl
theorem q407 : (Jvm.Cond.selects "EndingTown" ({ cls := "EndingTown", name := "fault", desc := "()I" } : Jvm.MethodName) ({ cls := "EndingTown", name := "fault", desc := "()I" } : Jvm.MethodName)) ∈ lw_all := lw_g (lw_at lw_m2 68 rfl) rfl
theorem q408 : (Jvm.Cond.code ({ cls := "EndingTown", name := "fault", desc := "()I" } : Jvm.MethodName) prog_1_method_7_code (1 : Nat) (Option.some Jvm.ClassFile.FieldType.int)) ∈ lw_all := lw_g (lw_at lw_m2 69 rfl) rfl
theorem q410 : (Jvm.Cond.instanceMethod ({ cls := "EndingTown", name := "unsay", desc := "()I" } : Jvm.MethodName)) ∈ lw_all := lw_g (lw_at lw_m2 71 rfl) rfl
theorem q411 : (Jvm.Cond.selects "EndingTown" ({ cls := "EndingTown", name := "unsay", desc := "()I" } : Jvm.MethodName) ({ cls := "EndingTown", name := "unsay", desc := "()I" } : Jvm.MethodName)) ∈ lw_all := lw_g (lw_at lw_m2 72 rfl) rfl
theorem q412 : (Jvm.Cond.code ({ cls := "EndingTown", name := "unsay", desc := "()I" } : Jvm.MethodName) prog_1_method_22_code (1 : Nat) (Option.some Jvm.ClassFile.FieldType.int)) ∈ lw_all := lw_g (lw_at lw_m2 73 rfl) rfl
theorem q413 : (Jvm.Cond.interfaceEntry "EndingTown" (232 : Nat)) ∈ lw_tbl := lw_at lw_m2 74 rfl
theorem q414 : (Jvm.Cond.methodLink "EndingTown" (232 : Nat) ({ cls := "java/util/List", name := "isEmpty", desc := "()Z" } : Jvm.MethodName)) ∈ lw_all := lw_g (lw_at lw_m2 75 rfl) rfl
theorem q423 : (Jvm.Cond.interfaceEntry "EndingTown" (113 : Nat)) ∈ lw_tbl := lw_at lw_m2 84 rfl
theorem q424 : (Jvm.Cond.methodLink "EndingTown" (113 : Nat) ({ cls := "java/util/List", name := "size", desc := "()I" } : Jvm.MethodName)) ∈ lw_all := lw_g (lw_at lw_m2 85 rfl) rfl
theorem q432 : (Jvm.Cond.interfaceEntry "EndingTown" (236 : Nat)) ∈ lw_tbl := lw_at lw_m2 93 rfl
theorem q433 : (Jvm.Cond.methodLink "EndingTown" (236 : Nat) ({ cls := "java/util/List", name := "remove", desc := "(I)Ljava/lang/Object;" } : Jvm.MethodName)) ∈ lw_all := lw_g (lw_at lw_m2 94 rfl) rfl
theorem q455 : (Jvm.Cond.instanceMethod ({ cls := "EndingTown", name := "mend", desc := "()I" } : Jvm.MethodName)) ∈ lw_all := lw_g (lw_at lw_m2 116 rfl) rfl
theorem q456 : (Jvm.Cond.selects "EndingTown" ({ cls := "EndingTown", name := "mend", desc := "()I" } : Jvm.MethodName) ({ cls := "EndingTown", name := "mend", desc := "()I" } : Jvm.MethodName)) ∈ lw_all := lw_g (lw_at lw_m2 117 rfl) rfl
theorem q457 : (Jvm.Cond.code ({ cls := "EndingTown", name := "mend", desc := "()I" } : Jvm.MethodName) prog_1_method_30_code (4 : Nat) (Option.some Jvm.ClassFile.FieldType.int)) ∈ lw_all := lw_g (lw_at lw_m2 118 rfl) rfl
theorem q458 : (Jvm.Cond.methodLink "EndingTown" (134 : Nat) ({ cls := "java/lang/Integer", name := "bitCount", desc := "(I)I" } : Jvm.MethodName)) ∈ lw_all := lw_g (lw_at lw_m2 119 rfl) rfl
theorem q464 : (Jvm.Cond.methodLink "EndingTown" (291 : Nat) ({ cls := "EndingTown", name := "mends", desc := "(I)Z" } : Jvm.MethodName)) ∈ lw_all := lw_g (lw_at lw_m2 125 rfl) rfl
theorem q465 : (Jvm.Cond.privateMethod ({ cls := "EndingTown", name := "mends", desc := "(I)Z" } : Jvm.MethodName)) ∈ lw_tbl := lw_at lw_m2 126 rfl
theorem q466 : (Jvm.Cond.instanceMethod ({ cls := "EndingTown", name := "mends", desc := "(I)Z" } : Jvm.MethodName)) ∈ lw_all := lw_g (lw_at lw_m2 127 rfl) rfl
theorem q467 : (Jvm.Cond.code ({ cls := "EndingTown", name := "mends", desc := "(I)Z" } : Jvm.MethodName) prog_1_method_29_code (2 : Nat) (Option.some Jvm.ClassFile.FieldType.boolean)) ∈ lw_all := lw_g (lw_at lw_m2 128 rfl) rfl
theorem q468 : (Jvm.Cond.methodLink "EndingTown" (239 : Nat) ({ cls := "EndingTown$Day", name := "begin", desc := "(I)LEndingTown$Day;" } : Jvm.MethodName)) ∈ lw_all := lw_g (lw_at lw_m2 129 rfl) rfl
theorem q488 : (Jvm.Cond.methodLink "EndingTown" (243 : Nat) ({ cls := "EndingTown$Day", name := "tell", desc := "()LEndingTown$Day;" } : Jvm.MethodName)) ∈ lw_all := lw_g (lw_at lw_m2 149 rfl) rfl
theorem q556 : (Jvm.Cond.methodLink "EndingTown" (281 : Nat) ({ cls := "EndingTown", name := "held", desc := "(LEndingTown$Day;)I" } : Jvm.MethodName)) ∈ lw_all := lw_g (lw_at lw_m2 217 rfl) rfl
theorem q557 : (Jvm.Cond.privateMethod ({ cls := "EndingTown", name := "held", desc := "(LEndingTown$Day;)I" } : Jvm.MethodName)) ∈ lw_tbl := lw_at lw_m2 218 rfl
theorem q558 : (Jvm.Cond.instanceMethod ({ cls := "EndingTown", name := "held", desc := "(LEndingTown$Day;)I" } : Jvm.MethodName)) ∈ lw_all := lw_g (lw_at lw_m2 219 rfl) rfl
theorem q559 : (Jvm.Cond.code ({ cls := "EndingTown", name := "held", desc := "(LEndingTown$Day;)I" } : Jvm.MethodName) prog_1_method_26_code (4 : Nat) (Option.some Jvm.ClassFile.FieldType.int)) ∈ lw_all := lw_g (lw_at lw_m2 220 rfl) rfl
theorem q560 : (Jvm.Cond.interfaceEntry "EndingTown" (161 : Nat)) ∈ lw_tbl := lw_at lw_m2 221 rfl
theorem q561 : (Jvm.Cond.methodLink "EndingTown" (161 : Nat) ({ cls := "java/util/List", name := "get", desc := "(I)Ljava/lang/Object;" } : Jvm.MethodName)) ∈ lw_all := lw_g (lw_at lw_m2 222 rfl) rfl
theorem q562 : (Jvm.Cond.classLink "EndingTown" (213 : Nat) "EndingTown$Saying") ∈ lw_all := lw_g (lw_at lw_m2 223 rfl) rfl
theorem q564 : (Jvm.Cond.instanceMethod ({ cls := "EndingTown", name := "image", desc := "()V" } : Jvm.MethodName)) ∈ lw_all := lw_g (lw_at lw_m2 225 rfl) rfl
theorem q565 : (Jvm.Cond.selects "EndingTown" ({ cls := "EndingTown", name := "image", desc := "()V" } : Jvm.MethodName) ({ cls := "EndingTown", name := "image", desc := "()V" } : Jvm.MethodName)) ∈ lw_all := lw_g (lw_at lw_m2 226 rfl) rfl
theorem q566 : (Jvm.Cond.code ({ cls := "EndingTown", name := "image", desc := "()V" } : Jvm.MethodName) prog_1_method_43_code (1 : Nat) (Option.none : Option Jvm.ClassFile.FieldType)) ∈ lw_all := lw_g (lw_at lw_m2 227 rfl) rfl
theorem q567 : (Jvm.Cond.methodLink "EndingTown" (325 : Nat) ({ cls := "java/util/ArrayList", name := "<init>", desc := "(Ljava/util/Collection;)V" } : Jvm.MethodName)) ∈ lw_all := lw_g (lw_at lw_m2 228 rfl) rfl
theorem q586 : (Jvm.Cond.selects "EndingTown" ({ cls := "java/lang/Object", name := "getClass", desc := "()Ljava/lang/Class;" } : Jvm.MethodName) ({ cls := "java/lang/Object", name := "getClass", desc := "()Ljava/lang/Class;" } : Jvm.MethodName)) ∈ lw_all := lw_g (lw_at lw_m3 7 rfl) rfl
theorem q628 : (Jvm.Cond.instanceMethod ({ cls := "EndingTown", name := "restore", desc := "()Z" } : Jvm.MethodName)) ∈ lw_all := lw_g (lw_at lw_m3 49 rfl) rfl
theorem q629 : (Jvm.Cond.selects "EndingTown" ({ cls := "EndingTown", name := "restore", desc := "()Z" } : Jvm.MethodName) ({ cls := "EndingTown", name := "restore", desc := "()Z" } : Jvm.MethodName)) ∈ lw_all := lw_g (lw_at lw_m3 50 rfl) rfl
theorem q630 : (Jvm.Cond.code ({ cls := "EndingTown", name := "restore", desc := "()Z" } : Jvm.MethodName) prog_1_method_44_code (1 : Nat) (Option.some Jvm.ClassFile.FieldType.boolean)) ∈ lw_all := lw_g (lw_at lw_m3 51 rfl) rfl
theorem q636 : (Jvm.Cond.instanceMethod ({ cls := "EndingTown", name := "village", desc := "(I)I" } : Jvm.MethodName)) ∈ lw_all := lw_g (lw_at lw_m3 57 rfl) rfl
theorem q637 : (Jvm.Cond.selects "EndingTown" ({ cls := "EndingTown", name := "village", desc := "(I)I" } : Jvm.MethodName) ({ cls := "EndingTown", name := "village", desc := "(I)I" } : Jvm.MethodName)) ∈ lw_all := lw_g (lw_at lw_m3 58 rfl) rfl
theorem q638 : (Jvm.Cond.codeWith ({ cls := "EndingTown", name := "village", desc := "(I)I" } : Jvm.MethodName) prog_1_method_6_code (4 : Nat) (Option.some Jvm.ClassFile.FieldType.int) [((40 : Nat), (48 : Nat), (51 : Nat), (90 : Nat))]) ∈ lw_all := lw_g (lw_at lw_m3 59 rfl) rfl
theorem q639 : (Jvm.Cond.classLink "EndingTown" (90 : Nat) "EndingTown$Wrong") ∈ lw_all := lw_g (lw_at lw_m3 60 rfl) rfl
theorem q640 : (Jvm.Cond.methodLink "EndingTown" (77 : Nat) ({ cls := "EndingTown", name := "right", desc := "(Z)V" } : Jvm.MethodName)) ∈ lw_all := lw_g (lw_at lw_m3 61 rfl) rfl
theorem q641 : (Jvm.Cond.static ({ cls := "EndingTown", name := "right", desc := "(Z)V" } : Jvm.MethodName)) ∈ lw_all := lw_g (lw_at lw_m3 62 rfl) rfl
theorem q642 : (Jvm.Cond.code ({ cls := "EndingTown", name := "right", desc := "(Z)V" } : Jvm.MethodName) prog_1_method_3_code (1 : Nat) (Option.none : Option Jvm.ClassFile.FieldType)) ∈ lw_all := lw_g (lw_at lw_m3 63 rfl) rfl
theorem q643 : (Jvm.Cond.classLink "EndingTown" (7 : Nat) "java/lang/IllegalArgumentException") ∈ lw_all := lw_g (lw_at lw_m3 64 rfl) rfl
theorem q684 : (Jvm.Cond.methodLink "EndingTown" (9 : Nat) ({ cls := "java/lang/IllegalArgumentException", name := "<init>", desc := "()V" } : Jvm.MethodName)) ∈ lw_all := lw_g (lw_at lw_m3 105 rfl) rfl
theorem q707 : (Jvm.Cond.classLink "EndingTown" (81 : Nat) "EndingTown$Reader") ∈ lw_all := lw_g (lw_at lw_m3 128 rfl) rfl
theorem q709 : (Jvm.Cond.methodLink "EndingTown" (83 : Nat) ({ cls := "EndingTown$Reader", name := "<init>", desc := "(LEndingTown;I)V" } : Jvm.MethodName)) ∈ lw_all := lw_g (lw_at lw_m3 130 rfl) rfl
theorem q720 : (Jvm.Cond.fieldLinkNest "EndingTown" (92 : Nat) "EndingTown$Reader" "begins" "I" "EndingTown") ∈ lw_tbl := lw_at lw_m3 141 rfl
theorem q747 : (Jvm.Cond.methodLink "EndingTown" (86 : Nat) ({ cls := "EndingTown$Reader", name := "read", desc := "()LEndingTown$Village;" } : Jvm.MethodName)) ∈ lw_all := lw_g (lw_at lw_m3 168 rfl) rfl
theorem q764 : (Jvm.Cond.static ({ cls := "EndingTown", name := "in", desc := "(III)Z" } : Jvm.MethodName)) ∈ lw_all := lw_g (lw_at lw_m3 185 rfl) rfl
theorem q765 : (Jvm.Cond.code ({ cls := "EndingTown", name := "in", desc := "(III)Z" } : Jvm.MethodName) prog_1_method_1_code (3 : Nat) (Option.some Jvm.ClassFile.FieldType.boolean)) ∈ lw_all := lw_g (lw_at lw_m3 186 rfl) rfl
theorem q853 : (Jvm.Cond.fieldLinkNest "EndingTown" (95 : Nat) "EndingTown$Wrong" "kind" "I" "EndingTown") ∈ lw_tbl := lw_at lw_m4 34 rfl
theorem q898 : (Jvm.Cond.fieldLinkNest "EndingTown" (167 : Nat) "EndingTown$Thing" "stem" "I" "EndingTown") ∈ lw_tbl := lw_at lw_m4 79 rfl
theorem q902 : (Jvm.Cond.fieldLinkNest "EndingTown" (170 : Nat) "EndingTown$Thing" "place" "I" "EndingTown") ∈ lw_tbl := lw_at lw_m4 83 rfl
theorem q906 : (Jvm.Cond.fieldLinkNest "EndingTown" (173 : Nat) "EndingTown$Thing" "hour" "I" "EndingTown") ∈ lw_tbl := lw_at lw_m4 87 rfl
theorem q909 : (Jvm.Cond.fieldLinkNest "EndingTown" (176 : Nat) "EndingTown$Thing" "loud" "Z" "EndingTown") ∈ lw_tbl := lw_at lw_m4 90 rfl
theorem q913 : (Jvm.Cond.fieldLinkNest "EndingTown" (180 : Nat) "EndingTown$Thing" "never" "Z" "EndingTown") ∈ lw_tbl := lw_at lw_m4 94 rfl
theorem q1025 : (Jvm.Cond.fieldLinkNest "EndingTown" (187 : Nat) "EndingTown$Letters" "of" "[B" "EndingTown") ∈ lw_tbl := lw_at lw_m4 206 rfl
theorem q1064 : (Jvm.Cond.instanceMethod ({ cls := "EndingTown", name := "count", desc := "(I)I" } : Jvm.MethodName)) ∈ lw_all := lw_g (lw_at lw_m5 5 rfl) rfl
theorem q1065 : (Jvm.Cond.selects "EndingTown" ({ cls := "EndingTown", name := "count", desc := "(I)I" } : Jvm.MethodName) ({ cls := "EndingTown", name := "count", desc := "(I)I" } : Jvm.MethodName)) ∈ lw_all := lw_g (lw_at lw_m5 6 rfl) rfl
theorem q1066 : (Jvm.Cond.code ({ cls := "EndingTown", name := "count", desc := "(I)I" } : Jvm.MethodName) prog_1_method_8_code (2 : Nat) (Option.some Jvm.ClassFile.FieldType.int)) ∈ lw_all := lw_g (lw_at lw_m5 7 rfl) rfl
theorem q1067 : (Jvm.Cond.classLink "EndingTown" (1 : Nat) "java/util/NoSuchElementException") ∈ lw_all := lw_g (lw_at lw_m5 8 rfl) rfl
theorem q1076 : (Jvm.Cond.methodLink "EndingTown" (3 : Nat) ({ cls := "java/util/NoSuchElementException", name := "<init>", desc := "()V" } : Jvm.MethodName)) ∈ lw_all := lw_g (lw_at lw_m5 17 rfl) rfl
theorem q1086 : (Jvm.Cond.instanceMethod ({ cls := "EndingTown", name := "where", desc := "(II)I" } : Jvm.MethodName)) ∈ lw_all := lw_g (lw_at lw_m5 27 rfl) rfl
theorem q1087 : (Jvm.Cond.selects "EndingTown" ({ cls := "EndingTown", name := "where", desc := "(II)I" } : Jvm.MethodName) ({ cls := "EndingTown", name := "where", desc := "(II)I" } : Jvm.MethodName)) ∈ lw_all := lw_g (lw_at lw_m5 28 rfl) rfl
theorem q1088 : (Jvm.Cond.code ({ cls := "EndingTown", name := "where", desc := "(II)I" } : Jvm.MethodName) prog_1_method_12_code (3 : Nat) (Option.some Jvm.ClassFile.FieldType.int)) ∈ lw_all := lw_g (lw_at lw_m5 29 rfl) rfl
theorem q1089 : (Jvm.Cond.methodLink "EndingTown" (147 : Nat) ({ cls := "EndingTown", name := "aPerson", desc := "(I)V" } : Jvm.MethodName)) ∈ lw_all := lw_g (lw_at lw_m5 30 rfl) rfl
theorem q1090 : (Jvm.Cond.privateMethod ({ cls := "EndingTown", name := "aPerson", desc := "(I)V" } : Jvm.MethodName)) ∈ lw_tbl := lw_at lw_m5 31 rfl
theorem q1091 : (Jvm.Cond.instanceMethod ({ cls := "EndingTown", name := "aPerson", desc := "(I)V" } : Jvm.MethodName)) ∈ lw_all := lw_g (lw_at lw_m5 32 rfl) rfl
theorem q1092 : (Jvm.Cond.code ({ cls := "EndingTown", name := "aPerson", desc := "(I)V" } : Jvm.MethodName) prog_1_method_9_code (2 : Nat) (Option.none : Option Jvm.ClassFile.FieldType)) ∈ lw_all := lw_g (lw_at lw_m5 33 rfl) rfl
theorem q1093 : (Jvm.Cond.methodLink "EndingTown" (140 : Nat) ({ cls := "EndingTown", name := "in", desc := "(III)Z" } : Jvm.MethodName)) ∈ lw_all := lw_g (lw_at lw_m5 34 rfl) rfl
theorem q1094 : (Jvm.Cond.methodLink "EndingTown" (144 : Nat) ({ cls := "EndingTown", name := "found", desc := "(Z)V" } : Jvm.MethodName)) ∈ lw_all := lw_g (lw_at lw_m5 35 rfl) rfl
theorem q1095 : (Jvm.Cond.static ({ cls := "EndingTown", name := "found", desc := "(Z)V" } : Jvm.MethodName)) ∈ lw_all := lw_g (lw_at lw_m5 36 rfl) rfl
theorem q1096 : (Jvm.Cond.code ({ cls := "EndingTown", name := "found", desc := "(Z)V" } : Jvm.MethodName) prog_1_method_2_code (1 : Nat) (Option.none : Option Jvm.ClassFile.FieldType)) ∈ lw_all := lw_g (lw_at lw_m5 37 rfl) rfl
theorem q1097 : (Jvm.Cond.methodLink "EndingTown" (151 : Nat) ({ cls := "EndingTown", name := "anHour", desc := "(I)V" } : Jvm.MethodName)) ∈ lw_all := lw_g (lw_at lw_m5 38 rfl) rfl
theorem q1098 : (Jvm.Cond.privateMethod ({ cls := "EndingTown", name := "anHour", desc := "(I)V" } : Jvm.MethodName)) ∈ lw_tbl := lw_at lw_m5 39 rfl
theorem q1099 : (Jvm.Cond.instanceMethod ({ cls := "EndingTown", name := "anHour", desc := "(I)V" } : Jvm.MethodName)) ∈ lw_all := lw_g (lw_at lw_m5 40 rfl) rfl
theorem q1100 : (Jvm.Cond.code ({ cls := "EndingTown", name := "anHour", desc := "(I)V" } : Jvm.MethodName) prog_1_method_10_code (2 : Nat) (Option.none : Option Jvm.ClassFile.FieldType)) ∈ lw_all := lw_g (lw_at lw_m5 41 rfl) rfl
theorem q1101 : (Jvm.Cond.methodLink "EndingTown" (154 : Nat) ({ cls := "EndingTown$Village", name := "where", desc := "(II)I" } : Jvm.MethodName)) ∈ lw_all := lw_g (lw_at lw_m5 42 rfl) rfl
theorem q1106 : (Jvm.Cond.instanceMethod ({ cls := "EndingTown", name := "thing", desc := "(II)I" } : Jvm.MethodName)) ∈ lw_all := lw_g (lw_at lw_m5 47 rfl) rfl
theorem q1107 : (Jvm.Cond.selects "EndingTown" ({ cls := "EndingTown", name := "thing", desc := "(II)I" } : Jvm.MethodName) ({ cls := "EndingTown", name := "thing", desc := "(II)I" } : Jvm.MethodName)) ∈ lw_all := lw_g (lw_at lw_m5 48 rfl) rfl
theorem q1108 : (Jvm.Cond.code ({ cls := "EndingTown", name := "thing", desc := "(II)I" } : Jvm.MethodName) prog_1_method_13_code (4 : Nat) (Option.some Jvm.ClassFile.FieldType.int)) ∈ lw_all := lw_g (lw_at lw_m5 49 rfl) rfl
theorem q1109 : (Jvm.Cond.methodLink "EndingTown" (158 : Nat) ({ cls := "EndingTown", name := "aThing", desc := "(I)V" } : Jvm.MethodName)) ∈ lw_all := lw_g (lw_at lw_m5 50 rfl) rfl
theorem q1110 : (Jvm.Cond.privateMethod ({ cls := "EndingTown", name := "aThing", desc := "(I)V" } : Jvm.MethodName)) ∈ lw_tbl := lw_at lw_m5 51 rfl
theorem q1111 : (Jvm.Cond.instanceMethod ({ cls := "EndingTown", name := "aThing", desc := "(I)V" } : Jvm.MethodName)) ∈ lw_all := lw_g (lw_at lw_m5 52 rfl) rfl
theorem q1112 : (Jvm.Cond.code ({ cls := "EndingTown", name := "aThing", desc := "(I)V" } : Jvm.MethodName) prog_1_method_11_code (2 : Nat) (Option.none : Option Jvm.ClassFile.FieldType)) ∈ lw_all := lw_g (lw_at lw_m5 53 rfl) rfl
theorem q1113 : (Jvm.Cond.classLink "EndingTown" (165 : Nat) "EndingTown$Thing") ∈ lw_all := lw_g (lw_at lw_m5 54 rfl) rfl
theorem q1118 : (Jvm.Cond.instanceMethod ({ cls := "EndingTown", name := "word", desc := "(IIII)I" } : Jvm.MethodName)) ∈ lw_all := lw_g (lw_at lw_m5 59 rfl) rfl
theorem q1119 : (Jvm.Cond.selects "EndingTown" ({ cls := "EndingTown", name := "word", desc := "(IIII)I" } : Jvm.MethodName) ({ cls := "EndingTown", name := "word", desc := "(IIII)I" } : Jvm.MethodName)) ∈ lw_all := lw_g (lw_at lw_m5 60 rfl) rfl
theorem q1120 : (Jvm.Cond.code ({ cls := "EndingTown", name := "word", desc := "(IIII)I" } : Jvm.MethodName) prog_1_method_14_code (6 : Nat) (Option.some Jvm.ClassFile.FieldType.int)) ∈ lw_all := lw_g (lw_at lw_m5 61 rfl) rfl
theorem q1121 : (Jvm.Cond.methodLink "EndingTown" (183 : Nat) ({ cls := "EndingTown$Village", name := "word", desc := "(III)LEndingTown$Letters;" } : Jvm.MethodName)) ∈ lw_all := lw_g (lw_at lw_m5 62 rfl) rfl
theorem q1145 : (Jvm.Cond.instanceMethod ({ cls := "EndingTown", name := "apart", desc := "(I)I" } : Jvm.MethodName)) ∈ lw_all := lw_g (lw_at lw_m5 86 rfl) rfl
theorem q1146 : (Jvm.Cond.selects "EndingTown" ({ cls := "EndingTown", name := "apart", desc := "(I)I" } : Jvm.MethodName) ({ cls := "EndingTown", name := "apart", desc := "(I)I" } : Jvm.MethodName)) ∈ lw_all := lw_g (lw_at lw_m5 87 rfl) rfl
theorem q1147 : (Jvm.Cond.code ({ cls := "EndingTown", name := "apart", desc := "(I)I" } : Jvm.MethodName) prog_1_method_16_code (5 : Nat) (Option.some Jvm.ClassFile.FieldType.int)) ∈ lw_all := lw_g (lw_at lw_m5 88 rfl) rfl
theorem q1148 : (Jvm.Cond.classLink "EndingTown" (188 : Nat) "EndingTown$Letters") ∈ lw_all := lw_g (lw_at lw_m5 89 rfl) rfl
theorem q1149 : (Jvm.Cond.methodLink "EndingTown" (196 : Nat) ({ cls := "EndingTown$Letters", name := "<init>", desc := "([BII)V" } : Jvm.MethodName)) ∈ lw_all := lw_g (lw_at lw_m5 90 rfl) rfl
theorem q1150 : (Jvm.Cond.methodLink "EndingTown" (199 : Nat) ({ cls := "EndingTown", name := "waysOf", desc := "(LEndingTown$Letters;[I)I" } : Jvm.MethodName)) ∈ lw_all := lw_g (lw_at lw_m5 91 rfl) rfl
theorem q1151 : (Jvm.Cond.privateMethod ({ cls := "EndingTown", name := "waysOf", desc := "(LEndingTown$Letters;[I)I" } : Jvm.MethodName)) ∈ lw_tbl := lw_at lw_m5 92 rfl
theorem q1152 : (Jvm.Cond.instanceMethod ({ cls := "EndingTown", name := "waysOf", desc := "(LEndingTown$Letters;[I)I" } : Jvm.MethodName)) ∈ lw_all := lw_g (lw_at lw_m5 93 rfl) rfl
theorem q1153 : (Jvm.Cond.code ({ cls := "EndingTown", name := "waysOf", desc := "(LEndingTown$Letters;[I)I" } : Jvm.MethodName) prog_1_method_15_code (7 : Nat) (Option.some Jvm.ClassFile.FieldType.int)) ∈ lw_all := lw_g (lw_at lw_m5 94 rfl) rfl
theorem q1154 : (Jvm.Cond.methodLink "EndingTown" (192 : Nat) ({ cls := "EndingTown$Letters", name := "is", desc := "(LEndingTown$Letters;)Z" } : Jvm.MethodName)) ∈ lw_all := lw_g (lw_at lw_m5 95 rfl) rfl
theorem q1163 : (Jvm.Cond.instanceMethod ({ cls := "EndingTown", name := "way", desc := "(I)I" } : Jvm.MethodName)) ∈ lw_all := lw_g (lw_at lw_m5 104 rfl) rfl
theorem q1164 : (Jvm.Cond.selects "EndingTown" ({ cls := "EndingTown", name := "way", desc := "(I)I" } : Jvm.MethodName) ({ cls := "EndingTown", name := "way", desc := "(I)I" } : Jvm.MethodName)) ∈ lw_all := lw_g (lw_at lw_m5 105 rfl) rfl
theorem q1165 : (Jvm.Cond.code ({ cls := "EndingTown", name := "way", desc := "(I)I" } : Jvm.MethodName) prog_1_method_17_code (2 : Nat) (Option.some Jvm.ClassFile.FieldType.int)) ∈ lw_all := lw_g (lw_at lw_m5 106 rfl) rfl
theorem q1170 : (Jvm.Cond.instanceMethod ({ cls := "EndingTown", name := "say", desc := "(IIIIZ)I" } : Jvm.MethodName)) ∈ lw_all := lw_g (lw_at lw_m5 111 rfl) rfl
theorem q1171 : (Jvm.Cond.selects "EndingTown" ({ cls := "EndingTown", name := "say", desc := "(IIIIZ)I" } : Jvm.MethodName) ({ cls := "EndingTown", name := "say", desc := "(IIIIZ)I" } : Jvm.MethodName)) ∈ lw_all := lw_g (lw_at lw_m5 112 rfl) rfl
theorem q1172 : (Jvm.Cond.code ({ cls := "EndingTown", name := "say", desc := "(IIIIZ)I" } : Jvm.MethodName) prog_1_method_20_code (6 : Nat) (Option.some Jvm.ClassFile.FieldType.int)) ∈ lw_all := lw_g (lw_at lw_m5 113 rfl) rfl
theorem q1174 : (Jvm.Cond.methodLink "EndingTown" (215 : Nat) ({ cls := "EndingTown$Saying", name := "<init>", desc := "(IIIIZ)V" } : Jvm.MethodName)) ∈ lw_all := lw_g (lw_at lw_m5 115 rfl) rfl
theorem q1181 : (Jvm.Cond.fieldLinkNest "EndingTown" (247 : Nat) "EndingTown$Saying" "person" "I" "EndingTown") ∈ lw_tbl := lw_at lw_m5 122 rfl
theorem q1185 : (Jvm.Cond.fieldLinkNest "EndingTown" (250 : Nat) "EndingTown$Saying" "hour" "I" "EndingTown") ∈ lw_tbl := lw_at lw_m5 126 rfl
theorem q1189 : (Jvm.Cond.fieldLinkNest "EndingTown" (251 : Nat) "EndingTown$Saying" "thing" "I" "EndingTown") ∈ lw_tbl := lw_at lw_m5 130 rfl
theorem q1192 : (Jvm.Cond.fieldLinkNest "EndingTown" (254 : Nat) "EndingTown$Saying" "how" "I" "EndingTown") ∈ lw_tbl := lw_at lw_m5 133 rfl
theorem q1196 : (Jvm.Cond.fieldLinkNest "EndingTown" (257 : Nat) "EndingTown$Saying" "not" "Z" "EndingTown") ∈ lw_tbl := lw_at lw_m5 137 rfl
theorem q1208 : (Jvm.Cond.methodLink "EndingTown" (218 : Nat) ({ cls := "EndingTown", name := "add", desc := "(LEndingTown$Saying;)I" } : Jvm.MethodName)) ∈ lw_all := lw_g (lw_at lw_m5 149 rfl) rfl
theorem q1209 : (Jvm.Cond.privateMethod ({ cls := "EndingTown", name := "add", desc := "(LEndingTown$Saying;)I" } : Jvm.MethodName)) ∈ lw_tbl := lw_at lw_m5 150 rfl
theorem q1210 : (Jvm.Cond.instanceMethod ({ cls := "EndingTown", name := "add", desc := "(LEndingTown$Saying;)I" } : Jvm.MethodName)) ∈ lw_all := lw_g (lw_at lw_m5 151 rfl) rfl
theorem q1211 : (Jvm.Cond.code ({ cls := "EndingTown", name := "add", desc := "(LEndingTown$Saying;)I" } : Jvm.MethodName) prog_1_method_19_code (2 : Nat) (Option.some Jvm.ClassFile.FieldType.int)) ∈ lw_all := lw_g (lw_at lw_m5 152 rfl) rfl
theorem q1212 : (Jvm.Cond.methodLink "EndingTown" (206 : Nat) ({ cls := "EndingTown", name := "refuse", desc := "()I" } : Jvm.MethodName)) ∈ lw_all := lw_g (lw_at lw_m5 153 rfl) rfl
theorem q1213 : (Jvm.Cond.privateMethod ({ cls := "EndingTown", name := "refuse", desc := "()I" } : Jvm.MethodName)) ∈ lw_tbl := lw_at lw_m5 154 rfl
theorem q1214 : (Jvm.Cond.instanceMethod ({ cls := "EndingTown", name := "refuse", desc := "()I" } : Jvm.MethodName)) ∈ lw_all := lw_g (lw_at lw_m5 155 rfl) rfl
theorem q1215 : (Jvm.Cond.code ({ cls := "EndingTown", name := "refuse", desc := "()I" } : Jvm.MethodName) prog_1_method_18_code (1 : Nat) (Option.some Jvm.ClassFile.FieldType.int)) ∈ lw_all := lw_g (lw_at lw_m5 156 rfl) rfl
theorem q1216 : (Jvm.Cond.interfaceEntry "EndingTown" (209 : Nat)) ∈ lw_tbl := lw_at lw_m5 157 rfl
theorem q1217 : (Jvm.Cond.methodLink "EndingTown" (209 : Nat) ({ cls := "java/util/List", name := "add", desc := "(Ljava/lang/Object;)Z" } : Jvm.MethodName)) ∈ lw_all := lw_g (lw_at lw_m5 158 rfl) rfl
theorem q1222 : (Jvm.Cond.instanceMethod ({ cls := "EndingTown", name := "utter", desc := "(III)I" } : Jvm.MethodName)) ∈ lw_all := lw_g (lw_at lw_m5 163 rfl) rfl
theorem q1223 : (Jvm.Cond.selects "EndingTown" ({ cls := "EndingTown", name := "utter", desc := "(III)I" } : Jvm.MethodName) ({ cls := "EndingTown", name := "utter", desc := "(III)I" } : Jvm.MethodName)) ∈ lw_all := lw_g (lw_at lw_m5 164 rfl) rfl
theorem q1224 : (Jvm.Cond.code ({ cls := "EndingTown", name := "utter", desc := "(III)I" } : Jvm.MethodName) prog_1_method_21_code (9 : Nat) (Option.some Jvm.ClassFile.FieldType.int)) ∈ lw_all := lw_g (lw_at lw_m5 165 rfl) rfl
theorem q1225 : (Jvm.Cond.methodLink "EndingTown" (221 : Nat) ({ cls := "EndingTown$Reader", name := "words", desc := "()Ljava/util/List;" } : Jvm.MethodName)) ∈ lw_all := lw_g (lw_at lw_m5 166 rfl) rfl
theorem q1231 : (Jvm.Cond.methodLink "EndingTown" (229 : Nat) ({ cls := "EndingTown$Village", name := "thingOf", desc := "(I)I" } : Jvm.MethodName)) ∈ lw_all := lw_g (lw_at lw_m5 172 rfl) rfl
theorem q1236 : (Jvm.Cond.instanceMethod ({ cls := "EndingTown", name := "saying", desc := "(II)I" } : Jvm.MethodName)) ∈ lw_all := lw_g (lw_at lw_m5 177 rfl) rfl
theorem q1237 : (Jvm.Cond.selects "EndingTown" ({ cls := "EndingTown", name := "saying", desc := "(II)I" } : Jvm.MethodName) ({ cls := "EndingTown", name := "saying", desc := "(II)I" } : Jvm.MethodName)) ∈ lw_all := lw_g (lw_at lw_m5 178 rfl) rfl
theorem q1238 : (Jvm.Cond.code ({ cls := "EndingTown", name := "saying", desc := "(II)I" } : Jvm.MethodName) prog_1_method_24_code (4 : Nat) (Option.some Jvm.ClassFile.FieldType.int)) ∈ lw_all := lw_g (lw_at lw_m5 179 rfl) rfl
theorem q1239 : (Jvm.Cond.methodLink "EndingTown" (259 : Nat) ({ cls := "EndingTown", name := "whole", desc := "()LEndingTown$Day;" } : Jvm.MethodName)) ∈ lw_all := lw_g (lw_at lw_m5 180 rfl) rfl
theorem q1240 : (Jvm.Cond.privateMethod ({ cls := "EndingTown", name := "whole", desc := "()LEndingTown$Day;" } : Jvm.MethodName)) ∈ lw_tbl := lw_at lw_m5 181 rfl
theorem q1241 : (Jvm.Cond.instanceMethod ({ cls := "EndingTown", name := "whole", desc := "()LEndingTown$Day;" } : Jvm.MethodName)) ∈ lw_all := lw_g (lw_at lw_m5 182 rfl) rfl
theorem q1242 : (Jvm.Cond.code ({ cls := "EndingTown", name := "whole", desc := "()LEndingTown$Day;" } : Jvm.MethodName) prog_1_method_23_code (1 : Nat) (Option.some (Jvm.ClassFile.FieldType.object "EndingTown$Day"))) ∈ lw_all := lw_g (lw_at lw_m5 183 rfl) rfl
theorem q1243 : (Jvm.Cond.methodLink "EndingTown" (265 : Nat) ({ cls := "EndingTown$Day", name := "see", desc := "()V" } : Jvm.MethodName)) ∈ lw_all := lw_g (lw_at lw_m5 184 rfl) rfl
theorem q1271 : (Jvm.Cond.instanceMethod ({ cls := "EndingTown", name := "could", desc := "(IIIZ)I" } : Jvm.MethodName)) ∈ lw_all := lw_g (lw_at lw_m5 212 rfl) rfl
theorem q1272 : (Jvm.Cond.selects "EndingTown" ({ cls := "EndingTown", name := "could", desc := "(IIIZ)I" } : Jvm.MethodName) ({ cls := "EndingTown", name := "could", desc := "(IIIZ)I" } : Jvm.MethodName)) ∈ lw_all := lw_g (lw_at lw_m5 213 rfl) rfl
theorem q1273 : (Jvm.Cond.code ({ cls := "EndingTown", name := "could", desc := "(IIIZ)I" } : Jvm.MethodName) prog_1_method_25_code (8 : Nat) (Option.some Jvm.ClassFile.FieldType.int)) ∈ lw_all := lw_g (lw_at lw_m5 214 rfl) rfl
theorem q1274 : (Jvm.Cond.methodLink "EndingTown" (271 : Nat) ({ cls := "EndingTown$How", name := "round", desc := "(LEndingTown$Day;IIIZ)I" } : Jvm.MethodName)) ∈ lw_all := lw_g (lw_at lw_m5 215 rfl) rfl
theorem q1279 : (Jvm.Cond.instanceMethod ({ cls := "EndingTown", name := "wrong", desc := "(I)I" } : Jvm.MethodName)) ∈ lw_all := lw_g (lw_at lw_m5 220 rfl) rfl
theorem q1280 : (Jvm.Cond.selects "EndingTown" ({ cls := "EndingTown", name := "wrong", desc := "(I)I" } : Jvm.MethodName) ({ cls := "EndingTown", name := "wrong", desc := "(I)I" } : Jvm.MethodName)) ∈ lw_all := lw_g (lw_at lw_m5 221 rfl) rfl
theorem q1281 : (Jvm.Cond.code ({ cls := "EndingTown", name := "wrong", desc := "(I)I" } : Jvm.MethodName) prog_1_method_28_code (3 : Nat) (Option.some Jvm.ClassFile.FieldType.int)) ∈ lw_all := lw_g (lw_at lw_m5 222 rfl) rfl
theorem q1282 : (Jvm.Cond.methodLink "EndingTown" (285 : Nat) ({ cls := "EndingTown", name := "above", desc := "()I" } : Jvm.MethodName)) ∈ lw_all := lw_g (lw_at lw_m5 223 rfl) rfl
theorem q1283 : (Jvm.Cond.privateMethod ({ cls := "EndingTown", name := "above", desc := "()I" } : Jvm.MethodName)) ∈ lw_tbl := lw_at lw_m5 224 rfl
theorem q1284 : (Jvm.Cond.instanceMethod ({ cls := "EndingTown", name := "above", desc := "()I" } : Jvm.MethodName)) ∈ lw_all := lw_g (lw_at lw_m5 225 rfl) rfl
theorem q1285 : (Jvm.Cond.code ({ cls := "EndingTown", name := "above", desc := "()I" } : Jvm.MethodName) prog_1_method_27_code (6 : Nat) (Option.some Jvm.ClassFile.FieldType.int)) ∈ lw_all := lw_g (lw_at lw_m5 226 rfl) rfl
theorem q1290 : (Jvm.Cond.instanceMethod ({ cls := "EndingTown", name := "mended", desc := "(I)I" } : Jvm.MethodName)) ∈ lw_all := lw_g (lw_at lw_m5 231 rfl) rfl
theorem q1291 : (Jvm.Cond.selects "EndingTown" ({ cls := "EndingTown", name := "mended", desc := "(I)I" } : Jvm.MethodName) ({ cls := "EndingTown", name := "mended", desc := "(I)I" } : Jvm.MethodName)) ∈ lw_all := lw_g (lw_at lw_m5 232 rfl) rfl
theorem q1292 : (Jvm.Cond.code ({ cls := "EndingTown", name := "mended", desc := "(I)I" } : Jvm.MethodName) prog_1_method_31_code (2 : Nat) (Option.some Jvm.ClassFile.FieldType.int)) ∈ lw_all := lw_g (lw_at lw_m5 233 rfl) rfl
theorem q1297 : (Jvm.Cond.instanceMethod ({ cls := "EndingTown", name := "silence", desc := "(II)I" } : Jvm.MethodName)) ∈ lw_all := lw_g (lw_at lw_m5 238 rfl) rfl
theorem q1298 : (Jvm.Cond.selects "EndingTown" ({ cls := "EndingTown", name := "silence", desc := "(II)I" } : Jvm.MethodName) ({ cls := "EndingTown", name := "silence", desc := "(II)I" } : Jvm.MethodName)) ∈ lw_all := lw_g (lw_at lw_m5 239 rfl) rfl
theorem q1299 : (Jvm.Cond.code ({ cls := "EndingTown", name := "silence", desc := "(II)I" } : Jvm.MethodName) prog_1_method_32_code (5 : Nat) (Option.some Jvm.ClassFile.FieldType.int)) ∈ lw_all := lw_g (lw_at lw_m6 0 rfl) rfl
theorem q1304 : (Jvm.Cond.instanceMethod ({ cls := "EndingTown", name := "likely", desc := "(II)I" } : Jvm.MethodName)) ∈ lw_all := lw_g (lw_at lw_m6 5 rfl) rfl
theorem q1305 : (Jvm.Cond.selects "EndingTown" ({ cls := "EndingTown", name := "likely", desc := "(II)I" } : Jvm.MethodName) ({ cls := "EndingTown", name := "likely", desc := "(II)I" } : Jvm.MethodName)) ∈ lw_all := lw_g (lw_at lw_m6 6 rfl) rfl
theorem q1306 : (Jvm.Cond.code ({ cls := "EndingTown", name := "likely", desc := "(II)I" } : Jvm.MethodName) prog_1_method_33_code (13 : Nat) (Option.some Jvm.ClassFile.FieldType.int)) ∈ lw_all := lw_g (lw_at lw_m6 7 rfl) rfl
theorem q1307 : (Jvm.Cond.constantLong "EndingTown" (295 : Nat) (500000 : Int64)) ∈ lw_all := lw_g (lw_at lw_m6 8 rfl) rfl
theorem q1308 : (Jvm.Cond.constantLong "EndingTown" (297 : Nat) (1000000 : Int64)) ∈ lw_all := lw_g (lw_at lw_m6 9 rfl) rfl
theorem q1313 : (Jvm.Cond.instanceMethod ({ cls := "EndingTown", name := "worlds", desc := "(I)I" } : Jvm.MethodName)) ∈ lw_all := lw_g (lw_at lw_m6 14 rfl) rfl
theorem q1314 : (Jvm.Cond.selects "EndingTown" ({ cls := "EndingTown", name := "worlds", desc := "(I)I" } : Jvm.MethodName) ({ cls := "EndingTown", name := "worlds", desc := "(I)I" } : Jvm.MethodName)) ∈ lw_all := lw_g (lw_at lw_m6 15 rfl) rfl
theorem q1315 : (Jvm.Cond.code ({ cls := "EndingTown", name := "worlds", desc := "(I)I" } : Jvm.MethodName) prog_1_method_40_code (2 : Nat) (Option.some Jvm.ClassFile.FieldType.int)) ∈ lw_all := lw_g (lw_at lw_m6 16 rfl) rfl
theorem q1320 : (Jvm.Cond.instanceMethod ({ cls := "EndingTown", name := "tell", desc := "(IIZ)I" } : Jvm.MethodName)) ∈ lw_all := lw_g (lw_at lw_m6 21 rfl) rfl
theorem q1321 : (Jvm.Cond.selects "EndingTown" ({ cls := "EndingTown", name := "tell", desc := "(IIZ)I" } : Jvm.MethodName) ({ cls := "EndingTown", name := "tell", desc := "(IIZ)I" } : Jvm.MethodName)) ∈ lw_all := lw_g (lw_at lw_m6 22 rfl) rfl
theorem q1322 : (Jvm.Cond.code ({ cls := "EndingTown", name := "tell", desc := "(IIZ)I" } : Jvm.MethodName) prog_1_method_41_code (5 : Nat) (Option.some Jvm.ClassFile.FieldType.int)) ∈ lw_all := lw_g (lw_at lw_m6 23 rfl) rfl
theorem q1323 : (Jvm.Cond.methodLink "EndingTown" (315 : Nat) ({ cls := "EndingTown", name := "worldsOf", desc := "(IZ)I" } : Jvm.MethodName)) ∈ lw_all := lw_g (lw_at lw_m6 24 rfl) rfl
theorem q1324 : (Jvm.Cond.privateMethod ({ cls := "EndingTown", name := "worldsOf", desc := "(IZ)I" } : Jvm.MethodName)) ∈ lw_tbl := lw_at lw_m6 25 rfl
theorem q1325 : (Jvm.Cond.instanceMethod ({ cls := "EndingTown", name := "worldsOf", desc := "(IZ)I" } : Jvm.MethodName)) ∈ lw_all := lw_g (lw_at lw_m6 26 rfl) rfl
theorem q1326 : (Jvm.Cond.code ({ cls := "EndingTown", name := "worldsOf", desc := "(IZ)I" } : Jvm.MethodName) prog_1_method_39_code (5 : Nat) (Option.some Jvm.ClassFile.FieldType.int)) ∈ lw_all := lw_g (lw_at lw_m6 27 rfl) rfl
theorem q1327 : (Jvm.Cond.methodLink "EndingTown" (311 : Nat) ({ cls := "EndingTown", name := "isSo", desc := "(II)Z" } : Jvm.MethodName)) ∈ lw_all := lw_g (lw_at lw_m6 28 rfl) rfl
theorem q1328 : (Jvm.Cond.privateMethod ({ cls := "EndingTown", name := "isSo", desc := "(II)Z" } : Jvm.MethodName)) ∈ lw_tbl := lw_at lw_m6 29 rfl
theorem q1329 : (Jvm.Cond.instanceMethod ({ cls := "EndingTown", name := "isSo", desc := "(II)Z" } : Jvm.MethodName)) ∈ lw_all := lw_g (lw_at lw_m6 30 rfl) rfl
theorem q1330 : (Jvm.Cond.code ({ cls := "EndingTown", name := "isSo", desc := "(II)Z" } : Jvm.MethodName) prog_1_method_35_code (3 : Nat) (Option.some Jvm.ClassFile.FieldType.boolean)) ∈ lw_all := lw_g (lw_at lw_m6 31 rfl) rfl
theorem q1331 : (Jvm.Cond.methodLink "EndingTown" (319 : Nat) ({ cls := "EndingTown", name := "knows", desc := "(II)I" } : Jvm.MethodName)) ∈ lw_all := lw_g (lw_at lw_m6 32 rfl) rfl
theorem q1332 : (Jvm.Cond.privateMethod ({ cls := "EndingTown", name := "knows", desc := "(II)I" } : Jvm.MethodName)) ∈ lw_tbl := lw_at lw_m6 33 rfl
theorem q1333 : (Jvm.Cond.instanceMethod ({ cls := "EndingTown", name := "knows", desc := "(II)I" } : Jvm.MethodName)) ∈ lw_all := lw_g (lw_at lw_m6 34 rfl) rfl
theorem q1334 : (Jvm.Cond.code ({ cls := "EndingTown", name := "knows", desc := "(II)I" } : Jvm.MethodName) prog_1_method_38_code (8 : Nat) (Option.some Jvm.ClassFile.FieldType.int)) ∈ lw_all := lw_g (lw_at lw_m6 35 rfl) rfl
theorem q1335 : (Jvm.Cond.methodLink "EndingTown" (308 : Nat) ({ cls := "EndingTown", name := "sees", desc := "(I)I" } : Jvm.MethodName)) ∈ lw_all := lw_g (lw_at lw_m6 36 rfl) rfl
theorem q1336 : (Jvm.Cond.privateMethod ({ cls := "EndingTown", name := "sees", desc := "(I)I" } : Jvm.MethodName)) ∈ lw_tbl := lw_at lw_m6 37 rfl
theorem q1337 : (Jvm.Cond.instanceMethod ({ cls := "EndingTown", name := "sees", desc := "(I)I" } : Jvm.MethodName)) ∈ lw_all := lw_g (lw_at lw_m6 38 rfl) rfl
theorem q1338 : (Jvm.Cond.code ({ cls := "EndingTown", name := "sees", desc := "(I)I" } : Jvm.MethodName) prog_1_method_37_code (5 : Nat) (Option.some Jvm.ClassFile.FieldType.int)) ∈ lw_all := lw_g (lw_at lw_m6 39 rfl) rfl
theorem q1339 : (Jvm.Cond.methodLink "EndingTown" (305 : Nat) ({ cls := "EndingTown", name := "worldThing", desc := "(I)I" } : Jvm.MethodName)) ∈ lw_all := lw_g (lw_at lw_m6 40 rfl) rfl
theorem q1340 : (Jvm.Cond.privateMethod ({ cls := "EndingTown", name := "worldThing", desc := "(I)I" } : Jvm.MethodName)) ∈ lw_tbl := lw_at lw_m6 41 rfl
theorem q1341 : (Jvm.Cond.instanceMethod ({ cls := "EndingTown", name := "worldThing", desc := "(I)I" } : Jvm.MethodName)) ∈ lw_all := lw_g (lw_at lw_m6 42 rfl) rfl
theorem q1342 : (Jvm.Cond.code ({ cls := "EndingTown", name := "worldThing", desc := "(I)I" } : Jvm.MethodName) prog_1_method_34_code (4 : Nat) (Option.some Jvm.ClassFile.FieldType.int)) ∈ lw_all := lw_g (lw_at lw_m6 43 rfl) rfl
theorem q1343 : (Jvm.Cond.methodLink "EndingTown" (302 : Nat) ({ cls := "java/lang/Integer", name := "numberOfTrailingZeros", desc := "(I)I" } : Jvm.MethodName)) ∈ lw_all := lw_g (lw_at lw_m6 44 rfl) rfl
theorem q1347 : (Jvm.Cond.methodLink "EndingTown" (322 : Nat) ({ cls := "EndingTown", name := "real", desc := "()I" } : Jvm.MethodName)) ∈ lw_all := lw_g (lw_at lw_m6 48 rfl) rfl
theorem q1348 : (Jvm.Cond.privateMethod ({ cls := "EndingTown", name := "real", desc := "()I" } : Jvm.MethodName)) ∈ lw_tbl := lw_at lw_m6 49 rfl
theorem q1349 : (Jvm.Cond.instanceMethod ({ cls := "EndingTown", name := "real", desc := "()I" } : Jvm.MethodName)) ∈ lw_all := lw_g (lw_at lw_m6 50 rfl) rfl
theorem q1350 : (Jvm.Cond.code ({ cls := "EndingTown", name := "real", desc := "()I" } : Jvm.MethodName) prog_1_method_36_code (3 : Nat) (Option.some Jvm.ClassFile.FieldType.int)) ∈ lw_all := lw_g (lw_at lw_m6 51 rfl) rfl
theorem q1355 : (Jvm.Cond.instanceMethod ({ cls := "EndingTown", name := "known", desc := "(IIIZ)Z" } : Jvm.MethodName)) ∈ lw_all := lw_g (lw_at lw_m6 56 rfl) rfl
theorem q1356 : (Jvm.Cond.selects "EndingTown" ({ cls := "EndingTown", name := "known", desc := "(IIIZ)Z" } : Jvm.MethodName) ({ cls := "EndingTown", name := "known", desc := "(IIIZ)Z" } : Jvm.MethodName)) ∈ lw_all := lw_g (lw_at lw_m6 57 rfl) rfl
theorem q1357 : (Jvm.Cond.code ({ cls := "EndingTown", name := "known", desc := "(IIIZ)Z" } : Jvm.MethodName) prog_1_method_42_code (7 : Nat) (Option.some Jvm.ClassFile.FieldType.boolean)) ∈ lw_all := lw_g (lw_at lw_m6 58 rfl) rfl
theorem q1926 : (Jvm.Cond.castable "EndingTown" "java/lang/Object") ∈ lw_tbl := lw_at lw_m8 147 rfl
theorem in_X1 : ∀ w ∈ wsX10, w ∈ lw_all := lw_in wsX10 [367, 369, 371, 373, 375, 377, 379, 381, 383, 385, 387, 389, 391, 393, 395, 397] (by decide +kernel) (by decide +kernel)
/-! EndingTown$Reader -/
set_option maxRecDepth 100000
def RX12 : String := "EndingTown$Reader"
def TX12 : u_T := fun k => match k with
  | 0 => ("EndingTown$Reader", "size", "I", true)
  | 1 => ("EndingTown$Reader", "told", "LEndingTown$Village;", true)
  | 2 => ("EndingTown$Reader", "at", "I", false)
  | 3 => ("EndingTown$Reader", "token", "I", false)
  | 4 => ("EndingTown$Reader", "begins", "I", false)
  | 5 => ("EndingTown$Reader", "ends", "I", false)
  | 6 => ("EndingTown$Reader", "number", "I", false)
  | 7 => ("EndingTown$Reader", "isPlaces", "Z", false)
  | 8 => ("EndingTown$Reader", "isLate", "Z", false)
  | _ => ("EndingTown$Reader", "this$0", "LEndingTown;", true)
def tyX12 : Nat → FieldType := fun k => match k with
  | 0 => .int
  | 1 => .object "EndingTown$Village"
  | 2 => .int
  | 3 => .int
  | 4 => .int
  | 5 => .int
  | 6 => .int
  | 7 => .boolean
  | 8 => .boolean
  | _ => .object "EndingTown"
abbrev wsX120 : List Cond := u_ws RX12 TX12 10
theorem nmX12 : ∀ a, a < 10 → ∀ b, b < 10 → a ≠ b → (TX12 a).2.1 ≠ (TX12 b).2.1 := by decide +kernel
theorem tyX12_ok : ∀ k, k < 10 → parseFieldDescriptor (TX12 k).2.2.1 = some (tyX12 k) := by decide +kernel
abbrev cX12_init : ByteArray := prog_9_method_1_code
def yX12_init : MethodName := ⟨RX12, "<init>", "(LEndingTown;I)V"⟩
def dkwX12_init_1 : List UInt8 := [181, 0, 22, 177]
abbrev dktX12_init_1 : List UInt8 := dkwX12_init_1 ++ []
def dkwX12_init_0 : List UInt8 := [42, 43, 181, 0, 3, 42, 183, 0, 9, 42, 187, 0, 15, 89, 183, 0, 17, 181, 0, 18, 42, 28]
abbrev dktX12_init_0 : List UInt8 := dkwX12_init_0 ++ dktX12_init_1
theorem dksX12_init_0 : cX12_init.data.toList.drop 0 = dktX12_init_0 := by decide +kernel
theorem dksX12_init_1 : cX12_init.data.toList.drop 22 = dktX12_init_1 := dk_seg dksX12_init_0 22 rfl rfl
theorem dX12_init_0 : decode cX12_init 0 = .ok (.aload_n 0, 1) := dk_42 (dk_at dksX12_init_0 0 rfl rfl)
theorem dX12_init_1 : decode cX12_init 1 = .ok (.aload_n 1, 1) := dk_43 (dk_at dksX12_init_0 1 rfl rfl)
theorem dX12_init_2 : decode cX12_init 2 = .ok (.putfield 3, 3) := dk_181 0 3 (dk_at dksX12_init_0 2 rfl rfl)
theorem dX12_init_5 : decode cX12_init 5 = .ok (.aload_n 0, 1) := dk_42 (dk_at dksX12_init_0 5 rfl rfl)
theorem dX12_init_6 : decode cX12_init 6 = .ok (.invokespecial 9, 3) := dk_183 0 9 (dk_at dksX12_init_0 6 rfl rfl)
theorem dX12_init_9 : decode cX12_init 9 = .ok (.aload_n 0, 1) := dk_42 (dk_at dksX12_init_0 9 rfl rfl)
theorem dX12_init_10 : decode cX12_init 10 = .ok (.new 15, 3) := dk_187 0 15 (dk_at dksX12_init_0 10 rfl rfl)
theorem dX12_init_13 : decode cX12_init 13 = .ok (.dup, 1) := dk_89 (dk_at dksX12_init_0 13 rfl rfl)
theorem dX12_init_14 : decode cX12_init 14 = .ok (.invokespecial 17, 3) := dk_183 0 17 (dk_at dksX12_init_0 14 rfl rfl)
theorem dX12_init_17 : decode cX12_init 17 = .ok (.putfield 18, 3) := dk_181 0 18 (dk_at dksX12_init_0 17 rfl rfl)
theorem dX12_init_20 : decode cX12_init 20 = .ok (.aload_n 0, 1) := dk_42 (dk_at dksX12_init_0 20 rfl rfl)
theorem dX12_init_21 : decode cX12_init 21 = .ok (.iload_n 2, 1) := dk_28 (dk_at dksX12_init_0 21 rfl rfl)
theorem dX12_init_22 : decode cX12_init 22 = .ok (.putfield 22, 3) := dk_181 0 22 (dk_at dksX12_init_1 0 rfl rfl)
theorem dX12_init_25 : decode cX12_init 25 = .ok (.return_, 1) := dk_177 (dk_at dksX12_init_1 3 rfl rfl)
abbrev cX12_read : ByteArray := prog_9_method_24_code
def yX12_read : MethodName := ⟨RX12, "read", "()LEndingTown$Village;"⟩
def dkwX12_read_0 : List UInt8 := [42, 182, 0, 79, 42, 180, 0, 44, 153, 0, 10, 42, 182, 0, 246, 167, 255, 245, 42, 180, 0, 18, 176]
abbrev dktX12_read_0 : List UInt8 := dkwX12_read_0 ++ []
theorem dksX12_read_0 : cX12_read.data.toList.drop 0 = dktX12_read_0 := by decide +kernel
theorem dX12_read_0 : decode cX12_read 0 = .ok (.aload_n 0, 1) := dk_42 (dk_at dksX12_read_0 0 rfl rfl)
theorem dX12_read_1 : decode cX12_read 1 = .ok (.invokevirtual 79, 3) := dk_182 0 79 (dk_at dksX12_read_0 1 rfl rfl)
theorem dX12_read_4 : decode cX12_read 4 = .ok (.aload_n 0, 1) := dk_42 (dk_at dksX12_read_0 4 rfl rfl)
theorem dX12_read_5 : decode cX12_read 5 = .ok (.getfield 44, 3) := dk_180 0 44 (dk_at dksX12_read_0 5 rfl rfl)
theorem dX12_read_8 : decode cX12_read 8 = .ok (.ifCond .eq 10, 3) := dk_153 0 10 (dk_at dksX12_read_0 8 rfl rfl)
theorem dX12_read_11 : decode cX12_read 11 = .ok (.aload_n 0, 1) := dk_42 (dk_at dksX12_read_0 11 rfl rfl)
theorem dX12_read_12 : decode cX12_read 12 = .ok (.invokevirtual 246, 3) := dk_182 0 246 (dk_at dksX12_read_0 12 rfl rfl)
theorem dX12_read_15 : decode cX12_read 15 = .ok (.goto (-11), 3) := dk_167 255 245 (dk_at dksX12_read_0 15 rfl rfl)
theorem dX12_read_18 : decode cX12_read 18 = .ok (.aload_n 0, 1) := dk_42 (dk_at dksX12_read_0 18 rfl rfl)
theorem dX12_read_19 : decode cX12_read 19 = .ok (.getfield 18, 3) := dk_180 0 18 (dk_at dksX12_read_0 19 rfl rfl)
theorem dX12_read_22 : decode cX12_read 22 = .ok (.areturn, 1) := dk_176 (dk_at dksX12_read_0 22 rfl rfl)
abbrev cX12_next : ByteArray := prog_9_method_5_code
def yX12_next : MethodName := ⟨RX12, "next", "()V"⟩
def dkwX12_next_8 : List UInt8 := [180, 0, 26, 181, 0, 63, 177]
abbrev dktX12_next_8 : List UInt8 := dkwX12_next_8 ++ []
def dkwX12_next_7 : List UInt8 := [160, 0, 7, 6, 167, 0, 4, 7, 181, 0, 44, 42, 89, 180, 0, 26, 4, 96, 181, 0, 26, 42, 42]
abbrev dktX12_next_7 : List UInt8 := dkwX12_next_7 ++ dktX12_next_8
def dkwX12_next_6 : List UInt8 := [96, 181, 0, 26, 167, 255, 214, 42, 5, 181, 0, 44, 167, 0, 31, 42, 42, 182, 0, 33, 16, 59]
abbrev dktX12_next_6 : List UInt8 := dkwX12_next_6 ++ dktX12_next_7
def dkwX12_next_5 : List UInt8 := [180, 0, 54, 104, 42, 182, 0, 33, 96, 16, 48, 100, 184, 0, 57, 181, 0, 54, 42, 89, 180, 0, 26, 4]
abbrev dktX12_next_5 : List UInt8 := dkwX12_next_5 ++ dktX12_next_6
def dkwX12_next_4 : List UInt8 := [153, 0, 61, 42, 3, 181, 0, 54, 42, 182, 0, 51, 153, 0, 41, 42, 17, 39, 16, 16, 10, 42]
abbrev dktX12_next_4 : List UInt8 := dkwX12_next_4 ++ dktX12_next_5
def dkwX12_next_3 : List UInt8 := [180, 0, 26, 4, 96, 181, 0, 26, 167, 255, 239, 42, 4, 181, 0, 44, 167, 0, 96, 42, 182, 0, 51]
abbrev dktX12_next_3 : List UInt8 := dkwX12_next_3 ++ dktX12_next_4
def dkwX12_next_2 : List UInt8 := [3, 181, 0, 44, 167, 0, 131, 42, 182, 0, 47, 153, 0, 31, 42, 182, 0, 47, 153, 0, 16, 42, 89]
abbrev dktX12_next_2 : List UInt8 := dkwX12_next_2 ++ dktX12_next_3
def dkwX12_next_1 : List UInt8 := [96, 181, 0, 26, 167, 255, 228, 42, 42, 180, 0, 26, 181, 0, 41, 42, 182, 0, 33, 2, 160, 0, 11, 42]
abbrev dktX12_next_1 : List UInt8 := dkwX12_next_1 ++ dktX12_next_2
def dkwX12_next_0 : List UInt8 := [42, 182, 0, 33, 16, 32, 159, 0, 12, 42, 182, 0, 33, 16, 10, 160, 0, 16, 42, 89, 180, 0, 26, 4]
abbrev dktX12_next_0 : List UInt8 := dkwX12_next_0 ++ dktX12_next_1
theorem dksX12_next_0 : cX12_next.data.toList.drop 0 = dktX12_next_0 := by decide +kernel
theorem dksX12_next_1 : cX12_next.data.toList.drop 24 = dktX12_next_1 := dk_seg dksX12_next_0 24 rfl rfl
theorem dksX12_next_2 : cX12_next.data.toList.drop 48 = dktX12_next_2 := dk_seg dksX12_next_1 24 rfl rfl
theorem dksX12_next_3 : cX12_next.data.toList.drop 71 = dktX12_next_3 := dk_seg dksX12_next_2 23 rfl rfl
theorem dksX12_next_4 : cX12_next.data.toList.drop 94 = dktX12_next_4 := dk_seg dksX12_next_3 23 rfl rfl
theorem dksX12_next_5 : cX12_next.data.toList.drop 116 = dktX12_next_5 := dk_seg dksX12_next_4 22 rfl rfl
theorem dksX12_next_6 : cX12_next.data.toList.drop 140 = dktX12_next_6 := dk_seg dksX12_next_5 24 rfl rfl
theorem dksX12_next_7 : cX12_next.data.toList.drop 162 = dktX12_next_7 := dk_seg dksX12_next_6 22 rfl rfl
theorem dksX12_next_8 : cX12_next.data.toList.drop 185 = dktX12_next_8 := dk_seg dksX12_next_7 23 rfl rfl
theorem dX12_next_0 : decode cX12_next 0 = .ok (.aload_n 0, 1) := dk_42 (dk_at dksX12_next_0 0 rfl rfl)
theorem dX12_next_1 : decode cX12_next 1 = .ok (.invokevirtual 33, 3) := dk_182 0 33 (dk_at dksX12_next_0 1 rfl rfl)
theorem dX12_next_4 : decode cX12_next 4 = .ok (.bipush 32, 2) := dk_16 32 (dk_at dksX12_next_0 4 rfl rfl)
theorem dX12_next_6 : decode cX12_next 6 = .ok (.if_icmp .eq 12, 3) := dk_159 0 12 (dk_at dksX12_next_0 6 rfl rfl)
theorem dX12_next_9 : decode cX12_next 9 = .ok (.aload_n 0, 1) := dk_42 (dk_at dksX12_next_0 9 rfl rfl)
theorem dX12_next_10 : decode cX12_next 10 = .ok (.invokevirtual 33, 3) := dk_182 0 33 (dk_at dksX12_next_0 10 rfl rfl)
theorem dX12_next_13 : decode cX12_next 13 = .ok (.bipush 10, 2) := dk_16 10 (dk_at dksX12_next_0 13 rfl rfl)
theorem dX12_next_15 : decode cX12_next 15 = .ok (.if_icmp .ne 16, 3) := dk_160 0 16 (dk_at dksX12_next_0 15 rfl rfl)
theorem dX12_next_18 : decode cX12_next 18 = .ok (.aload_n 0, 1) := dk_42 (dk_at dksX12_next_0 18 rfl rfl)
theorem dX12_next_19 : decode cX12_next 19 = .ok (.dup, 1) := dk_89 (dk_at dksX12_next_0 19 rfl rfl)
theorem dX12_next_20 : decode cX12_next 20 = .ok (.getfield 26, 3) := dk_180 0 26 (dk_at dksX12_next_0 20 rfl rfl)
theorem dX12_next_23 : decode cX12_next 23 = .ok (.iconst 1, 1) := dk_4 (dk_at dksX12_next_0 23 rfl rfl)
theorem dX12_next_24 : decode cX12_next 24 = .ok (.iadd, 1) := dk_96 (dk_at dksX12_next_1 0 rfl rfl)
theorem dX12_next_25 : decode cX12_next 25 = .ok (.putfield 26, 3) := dk_181 0 26 (dk_at dksX12_next_1 1 rfl rfl)
theorem dX12_next_28 : decode cX12_next 28 = .ok (.goto (-28), 3) := dk_167 255 228 (dk_at dksX12_next_1 4 rfl rfl)
theorem dX12_next_31 : decode cX12_next 31 = .ok (.aload_n 0, 1) := dk_42 (dk_at dksX12_next_1 7 rfl rfl)
theorem dX12_next_32 : decode cX12_next 32 = .ok (.aload_n 0, 1) := dk_42 (dk_at dksX12_next_1 8 rfl rfl)
theorem dX12_next_33 : decode cX12_next 33 = .ok (.getfield 26, 3) := dk_180 0 26 (dk_at dksX12_next_1 9 rfl rfl)
theorem dX12_next_36 : decode cX12_next 36 = .ok (.putfield 41, 3) := dk_181 0 41 (dk_at dksX12_next_1 12 rfl rfl)
theorem dX12_next_39 : decode cX12_next 39 = .ok (.aload_n 0, 1) := dk_42 (dk_at dksX12_next_1 15 rfl rfl)
theorem dX12_next_40 : decode cX12_next 40 = .ok (.invokevirtual 33, 3) := dk_182 0 33 (dk_at dksX12_next_1 16 rfl rfl)
theorem dX12_next_43 : decode cX12_next 43 = .ok (.iconst (-1), 1) := dk_2 (dk_at dksX12_next_1 19 rfl rfl)
theorem dX12_next_44 : decode cX12_next 44 = .ok (.if_icmp .ne 11, 3) := dk_160 0 11 (dk_at dksX12_next_1 20 rfl rfl)
theorem dX12_next_47 : decode cX12_next 47 = .ok (.aload_n 0, 1) := dk_42 (dk_at dksX12_next_1 23 rfl rfl)
theorem dX12_next_48 : decode cX12_next 48 = .ok (.iconst 0, 1) := dk_3 (dk_at dksX12_next_2 0 rfl rfl)
theorem dX12_next_49 : decode cX12_next 49 = .ok (.putfield 44, 3) := dk_181 0 44 (dk_at dksX12_next_2 1 rfl rfl)
theorem dX12_next_52 : decode cX12_next 52 = .ok (.goto 131, 3) := dk_167 0 131 (dk_at dksX12_next_2 4 rfl rfl)
theorem dX12_next_55 : decode cX12_next 55 = .ok (.aload_n 0, 1) := dk_42 (dk_at dksX12_next_2 7 rfl rfl)
theorem dX12_next_56 : decode cX12_next 56 = .ok (.invokevirtual 47, 3) := dk_182 0 47 (dk_at dksX12_next_2 8 rfl rfl)
theorem dX12_next_59 : decode cX12_next 59 = .ok (.ifCond .eq 31, 3) := dk_153 0 31 (dk_at dksX12_next_2 11 rfl rfl)
theorem dX12_next_62 : decode cX12_next 62 = .ok (.aload_n 0, 1) := dk_42 (dk_at dksX12_next_2 14 rfl rfl)
theorem dX12_next_63 : decode cX12_next 63 = .ok (.invokevirtual 47, 3) := dk_182 0 47 (dk_at dksX12_next_2 15 rfl rfl)
theorem dX12_next_66 : decode cX12_next 66 = .ok (.ifCond .eq 16, 3) := dk_153 0 16 (dk_at dksX12_next_2 18 rfl rfl)
theorem dX12_next_69 : decode cX12_next 69 = .ok (.aload_n 0, 1) := dk_42 (dk_at dksX12_next_2 21 rfl rfl)
theorem dX12_next_70 : decode cX12_next 70 = .ok (.dup, 1) := dk_89 (dk_at dksX12_next_2 22 rfl rfl)
theorem dX12_next_71 : decode cX12_next 71 = .ok (.getfield 26, 3) := dk_180 0 26 (dk_at dksX12_next_3 0 rfl rfl)
theorem dX12_next_74 : decode cX12_next 74 = .ok (.iconst 1, 1) := dk_4 (dk_at dksX12_next_3 3 rfl rfl)
theorem dX12_next_75 : decode cX12_next 75 = .ok (.iadd, 1) := dk_96 (dk_at dksX12_next_3 4 rfl rfl)
theorem dX12_next_76 : decode cX12_next 76 = .ok (.putfield 26, 3) := dk_181 0 26 (dk_at dksX12_next_3 5 rfl rfl)
theorem dX12_next_79 : decode cX12_next 79 = .ok (.goto (-17), 3) := dk_167 255 239 (dk_at dksX12_next_3 8 rfl rfl)
theorem dX12_next_82 : decode cX12_next 82 = .ok (.aload_n 0, 1) := dk_42 (dk_at dksX12_next_3 11 rfl rfl)
theorem dX12_next_83 : decode cX12_next 83 = .ok (.iconst 1, 1) := dk_4 (dk_at dksX12_next_3 12 rfl rfl)
theorem dX12_next_84 : decode cX12_next 84 = .ok (.putfield 44, 3) := dk_181 0 44 (dk_at dksX12_next_3 13 rfl rfl)
theorem dX12_next_87 : decode cX12_next 87 = .ok (.goto 96, 3) := dk_167 0 96 (dk_at dksX12_next_3 16 rfl rfl)
theorem dX12_next_90 : decode cX12_next 90 = .ok (.aload_n 0, 1) := dk_42 (dk_at dksX12_next_3 19 rfl rfl)
theorem dX12_next_91 : decode cX12_next 91 = .ok (.invokevirtual 51, 3) := dk_182 0 51 (dk_at dksX12_next_3 20 rfl rfl)
theorem dX12_next_94 : decode cX12_next 94 = .ok (.ifCond .eq 61, 3) := dk_153 0 61 (dk_at dksX12_next_4 0 rfl rfl)
theorem dX12_next_97 : decode cX12_next 97 = .ok (.aload_n 0, 1) := dk_42 (dk_at dksX12_next_4 3 rfl rfl)
theorem dX12_next_98 : decode cX12_next 98 = .ok (.iconst 0, 1) := dk_3 (dk_at dksX12_next_4 4 rfl rfl)
theorem dX12_next_99 : decode cX12_next 99 = .ok (.putfield 54, 3) := dk_181 0 54 (dk_at dksX12_next_4 5 rfl rfl)
theorem dX12_next_102 : decode cX12_next 102 = .ok (.aload_n 0, 1) := dk_42 (dk_at dksX12_next_4 8 rfl rfl)
theorem dX12_next_103 : decode cX12_next 103 = .ok (.invokevirtual 51, 3) := dk_182 0 51 (dk_at dksX12_next_4 9 rfl rfl)
theorem dX12_next_106 : decode cX12_next 106 = .ok (.ifCond .eq 41, 3) := dk_153 0 41 (dk_at dksX12_next_4 12 rfl rfl)
theorem dX12_next_109 : decode cX12_next 109 = .ok (.aload_n 0, 1) := dk_42 (dk_at dksX12_next_4 15 rfl rfl)
theorem dX12_next_110 : decode cX12_next 110 = .ok (.sipush 10000, 3) := dk_17 39 16 (dk_at dksX12_next_4 16 rfl rfl)
theorem dX12_next_113 : decode cX12_next 113 = .ok (.bipush 10, 2) := dk_16 10 (dk_at dksX12_next_4 19 rfl rfl)
theorem dX12_next_115 : decode cX12_next 115 = .ok (.aload_n 0, 1) := dk_42 (dk_at dksX12_next_4 21 rfl rfl)
theorem dX12_next_116 : decode cX12_next 116 = .ok (.getfield 54, 3) := dk_180 0 54 (dk_at dksX12_next_5 0 rfl rfl)
theorem dX12_next_119 : decode cX12_next 119 = .ok (.imul, 1) := dk_104 (dk_at dksX12_next_5 3 rfl rfl)
theorem dX12_next_120 : decode cX12_next 120 = .ok (.aload_n 0, 1) := dk_42 (dk_at dksX12_next_5 4 rfl rfl)
theorem dX12_next_121 : decode cX12_next 121 = .ok (.invokevirtual 33, 3) := dk_182 0 33 (dk_at dksX12_next_5 5 rfl rfl)
theorem dX12_next_124 : decode cX12_next 124 = .ok (.iadd, 1) := dk_96 (dk_at dksX12_next_5 8 rfl rfl)
theorem dX12_next_125 : decode cX12_next 125 = .ok (.bipush 48, 2) := dk_16 48 (dk_at dksX12_next_5 9 rfl rfl)
theorem dX12_next_127 : decode cX12_next 127 = .ok (.isub, 1) := dk_100 (dk_at dksX12_next_5 11 rfl rfl)
theorem dX12_next_128 : decode cX12_next 128 = .ok (.invokestatic 57, 3) := dk_184 0 57 (dk_at dksX12_next_5 12 rfl rfl)
theorem dX12_next_131 : decode cX12_next 131 = .ok (.putfield 54, 3) := dk_181 0 54 (dk_at dksX12_next_5 15 rfl rfl)
theorem dX12_next_134 : decode cX12_next 134 = .ok (.aload_n 0, 1) := dk_42 (dk_at dksX12_next_5 18 rfl rfl)
theorem dX12_next_135 : decode cX12_next 135 = .ok (.dup, 1) := dk_89 (dk_at dksX12_next_5 19 rfl rfl)
theorem dX12_next_136 : decode cX12_next 136 = .ok (.getfield 26, 3) := dk_180 0 26 (dk_at dksX12_next_5 20 rfl rfl)
theorem dX12_next_139 : decode cX12_next 139 = .ok (.iconst 1, 1) := dk_4 (dk_at dksX12_next_5 23 rfl rfl)
theorem dX12_next_140 : decode cX12_next 140 = .ok (.iadd, 1) := dk_96 (dk_at dksX12_next_6 0 rfl rfl)
theorem dX12_next_141 : decode cX12_next 141 = .ok (.putfield 26, 3) := dk_181 0 26 (dk_at dksX12_next_6 1 rfl rfl)
theorem dX12_next_144 : decode cX12_next 144 = .ok (.goto (-42), 3) := dk_167 255 214 (dk_at dksX12_next_6 4 rfl rfl)
theorem dX12_next_147 : decode cX12_next 147 = .ok (.aload_n 0, 1) := dk_42 (dk_at dksX12_next_6 7 rfl rfl)
theorem dX12_next_148 : decode cX12_next 148 = .ok (.iconst 2, 1) := dk_5 (dk_at dksX12_next_6 8 rfl rfl)
theorem dX12_next_149 : decode cX12_next 149 = .ok (.putfield 44, 3) := dk_181 0 44 (dk_at dksX12_next_6 9 rfl rfl)
theorem dX12_next_152 : decode cX12_next 152 = .ok (.goto 31, 3) := dk_167 0 31 (dk_at dksX12_next_6 12 rfl rfl)
theorem dX12_next_155 : decode cX12_next 155 = .ok (.aload_n 0, 1) := dk_42 (dk_at dksX12_next_6 15 rfl rfl)
theorem dX12_next_156 : decode cX12_next 156 = .ok (.aload_n 0, 1) := dk_42 (dk_at dksX12_next_6 16 rfl rfl)
theorem dX12_next_157 : decode cX12_next 157 = .ok (.invokevirtual 33, 3) := dk_182 0 33 (dk_at dksX12_next_6 17 rfl rfl)
theorem dX12_next_160 : decode cX12_next 160 = .ok (.bipush 59, 2) := dk_16 59 (dk_at dksX12_next_6 20 rfl rfl)
theorem dX12_next_162 : decode cX12_next 162 = .ok (.if_icmp .ne 7, 3) := dk_160 0 7 (dk_at dksX12_next_7 0 rfl rfl)
theorem dX12_next_165 : decode cX12_next 165 = .ok (.iconst 3, 1) := dk_6 (dk_at dksX12_next_7 3 rfl rfl)
theorem dX12_next_166 : decode cX12_next 166 = .ok (.goto 4, 3) := dk_167 0 4 (dk_at dksX12_next_7 4 rfl rfl)
theorem dX12_next_169 : decode cX12_next 169 = .ok (.iconst 4, 1) := dk_7 (dk_at dksX12_next_7 7 rfl rfl)
theorem dX12_next_170 : decode cX12_next 170 = .ok (.putfield 44, 3) := dk_181 0 44 (dk_at dksX12_next_7 8 rfl rfl)
theorem dX12_next_173 : decode cX12_next 173 = .ok (.aload_n 0, 1) := dk_42 (dk_at dksX12_next_7 11 rfl rfl)
theorem dX12_next_174 : decode cX12_next 174 = .ok (.dup, 1) := dk_89 (dk_at dksX12_next_7 12 rfl rfl)
theorem dX12_next_175 : decode cX12_next 175 = .ok (.getfield 26, 3) := dk_180 0 26 (dk_at dksX12_next_7 13 rfl rfl)
theorem dX12_next_178 : decode cX12_next 178 = .ok (.iconst 1, 1) := dk_4 (dk_at dksX12_next_7 16 rfl rfl)
theorem dX12_next_179 : decode cX12_next 179 = .ok (.iadd, 1) := dk_96 (dk_at dksX12_next_7 17 rfl rfl)
theorem dX12_next_180 : decode cX12_next 180 = .ok (.putfield 26, 3) := dk_181 0 26 (dk_at dksX12_next_7 18 rfl rfl)
theorem dX12_next_183 : decode cX12_next 183 = .ok (.aload_n 0, 1) := dk_42 (dk_at dksX12_next_7 21 rfl rfl)
theorem dX12_next_184 : decode cX12_next 184 = .ok (.aload_n 0, 1) := dk_42 (dk_at dksX12_next_7 22 rfl rfl)
theorem dX12_next_185 : decode cX12_next 185 = .ok (.getfield 26, 3) := dk_180 0 26 (dk_at dksX12_next_8 0 rfl rfl)
theorem dX12_next_188 : decode cX12_next 188 = .ok (.putfield 63, 3) := dk_181 0 63 (dk_at dksX12_next_8 3 rfl rfl)
theorem dX12_next_191 : decode cX12_next 191 = .ok (.return_, 1) := dk_177 (dk_at dksX12_next_8 6 rfl rfl)
abbrev cX12_here : ByteArray := prog_9_method_2_code
def yX12_here : MethodName := ⟨RX12, "here", "()I"⟩
def dkwX12_here_1 : List UInt8 := [17, 0, 255, 126, 167, 0, 4, 2, 172]
abbrev dktX12_here_1 : List UInt8 := dkwX12_here_1 ++ []
def dkwX12_here_0 : List UInt8 := [42, 180, 0, 26, 42, 180, 0, 22, 162, 0, 22, 42, 180, 0, 3, 180, 0, 29, 42, 180, 0, 26, 51]
abbrev dktX12_here_0 : List UInt8 := dkwX12_here_0 ++ dktX12_here_1
theorem dksX12_here_0 : cX12_here.data.toList.drop 0 = dktX12_here_0 := by decide +kernel
theorem dksX12_here_1 : cX12_here.data.toList.drop 23 = dktX12_here_1 := dk_seg dksX12_here_0 23 rfl rfl
theorem dX12_here_0 : decode cX12_here 0 = .ok (.aload_n 0, 1) := dk_42 (dk_at dksX12_here_0 0 rfl rfl)
theorem dX12_here_1 : decode cX12_here 1 = .ok (.getfield 26, 3) := dk_180 0 26 (dk_at dksX12_here_0 1 rfl rfl)
theorem dX12_here_4 : decode cX12_here 4 = .ok (.aload_n 0, 1) := dk_42 (dk_at dksX12_here_0 4 rfl rfl)
theorem dX12_here_5 : decode cX12_here 5 = .ok (.getfield 22, 3) := dk_180 0 22 (dk_at dksX12_here_0 5 rfl rfl)
theorem dX12_here_8 : decode cX12_here 8 = .ok (.if_icmp .ge 22, 3) := dk_162 0 22 (dk_at dksX12_here_0 8 rfl rfl)
theorem dX12_here_11 : decode cX12_here 11 = .ok (.aload_n 0, 1) := dk_42 (dk_at dksX12_here_0 11 rfl rfl)
theorem dX12_here_12 : decode cX12_here 12 = .ok (.getfield 3, 3) := dk_180 0 3 (dk_at dksX12_here_0 12 rfl rfl)
theorem dX12_here_15 : decode cX12_here 15 = .ok (.getfield 29, 3) := dk_180 0 29 (dk_at dksX12_here_0 15 rfl rfl)
theorem dX12_here_18 : decode cX12_here 18 = .ok (.aload_n 0, 1) := dk_42 (dk_at dksX12_here_0 18 rfl rfl)
theorem dX12_here_19 : decode cX12_here 19 = .ok (.getfield 26, 3) := dk_180 0 26 (dk_at dksX12_here_0 19 rfl rfl)
theorem dX12_here_22 : decode cX12_here 22 = .ok (.baload, 1) := dk_51 (dk_at dksX12_here_0 22 rfl rfl)
theorem dX12_here_23 : decode cX12_here 23 = .ok (.sipush 255, 3) := dk_17 0 255 (dk_at dksX12_here_1 0 rfl rfl)
theorem dX12_here_26 : decode cX12_here 26 = .ok (.iand, 1) := dk_126 (dk_at dksX12_here_1 3 rfl rfl)
theorem dX12_here_27 : decode cX12_here 27 = .ok (.goto 4, 3) := dk_167 0 4 (dk_at dksX12_here_1 4 rfl rfl)
theorem dX12_here_30 : decode cX12_here 30 = .ok (.iconst (-1), 1) := dk_2 (dk_at dksX12_here_1 7 rfl rfl)
theorem dX12_here_31 : decode cX12_here 31 = .ok (.ireturn, 1) := dk_172 (dk_at dksX12_here_1 8 rfl rfl)
abbrev cX12_isLetter : ByteArray := prog_9_method_3_code
def yX12_isLetter : MethodName := ⟨RX12, "isLetter", "()Z"⟩
def dkwX12_isLetter_0 : List UInt8 := [42, 182, 0, 33, 16, 97, 16, 122, 184, 0, 37, 172]
abbrev dktX12_isLetter_0 : List UInt8 := dkwX12_isLetter_0 ++ []
theorem dksX12_isLetter_0 : cX12_isLetter.data.toList.drop 0 = dktX12_isLetter_0 := by decide +kernel
theorem dX12_isLetter_0 : decode cX12_isLetter 0 = .ok (.aload_n 0, 1) := dk_42 (dk_at dksX12_isLetter_0 0 rfl rfl)
theorem dX12_isLetter_1 : decode cX12_isLetter 1 = .ok (.invokevirtual 33, 3) := dk_182 0 33 (dk_at dksX12_isLetter_0 1 rfl rfl)
theorem dX12_isLetter_4 : decode cX12_isLetter 4 = .ok (.bipush 97, 2) := dk_16 97 (dk_at dksX12_isLetter_0 4 rfl rfl)
theorem dX12_isLetter_6 : decode cX12_isLetter 6 = .ok (.bipush 122, 2) := dk_16 122 (dk_at dksX12_isLetter_0 6 rfl rfl)
theorem dX12_isLetter_8 : decode cX12_isLetter 8 = .ok (.invokestatic 37, 3) := dk_184 0 37 (dk_at dksX12_isLetter_0 8 rfl rfl)
theorem dX12_isLetter_11 : decode cX12_isLetter 11 = .ok (.ireturn, 1) := dk_172 (dk_at dksX12_isLetter_0 11 rfl rfl)
abbrev cX12_isDigit : ByteArray := prog_9_method_4_code
def yX12_isDigit : MethodName := ⟨RX12, "isDigit", "()Z"⟩
def dkwX12_isDigit_0 : List UInt8 := [42, 182, 0, 33, 16, 48, 16, 57, 184, 0, 37, 172]
abbrev dktX12_isDigit_0 : List UInt8 := dkwX12_isDigit_0 ++ []
theorem dksX12_isDigit_0 : cX12_isDigit.data.toList.drop 0 = dktX12_isDigit_0 := by decide +kernel
theorem dX12_isDigit_0 : decode cX12_isDigit 0 = .ok (.aload_n 0, 1) := dk_42 (dk_at dksX12_isDigit_0 0 rfl rfl)
theorem dX12_isDigit_1 : decode cX12_isDigit 1 = .ok (.invokevirtual 33, 3) := dk_182 0 33 (dk_at dksX12_isDigit_0 1 rfl rfl)
theorem dX12_isDigit_4 : decode cX12_isDigit 4 = .ok (.bipush 48, 2) := dk_16 48 (dk_at dksX12_isDigit_0 4 rfl rfl)
theorem dX12_isDigit_6 : decode cX12_isDigit 6 = .ok (.bipush 57, 2) := dk_16 57 (dk_at dksX12_isDigit_0 6 rfl rfl)
theorem dX12_isDigit_8 : decode cX12_isDigit 8 = .ok (.invokestatic 37, 3) := dk_184 0 37 (dk_at dksX12_isDigit_0 8 rfl rfl)
theorem dX12_isDigit_11 : decode cX12_isDigit 11 = .ok (.ireturn, 1) := dk_172 (dk_at dksX12_isDigit_0 11 rfl rfl)
abbrev cX12_line : ByteArray := prog_9_method_23_code
def yX12_line : MethodName := ⟨RX12, "line", "()V"⟩
def dkwX12_line_7 : List UInt8 := [3, 4, 182, 0, 87, 42, 182, 0, 79, 177]
abbrev dktX12_line_7 : List UInt8 := dkwX12_line_7 ++ []
def dkwX12_line_6 : List UInt8 := [42, 182, 0, 241, 167, 0, 7, 42, 182, 0, 243, 42, 42, 180, 0, 44, 6, 160, 0, 7, 4, 167, 0, 4]
abbrev dktX12_line_6 : List UInt8 := dkwX12_line_6 ++ dktX12_line_7
def dkwX12_line_5 : List UInt8 := [18, 236, 182, 0, 170, 153, 0, 10, 42, 182, 0, 237, 167, 0, 23, 42, 18, 239, 182, 0, 170, 153, 0, 10]
abbrev dktX12_line_5 : List UInt8 := dkwX12_line_5 ++ dktX12_line_6
def dkwX12_line_4 : List UInt8 := [42, 182, 0, 230, 167, 0, 55, 42, 18, 232, 182, 0, 75, 153, 0, 10, 42, 182, 0, 234, 167, 0, 39, 42]
abbrev dktX12_line_4 : List UInt8 := dkwX12_line_4 ++ dktX12_line_5
def dkwX12_line_3 : List UInt8 := [180, 0, 18, 89, 180, 0, 198, 4, 96, 181, 0, 198, 167, 0, 71, 42, 18, 229, 182, 0, 75, 153, 0, 10]
abbrev dktX12_line_3 : List UInt8 := dkwX12_line_3 ++ dktX12_line_4
def dkwX12_line_2 : List UInt8 := [180, 0, 198, 16, 6, 162, 0, 7, 4, 167, 0, 4, 3, 5, 182, 0, 87, 42, 182, 0, 79, 42]
abbrev dktX12_line_2 : List UInt8 := dkwX12_line_2 ++ dktX12_line_3
def dkwX12_line_1 : List UInt8 := [153, 0, 10, 42, 182, 0, 225, 167, 0, 122, 42, 18, 227, 182, 0, 75, 153, 0, 45, 42, 42, 180, 0, 18]
abbrev dktX12_line_1 : List UInt8 := dkwX12_line_1 ++ dktX12_line_2
def dkwX12_line_0 : List UInt8 := [42, 18, 221, 182, 0, 75, 153, 0, 10, 42, 182, 0, 222, 167, 0, 138, 42, 18, 224, 182, 0, 170]
abbrev dktX12_line_0 : List UInt8 := dkwX12_line_0 ++ dktX12_line_1
theorem dksX12_line_0 : cX12_line.data.toList.drop 0 = dktX12_line_0 := by decide +kernel
theorem dksX12_line_1 : cX12_line.data.toList.drop 22 = dktX12_line_1 := dk_seg dksX12_line_0 22 rfl rfl
theorem dksX12_line_2 : cX12_line.data.toList.drop 46 = dktX12_line_2 := dk_seg dksX12_line_1 24 rfl rfl
theorem dksX12_line_3 : cX12_line.data.toList.drop 68 = dktX12_line_3 := dk_seg dksX12_line_2 22 rfl rfl
theorem dksX12_line_4 : cX12_line.data.toList.drop 92 = dktX12_line_4 := dk_seg dksX12_line_3 24 rfl rfl
theorem dksX12_line_5 : cX12_line.data.toList.drop 116 = dktX12_line_5 := dk_seg dksX12_line_4 24 rfl rfl
theorem dksX12_line_6 : cX12_line.data.toList.drop 140 = dktX12_line_6 := dk_seg dksX12_line_5 24 rfl rfl
theorem dksX12_line_7 : cX12_line.data.toList.drop 164 = dktX12_line_7 := dk_seg dksX12_line_6 24 rfl rfl
theorem dX12_line_0 : decode cX12_line 0 = .ok (.aload_n 0, 1) := dk_42 (dk_at dksX12_line_0 0 rfl rfl)
theorem dX12_line_1 : decode cX12_line 1 = .ok (.ldc 221, 2) := dk_18 221 (dk_at dksX12_line_0 1 rfl rfl)
theorem dX12_line_3 : decode cX12_line 3 = .ok (.invokevirtual 75, 3) := dk_182 0 75 (dk_at dksX12_line_0 3 rfl rfl)
theorem dX12_line_6 : decode cX12_line 6 = .ok (.ifCond .eq 10, 3) := dk_153 0 10 (dk_at dksX12_line_0 6 rfl rfl)
theorem dX12_line_9 : decode cX12_line 9 = .ok (.aload_n 0, 1) := dk_42 (dk_at dksX12_line_0 9 rfl rfl)
theorem dX12_line_10 : decode cX12_line 10 = .ok (.invokevirtual 222, 3) := dk_182 0 222 (dk_at dksX12_line_0 10 rfl rfl)
theorem dX12_line_13 : decode cX12_line 13 = .ok (.goto 138, 3) := dk_167 0 138 (dk_at dksX12_line_0 13 rfl rfl)
theorem dX12_line_16 : decode cX12_line 16 = .ok (.aload_n 0, 1) := dk_42 (dk_at dksX12_line_0 16 rfl rfl)
theorem dX12_line_17 : decode cX12_line 17 = .ok (.ldc 224, 2) := dk_18 224 (dk_at dksX12_line_0 17 rfl rfl)
theorem dX12_line_19 : decode cX12_line 19 = .ok (.invokevirtual 170, 3) := dk_182 0 170 (dk_at dksX12_line_0 19 rfl rfl)
theorem dX12_line_22 : decode cX12_line 22 = .ok (.ifCond .eq 10, 3) := dk_153 0 10 (dk_at dksX12_line_1 0 rfl rfl)
theorem dX12_line_25 : decode cX12_line 25 = .ok (.aload_n 0, 1) := dk_42 (dk_at dksX12_line_1 3 rfl rfl)
theorem dX12_line_26 : decode cX12_line 26 = .ok (.invokevirtual 225, 3) := dk_182 0 225 (dk_at dksX12_line_1 4 rfl rfl)
theorem dX12_line_29 : decode cX12_line 29 = .ok (.goto 122, 3) := dk_167 0 122 (dk_at dksX12_line_1 7 rfl rfl)
theorem dX12_line_32 : decode cX12_line 32 = .ok (.aload_n 0, 1) := dk_42 (dk_at dksX12_line_1 10 rfl rfl)
theorem dX12_line_33 : decode cX12_line 33 = .ok (.ldc 227, 2) := dk_18 227 (dk_at dksX12_line_1 11 rfl rfl)
theorem dX12_line_35 : decode cX12_line 35 = .ok (.invokevirtual 75, 3) := dk_182 0 75 (dk_at dksX12_line_1 13 rfl rfl)
theorem dX12_line_38 : decode cX12_line 38 = .ok (.ifCond .eq 45, 3) := dk_153 0 45 (dk_at dksX12_line_1 16 rfl rfl)
theorem dX12_line_41 : decode cX12_line 41 = .ok (.aload_n 0, 1) := dk_42 (dk_at dksX12_line_1 19 rfl rfl)
theorem dX12_line_42 : decode cX12_line 42 = .ok (.aload_n 0, 1) := dk_42 (dk_at dksX12_line_1 20 rfl rfl)
theorem dX12_line_43 : decode cX12_line 43 = .ok (.getfield 18, 3) := dk_180 0 18 (dk_at dksX12_line_1 21 rfl rfl)
theorem dX12_line_46 : decode cX12_line 46 = .ok (.getfield 198, 3) := dk_180 0 198 (dk_at dksX12_line_2 0 rfl rfl)
theorem dX12_line_49 : decode cX12_line 49 = .ok (.bipush 6, 2) := dk_16 6 (dk_at dksX12_line_2 3 rfl rfl)
theorem dX12_line_51 : decode cX12_line 51 = .ok (.if_icmp .ge 7, 3) := dk_162 0 7 (dk_at dksX12_line_2 5 rfl rfl)
theorem dX12_line_54 : decode cX12_line 54 = .ok (.iconst 1, 1) := dk_4 (dk_at dksX12_line_2 8 rfl rfl)
theorem dX12_line_55 : decode cX12_line 55 = .ok (.goto 4, 3) := dk_167 0 4 (dk_at dksX12_line_2 9 rfl rfl)
theorem dX12_line_58 : decode cX12_line 58 = .ok (.iconst 0, 1) := dk_3 (dk_at dksX12_line_2 12 rfl rfl)
theorem dX12_line_59 : decode cX12_line 59 = .ok (.iconst 2, 1) := dk_5 (dk_at dksX12_line_2 13 rfl rfl)
theorem dX12_line_60 : decode cX12_line 60 = .ok (.invokevirtual 87, 3) := dk_182 0 87 (dk_at dksX12_line_2 14 rfl rfl)
theorem dX12_line_63 : decode cX12_line 63 = .ok (.aload_n 0, 1) := dk_42 (dk_at dksX12_line_2 17 rfl rfl)
theorem dX12_line_64 : decode cX12_line 64 = .ok (.invokevirtual 79, 3) := dk_182 0 79 (dk_at dksX12_line_2 18 rfl rfl)
theorem dX12_line_67 : decode cX12_line 67 = .ok (.aload_n 0, 1) := dk_42 (dk_at dksX12_line_2 21 rfl rfl)
theorem dX12_line_68 : decode cX12_line 68 = .ok (.getfield 18, 3) := dk_180 0 18 (dk_at dksX12_line_3 0 rfl rfl)
theorem dX12_line_71 : decode cX12_line 71 = .ok (.dup, 1) := dk_89 (dk_at dksX12_line_3 3 rfl rfl)
theorem dX12_line_72 : decode cX12_line 72 = .ok (.getfield 198, 3) := dk_180 0 198 (dk_at dksX12_line_3 4 rfl rfl)
theorem dX12_line_75 : decode cX12_line 75 = .ok (.iconst 1, 1) := dk_4 (dk_at dksX12_line_3 7 rfl rfl)
theorem dX12_line_76 : decode cX12_line 76 = .ok (.iadd, 1) := dk_96 (dk_at dksX12_line_3 8 rfl rfl)
theorem dX12_line_77 : decode cX12_line 77 = .ok (.putfield 198, 3) := dk_181 0 198 (dk_at dksX12_line_3 9 rfl rfl)
theorem dX12_line_80 : decode cX12_line 80 = .ok (.goto 71, 3) := dk_167 0 71 (dk_at dksX12_line_3 12 rfl rfl)
theorem dX12_line_83 : decode cX12_line 83 = .ok (.aload_n 0, 1) := dk_42 (dk_at dksX12_line_3 15 rfl rfl)
theorem dX12_line_84 : decode cX12_line 84 = .ok (.ldc 229, 2) := dk_18 229 (dk_at dksX12_line_3 16 rfl rfl)
theorem dX12_line_86 : decode cX12_line 86 = .ok (.invokevirtual 75, 3) := dk_182 0 75 (dk_at dksX12_line_3 18 rfl rfl)
theorem dX12_line_89 : decode cX12_line 89 = .ok (.ifCond .eq 10, 3) := dk_153 0 10 (dk_at dksX12_line_3 21 rfl rfl)
theorem dX12_line_92 : decode cX12_line 92 = .ok (.aload_n 0, 1) := dk_42 (dk_at dksX12_line_4 0 rfl rfl)
theorem dX12_line_93 : decode cX12_line 93 = .ok (.invokevirtual 230, 3) := dk_182 0 230 (dk_at dksX12_line_4 1 rfl rfl)
theorem dX12_line_96 : decode cX12_line 96 = .ok (.goto 55, 3) := dk_167 0 55 (dk_at dksX12_line_4 4 rfl rfl)
theorem dX12_line_99 : decode cX12_line 99 = .ok (.aload_n 0, 1) := dk_42 (dk_at dksX12_line_4 7 rfl rfl)
theorem dX12_line_100 : decode cX12_line 100 = .ok (.ldc 232, 2) := dk_18 232 (dk_at dksX12_line_4 8 rfl rfl)
theorem dX12_line_102 : decode cX12_line 102 = .ok (.invokevirtual 75, 3) := dk_182 0 75 (dk_at dksX12_line_4 10 rfl rfl)
theorem dX12_line_105 : decode cX12_line 105 = .ok (.ifCond .eq 10, 3) := dk_153 0 10 (dk_at dksX12_line_4 13 rfl rfl)
theorem dX12_line_108 : decode cX12_line 108 = .ok (.aload_n 0, 1) := dk_42 (dk_at dksX12_line_4 16 rfl rfl)
theorem dX12_line_109 : decode cX12_line 109 = .ok (.invokevirtual 234, 3) := dk_182 0 234 (dk_at dksX12_line_4 17 rfl rfl)
theorem dX12_line_112 : decode cX12_line 112 = .ok (.goto 39, 3) := dk_167 0 39 (dk_at dksX12_line_4 20 rfl rfl)
theorem dX12_line_115 : decode cX12_line 115 = .ok (.aload_n 0, 1) := dk_42 (dk_at dksX12_line_4 23 rfl rfl)
theorem dX12_line_116 : decode cX12_line 116 = .ok (.ldc 236, 2) := dk_18 236 (dk_at dksX12_line_5 0 rfl rfl)
theorem dX12_line_118 : decode cX12_line 118 = .ok (.invokevirtual 170, 3) := dk_182 0 170 (dk_at dksX12_line_5 2 rfl rfl)
theorem dX12_line_121 : decode cX12_line 121 = .ok (.ifCond .eq 10, 3) := dk_153 0 10 (dk_at dksX12_line_5 5 rfl rfl)
theorem dX12_line_124 : decode cX12_line 124 = .ok (.aload_n 0, 1) := dk_42 (dk_at dksX12_line_5 8 rfl rfl)
theorem dX12_line_125 : decode cX12_line 125 = .ok (.invokevirtual 237, 3) := dk_182 0 237 (dk_at dksX12_line_5 9 rfl rfl)
theorem dX12_line_128 : decode cX12_line 128 = .ok (.goto 23, 3) := dk_167 0 23 (dk_at dksX12_line_5 12 rfl rfl)
theorem dX12_line_131 : decode cX12_line 131 = .ok (.aload_n 0, 1) := dk_42 (dk_at dksX12_line_5 15 rfl rfl)
theorem dX12_line_132 : decode cX12_line 132 = .ok (.ldc 239, 2) := dk_18 239 (dk_at dksX12_line_5 16 rfl rfl)
theorem dX12_line_134 : decode cX12_line 134 = .ok (.invokevirtual 170, 3) := dk_182 0 170 (dk_at dksX12_line_5 18 rfl rfl)
theorem dX12_line_137 : decode cX12_line 137 = .ok (.ifCond .eq 10, 3) := dk_153 0 10 (dk_at dksX12_line_5 21 rfl rfl)
theorem dX12_line_140 : decode cX12_line 140 = .ok (.aload_n 0, 1) := dk_42 (dk_at dksX12_line_6 0 rfl rfl)
theorem dX12_line_141 : decode cX12_line 141 = .ok (.invokevirtual 241, 3) := dk_182 0 241 (dk_at dksX12_line_6 1 rfl rfl)
theorem dX12_line_144 : decode cX12_line 144 = .ok (.goto 7, 3) := dk_167 0 7 (dk_at dksX12_line_6 4 rfl rfl)
theorem dX12_line_147 : decode cX12_line 147 = .ok (.aload_n 0, 1) := dk_42 (dk_at dksX12_line_6 7 rfl rfl)
theorem dX12_line_148 : decode cX12_line 148 = .ok (.invokevirtual 243, 3) := dk_182 0 243 (dk_at dksX12_line_6 8 rfl rfl)
theorem dX12_line_151 : decode cX12_line 151 = .ok (.aload_n 0, 1) := dk_42 (dk_at dksX12_line_6 11 rfl rfl)
theorem dX12_line_152 : decode cX12_line 152 = .ok (.aload_n 0, 1) := dk_42 (dk_at dksX12_line_6 12 rfl rfl)
theorem dX12_line_153 : decode cX12_line 153 = .ok (.getfield 44, 3) := dk_180 0 44 (dk_at dksX12_line_6 13 rfl rfl)
theorem dX12_line_156 : decode cX12_line 156 = .ok (.iconst 3, 1) := dk_6 (dk_at dksX12_line_6 16 rfl rfl)
theorem dX12_line_157 : decode cX12_line 157 = .ok (.if_icmp .ne 7, 3) := dk_160 0 7 (dk_at dksX12_line_6 17 rfl rfl)
theorem dX12_line_160 : decode cX12_line 160 = .ok (.iconst 1, 1) := dk_4 (dk_at dksX12_line_6 20 rfl rfl)
theorem dX12_line_161 : decode cX12_line 161 = .ok (.goto 4, 3) := dk_167 0 4 (dk_at dksX12_line_6 21 rfl rfl)
theorem dX12_line_164 : decode cX12_line 164 = .ok (.iconst 0, 1) := dk_3 (dk_at dksX12_line_7 0 rfl rfl)
theorem dX12_line_165 : decode cX12_line 165 = .ok (.iconst 1, 1) := dk_4 (dk_at dksX12_line_7 1 rfl rfl)
theorem dX12_line_166 : decode cX12_line 166 = .ok (.invokevirtual 87, 3) := dk_182 0 87 (dk_at dksX12_line_7 2 rfl rfl)
theorem dX12_line_169 : decode cX12_line 169 = .ok (.aload_n 0, 1) := dk_42 (dk_at dksX12_line_7 5 rfl rfl)
theorem dX12_line_170 : decode cX12_line 170 = .ok (.invokevirtual 79, 3) := dk_182 0 79 (dk_at dksX12_line_7 6 rfl rfl)
theorem dX12_line_173 : decode cX12_line 173 = .ok (.return_, 1) := dk_177 (dk_at dksX12_line_7 9 rfl rfl)
abbrev cX12_is : ByteArray := prog_9_method_6_code
def yX12_is : MethodName := ⟨RX12, "is", "(Ljava/lang/String;)Z"⟩
def dkwX12_is_2 : List UInt8 := [42, 180, 0, 41, 28, 96, 51, 159, 0, 5, 3, 172, 132, 2, 1, 167, 255, 221, 4, 172]
abbrev dktX12_is_2 : List UInt8 := dkwX12_is_2 ++ []
def dkwX12_is_1 : List UInt8 := [3, 172, 3, 61, 28, 43, 182, 0, 66, 162, 0, 33, 43, 28, 182, 0, 71, 42, 180, 0, 3, 180, 0, 29]
abbrev dktX12_is_1 : List UInt8 := dkwX12_is_1 ++ dktX12_is_2
def dkwX12_is_0 : List UInt8 := [42, 180, 0, 44, 4, 160, 0, 19, 43, 182, 0, 66, 42, 180, 0, 63, 42, 180, 0, 41, 100, 159, 0, 5]
abbrev dktX12_is_0 : List UInt8 := dkwX12_is_0 ++ dktX12_is_1
theorem dksX12_is_0 : cX12_is.data.toList.drop 0 = dktX12_is_0 := by decide +kernel
theorem dksX12_is_1 : cX12_is.data.toList.drop 24 = dktX12_is_1 := dk_seg dksX12_is_0 24 rfl rfl
theorem dksX12_is_2 : cX12_is.data.toList.drop 48 = dktX12_is_2 := dk_seg dksX12_is_1 24 rfl rfl
theorem dX12_is_0 : decode cX12_is 0 = .ok (.aload_n 0, 1) := dk_42 (dk_at dksX12_is_0 0 rfl rfl)
theorem dX12_is_1 : decode cX12_is 1 = .ok (.getfield 44, 3) := dk_180 0 44 (dk_at dksX12_is_0 1 rfl rfl)
theorem dX12_is_4 : decode cX12_is 4 = .ok (.iconst 1, 1) := dk_4 (dk_at dksX12_is_0 4 rfl rfl)
theorem dX12_is_5 : decode cX12_is 5 = .ok (.if_icmp .ne 19, 3) := dk_160 0 19 (dk_at dksX12_is_0 5 rfl rfl)
theorem dX12_is_8 : decode cX12_is 8 = .ok (.aload_n 1, 1) := dk_43 (dk_at dksX12_is_0 8 rfl rfl)
theorem dX12_is_9 : decode cX12_is 9 = .ok (.invokevirtual 66, 3) := dk_182 0 66 (dk_at dksX12_is_0 9 rfl rfl)
theorem dX12_is_12 : decode cX12_is 12 = .ok (.aload_n 0, 1) := dk_42 (dk_at dksX12_is_0 12 rfl rfl)
theorem dX12_is_13 : decode cX12_is 13 = .ok (.getfield 63, 3) := dk_180 0 63 (dk_at dksX12_is_0 13 rfl rfl)
theorem dX12_is_16 : decode cX12_is 16 = .ok (.aload_n 0, 1) := dk_42 (dk_at dksX12_is_0 16 rfl rfl)
theorem dX12_is_17 : decode cX12_is 17 = .ok (.getfield 41, 3) := dk_180 0 41 (dk_at dksX12_is_0 17 rfl rfl)
theorem dX12_is_20 : decode cX12_is 20 = .ok (.isub, 1) := dk_100 (dk_at dksX12_is_0 20 rfl rfl)
theorem dX12_is_21 : decode cX12_is 21 = .ok (.if_icmp .eq 5, 3) := dk_159 0 5 (dk_at dksX12_is_0 21 rfl rfl)
theorem dX12_is_24 : decode cX12_is 24 = .ok (.iconst 0, 1) := dk_3 (dk_at dksX12_is_1 0 rfl rfl)
theorem dX12_is_25 : decode cX12_is 25 = .ok (.ireturn, 1) := dk_172 (dk_at dksX12_is_1 1 rfl rfl)
theorem dX12_is_26 : decode cX12_is 26 = .ok (.iconst 0, 1) := dk_3 (dk_at dksX12_is_1 2 rfl rfl)
theorem dX12_is_27 : decode cX12_is 27 = .ok (.istore_n 2, 1) := dk_61 (dk_at dksX12_is_1 3 rfl rfl)
theorem dX12_is_28 : decode cX12_is 28 = .ok (.iload_n 2, 1) := dk_28 (dk_at dksX12_is_1 4 rfl rfl)
theorem dX12_is_29 : decode cX12_is 29 = .ok (.aload_n 1, 1) := dk_43 (dk_at dksX12_is_1 5 rfl rfl)
theorem dX12_is_30 : decode cX12_is 30 = .ok (.invokevirtual 66, 3) := dk_182 0 66 (dk_at dksX12_is_1 6 rfl rfl)
theorem dX12_is_33 : decode cX12_is 33 = .ok (.if_icmp .ge 33, 3) := dk_162 0 33 (dk_at dksX12_is_1 9 rfl rfl)
theorem dX12_is_36 : decode cX12_is 36 = .ok (.aload_n 1, 1) := dk_43 (dk_at dksX12_is_1 12 rfl rfl)
theorem dX12_is_37 : decode cX12_is 37 = .ok (.iload_n 2, 1) := dk_28 (dk_at dksX12_is_1 13 rfl rfl)
theorem dX12_is_38 : decode cX12_is 38 = .ok (.invokevirtual 71, 3) := dk_182 0 71 (dk_at dksX12_is_1 14 rfl rfl)
theorem dX12_is_41 : decode cX12_is 41 = .ok (.aload_n 0, 1) := dk_42 (dk_at dksX12_is_1 17 rfl rfl)
theorem dX12_is_42 : decode cX12_is 42 = .ok (.getfield 3, 3) := dk_180 0 3 (dk_at dksX12_is_1 18 rfl rfl)
theorem dX12_is_45 : decode cX12_is 45 = .ok (.getfield 29, 3) := dk_180 0 29 (dk_at dksX12_is_1 21 rfl rfl)
theorem dX12_is_48 : decode cX12_is 48 = .ok (.aload_n 0, 1) := dk_42 (dk_at dksX12_is_2 0 rfl rfl)
theorem dX12_is_49 : decode cX12_is 49 = .ok (.getfield 41, 3) := dk_180 0 41 (dk_at dksX12_is_2 1 rfl rfl)
theorem dX12_is_52 : decode cX12_is 52 = .ok (.iload_n 2, 1) := dk_28 (dk_at dksX12_is_2 4 rfl rfl)
theorem dX12_is_53 : decode cX12_is 53 = .ok (.iadd, 1) := dk_96 (dk_at dksX12_is_2 5 rfl rfl)
theorem dX12_is_54 : decode cX12_is 54 = .ok (.baload, 1) := dk_51 (dk_at dksX12_is_2 6 rfl rfl)
theorem dX12_is_55 : decode cX12_is 55 = .ok (.if_icmp .eq 5, 3) := dk_159 0 5 (dk_at dksX12_is_2 7 rfl rfl)
theorem dX12_is_58 : decode cX12_is 58 = .ok (.iconst 0, 1) := dk_3 (dk_at dksX12_is_2 10 rfl rfl)
theorem dX12_is_59 : decode cX12_is 59 = .ok (.ireturn, 1) := dk_172 (dk_at dksX12_is_2 11 rfl rfl)
theorem dX12_is_60 : decode cX12_is 60 = .ok (.iinc 2 1, 3) := dk_132 2 1 (dk_at dksX12_is_2 12 rfl rfl)
theorem dX12_is_63 : decode cX12_is 63 = .ok (.goto (-35), 3) := dk_167 255 221 (dk_at dksX12_is_2 15 rfl rfl)
theorem dX12_is_66 : decode cX12_is 66 = .ok (.iconst 1, 1) := dk_4 (dk_at dksX12_is_2 18 rfl rfl)
theorem dX12_is_67 : decode cX12_is 67 = .ok (.ireturn, 1) := dk_172 (dk_at dksX12_is_2 19 rfl rfl)
abbrev cX12_places : ByteArray := prog_9_method_16_code
def yX12_places : MethodName := ⟨RX12, "places", "()V"⟩
def dkwX12_places_2 : List UInt8 := [180, 0, 18, 42, 4, 16, 6, 182, 0, 103, 181, 0, 137, 177]
abbrev dktX12_places_2 : List UInt8 := dkwX12_places_2 ++ []
def dkwX12_places_1 : List UInt8 := [154, 0, 7, 4, 167, 0, 4, 3, 8, 182, 0, 87, 42, 4, 181, 0, 130, 42, 182, 0, 79, 42]
abbrev dktX12_places_1 : List UInt8 := dkwX12_places_1 ++ dktX12_places_2
def dkwX12_places_0 : List UInt8 := [42, 42, 180, 0, 130, 154, 0, 7, 4, 167, 0, 4, 3, 7, 182, 0, 87, 42, 42, 180, 0, 134]
abbrev dktX12_places_0 : List UInt8 := dkwX12_places_0 ++ dktX12_places_1
theorem dksX12_places_0 : cX12_places.data.toList.drop 0 = dktX12_places_0 := by decide +kernel
theorem dksX12_places_1 : cX12_places.data.toList.drop 22 = dktX12_places_1 := dk_seg dksX12_places_0 22 rfl rfl
theorem dksX12_places_2 : cX12_places.data.toList.drop 44 = dktX12_places_2 := dk_seg dksX12_places_1 22 rfl rfl
theorem dX12_places_0 : decode cX12_places 0 = .ok (.aload_n 0, 1) := dk_42 (dk_at dksX12_places_0 0 rfl rfl)
theorem dX12_places_1 : decode cX12_places 1 = .ok (.aload_n 0, 1) := dk_42 (dk_at dksX12_places_0 1 rfl rfl)
theorem dX12_places_2 : decode cX12_places 2 = .ok (.getfield 130, 3) := dk_180 0 130 (dk_at dksX12_places_0 2 rfl rfl)
theorem dX12_places_5 : decode cX12_places 5 = .ok (.ifCond .ne 7, 3) := dk_154 0 7 (dk_at dksX12_places_0 5 rfl rfl)
theorem dX12_places_8 : decode cX12_places 8 = .ok (.iconst 1, 1) := dk_4 (dk_at dksX12_places_0 8 rfl rfl)
theorem dX12_places_9 : decode cX12_places 9 = .ok (.goto 4, 3) := dk_167 0 4 (dk_at dksX12_places_0 9 rfl rfl)
theorem dX12_places_12 : decode cX12_places 12 = .ok (.iconst 0, 1) := dk_3 (dk_at dksX12_places_0 12 rfl rfl)
theorem dX12_places_13 : decode cX12_places 13 = .ok (.iconst 4, 1) := dk_7 (dk_at dksX12_places_0 13 rfl rfl)
theorem dX12_places_14 : decode cX12_places 14 = .ok (.invokevirtual 87, 3) := dk_182 0 87 (dk_at dksX12_places_0 14 rfl rfl)
theorem dX12_places_17 : decode cX12_places 17 = .ok (.aload_n 0, 1) := dk_42 (dk_at dksX12_places_0 17 rfl rfl)
theorem dX12_places_18 : decode cX12_places 18 = .ok (.aload_n 0, 1) := dk_42 (dk_at dksX12_places_0 18 rfl rfl)
theorem dX12_places_19 : decode cX12_places 19 = .ok (.getfield 134, 3) := dk_180 0 134 (dk_at dksX12_places_0 19 rfl rfl)
theorem dX12_places_22 : decode cX12_places 22 = .ok (.ifCond .ne 7, 3) := dk_154 0 7 (dk_at dksX12_places_1 0 rfl rfl)
theorem dX12_places_25 : decode cX12_places 25 = .ok (.iconst 1, 1) := dk_4 (dk_at dksX12_places_1 3 rfl rfl)
theorem dX12_places_26 : decode cX12_places 26 = .ok (.goto 4, 3) := dk_167 0 4 (dk_at dksX12_places_1 4 rfl rfl)
theorem dX12_places_29 : decode cX12_places 29 = .ok (.iconst 0, 1) := dk_3 (dk_at dksX12_places_1 7 rfl rfl)
theorem dX12_places_30 : decode cX12_places 30 = .ok (.iconst 5, 1) := dk_8 (dk_at dksX12_places_1 8 rfl rfl)
theorem dX12_places_31 : decode cX12_places 31 = .ok (.invokevirtual 87, 3) := dk_182 0 87 (dk_at dksX12_places_1 9 rfl rfl)
theorem dX12_places_34 : decode cX12_places 34 = .ok (.aload_n 0, 1) := dk_42 (dk_at dksX12_places_1 12 rfl rfl)
theorem dX12_places_35 : decode cX12_places 35 = .ok (.iconst 1, 1) := dk_4 (dk_at dksX12_places_1 13 rfl rfl)
theorem dX12_places_36 : decode cX12_places 36 = .ok (.putfield 130, 3) := dk_181 0 130 (dk_at dksX12_places_1 14 rfl rfl)
theorem dX12_places_39 : decode cX12_places 39 = .ok (.aload_n 0, 1) := dk_42 (dk_at dksX12_places_1 17 rfl rfl)
theorem dX12_places_40 : decode cX12_places 40 = .ok (.invokevirtual 79, 3) := dk_182 0 79 (dk_at dksX12_places_1 18 rfl rfl)
theorem dX12_places_43 : decode cX12_places 43 = .ok (.aload_n 0, 1) := dk_42 (dk_at dksX12_places_1 21 rfl rfl)
theorem dX12_places_44 : decode cX12_places 44 = .ok (.getfield 18, 3) := dk_180 0 18 (dk_at dksX12_places_2 0 rfl rfl)
theorem dX12_places_47 : decode cX12_places 47 = .ok (.aload_n 0, 1) := dk_42 (dk_at dksX12_places_2 3 rfl rfl)
theorem dX12_places_48 : decode cX12_places 48 = .ok (.iconst 1, 1) := dk_4 (dk_at dksX12_places_2 4 rfl rfl)
theorem dX12_places_49 : decode cX12_places 49 = .ok (.bipush 6, 2) := dk_16 6 (dk_at dksX12_places_2 5 rfl rfl)
theorem dX12_places_51 : decode cX12_places 51 = .ok (.invokevirtual 103, 3) := dk_182 0 103 (dk_at dksX12_places_2 7 rfl rfl)
theorem dX12_places_54 : decode cX12_places 54 = .ok (.putfield 137, 3) := dk_181 0 137 (dk_at dksX12_places_2 10 rfl rfl)
theorem dX12_places_57 : decode cX12_places 57 = .ok (.return_, 1) := dk_177 (dk_at dksX12_places_2 13 rfl rfl)
abbrev cX12_want : ByteArray := prog_9_method_8_code
def yX12_want : MethodName := ⟨RX12, "want", "(ZI)V"⟩
def dkwX12_want_0 : List UInt8 := [27, 154, 0, 12, 187, 0, 82, 89, 28, 183, 0, 84, 191, 177]
abbrev dktX12_want_0 : List UInt8 := dkwX12_want_0 ++ []
theorem dksX12_want_0 : cX12_want.data.toList.drop 0 = dktX12_want_0 := by decide +kernel
theorem dX12_want_0 : decode cX12_want 0 = .ok (.iload_n 1, 1) := dk_27 (dk_at dksX12_want_0 0 rfl rfl)
theorem dX12_want_1 : decode cX12_want 1 = .ok (.ifCond .ne 12, 3) := dk_154 0 12 (dk_at dksX12_want_0 1 rfl rfl)
theorem dX12_want_4 : decode cX12_want 4 = .ok (.new 82, 3) := dk_187 0 82 (dk_at dksX12_want_0 4 rfl rfl)
theorem dX12_want_7 : decode cX12_want 7 = .ok (.dup, 1) := dk_89 (dk_at dksX12_want_0 7 rfl rfl)
theorem dX12_want_8 : decode cX12_want 8 = .ok (.iload_n 2, 1) := dk_28 (dk_at dksX12_want_0 8 rfl rfl)
theorem dX12_want_9 : decode cX12_want 9 = .ok (.invokespecial 84, 3) := dk_183 0 84 (dk_at dksX12_want_0 9 rfl rfl)
theorem dX12_want_12 : decode cX12_want 12 = .ok (.athrow, 1) := dk_191 (dk_at dksX12_want_0 12 rfl rfl)
theorem dX12_want_13 : decode cX12_want 13 = .ok (.return_, 1) := dk_177 (dk_at dksX12_want_0 13 rfl rfl)
abbrev cX12_number : ByteArray := prog_9_method_10_code
def yX12_number : MethodName := ⟨RX12, "number", "(II)I"⟩
def dkwX12_number_0 : List UInt8 := [42, 27, 28, 182, 0, 91, 62, 42, 182, 0, 79, 29, 172]
abbrev dktX12_number_0 : List UInt8 := dkwX12_number_0 ++ []
theorem dksX12_number_0 : cX12_number.data.toList.drop 0 = dktX12_number_0 := by decide +kernel
theorem dX12_number_0 : decode cX12_number 0 = .ok (.aload_n 0, 1) := dk_42 (dk_at dksX12_number_0 0 rfl rfl)
theorem dX12_number_1 : decode cX12_number 1 = .ok (.iload_n 1, 1) := dk_27 (dk_at dksX12_number_0 1 rfl rfl)
theorem dX12_number_2 : decode cX12_number 2 = .ok (.iload_n 2, 1) := dk_28 (dk_at dksX12_number_0 2 rfl rfl)
theorem dX12_number_3 : decode cX12_number 3 = .ok (.invokevirtual 91, 3) := dk_182 0 91 (dk_at dksX12_number_0 3 rfl rfl)
theorem dX12_number_6 : decode cX12_number 6 = .ok (.istore_n 3, 1) := dk_62 (dk_at dksX12_number_0 6 rfl rfl)
theorem dX12_number_7 : decode cX12_number 7 = .ok (.aload_n 0, 1) := dk_42 (dk_at dksX12_number_0 7 rfl rfl)
theorem dX12_number_8 : decode cX12_number 8 = .ok (.invokevirtual 79, 3) := dk_182 0 79 (dk_at dksX12_number_0 8 rfl rfl)
theorem dX12_number_11 : decode cX12_number 11 = .ok (.iload_n 3, 1) := dk_29 (dk_at dksX12_number_0 11 rfl rfl)
theorem dX12_number_12 : decode cX12_number 12 = .ok (.ireturn, 1) := dk_172 (dk_at dksX12_number_0 12 rfl rfl)
abbrev cX12_numberNow : ByteArray := prog_9_method_9_code
def yX12_numberNow : MethodName := ⟨RX12, "numberNow", "(II)I"⟩
def dkwX12_numberNow_2 : List UInt8 := [4, 167, 0, 4, 3, 5, 182, 0, 87, 42, 180, 0, 54, 172]
abbrev dktX12_numberNow_2 : List UInt8 := dkwX12_numberNow_2 ++ []
def dkwX12_numberNow_1 : List UInt8 := [180, 0, 41, 100, 6, 163, 0, 23, 42, 180, 0, 54, 27, 161, 0, 15, 42, 180, 0, 54, 28, 163, 0, 7]
abbrev dktX12_numberNow_1 : List UInt8 := dkwX12_numberNow_1 ++ dktX12_numberNow_2
def dkwX12_numberNow_0 : List UInt8 := [42, 42, 180, 0, 44, 5, 160, 0, 7, 4, 167, 0, 4, 3, 4, 182, 0, 87, 42, 42, 180, 0, 63, 42]
abbrev dktX12_numberNow_0 : List UInt8 := dkwX12_numberNow_0 ++ dktX12_numberNow_1
theorem dksX12_numberNow_0 : cX12_numberNow.data.toList.drop 0 = dktX12_numberNow_0 := by decide +kernel
theorem dksX12_numberNow_1 : cX12_numberNow.data.toList.drop 24 = dktX12_numberNow_1 := dk_seg dksX12_numberNow_0 24 rfl rfl
theorem dksX12_numberNow_2 : cX12_numberNow.data.toList.drop 48 = dktX12_numberNow_2 := dk_seg dksX12_numberNow_1 24 rfl rfl
theorem dX12_numberNow_0 : decode cX12_numberNow 0 = .ok (.aload_n 0, 1) := dk_42 (dk_at dksX12_numberNow_0 0 rfl rfl)
theorem dX12_numberNow_1 : decode cX12_numberNow 1 = .ok (.aload_n 0, 1) := dk_42 (dk_at dksX12_numberNow_0 1 rfl rfl)
theorem dX12_numberNow_2 : decode cX12_numberNow 2 = .ok (.getfield 44, 3) := dk_180 0 44 (dk_at dksX12_numberNow_0 2 rfl rfl)
theorem dX12_numberNow_5 : decode cX12_numberNow 5 = .ok (.iconst 2, 1) := dk_5 (dk_at dksX12_numberNow_0 5 rfl rfl)
theorem dX12_numberNow_6 : decode cX12_numberNow 6 = .ok (.if_icmp .ne 7, 3) := dk_160 0 7 (dk_at dksX12_numberNow_0 6 rfl rfl)
theorem dX12_numberNow_9 : decode cX12_numberNow 9 = .ok (.iconst 1, 1) := dk_4 (dk_at dksX12_numberNow_0 9 rfl rfl)
theorem dX12_numberNow_10 : decode cX12_numberNow 10 = .ok (.goto 4, 3) := dk_167 0 4 (dk_at dksX12_numberNow_0 10 rfl rfl)
theorem dX12_numberNow_13 : decode cX12_numberNow 13 = .ok (.iconst 0, 1) := dk_3 (dk_at dksX12_numberNow_0 13 rfl rfl)
theorem dX12_numberNow_14 : decode cX12_numberNow 14 = .ok (.iconst 1, 1) := dk_4 (dk_at dksX12_numberNow_0 14 rfl rfl)
theorem dX12_numberNow_15 : decode cX12_numberNow 15 = .ok (.invokevirtual 87, 3) := dk_182 0 87 (dk_at dksX12_numberNow_0 15 rfl rfl)
theorem dX12_numberNow_18 : decode cX12_numberNow 18 = .ok (.aload_n 0, 1) := dk_42 (dk_at dksX12_numberNow_0 18 rfl rfl)
theorem dX12_numberNow_19 : decode cX12_numberNow 19 = .ok (.aload_n 0, 1) := dk_42 (dk_at dksX12_numberNow_0 19 rfl rfl)
theorem dX12_numberNow_20 : decode cX12_numberNow 20 = .ok (.getfield 63, 3) := dk_180 0 63 (dk_at dksX12_numberNow_0 20 rfl rfl)
theorem dX12_numberNow_23 : decode cX12_numberNow 23 = .ok (.aload_n 0, 1) := dk_42 (dk_at dksX12_numberNow_0 23 rfl rfl)
theorem dX12_numberNow_24 : decode cX12_numberNow 24 = .ok (.getfield 41, 3) := dk_180 0 41 (dk_at dksX12_numberNow_1 0 rfl rfl)
theorem dX12_numberNow_27 : decode cX12_numberNow 27 = .ok (.isub, 1) := dk_100 (dk_at dksX12_numberNow_1 3 rfl rfl)
theorem dX12_numberNow_28 : decode cX12_numberNow 28 = .ok (.iconst 3, 1) := dk_6 (dk_at dksX12_numberNow_1 4 rfl rfl)
theorem dX12_numberNow_29 : decode cX12_numberNow 29 = .ok (.if_icmp .gt 23, 3) := dk_163 0 23 (dk_at dksX12_numberNow_1 5 rfl rfl)
theorem dX12_numberNow_32 : decode cX12_numberNow 32 = .ok (.aload_n 0, 1) := dk_42 (dk_at dksX12_numberNow_1 8 rfl rfl)
theorem dX12_numberNow_33 : decode cX12_numberNow 33 = .ok (.getfield 54, 3) := dk_180 0 54 (dk_at dksX12_numberNow_1 9 rfl rfl)
theorem dX12_numberNow_36 : decode cX12_numberNow 36 = .ok (.iload_n 1, 1) := dk_27 (dk_at dksX12_numberNow_1 12 rfl rfl)
theorem dX12_numberNow_37 : decode cX12_numberNow 37 = .ok (.if_icmp .lt 15, 3) := dk_161 0 15 (dk_at dksX12_numberNow_1 13 rfl rfl)
theorem dX12_numberNow_40 : decode cX12_numberNow 40 = .ok (.aload_n 0, 1) := dk_42 (dk_at dksX12_numberNow_1 16 rfl rfl)
theorem dX12_numberNow_41 : decode cX12_numberNow 41 = .ok (.getfield 54, 3) := dk_180 0 54 (dk_at dksX12_numberNow_1 17 rfl rfl)
theorem dX12_numberNow_44 : decode cX12_numberNow 44 = .ok (.iload_n 2, 1) := dk_28 (dk_at dksX12_numberNow_1 20 rfl rfl)
theorem dX12_numberNow_45 : decode cX12_numberNow 45 = .ok (.if_icmp .gt 7, 3) := dk_163 0 7 (dk_at dksX12_numberNow_1 21 rfl rfl)
theorem dX12_numberNow_48 : decode cX12_numberNow 48 = .ok (.iconst 1, 1) := dk_4 (dk_at dksX12_numberNow_2 0 rfl rfl)
theorem dX12_numberNow_49 : decode cX12_numberNow 49 = .ok (.goto 4, 3) := dk_167 0 4 (dk_at dksX12_numberNow_2 1 rfl rfl)
theorem dX12_numberNow_52 : decode cX12_numberNow 52 = .ok (.iconst 0, 1) := dk_3 (dk_at dksX12_numberNow_2 4 rfl rfl)
theorem dX12_numberNow_53 : decode cX12_numberNow 53 = .ok (.iconst 2, 1) := dk_5 (dk_at dksX12_numberNow_2 5 rfl rfl)
theorem dX12_numberNow_54 : decode cX12_numberNow 54 = .ok (.invokevirtual 87, 3) := dk_182 0 87 (dk_at dksX12_numberNow_2 6 rfl rfl)
theorem dX12_numberNow_57 : decode cX12_numberNow 57 = .ok (.aload_n 0, 1) := dk_42 (dk_at dksX12_numberNow_2 9 rfl rfl)
theorem dX12_numberNow_58 : decode cX12_numberNow 58 = .ok (.getfield 54, 3) := dk_180 0 54 (dk_at dksX12_numberNow_2 10 rfl rfl)
theorem dX12_numberNow_61 : decode cX12_numberNow 61 = .ok (.ireturn, 1) := dk_172 (dk_at dksX12_numberNow_2 13 rfl rfl)
abbrev cX12_passes : ByteArray := prog_9_method_7_code
def yX12_passes : MethodName := ⟨RX12, "passes", "(Ljava/lang/String;)Z"⟩
def dkwX12_passes_0 : List UInt8 := [42, 43, 182, 0, 75, 61, 28, 153, 0, 7, 42, 182, 0, 79, 28, 172]
abbrev dktX12_passes_0 : List UInt8 := dkwX12_passes_0 ++ []
theorem dksX12_passes_0 : cX12_passes.data.toList.drop 0 = dktX12_passes_0 := by decide +kernel
theorem dX12_passes_0 : decode cX12_passes 0 = .ok (.aload_n 0, 1) := dk_42 (dk_at dksX12_passes_0 0 rfl rfl)
theorem dX12_passes_1 : decode cX12_passes 1 = .ok (.aload_n 1, 1) := dk_43 (dk_at dksX12_passes_0 1 rfl rfl)
theorem dX12_passes_2 : decode cX12_passes 2 = .ok (.invokevirtual 75, 3) := dk_182 0 75 (dk_at dksX12_passes_0 2 rfl rfl)
theorem dX12_passes_5 : decode cX12_passes 5 = .ok (.istore_n 2, 1) := dk_61 (dk_at dksX12_passes_0 5 rfl rfl)
theorem dX12_passes_6 : decode cX12_passes 6 = .ok (.iload_n 2, 1) := dk_28 (dk_at dksX12_passes_0 6 rfl rfl)
theorem dX12_passes_7 : decode cX12_passes 7 = .ok (.ifCond .eq 7, 3) := dk_153 0 7 (dk_at dksX12_passes_0 7 rfl rfl)
theorem dX12_passes_10 : decode cX12_passes 10 = .ok (.aload_n 0, 1) := dk_42 (dk_at dksX12_passes_0 10 rfl rfl)
theorem dX12_passes_11 : decode cX12_passes 11 = .ok (.invokevirtual 79, 3) := dk_182 0 79 (dk_at dksX12_passes_0 11 rfl rfl)
theorem dX12_passes_14 : decode cX12_passes 14 = .ok (.iload_n 2, 1) := dk_28 (dk_at dksX12_passes_0 14 rfl rfl)
theorem dX12_passes_15 : decode cX12_passes 15 = .ok (.ireturn, 1) := dk_172 (dk_at dksX12_passes_0 15 rfl rfl)
abbrev cX12_near : ByteArray := prog_9_method_17_code
def yX12_near : MethodName := ⟨RX12, "near", "()V"⟩
def dkwX12_near_3 : List UInt8 := [180, 0, 143, 28, 92, 46, 4, 27, 120, 128, 79, 177]
abbrev dktX12_near_3 : List UInt8 := dkwX12_near_3 ++ []
def dkwX12_near_2 : List UInt8 := [182, 0, 79, 42, 180, 0, 18, 180, 0, 143, 27, 92, 46, 4, 28, 120, 128, 79, 42, 180, 0, 18]
abbrev dktX12_near_2 : List UInt8 := dkwX12_near_2 ++ dktX12_near_3
def dkwX12_near_1 : List UInt8 := [180, 0, 137, 182, 0, 94, 61, 42, 27, 28, 159, 0, 7, 4, 167, 0, 4, 3, 7, 182, 0, 87, 42]
abbrev dktX12_near_1 : List UInt8 := dkwX12_near_1 ++ dktX12_near_2
def dkwX12_near_0 : List UInt8 := [42, 4, 181, 0, 134, 42, 42, 180, 0, 18, 180, 0, 137, 182, 0, 140, 60, 42, 42, 180, 0, 18]
abbrev dktX12_near_0 : List UInt8 := dkwX12_near_0 ++ dktX12_near_1
theorem dksX12_near_0 : cX12_near.data.toList.drop 0 = dktX12_near_0 := by decide +kernel
theorem dksX12_near_1 : cX12_near.data.toList.drop 22 = dktX12_near_1 := dk_seg dksX12_near_0 22 rfl rfl
theorem dksX12_near_2 : cX12_near.data.toList.drop 45 = dktX12_near_2 := dk_seg dksX12_near_1 23 rfl rfl
theorem dksX12_near_3 : cX12_near.data.toList.drop 67 = dktX12_near_3 := dk_seg dksX12_near_2 22 rfl rfl
theorem dX12_near_0 : decode cX12_near 0 = .ok (.aload_n 0, 1) := dk_42 (dk_at dksX12_near_0 0 rfl rfl)
theorem dX12_near_1 : decode cX12_near 1 = .ok (.iconst 1, 1) := dk_4 (dk_at dksX12_near_0 1 rfl rfl)
theorem dX12_near_2 : decode cX12_near 2 = .ok (.putfield 134, 3) := dk_181 0 134 (dk_at dksX12_near_0 2 rfl rfl)
theorem dX12_near_5 : decode cX12_near 5 = .ok (.aload_n 0, 1) := dk_42 (dk_at dksX12_near_0 5 rfl rfl)
theorem dX12_near_6 : decode cX12_near 6 = .ok (.aload_n 0, 1) := dk_42 (dk_at dksX12_near_0 6 rfl rfl)
theorem dX12_near_7 : decode cX12_near 7 = .ok (.getfield 18, 3) := dk_180 0 18 (dk_at dksX12_near_0 7 rfl rfl)
theorem dX12_near_10 : decode cX12_near 10 = .ok (.getfield 137, 3) := dk_180 0 137 (dk_at dksX12_near_0 10 rfl rfl)
theorem dX12_near_13 : decode cX12_near 13 = .ok (.invokevirtual 140, 3) := dk_182 0 140 (dk_at dksX12_near_0 13 rfl rfl)
theorem dX12_near_16 : decode cX12_near 16 = .ok (.istore_n 1, 1) := dk_60 (dk_at dksX12_near_0 16 rfl rfl)
theorem dX12_near_17 : decode cX12_near 17 = .ok (.aload_n 0, 1) := dk_42 (dk_at dksX12_near_0 17 rfl rfl)
theorem dX12_near_18 : decode cX12_near 18 = .ok (.aload_n 0, 1) := dk_42 (dk_at dksX12_near_0 18 rfl rfl)
theorem dX12_near_19 : decode cX12_near 19 = .ok (.getfield 18, 3) := dk_180 0 18 (dk_at dksX12_near_0 19 rfl rfl)
theorem dX12_near_22 : decode cX12_near 22 = .ok (.getfield 137, 3) := dk_180 0 137 (dk_at dksX12_near_1 0 rfl rfl)
theorem dX12_near_25 : decode cX12_near 25 = .ok (.invokevirtual 94, 3) := dk_182 0 94 (dk_at dksX12_near_1 3 rfl rfl)
theorem dX12_near_28 : decode cX12_near 28 = .ok (.istore_n 2, 1) := dk_61 (dk_at dksX12_near_1 6 rfl rfl)
theorem dX12_near_29 : decode cX12_near 29 = .ok (.aload_n 0, 1) := dk_42 (dk_at dksX12_near_1 7 rfl rfl)
theorem dX12_near_30 : decode cX12_near 30 = .ok (.iload_n 1, 1) := dk_27 (dk_at dksX12_near_1 8 rfl rfl)
theorem dX12_near_31 : decode cX12_near 31 = .ok (.iload_n 2, 1) := dk_28 (dk_at dksX12_near_1 9 rfl rfl)
theorem dX12_near_32 : decode cX12_near 32 = .ok (.if_icmp .eq 7, 3) := dk_159 0 7 (dk_at dksX12_near_1 10 rfl rfl)
theorem dX12_near_35 : decode cX12_near 35 = .ok (.iconst 1, 1) := dk_4 (dk_at dksX12_near_1 13 rfl rfl)
theorem dX12_near_36 : decode cX12_near 36 = .ok (.goto 4, 3) := dk_167 0 4 (dk_at dksX12_near_1 14 rfl rfl)
theorem dX12_near_39 : decode cX12_near 39 = .ok (.iconst 0, 1) := dk_3 (dk_at dksX12_near_1 17 rfl rfl)
theorem dX12_near_40 : decode cX12_near 40 = .ok (.iconst 4, 1) := dk_7 (dk_at dksX12_near_1 18 rfl rfl)
theorem dX12_near_41 : decode cX12_near 41 = .ok (.invokevirtual 87, 3) := dk_182 0 87 (dk_at dksX12_near_1 19 rfl rfl)
theorem dX12_near_44 : decode cX12_near 44 = .ok (.aload_n 0, 1) := dk_42 (dk_at dksX12_near_1 22 rfl rfl)
theorem dX12_near_45 : decode cX12_near 45 = .ok (.invokevirtual 79, 3) := dk_182 0 79 (dk_at dksX12_near_2 0 rfl rfl)
theorem dX12_near_48 : decode cX12_near 48 = .ok (.aload_n 0, 1) := dk_42 (dk_at dksX12_near_2 3 rfl rfl)
theorem dX12_near_49 : decode cX12_near 49 = .ok (.getfield 18, 3) := dk_180 0 18 (dk_at dksX12_near_2 4 rfl rfl)
theorem dX12_near_52 : decode cX12_near 52 = .ok (.getfield 143, 3) := dk_180 0 143 (dk_at dksX12_near_2 7 rfl rfl)
theorem dX12_near_55 : decode cX12_near 55 = .ok (.iload_n 1, 1) := dk_27 (dk_at dksX12_near_2 10 rfl rfl)
theorem dX12_near_56 : decode cX12_near 56 = .ok (.dup2, 1) := dk_92 (dk_at dksX12_near_2 11 rfl rfl)
theorem dX12_near_57 : decode cX12_near 57 = .ok (.iaload, 1) := dk_46 (dk_at dksX12_near_2 12 rfl rfl)
theorem dX12_near_58 : decode cX12_near 58 = .ok (.iconst 1, 1) := dk_4 (dk_at dksX12_near_2 13 rfl rfl)
theorem dX12_near_59 : decode cX12_near 59 = .ok (.iload_n 2, 1) := dk_28 (dk_at dksX12_near_2 14 rfl rfl)
theorem dX12_near_60 : decode cX12_near 60 = .ok (.ishl, 1) := dk_120 (dk_at dksX12_near_2 15 rfl rfl)
theorem dX12_near_61 : decode cX12_near 61 = .ok (.ior, 1) := dk_128 (dk_at dksX12_near_2 16 rfl rfl)
theorem dX12_near_62 : decode cX12_near 62 = .ok (.iastore, 1) := dk_79 (dk_at dksX12_near_2 17 rfl rfl)
theorem dX12_near_63 : decode cX12_near 63 = .ok (.aload_n 0, 1) := dk_42 (dk_at dksX12_near_2 18 rfl rfl)
theorem dX12_near_64 : decode cX12_near 64 = .ok (.getfield 18, 3) := dk_180 0 18 (dk_at dksX12_near_2 19 rfl rfl)
theorem dX12_near_67 : decode cX12_near 67 = .ok (.getfield 143, 3) := dk_180 0 143 (dk_at dksX12_near_3 0 rfl rfl)
theorem dX12_near_70 : decode cX12_near 70 = .ok (.iload_n 2, 1) := dk_28 (dk_at dksX12_near_3 3 rfl rfl)
theorem dX12_near_71 : decode cX12_near 71 = .ok (.dup2, 1) := dk_92 (dk_at dksX12_near_3 4 rfl rfl)
theorem dX12_near_72 : decode cX12_near 72 = .ok (.iaload, 1) := dk_46 (dk_at dksX12_near_3 5 rfl rfl)
theorem dX12_near_73 : decode cX12_near 73 = .ok (.iconst 1, 1) := dk_4 (dk_at dksX12_near_3 6 rfl rfl)
theorem dX12_near_74 : decode cX12_near 74 = .ok (.iload_n 1, 1) := dk_27 (dk_at dksX12_near_3 7 rfl rfl)
theorem dX12_near_75 : decode cX12_near 75 = .ok (.ishl, 1) := dk_120 (dk_at dksX12_near_3 8 rfl rfl)
theorem dX12_near_76 : decode cX12_near 76 = .ok (.ior, 1) := dk_128 (dk_at dksX12_near_3 9 rfl rfl)
theorem dX12_near_77 : decode cX12_near 77 = .ok (.iastore, 1) := dk_79 (dk_at dksX12_near_3 10 rfl rfl)
theorem dX12_near_78 : decode cX12_near 78 = .ok (.return_, 1) := dk_177 (dk_at dksX12_near_3 11 rfl rfl)
abbrev cX12_one : ByteArray := prog_9_method_12_code
def yX12_one : MethodName := ⟨RX12, "one", "(I)I"⟩
def dkwX12_one_0 : List UInt8 := [42, 27, 182, 0, 94, 61, 42, 182, 0, 79, 28, 172]
abbrev dktX12_one_0 : List UInt8 := dkwX12_one_0 ++ []
theorem dksX12_one_0 : cX12_one.data.toList.drop 0 = dktX12_one_0 := by decide +kernel
theorem dX12_one_0 : decode cX12_one 0 = .ok (.aload_n 0, 1) := dk_42 (dk_at dksX12_one_0 0 rfl rfl)
theorem dX12_one_1 : decode cX12_one 1 = .ok (.iload_n 1, 1) := dk_27 (dk_at dksX12_one_0 1 rfl rfl)
theorem dX12_one_2 : decode cX12_one 2 = .ok (.invokevirtual 94, 3) := dk_182 0 94 (dk_at dksX12_one_0 2 rfl rfl)
theorem dX12_one_5 : decode cX12_one 5 = .ok (.istore_n 2, 1) := dk_61 (dk_at dksX12_one_0 5 rfl rfl)
theorem dX12_one_6 : decode cX12_one 6 = .ok (.aload_n 0, 1) := dk_42 (dk_at dksX12_one_0 6 rfl rfl)
theorem dX12_one_7 : decode cX12_one 7 = .ok (.invokevirtual 79, 3) := dk_182 0 79 (dk_at dksX12_one_0 7 rfl rfl)
theorem dX12_one_10 : decode cX12_one 10 = .ok (.iload_n 2, 1) := dk_28 (dk_at dksX12_one_0 10 rfl rfl)
theorem dX12_one_11 : decode cX12_one 11 = .ok (.ireturn, 1) := dk_172 (dk_at dksX12_one_0 11 rfl rfl)
abbrev cX12_oneNow : ByteArray := prog_9_method_11_code
def yX12_oneNow : MethodName := ⟨RX12, "oneNow", "(I)I"⟩
def dkwX12_oneNow_1 : List UInt8 := [182, 0, 87, 42, 180, 0, 54, 172]
abbrev dktX12_oneNow_1 : List UInt8 := dkwX12_oneNow_1 ++ []
def dkwX12_oneNow_0 : List UInt8 := [42, 3, 17, 3, 231, 182, 0, 91, 87, 42, 42, 180, 0, 54, 27, 162, 0, 7, 4, 167, 0, 4, 3, 6]
abbrev dktX12_oneNow_0 : List UInt8 := dkwX12_oneNow_0 ++ dktX12_oneNow_1
theorem dksX12_oneNow_0 : cX12_oneNow.data.toList.drop 0 = dktX12_oneNow_0 := by decide +kernel
theorem dksX12_oneNow_1 : cX12_oneNow.data.toList.drop 24 = dktX12_oneNow_1 := dk_seg dksX12_oneNow_0 24 rfl rfl
theorem dX12_oneNow_0 : decode cX12_oneNow 0 = .ok (.aload_n 0, 1) := dk_42 (dk_at dksX12_oneNow_0 0 rfl rfl)
theorem dX12_oneNow_1 : decode cX12_oneNow 1 = .ok (.iconst 0, 1) := dk_3 (dk_at dksX12_oneNow_0 1 rfl rfl)
theorem dX12_oneNow_2 : decode cX12_oneNow 2 = .ok (.sipush 999, 3) := dk_17 3 231 (dk_at dksX12_oneNow_0 2 rfl rfl)
theorem dX12_oneNow_5 : decode cX12_oneNow 5 = .ok (.invokevirtual 91, 3) := dk_182 0 91 (dk_at dksX12_oneNow_0 5 rfl rfl)
theorem dX12_oneNow_8 : decode cX12_oneNow 8 = .ok (.pop, 1) := dk_87 (dk_at dksX12_oneNow_0 8 rfl rfl)
theorem dX12_oneNow_9 : decode cX12_oneNow 9 = .ok (.aload_n 0, 1) := dk_42 (dk_at dksX12_oneNow_0 9 rfl rfl)
theorem dX12_oneNow_10 : decode cX12_oneNow 10 = .ok (.aload_n 0, 1) := dk_42 (dk_at dksX12_oneNow_0 10 rfl rfl)
theorem dX12_oneNow_11 : decode cX12_oneNow 11 = .ok (.getfield 54, 3) := dk_180 0 54 (dk_at dksX12_oneNow_0 11 rfl rfl)
theorem dX12_oneNow_14 : decode cX12_oneNow 14 = .ok (.iload_n 1, 1) := dk_27 (dk_at dksX12_oneNow_0 14 rfl rfl)
theorem dX12_oneNow_15 : decode cX12_oneNow 15 = .ok (.if_icmp .ge 7, 3) := dk_162 0 7 (dk_at dksX12_oneNow_0 15 rfl rfl)
theorem dX12_oneNow_18 : decode cX12_oneNow 18 = .ok (.iconst 1, 1) := dk_4 (dk_at dksX12_oneNow_0 18 rfl rfl)
theorem dX12_oneNow_19 : decode cX12_oneNow 19 = .ok (.goto 4, 3) := dk_167 0 4 (dk_at dksX12_oneNow_0 19 rfl rfl)
theorem dX12_oneNow_22 : decode cX12_oneNow 22 = .ok (.iconst 0, 1) := dk_3 (dk_at dksX12_oneNow_0 22 rfl rfl)
theorem dX12_oneNow_23 : decode cX12_oneNow 23 = .ok (.iconst 3, 1) := dk_6 (dk_at dksX12_oneNow_0 23 rfl rfl)
theorem dX12_oneNow_24 : decode cX12_oneNow 24 = .ok (.invokevirtual 87, 3) := dk_182 0 87 (dk_at dksX12_oneNow_1 0 rfl rfl)
theorem dX12_oneNow_27 : decode cX12_oneNow 27 = .ok (.aload_n 0, 1) := dk_42 (dk_at dksX12_oneNow_1 3 rfl rfl)
theorem dX12_oneNow_28 : decode cX12_oneNow 28 = .ok (.getfield 54, 3) := dk_180 0 54 (dk_at dksX12_oneNow_1 4 rfl rfl)
theorem dX12_oneNow_31 : decode cX12_oneNow 31 = .ok (.ireturn, 1) := dk_172 (dk_at dksX12_oneNow_1 7 rfl rfl)
abbrev cX12_thing : ByteArray := prog_9_method_18_code
def yX12_thing : MethodName := ⟨RX12, "thing", "()V"⟩
def dkwX12_thing_6 : List UInt8 := [180, 0, 18, 180, 0, 147, 43, 185, 0, 126, 2, 0, 87, 177]
abbrev dktX12_thing_6 : List UInt8 := dkwX12_thing_6 ++ []
def dkwX12_thing_5 : List UInt8 := [181, 0, 165, 43, 42, 18, 168, 182, 0, 170, 181, 0, 173, 43, 42, 18, 175, 182, 0, 170, 181, 0, 177, 42]
abbrev dktX12_thing_5 : List UInt8 := dkwX12_thing_5 ++ dktX12_thing_6
def dkwX12_thing_4 : List UInt8 := [42, 42, 180, 0, 18, 180, 0, 137, 182, 0, 140, 181, 0, 162, 43, 42, 3, 16, 23, 182, 0, 103]
abbrev dktX12_thing_4 : List UInt8 := dkwX12_thing_4 ++ dktX12_thing_5
def dkwX12_thing_3 : List UInt8 := [180, 0, 156, 182, 0, 159, 2, 160, 0, 7, 4, 167, 0, 4, 3, 7, 182, 0, 87, 42, 182, 0, 79, 43]
abbrev dktX12_thing_3 : List UInt8 := dkwX12_thing_3 ++ dktX12_thing_4
def dkwX12_thing_2 : List UInt8 := [180, 0, 18, 180, 0, 153, 185, 0, 117, 1, 0, 182, 0, 94, 181, 0, 156, 42, 42, 180, 0, 18, 43]
abbrev dktX12_thing_2 : List UInt8 := dkwX12_thing_2 ++ dktX12_thing_3
def dkwX12_thing_1 : List UInt8 := [182, 0, 87, 42, 4, 181, 0, 134, 42, 182, 0, 79, 187, 0, 150, 89, 183, 0, 152, 76, 43, 42, 42]
abbrev dktX12_thing_1 : List UInt8 := dkwX12_thing_1 ++ dktX12_thing_2
def dkwX12_thing_0 : List UInt8 := [42, 42, 180, 0, 18, 180, 0, 147, 185, 0, 117, 1, 0, 16, 8, 162, 0, 7, 4, 167, 0, 4, 3, 5]
abbrev dktX12_thing_0 : List UInt8 := dkwX12_thing_0 ++ dktX12_thing_1
theorem dksX12_thing_0 : cX12_thing.data.toList.drop 0 = dktX12_thing_0 := by decide +kernel
theorem dksX12_thing_1 : cX12_thing.data.toList.drop 24 = dktX12_thing_1 := dk_seg dksX12_thing_0 24 rfl rfl
theorem dksX12_thing_2 : cX12_thing.data.toList.drop 47 = dktX12_thing_2 := dk_seg dksX12_thing_1 23 rfl rfl
theorem dksX12_thing_3 : cX12_thing.data.toList.drop 70 = dktX12_thing_3 := dk_seg dksX12_thing_2 23 rfl rfl
theorem dksX12_thing_4 : cX12_thing.data.toList.drop 94 = dktX12_thing_4 := dk_seg dksX12_thing_3 24 rfl rfl
theorem dksX12_thing_5 : cX12_thing.data.toList.drop 116 = dktX12_thing_5 := dk_seg dksX12_thing_4 22 rfl rfl
theorem dksX12_thing_6 : cX12_thing.data.toList.drop 140 = dktX12_thing_6 := dk_seg dksX12_thing_5 24 rfl rfl
theorem dX12_thing_0 : decode cX12_thing 0 = .ok (.aload_n 0, 1) := dk_42 (dk_at dksX12_thing_0 0 rfl rfl)
theorem dX12_thing_1 : decode cX12_thing 1 = .ok (.aload_n 0, 1) := dk_42 (dk_at dksX12_thing_0 1 rfl rfl)
theorem dX12_thing_2 : decode cX12_thing 2 = .ok (.getfield 18, 3) := dk_180 0 18 (dk_at dksX12_thing_0 2 rfl rfl)
theorem dX12_thing_5 : decode cX12_thing 5 = .ok (.getfield 147, 3) := dk_180 0 147 (dk_at dksX12_thing_0 5 rfl rfl)
theorem dX12_thing_8 : decode cX12_thing 8 = .ok (.invokeinterface 117 1, 5) := by decide +kernel
theorem dX12_thing_13 : decode cX12_thing 13 = .ok (.bipush 8, 2) := dk_16 8 (dk_at dksX12_thing_0 13 rfl rfl)
theorem dX12_thing_15 : decode cX12_thing 15 = .ok (.if_icmp .ge 7, 3) := dk_162 0 7 (dk_at dksX12_thing_0 15 rfl rfl)
theorem dX12_thing_18 : decode cX12_thing 18 = .ok (.iconst 1, 1) := dk_4 (dk_at dksX12_thing_0 18 rfl rfl)
theorem dX12_thing_19 : decode cX12_thing 19 = .ok (.goto 4, 3) := dk_167 0 4 (dk_at dksX12_thing_0 19 rfl rfl)
theorem dX12_thing_22 : decode cX12_thing 22 = .ok (.iconst 0, 1) := dk_3 (dk_at dksX12_thing_0 22 rfl rfl)
theorem dX12_thing_23 : decode cX12_thing 23 = .ok (.iconst 2, 1) := dk_5 (dk_at dksX12_thing_0 23 rfl rfl)
theorem dX12_thing_24 : decode cX12_thing 24 = .ok (.invokevirtual 87, 3) := dk_182 0 87 (dk_at dksX12_thing_1 0 rfl rfl)
theorem dX12_thing_27 : decode cX12_thing 27 = .ok (.aload_n 0, 1) := dk_42 (dk_at dksX12_thing_1 3 rfl rfl)
theorem dX12_thing_28 : decode cX12_thing 28 = .ok (.iconst 1, 1) := dk_4 (dk_at dksX12_thing_1 4 rfl rfl)
theorem dX12_thing_29 : decode cX12_thing 29 = .ok (.putfield 134, 3) := dk_181 0 134 (dk_at dksX12_thing_1 5 rfl rfl)
theorem dX12_thing_32 : decode cX12_thing 32 = .ok (.aload_n 0, 1) := dk_42 (dk_at dksX12_thing_1 8 rfl rfl)
theorem dX12_thing_33 : decode cX12_thing 33 = .ok (.invokevirtual 79, 3) := dk_182 0 79 (dk_at dksX12_thing_1 9 rfl rfl)
theorem dX12_thing_36 : decode cX12_thing 36 = .ok (.new 150, 3) := dk_187 0 150 (dk_at dksX12_thing_1 12 rfl rfl)
theorem dX12_thing_39 : decode cX12_thing 39 = .ok (.dup, 1) := dk_89 (dk_at dksX12_thing_1 15 rfl rfl)
theorem dX12_thing_40 : decode cX12_thing 40 = .ok (.invokespecial 152, 3) := dk_183 0 152 (dk_at dksX12_thing_1 16 rfl rfl)
theorem dX12_thing_43 : decode cX12_thing 43 = .ok (.astore_n 1, 1) := dk_76 (dk_at dksX12_thing_1 19 rfl rfl)
theorem dX12_thing_44 : decode cX12_thing 44 = .ok (.aload_n 1, 1) := dk_43 (dk_at dksX12_thing_1 20 rfl rfl)
theorem dX12_thing_45 : decode cX12_thing 45 = .ok (.aload_n 0, 1) := dk_42 (dk_at dksX12_thing_1 21 rfl rfl)
theorem dX12_thing_46 : decode cX12_thing 46 = .ok (.aload_n 0, 1) := dk_42 (dk_at dksX12_thing_1 22 rfl rfl)
theorem dX12_thing_47 : decode cX12_thing 47 = .ok (.getfield 18, 3) := dk_180 0 18 (dk_at dksX12_thing_2 0 rfl rfl)
theorem dX12_thing_50 : decode cX12_thing 50 = .ok (.getfield 153, 3) := dk_180 0 153 (dk_at dksX12_thing_2 3 rfl rfl)
theorem dX12_thing_53 : decode cX12_thing 53 = .ok (.invokeinterface 117 1, 5) := by decide +kernel
theorem dX12_thing_58 : decode cX12_thing 58 = .ok (.invokevirtual 94, 3) := dk_182 0 94 (dk_at dksX12_thing_2 11 rfl rfl)
theorem dX12_thing_61 : decode cX12_thing 61 = .ok (.putfield 156, 3) := dk_181 0 156 (dk_at dksX12_thing_2 14 rfl rfl)
theorem dX12_thing_64 : decode cX12_thing 64 = .ok (.aload_n 0, 1) := dk_42 (dk_at dksX12_thing_2 17 rfl rfl)
theorem dX12_thing_65 : decode cX12_thing 65 = .ok (.aload_n 0, 1) := dk_42 (dk_at dksX12_thing_2 18 rfl rfl)
theorem dX12_thing_66 : decode cX12_thing 66 = .ok (.getfield 18, 3) := dk_180 0 18 (dk_at dksX12_thing_2 19 rfl rfl)
theorem dX12_thing_69 : decode cX12_thing 69 = .ok (.aload_n 1, 1) := dk_43 (dk_at dksX12_thing_2 22 rfl rfl)
theorem dX12_thing_70 : decode cX12_thing 70 = .ok (.getfield 156, 3) := dk_180 0 156 (dk_at dksX12_thing_3 0 rfl rfl)
theorem dX12_thing_73 : decode cX12_thing 73 = .ok (.invokevirtual 159, 3) := dk_182 0 159 (dk_at dksX12_thing_3 3 rfl rfl)
theorem dX12_thing_76 : decode cX12_thing 76 = .ok (.iconst (-1), 1) := dk_2 (dk_at dksX12_thing_3 6 rfl rfl)
theorem dX12_thing_77 : decode cX12_thing 77 = .ok (.if_icmp .ne 7, 3) := dk_160 0 7 (dk_at dksX12_thing_3 7 rfl rfl)
theorem dX12_thing_80 : decode cX12_thing 80 = .ok (.iconst 1, 1) := dk_4 (dk_at dksX12_thing_3 10 rfl rfl)
theorem dX12_thing_81 : decode cX12_thing 81 = .ok (.goto 4, 3) := dk_167 0 4 (dk_at dksX12_thing_3 11 rfl rfl)
theorem dX12_thing_84 : decode cX12_thing 84 = .ok (.iconst 0, 1) := dk_3 (dk_at dksX12_thing_3 14 rfl rfl)
theorem dX12_thing_85 : decode cX12_thing 85 = .ok (.iconst 4, 1) := dk_7 (dk_at dksX12_thing_3 15 rfl rfl)
theorem dX12_thing_86 : decode cX12_thing 86 = .ok (.invokevirtual 87, 3) := dk_182 0 87 (dk_at dksX12_thing_3 16 rfl rfl)
theorem dX12_thing_89 : decode cX12_thing 89 = .ok (.aload_n 0, 1) := dk_42 (dk_at dksX12_thing_3 19 rfl rfl)
theorem dX12_thing_90 : decode cX12_thing 90 = .ok (.invokevirtual 79, 3) := dk_182 0 79 (dk_at dksX12_thing_3 20 rfl rfl)
theorem dX12_thing_93 : decode cX12_thing 93 = .ok (.aload_n 1, 1) := dk_43 (dk_at dksX12_thing_3 23 rfl rfl)
theorem dX12_thing_94 : decode cX12_thing 94 = .ok (.aload_n 0, 1) := dk_42 (dk_at dksX12_thing_4 0 rfl rfl)
theorem dX12_thing_95 : decode cX12_thing 95 = .ok (.aload_n 0, 1) := dk_42 (dk_at dksX12_thing_4 1 rfl rfl)
theorem dX12_thing_96 : decode cX12_thing 96 = .ok (.getfield 18, 3) := dk_180 0 18 (dk_at dksX12_thing_4 2 rfl rfl)
theorem dX12_thing_99 : decode cX12_thing 99 = .ok (.getfield 137, 3) := dk_180 0 137 (dk_at dksX12_thing_4 5 rfl rfl)
theorem dX12_thing_102 : decode cX12_thing 102 = .ok (.invokevirtual 140, 3) := dk_182 0 140 (dk_at dksX12_thing_4 8 rfl rfl)
theorem dX12_thing_105 : decode cX12_thing 105 = .ok (.putfield 162, 3) := dk_181 0 162 (dk_at dksX12_thing_4 11 rfl rfl)
theorem dX12_thing_108 : decode cX12_thing 108 = .ok (.aload_n 1, 1) := dk_43 (dk_at dksX12_thing_4 14 rfl rfl)
theorem dX12_thing_109 : decode cX12_thing 109 = .ok (.aload_n 0, 1) := dk_42 (dk_at dksX12_thing_4 15 rfl rfl)
theorem dX12_thing_110 : decode cX12_thing 110 = .ok (.iconst 0, 1) := dk_3 (dk_at dksX12_thing_4 16 rfl rfl)
theorem dX12_thing_111 : decode cX12_thing 111 = .ok (.bipush 23, 2) := dk_16 23 (dk_at dksX12_thing_4 17 rfl rfl)
theorem dX12_thing_113 : decode cX12_thing 113 = .ok (.invokevirtual 103, 3) := dk_182 0 103 (dk_at dksX12_thing_4 19 rfl rfl)
theorem dX12_thing_116 : decode cX12_thing 116 = .ok (.putfield 165, 3) := dk_181 0 165 (dk_at dksX12_thing_5 0 rfl rfl)
theorem dX12_thing_119 : decode cX12_thing 119 = .ok (.aload_n 1, 1) := dk_43 (dk_at dksX12_thing_5 3 rfl rfl)
theorem dX12_thing_120 : decode cX12_thing 120 = .ok (.aload_n 0, 1) := dk_42 (dk_at dksX12_thing_5 4 rfl rfl)
theorem dX12_thing_121 : decode cX12_thing 121 = .ok (.ldc 168, 2) := dk_18 168 (dk_at dksX12_thing_5 5 rfl rfl)
theorem dX12_thing_123 : decode cX12_thing 123 = .ok (.invokevirtual 170, 3) := dk_182 0 170 (dk_at dksX12_thing_5 7 rfl rfl)
theorem dX12_thing_126 : decode cX12_thing 126 = .ok (.putfield 173, 3) := dk_181 0 173 (dk_at dksX12_thing_5 10 rfl rfl)
theorem dX12_thing_129 : decode cX12_thing 129 = .ok (.aload_n 1, 1) := dk_43 (dk_at dksX12_thing_5 13 rfl rfl)
theorem dX12_thing_130 : decode cX12_thing 130 = .ok (.aload_n 0, 1) := dk_42 (dk_at dksX12_thing_5 14 rfl rfl)
theorem dX12_thing_131 : decode cX12_thing 131 = .ok (.ldc 175, 2) := dk_18 175 (dk_at dksX12_thing_5 15 rfl rfl)
theorem dX12_thing_133 : decode cX12_thing 133 = .ok (.invokevirtual 170, 3) := dk_182 0 170 (dk_at dksX12_thing_5 17 rfl rfl)
theorem dX12_thing_136 : decode cX12_thing 136 = .ok (.putfield 177, 3) := dk_181 0 177 (dk_at dksX12_thing_5 20 rfl rfl)
theorem dX12_thing_139 : decode cX12_thing 139 = .ok (.aload_n 0, 1) := dk_42 (dk_at dksX12_thing_5 23 rfl rfl)
theorem dX12_thing_140 : decode cX12_thing 140 = .ok (.getfield 18, 3) := dk_180 0 18 (dk_at dksX12_thing_6 0 rfl rfl)
theorem dX12_thing_143 : decode cX12_thing 143 = .ok (.getfield 147, 3) := dk_180 0 147 (dk_at dksX12_thing_6 3 rfl rfl)
theorem dX12_thing_146 : decode cX12_thing 146 = .ok (.aload_n 1, 1) := dk_43 (dk_at dksX12_thing_6 6 rfl rfl)
theorem dX12_thing_147 : decode cX12_thing 147 = .ok (.invokeinterface 126 2, 5) := by decide +kernel
theorem dX12_thing_152 : decode cX12_thing 152 = .ok (.pop, 1) := dk_87 (dk_at dksX12_thing_6 12 rfl rfl)
theorem dX12_thing_153 : decode cX12_thing 153 = .ok (.return_, 1) := dk_177 (dk_at dksX12_thing_6 13 rfl rfl)
abbrev cX12_rule : ByteArray := prog_9_method_19_code
def yX12_rule : MethodName := ⟨RX12, "rule", "()V"⟩
def dkwX12_rule_7 : List UInt8 := [5, 159, 255, 148, 42, 180, 0, 18, 180, 0, 179, 43, 185, 0, 126, 2, 0, 87, 177]
abbrev dktX12_rule_7 : List UInt8 := dkwX12_rule_7 ++ []
def dkwX12_rule_6 : List UInt8 := [43, 180, 0, 188, 28, 79, 43, 89, 180, 0, 188, 4, 96, 181, 0, 188, 42, 182, 0, 79, 42, 180, 0, 44]
abbrev dktX12_rule_6 : List UInt8 := dkwX12_rule_6 ++ dktX12_rule_7
def dkwX12_rule_5 : List UInt8 := [159, 0, 15, 43, 28, 182, 0, 191, 154, 0, 7, 4, 167, 0, 4, 3, 7, 182, 0, 87, 43, 180, 0, 195]
abbrev dktX12_rule_5 : List UInt8 := dkwX12_rule_5 ++ dktX12_rule_6
def dkwX12_rule_4 : List UInt8 := [42, 180, 0, 18, 180, 0, 147, 185, 0, 117, 1, 0, 182, 0, 94, 61, 42, 28, 43, 180, 0, 185]
abbrev dktX12_rule_4 : List UInt8 := dkwX12_rule_4 ++ dktX12_rule_5
def dkwX12_rule_3 : List UInt8 := [3, 4, 182, 0, 87, 42, 43, 180, 0, 188, 6, 162, 0, 7, 4, 167, 0, 4, 3, 5, 182, 0, 87, 42]
abbrev dktX12_rule_3 : List UInt8 := dkwX12_rule_3 ++ dktX12_rule_4
def dkwX12_rule_2 : List UInt8 := [185, 0, 117, 1, 0, 182, 0, 140, 181, 0, 185, 42, 42, 180, 0, 44, 5, 160, 0, 7, 4, 167, 0, 4]
abbrev dktX12_rule_2 : List UInt8 := dkwX12_rule_2 ++ dktX12_rule_3
def dkwX12_rule_1 : List UInt8 := [182, 0, 87, 42, 182, 0, 79, 187, 0, 182, 89, 183, 0, 184, 76, 43, 42, 42, 180, 0, 18, 180, 0, 147]
abbrev dktX12_rule_1 : List UInt8 := dkwX12_rule_1 ++ dktX12_rule_2
def dkwX12_rule_0 : List UInt8 := [42, 42, 180, 0, 18, 180, 0, 179, 185, 0, 117, 1, 0, 16, 6, 162, 0, 7, 4, 167, 0, 4, 3, 5]
abbrev dktX12_rule_0 : List UInt8 := dkwX12_rule_0 ++ dktX12_rule_1
theorem dksX12_rule_0 : cX12_rule.data.toList.drop 0 = dktX12_rule_0 := by decide +kernel
theorem dksX12_rule_1 : cX12_rule.data.toList.drop 24 = dktX12_rule_1 := dk_seg dksX12_rule_0 24 rfl rfl
theorem dksX12_rule_2 : cX12_rule.data.toList.drop 48 = dktX12_rule_2 := dk_seg dksX12_rule_1 24 rfl rfl
theorem dksX12_rule_3 : cX12_rule.data.toList.drop 72 = dktX12_rule_3 := dk_seg dksX12_rule_2 24 rfl rfl
theorem dksX12_rule_4 : cX12_rule.data.toList.drop 96 = dktX12_rule_4 := dk_seg dksX12_rule_3 24 rfl rfl
theorem dksX12_rule_5 : cX12_rule.data.toList.drop 118 = dktX12_rule_5 := dk_seg dksX12_rule_4 22 rfl rfl
theorem dksX12_rule_6 : cX12_rule.data.toList.drop 142 = dktX12_rule_6 := dk_seg dksX12_rule_5 24 rfl rfl
theorem dksX12_rule_7 : cX12_rule.data.toList.drop 166 = dktX12_rule_7 := dk_seg dksX12_rule_6 24 rfl rfl
theorem dX12_rule_0 : decode cX12_rule 0 = .ok (.aload_n 0, 1) := dk_42 (dk_at dksX12_rule_0 0 rfl rfl)
theorem dX12_rule_1 : decode cX12_rule 1 = .ok (.aload_n 0, 1) := dk_42 (dk_at dksX12_rule_0 1 rfl rfl)
theorem dX12_rule_2 : decode cX12_rule 2 = .ok (.getfield 18, 3) := dk_180 0 18 (dk_at dksX12_rule_0 2 rfl rfl)
theorem dX12_rule_5 : decode cX12_rule 5 = .ok (.getfield 179, 3) := dk_180 0 179 (dk_at dksX12_rule_0 5 rfl rfl)
theorem dX12_rule_8 : decode cX12_rule 8 = .ok (.invokeinterface 117 1, 5) := by decide +kernel
theorem dX12_rule_13 : decode cX12_rule 13 = .ok (.bipush 6, 2) := dk_16 6 (dk_at dksX12_rule_0 13 rfl rfl)
theorem dX12_rule_15 : decode cX12_rule 15 = .ok (.if_icmp .ge 7, 3) := dk_162 0 7 (dk_at dksX12_rule_0 15 rfl rfl)
theorem dX12_rule_18 : decode cX12_rule 18 = .ok (.iconst 1, 1) := dk_4 (dk_at dksX12_rule_0 18 rfl rfl)
theorem dX12_rule_19 : decode cX12_rule 19 = .ok (.goto 4, 3) := dk_167 0 4 (dk_at dksX12_rule_0 19 rfl rfl)
theorem dX12_rule_22 : decode cX12_rule 22 = .ok (.iconst 0, 1) := dk_3 (dk_at dksX12_rule_0 22 rfl rfl)
theorem dX12_rule_23 : decode cX12_rule 23 = .ok (.iconst 2, 1) := dk_5 (dk_at dksX12_rule_0 23 rfl rfl)
theorem dX12_rule_24 : decode cX12_rule 24 = .ok (.invokevirtual 87, 3) := dk_182 0 87 (dk_at dksX12_rule_1 0 rfl rfl)
theorem dX12_rule_27 : decode cX12_rule 27 = .ok (.aload_n 0, 1) := dk_42 (dk_at dksX12_rule_1 3 rfl rfl)
theorem dX12_rule_28 : decode cX12_rule 28 = .ok (.invokevirtual 79, 3) := dk_182 0 79 (dk_at dksX12_rule_1 4 rfl rfl)
theorem dX12_rule_31 : decode cX12_rule 31 = .ok (.new 182, 3) := dk_187 0 182 (dk_at dksX12_rule_1 7 rfl rfl)
theorem dX12_rule_34 : decode cX12_rule 34 = .ok (.dup, 1) := dk_89 (dk_at dksX12_rule_1 10 rfl rfl)
theorem dX12_rule_35 : decode cX12_rule 35 = .ok (.invokespecial 184, 3) := dk_183 0 184 (dk_at dksX12_rule_1 11 rfl rfl)
theorem dX12_rule_38 : decode cX12_rule 38 = .ok (.astore_n 1, 1) := dk_76 (dk_at dksX12_rule_1 14 rfl rfl)
theorem dX12_rule_39 : decode cX12_rule 39 = .ok (.aload_n 1, 1) := dk_43 (dk_at dksX12_rule_1 15 rfl rfl)
theorem dX12_rule_40 : decode cX12_rule 40 = .ok (.aload_n 0, 1) := dk_42 (dk_at dksX12_rule_1 16 rfl rfl)
theorem dX12_rule_41 : decode cX12_rule 41 = .ok (.aload_n 0, 1) := dk_42 (dk_at dksX12_rule_1 17 rfl rfl)
theorem dX12_rule_42 : decode cX12_rule 42 = .ok (.getfield 18, 3) := dk_180 0 18 (dk_at dksX12_rule_1 18 rfl rfl)
theorem dX12_rule_45 : decode cX12_rule 45 = .ok (.getfield 147, 3) := dk_180 0 147 (dk_at dksX12_rule_1 21 rfl rfl)
theorem dX12_rule_48 : decode cX12_rule 48 = .ok (.invokeinterface 117 1, 5) := by decide +kernel
theorem dX12_rule_53 : decode cX12_rule 53 = .ok (.invokevirtual 140, 3) := dk_182 0 140 (dk_at dksX12_rule_2 5 rfl rfl)
theorem dX12_rule_56 : decode cX12_rule 56 = .ok (.putfield 185, 3) := dk_181 0 185 (dk_at dksX12_rule_2 8 rfl rfl)
theorem dX12_rule_59 : decode cX12_rule 59 = .ok (.aload_n 0, 1) := dk_42 (dk_at dksX12_rule_2 11 rfl rfl)
theorem dX12_rule_60 : decode cX12_rule 60 = .ok (.aload_n 0, 1) := dk_42 (dk_at dksX12_rule_2 12 rfl rfl)
theorem dX12_rule_61 : decode cX12_rule 61 = .ok (.getfield 44, 3) := dk_180 0 44 (dk_at dksX12_rule_2 13 rfl rfl)
theorem dX12_rule_64 : decode cX12_rule 64 = .ok (.iconst 2, 1) := dk_5 (dk_at dksX12_rule_2 16 rfl rfl)
theorem dX12_rule_65 : decode cX12_rule 65 = .ok (.if_icmp .ne 7, 3) := dk_160 0 7 (dk_at dksX12_rule_2 17 rfl rfl)
theorem dX12_rule_68 : decode cX12_rule 68 = .ok (.iconst 1, 1) := dk_4 (dk_at dksX12_rule_2 20 rfl rfl)
theorem dX12_rule_69 : decode cX12_rule 69 = .ok (.goto 4, 3) := dk_167 0 4 (dk_at dksX12_rule_2 21 rfl rfl)
theorem dX12_rule_72 : decode cX12_rule 72 = .ok (.iconst 0, 1) := dk_3 (dk_at dksX12_rule_3 0 rfl rfl)
theorem dX12_rule_73 : decode cX12_rule 73 = .ok (.iconst 1, 1) := dk_4 (dk_at dksX12_rule_3 1 rfl rfl)
theorem dX12_rule_74 : decode cX12_rule 74 = .ok (.invokevirtual 87, 3) := dk_182 0 87 (dk_at dksX12_rule_3 2 rfl rfl)
theorem dX12_rule_77 : decode cX12_rule 77 = .ok (.aload_n 0, 1) := dk_42 (dk_at dksX12_rule_3 5 rfl rfl)
theorem dX12_rule_78 : decode cX12_rule 78 = .ok (.aload_n 1, 1) := dk_43 (dk_at dksX12_rule_3 6 rfl rfl)
theorem dX12_rule_79 : decode cX12_rule 79 = .ok (.getfield 188, 3) := dk_180 0 188 (dk_at dksX12_rule_3 7 rfl rfl)
theorem dX12_rule_82 : decode cX12_rule 82 = .ok (.iconst 3, 1) := dk_6 (dk_at dksX12_rule_3 10 rfl rfl)
theorem dX12_rule_83 : decode cX12_rule 83 = .ok (.if_icmp .ge 7, 3) := dk_162 0 7 (dk_at dksX12_rule_3 11 rfl rfl)
theorem dX12_rule_86 : decode cX12_rule 86 = .ok (.iconst 1, 1) := dk_4 (dk_at dksX12_rule_3 14 rfl rfl)
theorem dX12_rule_87 : decode cX12_rule 87 = .ok (.goto 4, 3) := dk_167 0 4 (dk_at dksX12_rule_3 15 rfl rfl)
theorem dX12_rule_90 : decode cX12_rule 90 = .ok (.iconst 0, 1) := dk_3 (dk_at dksX12_rule_3 18 rfl rfl)
theorem dX12_rule_91 : decode cX12_rule 91 = .ok (.iconst 2, 1) := dk_5 (dk_at dksX12_rule_3 19 rfl rfl)
theorem dX12_rule_92 : decode cX12_rule 92 = .ok (.invokevirtual 87, 3) := dk_182 0 87 (dk_at dksX12_rule_3 20 rfl rfl)
theorem dX12_rule_95 : decode cX12_rule 95 = .ok (.aload_n 0, 1) := dk_42 (dk_at dksX12_rule_3 23 rfl rfl)
theorem dX12_rule_96 : decode cX12_rule 96 = .ok (.aload_n 0, 1) := dk_42 (dk_at dksX12_rule_4 0 rfl rfl)
theorem dX12_rule_97 : decode cX12_rule 97 = .ok (.getfield 18, 3) := dk_180 0 18 (dk_at dksX12_rule_4 1 rfl rfl)
theorem dX12_rule_100 : decode cX12_rule 100 = .ok (.getfield 147, 3) := dk_180 0 147 (dk_at dksX12_rule_4 4 rfl rfl)
theorem dX12_rule_103 : decode cX12_rule 103 = .ok (.invokeinterface 117 1, 5) := by decide +kernel
theorem dX12_rule_108 : decode cX12_rule 108 = .ok (.invokevirtual 94, 3) := dk_182 0 94 (dk_at dksX12_rule_4 12 rfl rfl)
theorem dX12_rule_111 : decode cX12_rule 111 = .ok (.istore_n 2, 1) := dk_61 (dk_at dksX12_rule_4 15 rfl rfl)
theorem dX12_rule_112 : decode cX12_rule 112 = .ok (.aload_n 0, 1) := dk_42 (dk_at dksX12_rule_4 16 rfl rfl)
theorem dX12_rule_113 : decode cX12_rule 113 = .ok (.iload_n 2, 1) := dk_28 (dk_at dksX12_rule_4 17 rfl rfl)
theorem dX12_rule_114 : decode cX12_rule 114 = .ok (.aload_n 1, 1) := dk_43 (dk_at dksX12_rule_4 18 rfl rfl)
theorem dX12_rule_115 : decode cX12_rule 115 = .ok (.getfield 185, 3) := dk_180 0 185 (dk_at dksX12_rule_4 19 rfl rfl)
theorem dX12_rule_118 : decode cX12_rule 118 = .ok (.if_icmp .eq 15, 3) := dk_159 0 15 (dk_at dksX12_rule_5 0 rfl rfl)
theorem dX12_rule_121 : decode cX12_rule 121 = .ok (.aload_n 1, 1) := dk_43 (dk_at dksX12_rule_5 3 rfl rfl)
theorem dX12_rule_122 : decode cX12_rule 122 = .ok (.iload_n 2, 1) := dk_28 (dk_at dksX12_rule_5 4 rfl rfl)
theorem dX12_rule_123 : decode cX12_rule 123 = .ok (.invokevirtual 191, 3) := dk_182 0 191 (dk_at dksX12_rule_5 5 rfl rfl)
theorem dX12_rule_126 : decode cX12_rule 126 = .ok (.ifCond .ne 7, 3) := dk_154 0 7 (dk_at dksX12_rule_5 8 rfl rfl)
theorem dX12_rule_129 : decode cX12_rule 129 = .ok (.iconst 1, 1) := dk_4 (dk_at dksX12_rule_5 11 rfl rfl)
theorem dX12_rule_130 : decode cX12_rule 130 = .ok (.goto 4, 3) := dk_167 0 4 (dk_at dksX12_rule_5 12 rfl rfl)
theorem dX12_rule_133 : decode cX12_rule 133 = .ok (.iconst 0, 1) := dk_3 (dk_at dksX12_rule_5 15 rfl rfl)
theorem dX12_rule_134 : decode cX12_rule 134 = .ok (.iconst 4, 1) := dk_7 (dk_at dksX12_rule_5 16 rfl rfl)
theorem dX12_rule_135 : decode cX12_rule 135 = .ok (.invokevirtual 87, 3) := dk_182 0 87 (dk_at dksX12_rule_5 17 rfl rfl)
theorem dX12_rule_138 : decode cX12_rule 138 = .ok (.aload_n 1, 1) := dk_43 (dk_at dksX12_rule_5 20 rfl rfl)
theorem dX12_rule_139 : decode cX12_rule 139 = .ok (.getfield 195, 3) := dk_180 0 195 (dk_at dksX12_rule_5 21 rfl rfl)
theorem dX12_rule_142 : decode cX12_rule 142 = .ok (.aload_n 1, 1) := dk_43 (dk_at dksX12_rule_6 0 rfl rfl)
theorem dX12_rule_143 : decode cX12_rule 143 = .ok (.getfield 188, 3) := dk_180 0 188 (dk_at dksX12_rule_6 1 rfl rfl)
theorem dX12_rule_146 : decode cX12_rule 146 = .ok (.iload_n 2, 1) := dk_28 (dk_at dksX12_rule_6 4 rfl rfl)
theorem dX12_rule_147 : decode cX12_rule 147 = .ok (.iastore, 1) := dk_79 (dk_at dksX12_rule_6 5 rfl rfl)
theorem dX12_rule_148 : decode cX12_rule 148 = .ok (.aload_n 1, 1) := dk_43 (dk_at dksX12_rule_6 6 rfl rfl)
theorem dX12_rule_149 : decode cX12_rule 149 = .ok (.dup, 1) := dk_89 (dk_at dksX12_rule_6 7 rfl rfl)
theorem dX12_rule_150 : decode cX12_rule 150 = .ok (.getfield 188, 3) := dk_180 0 188 (dk_at dksX12_rule_6 8 rfl rfl)
theorem dX12_rule_153 : decode cX12_rule 153 = .ok (.iconst 1, 1) := dk_4 (dk_at dksX12_rule_6 11 rfl rfl)
theorem dX12_rule_154 : decode cX12_rule 154 = .ok (.iadd, 1) := dk_96 (dk_at dksX12_rule_6 12 rfl rfl)
theorem dX12_rule_155 : decode cX12_rule 155 = .ok (.putfield 188, 3) := dk_181 0 188 (dk_at dksX12_rule_6 13 rfl rfl)
theorem dX12_rule_158 : decode cX12_rule 158 = .ok (.aload_n 0, 1) := dk_42 (dk_at dksX12_rule_6 16 rfl rfl)
theorem dX12_rule_159 : decode cX12_rule 159 = .ok (.invokevirtual 79, 3) := dk_182 0 79 (dk_at dksX12_rule_6 17 rfl rfl)
theorem dX12_rule_162 : decode cX12_rule 162 = .ok (.aload_n 0, 1) := dk_42 (dk_at dksX12_rule_6 20 rfl rfl)
theorem dX12_rule_163 : decode cX12_rule 163 = .ok (.getfield 44, 3) := dk_180 0 44 (dk_at dksX12_rule_6 21 rfl rfl)
theorem dX12_rule_166 : decode cX12_rule 166 = .ok (.iconst 2, 1) := dk_5 (dk_at dksX12_rule_7 0 rfl rfl)
theorem dX12_rule_167 : decode cX12_rule 167 = .ok (.if_icmp .eq (-108), 3) := dk_159 255 148 (dk_at dksX12_rule_7 1 rfl rfl)
theorem dX12_rule_170 : decode cX12_rule 170 = .ok (.aload_n 0, 1) := dk_42 (dk_at dksX12_rule_7 4 rfl rfl)
theorem dX12_rule_171 : decode cX12_rule 171 = .ok (.getfield 18, 3) := dk_180 0 18 (dk_at dksX12_rule_7 5 rfl rfl)
theorem dX12_rule_174 : decode cX12_rule 174 = .ok (.getfield 179, 3) := dk_180 0 179 (dk_at dksX12_rule_7 8 rfl rfl)
theorem dX12_rule_177 : decode cX12_rule 177 = .ok (.aload_n 1, 1) := dk_43 (dk_at dksX12_rule_7 11 rfl rfl)
theorem dX12_rule_178 : decode cX12_rule 178 = .ok (.invokeinterface 126 2, 5) := by decide +kernel
theorem dX12_rule_183 : decode cX12_rule 183 = .ok (.pop, 1) := dk_87 (dk_at dksX12_rule_7 17 rfl rfl)
theorem dX12_rule_184 : decode cX12_rule 184 = .ok (.return_, 1) := dk_177 (dk_at dksX12_rule_7 18 rfl rfl)
abbrev cX12_at : ByteArray := prog_9_method_20_code
def yX12_at : MethodName := ⟨RX12, "at", "()V"⟩
def dkwX12_at_2 : List UInt8 := [182, 0, 140, 79, 177]
abbrev dktX12_at_2 : List UInt8 := dkwX12_at_2 ++ []
def dkwX12_at_1 : List UInt8 := [61, 42, 180, 0, 18, 180, 0, 201, 16, 24, 27, 104, 28, 96, 42, 42, 180, 0, 18, 180, 0, 137]
abbrev dktX12_at_1 : List UInt8 := dkwX12_at_1 ++ dktX12_at_2
def dkwX12_at_0 : List UInt8 := [42, 4, 181, 0, 134, 42, 42, 180, 0, 18, 180, 0, 198, 182, 0, 140, 60, 42, 3, 16, 23, 182, 0, 103]
abbrev dktX12_at_0 : List UInt8 := dkwX12_at_0 ++ dktX12_at_1
theorem dksX12_at_0 : cX12_at.data.toList.drop 0 = dktX12_at_0 := by decide +kernel
theorem dksX12_at_1 : cX12_at.data.toList.drop 24 = dktX12_at_1 := dk_seg dksX12_at_0 24 rfl rfl
theorem dksX12_at_2 : cX12_at.data.toList.drop 46 = dktX12_at_2 := dk_seg dksX12_at_1 22 rfl rfl
theorem dX12_at_0 : decode cX12_at 0 = .ok (.aload_n 0, 1) := dk_42 (dk_at dksX12_at_0 0 rfl rfl)
theorem dX12_at_1 : decode cX12_at 1 = .ok (.iconst 1, 1) := dk_4 (dk_at dksX12_at_0 1 rfl rfl)
theorem dX12_at_2 : decode cX12_at 2 = .ok (.putfield 134, 3) := dk_181 0 134 (dk_at dksX12_at_0 2 rfl rfl)
theorem dX12_at_5 : decode cX12_at 5 = .ok (.aload_n 0, 1) := dk_42 (dk_at dksX12_at_0 5 rfl rfl)
theorem dX12_at_6 : decode cX12_at 6 = .ok (.aload_n 0, 1) := dk_42 (dk_at dksX12_at_0 6 rfl rfl)
theorem dX12_at_7 : decode cX12_at 7 = .ok (.getfield 18, 3) := dk_180 0 18 (dk_at dksX12_at_0 7 rfl rfl)
theorem dX12_at_10 : decode cX12_at 10 = .ok (.getfield 198, 3) := dk_180 0 198 (dk_at dksX12_at_0 10 rfl rfl)
theorem dX12_at_13 : decode cX12_at 13 = .ok (.invokevirtual 140, 3) := dk_182 0 140 (dk_at dksX12_at_0 13 rfl rfl)
theorem dX12_at_16 : decode cX12_at 16 = .ok (.istore_n 1, 1) := dk_60 (dk_at dksX12_at_0 16 rfl rfl)
theorem dX12_at_17 : decode cX12_at 17 = .ok (.aload_n 0, 1) := dk_42 (dk_at dksX12_at_0 17 rfl rfl)
theorem dX12_at_18 : decode cX12_at 18 = .ok (.iconst 0, 1) := dk_3 (dk_at dksX12_at_0 18 rfl rfl)
theorem dX12_at_19 : decode cX12_at 19 = .ok (.bipush 23, 2) := dk_16 23 (dk_at dksX12_at_0 19 rfl rfl)
theorem dX12_at_21 : decode cX12_at 21 = .ok (.invokevirtual 103, 3) := dk_182 0 103 (dk_at dksX12_at_0 21 rfl rfl)
theorem dX12_at_24 : decode cX12_at 24 = .ok (.istore_n 2, 1) := dk_61 (dk_at dksX12_at_1 0 rfl rfl)
theorem dX12_at_25 : decode cX12_at 25 = .ok (.aload_n 0, 1) := dk_42 (dk_at dksX12_at_1 1 rfl rfl)
theorem dX12_at_26 : decode cX12_at 26 = .ok (.getfield 18, 3) := dk_180 0 18 (dk_at dksX12_at_1 2 rfl rfl)
theorem dX12_at_29 : decode cX12_at 29 = .ok (.getfield 201, 3) := dk_180 0 201 (dk_at dksX12_at_1 5 rfl rfl)
theorem dX12_at_32 : decode cX12_at 32 = .ok (.bipush 24, 2) := dk_16 24 (dk_at dksX12_at_1 8 rfl rfl)
theorem dX12_at_34 : decode cX12_at 34 = .ok (.iload_n 1, 1) := dk_27 (dk_at dksX12_at_1 10 rfl rfl)
theorem dX12_at_35 : decode cX12_at 35 = .ok (.imul, 1) := dk_104 (dk_at dksX12_at_1 11 rfl rfl)
theorem dX12_at_36 : decode cX12_at 36 = .ok (.iload_n 2, 1) := dk_28 (dk_at dksX12_at_1 12 rfl rfl)
theorem dX12_at_37 : decode cX12_at 37 = .ok (.iadd, 1) := dk_96 (dk_at dksX12_at_1 13 rfl rfl)
theorem dX12_at_38 : decode cX12_at 38 = .ok (.aload_n 0, 1) := dk_42 (dk_at dksX12_at_1 14 rfl rfl)
theorem dX12_at_39 : decode cX12_at 39 = .ok (.aload_n 0, 1) := dk_42 (dk_at dksX12_at_1 15 rfl rfl)
theorem dX12_at_40 : decode cX12_at 40 = .ok (.getfield 18, 3) := dk_180 0 18 (dk_at dksX12_at_1 16 rfl rfl)
theorem dX12_at_43 : decode cX12_at 43 = .ok (.getfield 137, 3) := dk_180 0 137 (dk_at dksX12_at_1 19 rfl rfl)
theorem dX12_at_46 : decode cX12_at 46 = .ok (.invokevirtual 140, 3) := dk_182 0 140 (dk_at dksX12_at_2 0 rfl rfl)
theorem dX12_at_49 : decode cX12_at 49 = .ok (.iastore, 1) := dk_79 (dk_at dksX12_at_2 3 rfl rfl)
theorem dX12_at_50 : decode cX12_at 50 = .ok (.return_, 1) := dk_177 (dk_at dksX12_at_2 4 rfl rfl)
abbrev cX12_weigh : ByteArray := prog_9_method_21_code
def yX12_weigh : MethodName := ⟨RX12, "weigh", "()V"⟩
def dkwX12_weigh_2 : List UInt8 := [79, 177]
abbrev dktX12_weigh_2 : List UInt8 := dkwX12_weigh_2 ++ []
def dkwX12_weigh_1 : List UInt8 := [182, 0, 103, 79, 42, 180, 0, 18, 180, 0, 204, 5, 27, 104, 4, 96, 42, 3, 17, 3, 232, 182, 0, 103]
abbrev dktX12_weigh_1 : List UInt8 := dkwX12_weigh_1 ++ dktX12_weigh_2
def dkwX12_weigh_0 : List UInt8 := [42, 3, 7, 182, 0, 103, 60, 42, 180, 0, 18, 180, 0, 204, 5, 27, 104, 42, 3, 17, 3, 232]
abbrev dktX12_weigh_0 : List UInt8 := dkwX12_weigh_0 ++ dktX12_weigh_1
theorem dksX12_weigh_0 : cX12_weigh.data.toList.drop 0 = dktX12_weigh_0 := by decide +kernel
theorem dksX12_weigh_1 : cX12_weigh.data.toList.drop 22 = dktX12_weigh_1 := dk_seg dksX12_weigh_0 22 rfl rfl
theorem dksX12_weigh_2 : cX12_weigh.data.toList.drop 46 = dktX12_weigh_2 := dk_seg dksX12_weigh_1 24 rfl rfl
theorem dX12_weigh_0 : decode cX12_weigh 0 = .ok (.aload_n 0, 1) := dk_42 (dk_at dksX12_weigh_0 0 rfl rfl)
theorem dX12_weigh_1 : decode cX12_weigh 1 = .ok (.iconst 0, 1) := dk_3 (dk_at dksX12_weigh_0 1 rfl rfl)
theorem dX12_weigh_2 : decode cX12_weigh 2 = .ok (.iconst 4, 1) := dk_7 (dk_at dksX12_weigh_0 2 rfl rfl)
theorem dX12_weigh_3 : decode cX12_weigh 3 = .ok (.invokevirtual 103, 3) := dk_182 0 103 (dk_at dksX12_weigh_0 3 rfl rfl)
theorem dX12_weigh_6 : decode cX12_weigh 6 = .ok (.istore_n 1, 1) := dk_60 (dk_at dksX12_weigh_0 6 rfl rfl)
theorem dX12_weigh_7 : decode cX12_weigh 7 = .ok (.aload_n 0, 1) := dk_42 (dk_at dksX12_weigh_0 7 rfl rfl)
theorem dX12_weigh_8 : decode cX12_weigh 8 = .ok (.getfield 18, 3) := dk_180 0 18 (dk_at dksX12_weigh_0 8 rfl rfl)
theorem dX12_weigh_11 : decode cX12_weigh 11 = .ok (.getfield 204, 3) := dk_180 0 204 (dk_at dksX12_weigh_0 11 rfl rfl)
theorem dX12_weigh_14 : decode cX12_weigh 14 = .ok (.iconst 2, 1) := dk_5 (dk_at dksX12_weigh_0 14 rfl rfl)
theorem dX12_weigh_15 : decode cX12_weigh 15 = .ok (.iload_n 1, 1) := dk_27 (dk_at dksX12_weigh_0 15 rfl rfl)
theorem dX12_weigh_16 : decode cX12_weigh 16 = .ok (.imul, 1) := dk_104 (dk_at dksX12_weigh_0 16 rfl rfl)
theorem dX12_weigh_17 : decode cX12_weigh 17 = .ok (.aload_n 0, 1) := dk_42 (dk_at dksX12_weigh_0 17 rfl rfl)
theorem dX12_weigh_18 : decode cX12_weigh 18 = .ok (.iconst 0, 1) := dk_3 (dk_at dksX12_weigh_0 18 rfl rfl)
theorem dX12_weigh_19 : decode cX12_weigh 19 = .ok (.sipush 1000, 3) := dk_17 3 232 (dk_at dksX12_weigh_0 19 rfl rfl)
theorem dX12_weigh_22 : decode cX12_weigh 22 = .ok (.invokevirtual 103, 3) := dk_182 0 103 (dk_at dksX12_weigh_1 0 rfl rfl)
theorem dX12_weigh_25 : decode cX12_weigh 25 = .ok (.iastore, 1) := dk_79 (dk_at dksX12_weigh_1 3 rfl rfl)
theorem dX12_weigh_26 : decode cX12_weigh 26 = .ok (.aload_n 0, 1) := dk_42 (dk_at dksX12_weigh_1 4 rfl rfl)
theorem dX12_weigh_27 : decode cX12_weigh 27 = .ok (.getfield 18, 3) := dk_180 0 18 (dk_at dksX12_weigh_1 5 rfl rfl)
theorem dX12_weigh_30 : decode cX12_weigh 30 = .ok (.getfield 204, 3) := dk_180 0 204 (dk_at dksX12_weigh_1 8 rfl rfl)
theorem dX12_weigh_33 : decode cX12_weigh 33 = .ok (.iconst 2, 1) := dk_5 (dk_at dksX12_weigh_1 11 rfl rfl)
theorem dX12_weigh_34 : decode cX12_weigh 34 = .ok (.iload_n 1, 1) := dk_27 (dk_at dksX12_weigh_1 12 rfl rfl)
theorem dX12_weigh_35 : decode cX12_weigh 35 = .ok (.imul, 1) := dk_104 (dk_at dksX12_weigh_1 13 rfl rfl)
theorem dX12_weigh_36 : decode cX12_weigh 36 = .ok (.iconst 1, 1) := dk_4 (dk_at dksX12_weigh_1 14 rfl rfl)
theorem dX12_weigh_37 : decode cX12_weigh 37 = .ok (.iadd, 1) := dk_96 (dk_at dksX12_weigh_1 15 rfl rfl)
theorem dX12_weigh_38 : decode cX12_weigh 38 = .ok (.aload_n 0, 1) := dk_42 (dk_at dksX12_weigh_1 16 rfl rfl)
theorem dX12_weigh_39 : decode cX12_weigh 39 = .ok (.iconst 0, 1) := dk_3 (dk_at dksX12_weigh_1 17 rfl rfl)
theorem dX12_weigh_40 : decode cX12_weigh 40 = .ok (.sipush 1000, 3) := dk_17 3 232 (dk_at dksX12_weigh_1 18 rfl rfl)
theorem dX12_weigh_43 : decode cX12_weigh 43 = .ok (.invokevirtual 103, 3) := dk_182 0 103 (dk_at dksX12_weigh_1 21 rfl rfl)
theorem dX12_weigh_46 : decode cX12_weigh 46 = .ok (.iastore, 1) := dk_79 (dk_at dksX12_weigh_2 0 rfl rfl)
theorem dX12_weigh_47 : decode cX12_weigh 47 = .ok (.return_, 1) := dk_177 (dk_at dksX12_weigh_2 1 rfl rfl)
abbrev cX12_tongue : ByteArray := prog_9_method_22_code
def yX12_tongue : MethodName := ⟨RX12, "tongue", "()V"⟩
def dkwX12_tongue_5 : List UInt8 := [3, 7, 182, 0, 87, 42, 182, 0, 79, 42, 180, 0, 18, 42, 182, 0, 109, 181, 0, 218, 177]
abbrev dktX12_tongue_5 : List UInt8 := dkwX12_tongue_5 ++ []
def dkwX12_tongue_4 : List UInt8 := [18, 216, 182, 0, 75, 4, 182, 0, 87, 42, 42, 180, 0, 18, 180, 0, 218, 199, 0, 7, 4, 167, 0, 4]
abbrev dktX12_tongue_4 : List UInt8 := dkwX12_tongue_4 ++ dktX12_tongue_5
def dkwX12_tongue_3 : List UInt8 := [182, 0, 210, 167, 0, 65, 42, 18, 212, 182, 0, 75, 153, 0, 10, 42, 182, 0, 214, 167, 0, 49, 42, 42]
abbrev dktX12_tongue_3 : List UInt8 := dkwX12_tongue_3 ++ dktX12_tongue_4
def dkwX12_tongue_2 : List UInt8 := [182, 0, 109, 185, 0, 126, 2, 0, 87, 167, 0, 81, 42, 18, 208, 182, 0, 170, 153, 0, 10, 42]
abbrev dktX12_tongue_2 : List UInt8 := dkwX12_tongue_2 ++ dktX12_tongue_3
def dkwX12_tongue_1 : List UInt8 := [162, 0, 7, 4, 167, 0, 4, 3, 5, 182, 0, 87, 42, 182, 0, 79, 42, 180, 0, 18, 180, 0, 153, 42]
abbrev dktX12_tongue_1 : List UInt8 := dkwX12_tongue_1 ++ dktX12_tongue_2
def dkwX12_tongue_0 : List UInt8 := [42, 18, 207, 182, 0, 75, 153, 0, 54, 42, 42, 180, 0, 18, 180, 0, 153, 185, 0, 117, 1, 0, 16, 12]
abbrev dktX12_tongue_0 : List UInt8 := dkwX12_tongue_0 ++ dktX12_tongue_1
theorem dksX12_tongue_0 : cX12_tongue.data.toList.drop 0 = dktX12_tongue_0 := by decide +kernel
theorem dksX12_tongue_1 : cX12_tongue.data.toList.drop 24 = dktX12_tongue_1 := dk_seg dksX12_tongue_0 24 rfl rfl
theorem dksX12_tongue_2 : cX12_tongue.data.toList.drop 48 = dktX12_tongue_2 := dk_seg dksX12_tongue_1 24 rfl rfl
theorem dksX12_tongue_3 : cX12_tongue.data.toList.drop 70 = dktX12_tongue_3 := dk_seg dksX12_tongue_2 22 rfl rfl
theorem dksX12_tongue_4 : cX12_tongue.data.toList.drop 94 = dktX12_tongue_4 := dk_seg dksX12_tongue_3 24 rfl rfl
theorem dksX12_tongue_5 : cX12_tongue.data.toList.drop 118 = dktX12_tongue_5 := dk_seg dksX12_tongue_4 24 rfl rfl
theorem dX12_tongue_0 : decode cX12_tongue 0 = .ok (.aload_n 0, 1) := dk_42 (dk_at dksX12_tongue_0 0 rfl rfl)
theorem dX12_tongue_1 : decode cX12_tongue 1 = .ok (.ldc 207, 2) := dk_18 207 (dk_at dksX12_tongue_0 1 rfl rfl)
theorem dX12_tongue_3 : decode cX12_tongue 3 = .ok (.invokevirtual 75, 3) := dk_182 0 75 (dk_at dksX12_tongue_0 3 rfl rfl)
theorem dX12_tongue_6 : decode cX12_tongue 6 = .ok (.ifCond .eq 54, 3) := dk_153 0 54 (dk_at dksX12_tongue_0 6 rfl rfl)
theorem dX12_tongue_9 : decode cX12_tongue 9 = .ok (.aload_n 0, 1) := dk_42 (dk_at dksX12_tongue_0 9 rfl rfl)
theorem dX12_tongue_10 : decode cX12_tongue 10 = .ok (.aload_n 0, 1) := dk_42 (dk_at dksX12_tongue_0 10 rfl rfl)
theorem dX12_tongue_11 : decode cX12_tongue 11 = .ok (.getfield 18, 3) := dk_180 0 18 (dk_at dksX12_tongue_0 11 rfl rfl)
theorem dX12_tongue_14 : decode cX12_tongue 14 = .ok (.getfield 153, 3) := dk_180 0 153 (dk_at dksX12_tongue_0 14 rfl rfl)
theorem dX12_tongue_17 : decode cX12_tongue 17 = .ok (.invokeinterface 117 1, 5) := by decide +kernel
theorem dX12_tongue_22 : decode cX12_tongue 22 = .ok (.bipush 12, 2) := dk_16 12 (dk_at dksX12_tongue_0 22 rfl rfl)
theorem dX12_tongue_24 : decode cX12_tongue 24 = .ok (.if_icmp .ge 7, 3) := dk_162 0 7 (dk_at dksX12_tongue_1 0 rfl rfl)
theorem dX12_tongue_27 : decode cX12_tongue 27 = .ok (.iconst 1, 1) := dk_4 (dk_at dksX12_tongue_1 3 rfl rfl)
theorem dX12_tongue_28 : decode cX12_tongue 28 = .ok (.goto 4, 3) := dk_167 0 4 (dk_at dksX12_tongue_1 4 rfl rfl)
theorem dX12_tongue_31 : decode cX12_tongue 31 = .ok (.iconst 0, 1) := dk_3 (dk_at dksX12_tongue_1 7 rfl rfl)
theorem dX12_tongue_32 : decode cX12_tongue 32 = .ok (.iconst 2, 1) := dk_5 (dk_at dksX12_tongue_1 8 rfl rfl)
theorem dX12_tongue_33 : decode cX12_tongue 33 = .ok (.invokevirtual 87, 3) := dk_182 0 87 (dk_at dksX12_tongue_1 9 rfl rfl)
theorem dX12_tongue_36 : decode cX12_tongue 36 = .ok (.aload_n 0, 1) := dk_42 (dk_at dksX12_tongue_1 12 rfl rfl)
theorem dX12_tongue_37 : decode cX12_tongue 37 = .ok (.invokevirtual 79, 3) := dk_182 0 79 (dk_at dksX12_tongue_1 13 rfl rfl)
theorem dX12_tongue_40 : decode cX12_tongue 40 = .ok (.aload_n 0, 1) := dk_42 (dk_at dksX12_tongue_1 16 rfl rfl)
theorem dX12_tongue_41 : decode cX12_tongue 41 = .ok (.getfield 18, 3) := dk_180 0 18 (dk_at dksX12_tongue_1 17 rfl rfl)
theorem dX12_tongue_44 : decode cX12_tongue 44 = .ok (.getfield 153, 3) := dk_180 0 153 (dk_at dksX12_tongue_1 20 rfl rfl)
theorem dX12_tongue_47 : decode cX12_tongue 47 = .ok (.aload_n 0, 1) := dk_42 (dk_at dksX12_tongue_1 23 rfl rfl)
theorem dX12_tongue_48 : decode cX12_tongue 48 = .ok (.invokevirtual 109, 3) := dk_182 0 109 (dk_at dksX12_tongue_2 0 rfl rfl)
theorem dX12_tongue_51 : decode cX12_tongue 51 = .ok (.invokeinterface 126 2, 5) := by decide +kernel
theorem dX12_tongue_56 : decode cX12_tongue 56 = .ok (.pop, 1) := dk_87 (dk_at dksX12_tongue_2 8 rfl rfl)
theorem dX12_tongue_57 : decode cX12_tongue 57 = .ok (.goto 81, 3) := dk_167 0 81 (dk_at dksX12_tongue_2 9 rfl rfl)
theorem dX12_tongue_60 : decode cX12_tongue 60 = .ok (.aload_n 0, 1) := dk_42 (dk_at dksX12_tongue_2 12 rfl rfl)
theorem dX12_tongue_61 : decode cX12_tongue 61 = .ok (.ldc 208, 2) := dk_18 208 (dk_at dksX12_tongue_2 13 rfl rfl)
theorem dX12_tongue_63 : decode cX12_tongue 63 = .ok (.invokevirtual 170, 3) := dk_182 0 170 (dk_at dksX12_tongue_2 15 rfl rfl)
theorem dX12_tongue_66 : decode cX12_tongue 66 = .ok (.ifCond .eq 10, 3) := dk_153 0 10 (dk_at dksX12_tongue_2 18 rfl rfl)
theorem dX12_tongue_69 : decode cX12_tongue 69 = .ok (.aload_n 0, 1) := dk_42 (dk_at dksX12_tongue_2 21 rfl rfl)
theorem dX12_tongue_70 : decode cX12_tongue 70 = .ok (.invokevirtual 210, 3) := dk_182 0 210 (dk_at dksX12_tongue_3 0 rfl rfl)
theorem dX12_tongue_73 : decode cX12_tongue 73 = .ok (.goto 65, 3) := dk_167 0 65 (dk_at dksX12_tongue_3 3 rfl rfl)
theorem dX12_tongue_76 : decode cX12_tongue 76 = .ok (.aload_n 0, 1) := dk_42 (dk_at dksX12_tongue_3 6 rfl rfl)
theorem dX12_tongue_77 : decode cX12_tongue 77 = .ok (.ldc 212, 2) := dk_18 212 (dk_at dksX12_tongue_3 7 rfl rfl)
theorem dX12_tongue_79 : decode cX12_tongue 79 = .ok (.invokevirtual 75, 3) := dk_182 0 75 (dk_at dksX12_tongue_3 9 rfl rfl)
theorem dX12_tongue_82 : decode cX12_tongue 82 = .ok (.ifCond .eq 10, 3) := dk_153 0 10 (dk_at dksX12_tongue_3 12 rfl rfl)
theorem dX12_tongue_85 : decode cX12_tongue 85 = .ok (.aload_n 0, 1) := dk_42 (dk_at dksX12_tongue_3 15 rfl rfl)
theorem dX12_tongue_86 : decode cX12_tongue 86 = .ok (.invokevirtual 214, 3) := dk_182 0 214 (dk_at dksX12_tongue_3 16 rfl rfl)
theorem dX12_tongue_89 : decode cX12_tongue 89 = .ok (.goto 49, 3) := dk_167 0 49 (dk_at dksX12_tongue_3 19 rfl rfl)
theorem dX12_tongue_92 : decode cX12_tongue 92 = .ok (.aload_n 0, 1) := dk_42 (dk_at dksX12_tongue_3 22 rfl rfl)
theorem dX12_tongue_93 : decode cX12_tongue 93 = .ok (.aload_n 0, 1) := dk_42 (dk_at dksX12_tongue_3 23 rfl rfl)
theorem dX12_tongue_94 : decode cX12_tongue 94 = .ok (.ldc 216, 2) := dk_18 216 (dk_at dksX12_tongue_4 0 rfl rfl)
theorem dX12_tongue_96 : decode cX12_tongue 96 = .ok (.invokevirtual 75, 3) := dk_182 0 75 (dk_at dksX12_tongue_4 2 rfl rfl)
theorem dX12_tongue_99 : decode cX12_tongue 99 = .ok (.iconst 1, 1) := dk_4 (dk_at dksX12_tongue_4 5 rfl rfl)
theorem dX12_tongue_100 : decode cX12_tongue 100 = .ok (.invokevirtual 87, 3) := dk_182 0 87 (dk_at dksX12_tongue_4 6 rfl rfl)
theorem dX12_tongue_103 : decode cX12_tongue 103 = .ok (.aload_n 0, 1) := dk_42 (dk_at dksX12_tongue_4 9 rfl rfl)
theorem dX12_tongue_104 : decode cX12_tongue 104 = .ok (.aload_n 0, 1) := dk_42 (dk_at dksX12_tongue_4 10 rfl rfl)
theorem dX12_tongue_105 : decode cX12_tongue 105 = .ok (.getfield 18, 3) := dk_180 0 18 (dk_at dksX12_tongue_4 11 rfl rfl)
theorem dX12_tongue_108 : decode cX12_tongue 108 = .ok (.getfield 218, 3) := dk_180 0 218 (dk_at dksX12_tongue_4 14 rfl rfl)
theorem dX12_tongue_111 : decode cX12_tongue 111 = .ok (.ifnonnull 7, 3) := dk_199 0 7 (dk_at dksX12_tongue_4 17 rfl rfl)
theorem dX12_tongue_114 : decode cX12_tongue 114 = .ok (.iconst 1, 1) := dk_4 (dk_at dksX12_tongue_4 20 rfl rfl)
theorem dX12_tongue_115 : decode cX12_tongue 115 = .ok (.goto 4, 3) := dk_167 0 4 (dk_at dksX12_tongue_4 21 rfl rfl)
theorem dX12_tongue_118 : decode cX12_tongue 118 = .ok (.iconst 0, 1) := dk_3 (dk_at dksX12_tongue_5 0 rfl rfl)
theorem dX12_tongue_119 : decode cX12_tongue 119 = .ok (.iconst 4, 1) := dk_7 (dk_at dksX12_tongue_5 1 rfl rfl)
theorem dX12_tongue_120 : decode cX12_tongue 120 = .ok (.invokevirtual 87, 3) := dk_182 0 87 (dk_at dksX12_tongue_5 2 rfl rfl)
theorem dX12_tongue_123 : decode cX12_tongue 123 = .ok (.aload_n 0, 1) := dk_42 (dk_at dksX12_tongue_5 5 rfl rfl)
theorem dX12_tongue_124 : decode cX12_tongue 124 = .ok (.invokevirtual 79, 3) := dk_182 0 79 (dk_at dksX12_tongue_5 6 rfl rfl)
theorem dX12_tongue_127 : decode cX12_tongue 127 = .ok (.aload_n 0, 1) := dk_42 (dk_at dksX12_tongue_5 9 rfl rfl)
theorem dX12_tongue_128 : decode cX12_tongue 128 = .ok (.getfield 18, 3) := dk_180 0 18 (dk_at dksX12_tongue_5 10 rfl rfl)
theorem dX12_tongue_131 : decode cX12_tongue 131 = .ok (.aload_n 0, 1) := dk_42 (dk_at dksX12_tongue_5 13 rfl rfl)
theorem dX12_tongue_132 : decode cX12_tongue 132 = .ok (.invokevirtual 109, 3) := dk_182 0 109 (dk_at dksX12_tongue_5 14 rfl rfl)
theorem dX12_tongue_135 : decode cX12_tongue 135 = .ok (.putfield 218, 3) := dk_181 0 218 (dk_at dksX12_tongue_5 17 rfl rfl)
theorem dX12_tongue_138 : decode cX12_tongue 138 = .ok (.return_, 1) := dk_177 (dk_at dksX12_tongue_5 20 rfl rfl)
abbrev cX12_letters : ByteArray := prog_9_method_13_code
def yX12_letters : MethodName := ⟨RX12, "letters", "()LEndingTown$Letters;"⟩
def dkwX12_letters_2 : List UInt8 := [180, 0, 3, 180, 0, 29, 42, 180, 0, 41, 42, 180, 0, 63, 183, 0, 100, 76, 42, 182, 0, 79, 43, 176]
abbrev dktX12_letters_2 : List UInt8 := dkwX12_letters_2 ++ []
def dkwX12_letters_1 : List UInt8 := [180, 0, 41, 100, 16, 8, 163, 0, 7, 4, 167, 0, 4, 3, 5, 182, 0, 87, 187, 0, 98, 89, 42]
abbrev dktX12_letters_1 : List UInt8 := dkwX12_letters_1 ++ dktX12_letters_2
def dkwX12_letters_0 : List UInt8 := [42, 42, 180, 0, 44, 4, 160, 0, 7, 4, 167, 0, 4, 3, 4, 182, 0, 87, 42, 42, 180, 0, 63, 42]
abbrev dktX12_letters_0 : List UInt8 := dkwX12_letters_0 ++ dktX12_letters_1
theorem dksX12_letters_0 : cX12_letters.data.toList.drop 0 = dktX12_letters_0 := by decide +kernel
theorem dksX12_letters_1 : cX12_letters.data.toList.drop 24 = dktX12_letters_1 := dk_seg dksX12_letters_0 24 rfl rfl
theorem dksX12_letters_2 : cX12_letters.data.toList.drop 47 = dktX12_letters_2 := dk_seg dksX12_letters_1 23 rfl rfl
theorem dX12_letters_0 : decode cX12_letters 0 = .ok (.aload_n 0, 1) := dk_42 (dk_at dksX12_letters_0 0 rfl rfl)
theorem dX12_letters_1 : decode cX12_letters 1 = .ok (.aload_n 0, 1) := dk_42 (dk_at dksX12_letters_0 1 rfl rfl)
theorem dX12_letters_2 : decode cX12_letters 2 = .ok (.getfield 44, 3) := dk_180 0 44 (dk_at dksX12_letters_0 2 rfl rfl)
theorem dX12_letters_5 : decode cX12_letters 5 = .ok (.iconst 1, 1) := dk_4 (dk_at dksX12_letters_0 5 rfl rfl)
theorem dX12_letters_6 : decode cX12_letters 6 = .ok (.if_icmp .ne 7, 3) := dk_160 0 7 (dk_at dksX12_letters_0 6 rfl rfl)
theorem dX12_letters_9 : decode cX12_letters 9 = .ok (.iconst 1, 1) := dk_4 (dk_at dksX12_letters_0 9 rfl rfl)
theorem dX12_letters_10 : decode cX12_letters 10 = .ok (.goto 4, 3) := dk_167 0 4 (dk_at dksX12_letters_0 10 rfl rfl)
theorem dX12_letters_13 : decode cX12_letters 13 = .ok (.iconst 0, 1) := dk_3 (dk_at dksX12_letters_0 13 rfl rfl)
theorem dX12_letters_14 : decode cX12_letters 14 = .ok (.iconst 1, 1) := dk_4 (dk_at dksX12_letters_0 14 rfl rfl)
theorem dX12_letters_15 : decode cX12_letters 15 = .ok (.invokevirtual 87, 3) := dk_182 0 87 (dk_at dksX12_letters_0 15 rfl rfl)
theorem dX12_letters_18 : decode cX12_letters 18 = .ok (.aload_n 0, 1) := dk_42 (dk_at dksX12_letters_0 18 rfl rfl)
theorem dX12_letters_19 : decode cX12_letters 19 = .ok (.aload_n 0, 1) := dk_42 (dk_at dksX12_letters_0 19 rfl rfl)
theorem dX12_letters_20 : decode cX12_letters 20 = .ok (.getfield 63, 3) := dk_180 0 63 (dk_at dksX12_letters_0 20 rfl rfl)
theorem dX12_letters_23 : decode cX12_letters 23 = .ok (.aload_n 0, 1) := dk_42 (dk_at dksX12_letters_0 23 rfl rfl)
theorem dX12_letters_24 : decode cX12_letters 24 = .ok (.getfield 41, 3) := dk_180 0 41 (dk_at dksX12_letters_1 0 rfl rfl)
theorem dX12_letters_27 : decode cX12_letters 27 = .ok (.isub, 1) := dk_100 (dk_at dksX12_letters_1 3 rfl rfl)
theorem dX12_letters_28 : decode cX12_letters 28 = .ok (.bipush 8, 2) := dk_16 8 (dk_at dksX12_letters_1 4 rfl rfl)
theorem dX12_letters_30 : decode cX12_letters 30 = .ok (.if_icmp .gt 7, 3) := dk_163 0 7 (dk_at dksX12_letters_1 6 rfl rfl)
theorem dX12_letters_33 : decode cX12_letters 33 = .ok (.iconst 1, 1) := dk_4 (dk_at dksX12_letters_1 9 rfl rfl)
theorem dX12_letters_34 : decode cX12_letters 34 = .ok (.goto 4, 3) := dk_167 0 4 (dk_at dksX12_letters_1 10 rfl rfl)
theorem dX12_letters_37 : decode cX12_letters 37 = .ok (.iconst 0, 1) := dk_3 (dk_at dksX12_letters_1 13 rfl rfl)
theorem dX12_letters_38 : decode cX12_letters 38 = .ok (.iconst 2, 1) := dk_5 (dk_at dksX12_letters_1 14 rfl rfl)
theorem dX12_letters_39 : decode cX12_letters 39 = .ok (.invokevirtual 87, 3) := dk_182 0 87 (dk_at dksX12_letters_1 15 rfl rfl)
theorem dX12_letters_42 : decode cX12_letters 42 = .ok (.new 98, 3) := dk_187 0 98 (dk_at dksX12_letters_1 18 rfl rfl)
theorem dX12_letters_45 : decode cX12_letters 45 = .ok (.dup, 1) := dk_89 (dk_at dksX12_letters_1 21 rfl rfl)
theorem dX12_letters_46 : decode cX12_letters 46 = .ok (.aload_n 0, 1) := dk_42 (dk_at dksX12_letters_1 22 rfl rfl)
theorem dX12_letters_47 : decode cX12_letters 47 = .ok (.getfield 3, 3) := dk_180 0 3 (dk_at dksX12_letters_2 0 rfl rfl)
theorem dX12_letters_50 : decode cX12_letters 50 = .ok (.getfield 29, 3) := dk_180 0 29 (dk_at dksX12_letters_2 3 rfl rfl)
theorem dX12_letters_53 : decode cX12_letters 53 = .ok (.aload_n 0, 1) := dk_42 (dk_at dksX12_letters_2 6 rfl rfl)
theorem dX12_letters_54 : decode cX12_letters 54 = .ok (.getfield 41, 3) := dk_180 0 41 (dk_at dksX12_letters_2 7 rfl rfl)
theorem dX12_letters_57 : decode cX12_letters 57 = .ok (.aload_n 0, 1) := dk_42 (dk_at dksX12_letters_2 10 rfl rfl)
theorem dX12_letters_58 : decode cX12_letters 58 = .ok (.getfield 63, 3) := dk_180 0 63 (dk_at dksX12_letters_2 11 rfl rfl)
theorem dX12_letters_61 : decode cX12_letters 61 = .ok (.invokespecial 100, 3) := dk_183 0 100 (dk_at dksX12_letters_2 14 rfl rfl)
theorem dX12_letters_64 : decode cX12_letters 64 = .ok (.astore_n 1, 1) := dk_76 (dk_at dksX12_letters_2 17 rfl rfl)
theorem dX12_letters_65 : decode cX12_letters 65 = .ok (.aload_n 0, 1) := dk_42 (dk_at dksX12_letters_2 18 rfl rfl)
theorem dX12_letters_66 : decode cX12_letters 66 = .ok (.invokevirtual 79, 3) := dk_182 0 79 (dk_at dksX12_letters_2 19 rfl rfl)
theorem dX12_letters_69 : decode cX12_letters 69 = .ok (.aload_n 1, 1) := dk_43 (dk_at dksX12_letters_2 22 rfl rfl)
theorem dX12_letters_70 : decode cX12_letters 70 = .ok (.areturn, 1) := dk_176 (dk_at dksX12_letters_2 23 rfl rfl)
abbrev cX12_ending : ByteArray := prog_9_method_14_code
def yX12_ending : MethodName := ⟨RX12, "ending", "()V"⟩
def dkwX12_ending_2 : List UInt8 := [180, 0, 105, 8, 27, 104, 28, 96, 42, 182, 0, 109, 83, 177]
abbrev dktX12_ending_2 : List UInt8 := dkwX12_ending_2 ++ []
def dkwX12_ending_1 : List UInt8 := [104, 28, 96, 50, 199, 0, 7, 4, 167, 0, 4, 3, 7, 182, 0, 87, 42, 182, 0, 79, 42, 180, 0, 18]
abbrev dktX12_ending_1 : List UInt8 := dkwX12_ending_1 ++ dktX12_ending_2
def dkwX12_ending_0 : List UInt8 := [42, 3, 5, 182, 0, 103, 60, 42, 3, 7, 182, 0, 91, 61, 42, 42, 180, 0, 18, 180, 0, 105, 8, 27]
abbrev dktX12_ending_0 : List UInt8 := dkwX12_ending_0 ++ dktX12_ending_1
theorem dksX12_ending_0 : cX12_ending.data.toList.drop 0 = dktX12_ending_0 := by decide +kernel
theorem dksX12_ending_1 : cX12_ending.data.toList.drop 24 = dktX12_ending_1 := dk_seg dksX12_ending_0 24 rfl rfl
theorem dksX12_ending_2 : cX12_ending.data.toList.drop 48 = dktX12_ending_2 := dk_seg dksX12_ending_1 24 rfl rfl
theorem dX12_ending_0 : decode cX12_ending 0 = .ok (.aload_n 0, 1) := dk_42 (dk_at dksX12_ending_0 0 rfl rfl)
theorem dX12_ending_1 : decode cX12_ending 1 = .ok (.iconst 0, 1) := dk_3 (dk_at dksX12_ending_0 1 rfl rfl)
theorem dX12_ending_2 : decode cX12_ending 2 = .ok (.iconst 2, 1) := dk_5 (dk_at dksX12_ending_0 2 rfl rfl)
theorem dX12_ending_3 : decode cX12_ending 3 = .ok (.invokevirtual 103, 3) := dk_182 0 103 (dk_at dksX12_ending_0 3 rfl rfl)
theorem dX12_ending_6 : decode cX12_ending 6 = .ok (.istore_n 1, 1) := dk_60 (dk_at dksX12_ending_0 6 rfl rfl)
theorem dX12_ending_7 : decode cX12_ending 7 = .ok (.aload_n 0, 1) := dk_42 (dk_at dksX12_ending_0 7 rfl rfl)
theorem dX12_ending_8 : decode cX12_ending 8 = .ok (.iconst 0, 1) := dk_3 (dk_at dksX12_ending_0 8 rfl rfl)
theorem dX12_ending_9 : decode cX12_ending 9 = .ok (.iconst 4, 1) := dk_7 (dk_at dksX12_ending_0 9 rfl rfl)
theorem dX12_ending_10 : decode cX12_ending 10 = .ok (.invokevirtual 91, 3) := dk_182 0 91 (dk_at dksX12_ending_0 10 rfl rfl)
theorem dX12_ending_13 : decode cX12_ending 13 = .ok (.istore_n 2, 1) := dk_61 (dk_at dksX12_ending_0 13 rfl rfl)
theorem dX12_ending_14 : decode cX12_ending 14 = .ok (.aload_n 0, 1) := dk_42 (dk_at dksX12_ending_0 14 rfl rfl)
theorem dX12_ending_15 : decode cX12_ending 15 = .ok (.aload_n 0, 1) := dk_42 (dk_at dksX12_ending_0 15 rfl rfl)
theorem dX12_ending_16 : decode cX12_ending 16 = .ok (.getfield 18, 3) := dk_180 0 18 (dk_at dksX12_ending_0 16 rfl rfl)
theorem dX12_ending_19 : decode cX12_ending 19 = .ok (.getfield 105, 3) := dk_180 0 105 (dk_at dksX12_ending_0 19 rfl rfl)
theorem dX12_ending_22 : decode cX12_ending 22 = .ok (.iconst 5, 1) := dk_8 (dk_at dksX12_ending_0 22 rfl rfl)
theorem dX12_ending_23 : decode cX12_ending 23 = .ok (.iload_n 1, 1) := dk_27 (dk_at dksX12_ending_0 23 rfl rfl)
theorem dX12_ending_24 : decode cX12_ending 24 = .ok (.imul, 1) := dk_104 (dk_at dksX12_ending_1 0 rfl rfl)
theorem dX12_ending_25 : decode cX12_ending 25 = .ok (.iload_n 2, 1) := dk_28 (dk_at dksX12_ending_1 1 rfl rfl)
theorem dX12_ending_26 : decode cX12_ending 26 = .ok (.iadd, 1) := dk_96 (dk_at dksX12_ending_1 2 rfl rfl)
theorem dX12_ending_27 : decode cX12_ending 27 = .ok (.aaload, 1) := dk_50 (dk_at dksX12_ending_1 3 rfl rfl)
theorem dX12_ending_28 : decode cX12_ending 28 = .ok (.ifnonnull 7, 3) := dk_199 0 7 (dk_at dksX12_ending_1 4 rfl rfl)
theorem dX12_ending_31 : decode cX12_ending 31 = .ok (.iconst 1, 1) := dk_4 (dk_at dksX12_ending_1 7 rfl rfl)
theorem dX12_ending_32 : decode cX12_ending 32 = .ok (.goto 4, 3) := dk_167 0 4 (dk_at dksX12_ending_1 8 rfl rfl)
theorem dX12_ending_35 : decode cX12_ending 35 = .ok (.iconst 0, 1) := dk_3 (dk_at dksX12_ending_1 11 rfl rfl)
theorem dX12_ending_36 : decode cX12_ending 36 = .ok (.iconst 4, 1) := dk_7 (dk_at dksX12_ending_1 12 rfl rfl)
theorem dX12_ending_37 : decode cX12_ending 37 = .ok (.invokevirtual 87, 3) := dk_182 0 87 (dk_at dksX12_ending_1 13 rfl rfl)
theorem dX12_ending_40 : decode cX12_ending 40 = .ok (.aload_n 0, 1) := dk_42 (dk_at dksX12_ending_1 16 rfl rfl)
theorem dX12_ending_41 : decode cX12_ending 41 = .ok (.invokevirtual 79, 3) := dk_182 0 79 (dk_at dksX12_ending_1 17 rfl rfl)
theorem dX12_ending_44 : decode cX12_ending 44 = .ok (.aload_n 0, 1) := dk_42 (dk_at dksX12_ending_1 20 rfl rfl)
theorem dX12_ending_45 : decode cX12_ending 45 = .ok (.getfield 18, 3) := dk_180 0 18 (dk_at dksX12_ending_1 21 rfl rfl)
theorem dX12_ending_48 : decode cX12_ending 48 = .ok (.getfield 105, 3) := dk_180 0 105 (dk_at dksX12_ending_2 0 rfl rfl)
theorem dX12_ending_51 : decode cX12_ending 51 = .ok (.iconst 5, 1) := dk_8 (dk_at dksX12_ending_2 3 rfl rfl)
theorem dX12_ending_52 : decode cX12_ending 52 = .ok (.iload_n 1, 1) := dk_27 (dk_at dksX12_ending_2 4 rfl rfl)
theorem dX12_ending_53 : decode cX12_ending 53 = .ok (.imul, 1) := dk_104 (dk_at dksX12_ending_2 5 rfl rfl)
theorem dX12_ending_54 : decode cX12_ending 54 = .ok (.iload_n 2, 1) := dk_28 (dk_at dksX12_ending_2 6 rfl rfl)
theorem dX12_ending_55 : decode cX12_ending 55 = .ok (.iadd, 1) := dk_96 (dk_at dksX12_ending_2 7 rfl rfl)
theorem dX12_ending_56 : decode cX12_ending 56 = .ok (.aload_n 0, 1) := dk_42 (dk_at dksX12_ending_2 8 rfl rfl)
theorem dX12_ending_57 : decode cX12_ending 57 = .ok (.invokevirtual 109, 3) := dk_182 0 109 (dk_at dksX12_ending_2 9 rfl rfl)
theorem dX12_ending_60 : decode cX12_ending 60 = .ok (.aastore, 1) := dk_83 (dk_at dksX12_ending_2 12 rfl rfl)
theorem dX12_ending_61 : decode cX12_ending 61 = .ok (.return_, 1) := dk_177 (dk_at dksX12_ending_2 13 rfl rfl)
abbrev cX12_change : ByteArray := prog_9_method_15_code
def yX12_change : MethodName := ⟨RX12, "change", "()V"⟩
def dkwX12_change_2 : List UInt8 := [187, 0, 121, 89, 43, 44, 42, 182, 0, 109, 183, 0, 123, 185, 0, 126, 2, 0, 87, 177]
abbrev dktX12_change_2 : List UInt8 := dkwX12_change_2 ++ []
def dkwX12_change_1 : List UInt8 := [182, 0, 87, 42, 182, 0, 79, 42, 182, 0, 109, 76, 42, 182, 0, 109, 77, 42, 180, 0, 18, 180, 0, 113]
abbrev dktX12_change_1 : List UInt8 := dkwX12_change_1 ++ dktX12_change_2
def dkwX12_change_0 : List UInt8 := [42, 42, 180, 0, 18, 180, 0, 113, 185, 0, 117, 1, 0, 16, 6, 162, 0, 7, 4, 167, 0, 4, 3, 5]
abbrev dktX12_change_0 : List UInt8 := dkwX12_change_0 ++ dktX12_change_1
theorem dksX12_change_0 : cX12_change.data.toList.drop 0 = dktX12_change_0 := by decide +kernel
theorem dksX12_change_1 : cX12_change.data.toList.drop 24 = dktX12_change_1 := dk_seg dksX12_change_0 24 rfl rfl
theorem dksX12_change_2 : cX12_change.data.toList.drop 48 = dktX12_change_2 := dk_seg dksX12_change_1 24 rfl rfl
theorem dX12_change_0 : decode cX12_change 0 = .ok (.aload_n 0, 1) := dk_42 (dk_at dksX12_change_0 0 rfl rfl)
theorem dX12_change_1 : decode cX12_change 1 = .ok (.aload_n 0, 1) := dk_42 (dk_at dksX12_change_0 1 rfl rfl)
theorem dX12_change_2 : decode cX12_change 2 = .ok (.getfield 18, 3) := dk_180 0 18 (dk_at dksX12_change_0 2 rfl rfl)
theorem dX12_change_5 : decode cX12_change 5 = .ok (.getfield 113, 3) := dk_180 0 113 (dk_at dksX12_change_0 5 rfl rfl)
theorem dX12_change_8 : decode cX12_change 8 = .ok (.invokeinterface 117 1, 5) := by decide +kernel
theorem dX12_change_13 : decode cX12_change 13 = .ok (.bipush 6, 2) := dk_16 6 (dk_at dksX12_change_0 13 rfl rfl)
theorem dX12_change_15 : decode cX12_change 15 = .ok (.if_icmp .ge 7, 3) := dk_162 0 7 (dk_at dksX12_change_0 15 rfl rfl)
theorem dX12_change_18 : decode cX12_change 18 = .ok (.iconst 1, 1) := dk_4 (dk_at dksX12_change_0 18 rfl rfl)
theorem dX12_change_19 : decode cX12_change 19 = .ok (.goto 4, 3) := dk_167 0 4 (dk_at dksX12_change_0 19 rfl rfl)
theorem dX12_change_22 : decode cX12_change 22 = .ok (.iconst 0, 1) := dk_3 (dk_at dksX12_change_0 22 rfl rfl)
theorem dX12_change_23 : decode cX12_change 23 = .ok (.iconst 2, 1) := dk_5 (dk_at dksX12_change_0 23 rfl rfl)
theorem dX12_change_24 : decode cX12_change 24 = .ok (.invokevirtual 87, 3) := dk_182 0 87 (dk_at dksX12_change_1 0 rfl rfl)
theorem dX12_change_27 : decode cX12_change 27 = .ok (.aload_n 0, 1) := dk_42 (dk_at dksX12_change_1 3 rfl rfl)
theorem dX12_change_28 : decode cX12_change 28 = .ok (.invokevirtual 79, 3) := dk_182 0 79 (dk_at dksX12_change_1 4 rfl rfl)
theorem dX12_change_31 : decode cX12_change 31 = .ok (.aload_n 0, 1) := dk_42 (dk_at dksX12_change_1 7 rfl rfl)
theorem dX12_change_32 : decode cX12_change 32 = .ok (.invokevirtual 109, 3) := dk_182 0 109 (dk_at dksX12_change_1 8 rfl rfl)
theorem dX12_change_35 : decode cX12_change 35 = .ok (.astore_n 1, 1) := dk_76 (dk_at dksX12_change_1 11 rfl rfl)
theorem dX12_change_36 : decode cX12_change 36 = .ok (.aload_n 0, 1) := dk_42 (dk_at dksX12_change_1 12 rfl rfl)
theorem dX12_change_37 : decode cX12_change 37 = .ok (.invokevirtual 109, 3) := dk_182 0 109 (dk_at dksX12_change_1 13 rfl rfl)
theorem dX12_change_40 : decode cX12_change 40 = .ok (.astore_n 2, 1) := dk_77 (dk_at dksX12_change_1 16 rfl rfl)
theorem dX12_change_41 : decode cX12_change 41 = .ok (.aload_n 0, 1) := dk_42 (dk_at dksX12_change_1 17 rfl rfl)
theorem dX12_change_42 : decode cX12_change 42 = .ok (.getfield 18, 3) := dk_180 0 18 (dk_at dksX12_change_1 18 rfl rfl)
theorem dX12_change_45 : decode cX12_change 45 = .ok (.getfield 113, 3) := dk_180 0 113 (dk_at dksX12_change_1 21 rfl rfl)
theorem dX12_change_48 : decode cX12_change 48 = .ok (.new 121, 3) := dk_187 0 121 (dk_at dksX12_change_2 0 rfl rfl)
theorem dX12_change_51 : decode cX12_change 51 = .ok (.dup, 1) := dk_89 (dk_at dksX12_change_2 3 rfl rfl)
theorem dX12_change_52 : decode cX12_change 52 = .ok (.aload_n 1, 1) := dk_43 (dk_at dksX12_change_2 4 rfl rfl)
theorem dX12_change_53 : decode cX12_change 53 = .ok (.aload_n 2, 1) := dk_44 (dk_at dksX12_change_2 5 rfl rfl)
theorem dX12_change_54 : decode cX12_change 54 = .ok (.aload_n 0, 1) := dk_42 (dk_at dksX12_change_2 6 rfl rfl)
theorem dX12_change_55 : decode cX12_change 55 = .ok (.invokevirtual 109, 3) := dk_182 0 109 (dk_at dksX12_change_2 7 rfl rfl)
theorem dX12_change_58 : decode cX12_change 58 = .ok (.invokespecial 123, 3) := dk_183 0 123 (dk_at dksX12_change_2 10 rfl rfl)
theorem dX12_change_61 : decode cX12_change 61 = .ok (.invokeinterface 126 2, 5) := by decide +kernel
theorem dX12_change_66 : decode cX12_change 66 = .ok (.pop, 1) := dk_87 (dk_at dksX12_change_2 18 rfl rfl)
theorem dX12_change_67 : decode cX12_change 67 = .ok (.return_, 1) := dk_177 (dk_at dksX12_change_2 19 rfl rfl)
abbrev cX12_words : ByteArray := prog_9_method_25_code
def yX12_words : MethodName := ⟨RX12, "words", "()Ljava/util/List;"⟩
def dkwX12_words_4 : List UInt8 := [1, 176]
abbrev dktX12_words_4 : List UInt8 := dkwX12_words_4 ++ []
def dkwX12_words_3 : List UInt8 := [180, 0, 44, 154, 0, 21, 43, 185, 0, 117, 1, 0, 4, 5, 184, 0, 37, 153, 0, 7, 43, 167, 0, 4]
abbrev dktX12_words_3 : List UInt8 := dkwX12_words_3 ++ dktX12_words_4
def dkwX12_words_2 : List UInt8 := [180, 0, 41, 42, 180, 0, 63, 183, 0, 100, 185, 0, 126, 2, 0, 87, 42, 182, 0, 79, 167, 255, 205, 42]
abbrev dktX12_words_2 : List UInt8 := dkwX12_words_2 ++ dktX12_words_3
def dkwX12_words_1 : List UInt8 := [185, 0, 117, 1, 0, 6, 162, 0, 39, 43, 187, 0, 98, 89, 42, 180, 0, 3, 180, 0, 29, 42]
abbrev dktX12_words_1 : List UInt8 := dkwX12_words_1 ++ dktX12_words_2
def dkwX12_words_0 : List UInt8 := [187, 0, 249, 89, 183, 0, 251, 76, 42, 182, 0, 79, 42, 180, 0, 44, 4, 160, 0, 49, 43]
abbrev dktX12_words_0 : List UInt8 := dkwX12_words_0 ++ dktX12_words_1
theorem dksX12_words_0 : cX12_words.data.toList.drop 0 = dktX12_words_0 := by decide +kernel
theorem dksX12_words_1 : cX12_words.data.toList.drop 21 = dktX12_words_1 := dk_seg dksX12_words_0 21 rfl rfl
theorem dksX12_words_2 : cX12_words.data.toList.drop 43 = dktX12_words_2 := dk_seg dksX12_words_1 22 rfl rfl
theorem dksX12_words_3 : cX12_words.data.toList.drop 67 = dktX12_words_3 := dk_seg dksX12_words_2 24 rfl rfl
theorem dksX12_words_4 : cX12_words.data.toList.drop 91 = dktX12_words_4 := dk_seg dksX12_words_3 24 rfl rfl
theorem dX12_words_0 : decode cX12_words 0 = .ok (.new 249, 3) := dk_187 0 249 (dk_at dksX12_words_0 0 rfl rfl)
theorem dX12_words_3 : decode cX12_words 3 = .ok (.dup, 1) := dk_89 (dk_at dksX12_words_0 3 rfl rfl)
theorem dX12_words_4 : decode cX12_words 4 = .ok (.invokespecial 251, 3) := dk_183 0 251 (dk_at dksX12_words_0 4 rfl rfl)
theorem dX12_words_7 : decode cX12_words 7 = .ok (.astore_n 1, 1) := dk_76 (dk_at dksX12_words_0 7 rfl rfl)
theorem dX12_words_8 : decode cX12_words 8 = .ok (.aload_n 0, 1) := dk_42 (dk_at dksX12_words_0 8 rfl rfl)
theorem dX12_words_9 : decode cX12_words 9 = .ok (.invokevirtual 79, 3) := dk_182 0 79 (dk_at dksX12_words_0 9 rfl rfl)
theorem dX12_words_12 : decode cX12_words 12 = .ok (.aload_n 0, 1) := dk_42 (dk_at dksX12_words_0 12 rfl rfl)
theorem dX12_words_13 : decode cX12_words 13 = .ok (.getfield 44, 3) := dk_180 0 44 (dk_at dksX12_words_0 13 rfl rfl)
theorem dX12_words_16 : decode cX12_words 16 = .ok (.iconst 1, 1) := dk_4 (dk_at dksX12_words_0 16 rfl rfl)
theorem dX12_words_17 : decode cX12_words 17 = .ok (.if_icmp .ne 49, 3) := dk_160 0 49 (dk_at dksX12_words_0 17 rfl rfl)
theorem dX12_words_20 : decode cX12_words 20 = .ok (.aload_n 1, 1) := dk_43 (dk_at dksX12_words_0 20 rfl rfl)
theorem dX12_words_21 : decode cX12_words 21 = .ok (.invokeinterface 117 1, 5) := by decide +kernel
theorem dX12_words_26 : decode cX12_words 26 = .ok (.iconst 3, 1) := dk_6 (dk_at dksX12_words_1 5 rfl rfl)
theorem dX12_words_27 : decode cX12_words 27 = .ok (.if_icmp .ge 39, 3) := dk_162 0 39 (dk_at dksX12_words_1 6 rfl rfl)
theorem dX12_words_30 : decode cX12_words 30 = .ok (.aload_n 1, 1) := dk_43 (dk_at dksX12_words_1 9 rfl rfl)
theorem dX12_words_31 : decode cX12_words 31 = .ok (.new 98, 3) := dk_187 0 98 (dk_at dksX12_words_1 10 rfl rfl)
theorem dX12_words_34 : decode cX12_words 34 = .ok (.dup, 1) := dk_89 (dk_at dksX12_words_1 13 rfl rfl)
theorem dX12_words_35 : decode cX12_words 35 = .ok (.aload_n 0, 1) := dk_42 (dk_at dksX12_words_1 14 rfl rfl)
theorem dX12_words_36 : decode cX12_words 36 = .ok (.getfield 3, 3) := dk_180 0 3 (dk_at dksX12_words_1 15 rfl rfl)
theorem dX12_words_39 : decode cX12_words 39 = .ok (.getfield 29, 3) := dk_180 0 29 (dk_at dksX12_words_1 18 rfl rfl)
theorem dX12_words_42 : decode cX12_words 42 = .ok (.aload_n 0, 1) := dk_42 (dk_at dksX12_words_1 21 rfl rfl)
theorem dX12_words_43 : decode cX12_words 43 = .ok (.getfield 41, 3) := dk_180 0 41 (dk_at dksX12_words_2 0 rfl rfl)
theorem dX12_words_46 : decode cX12_words 46 = .ok (.aload_n 0, 1) := dk_42 (dk_at dksX12_words_2 3 rfl rfl)
theorem dX12_words_47 : decode cX12_words 47 = .ok (.getfield 63, 3) := dk_180 0 63 (dk_at dksX12_words_2 4 rfl rfl)
theorem dX12_words_50 : decode cX12_words 50 = .ok (.invokespecial 100, 3) := dk_183 0 100 (dk_at dksX12_words_2 7 rfl rfl)
theorem dX12_words_53 : decode cX12_words 53 = .ok (.invokeinterface 126 2, 5) := by decide +kernel
theorem dX12_words_58 : decode cX12_words 58 = .ok (.pop, 1) := dk_87 (dk_at dksX12_words_2 15 rfl rfl)
theorem dX12_words_59 : decode cX12_words 59 = .ok (.aload_n 0, 1) := dk_42 (dk_at dksX12_words_2 16 rfl rfl)
theorem dX12_words_60 : decode cX12_words 60 = .ok (.invokevirtual 79, 3) := dk_182 0 79 (dk_at dksX12_words_2 17 rfl rfl)
theorem dX12_words_63 : decode cX12_words 63 = .ok (.goto (-51), 3) := dk_167 255 205 (dk_at dksX12_words_2 20 rfl rfl)
theorem dX12_words_66 : decode cX12_words 66 = .ok (.aload_n 0, 1) := dk_42 (dk_at dksX12_words_2 23 rfl rfl)
theorem dX12_words_67 : decode cX12_words 67 = .ok (.getfield 44, 3) := dk_180 0 44 (dk_at dksX12_words_3 0 rfl rfl)
theorem dX12_words_70 : decode cX12_words 70 = .ok (.ifCond .ne 21, 3) := dk_154 0 21 (dk_at dksX12_words_3 3 rfl rfl)
theorem dX12_words_73 : decode cX12_words 73 = .ok (.aload_n 1, 1) := dk_43 (dk_at dksX12_words_3 6 rfl rfl)
theorem dX12_words_74 : decode cX12_words 74 = .ok (.invokeinterface 117 1, 5) := by decide +kernel
theorem dX12_words_79 : decode cX12_words 79 = .ok (.iconst 1, 1) := dk_4 (dk_at dksX12_words_3 12 rfl rfl)
theorem dX12_words_80 : decode cX12_words 80 = .ok (.iconst 2, 1) := dk_5 (dk_at dksX12_words_3 13 rfl rfl)
theorem dX12_words_81 : decode cX12_words 81 = .ok (.invokestatic 37, 3) := dk_184 0 37 (dk_at dksX12_words_3 14 rfl rfl)
theorem dX12_words_84 : decode cX12_words 84 = .ok (.ifCond .eq 7, 3) := dk_153 0 7 (dk_at dksX12_words_3 17 rfl rfl)
theorem dX12_words_87 : decode cX12_words 87 = .ok (.aload_n 1, 1) := dk_43 (dk_at dksX12_words_3 20 rfl rfl)
theorem dX12_words_88 : decode cX12_words 88 = .ok (.goto 4, 3) := dk_167 0 4 (dk_at dksX12_words_3 21 rfl rfl)
theorem dX12_words_91 : decode cX12_words 91 = .ok (.aconst_null, 1) := dk_1 (dk_at dksX12_words_4 0 rfl rfl)
theorem dX12_words_92 : decode cX12_words 92 = .ok (.areturn, 1) := dk_176 (dk_at dksX12_words_4 1 rfl rfl)
theorem q118 : (Jvm.Cond.initialized "EndingTown$Reader") ∈ lw_all := lw_g (lw_at lw_m1 19 rfl) rfl
theorem q180 : (Jvm.Cond.fieldLinkNest "EndingTown$Reader" (153 : Nat) "EndingTown$Village" "stems" "Ljava/util/List;" "EndingTown") ∈ lw_tbl := lw_at lw_m1 81 rfl
theorem q182 : (Jvm.Cond.fieldLinkNest "EndingTown$Reader" (105 : Nat) "EndingTown$Village" "endings" "[LEndingTown$Letters;" "EndingTown") ∈ lw_tbl := lw_at lw_m1 83 rfl
theorem q185 : (Jvm.Cond.fieldLinkNest "EndingTown$Reader" (113 : Nat) "EndingTown$Village" "changes" "Ljava/util/List;" "EndingTown") ∈ lw_tbl := lw_at lw_m1 86 rfl
theorem q191 : (Jvm.Cond.fieldLinkNest "EndingTown$Reader" (147 : Nat) "EndingTown$Village" "things" "Ljava/util/List;" "EndingTown") ∈ lw_tbl := lw_at lw_m1 92 rfl
theorem q195 : (Jvm.Cond.fieldLinkNest "EndingTown$Reader" (179 : Nat) "EndingTown$Village" "rules" "Ljava/util/List;" "EndingTown") ∈ lw_tbl := lw_at lw_m1 96 rfl
theorem q198 : (Jvm.Cond.fieldLinkNest "EndingTown$Reader" (143 : Nat) "EndingTown$Village" "near" "[I" "EndingTown") ∈ lw_tbl := lw_at lw_m1 99 rfl
theorem q200 : (Jvm.Cond.fieldLinkNest "EndingTown$Reader" (201 : Nat) "EndingTown$Village" "move" "[I" "EndingTown") ∈ lw_tbl := lw_at lw_m1 101 rfl
theorem q202 : (Jvm.Cond.fieldLinkNest "EndingTown$Reader" (204 : Nat) "EndingTown$Village" "chance" "[I" "EndingTown") ∈ lw_tbl := lw_at lw_m1 103 rfl
theorem q205 : (Jvm.Cond.fieldLinkNest "EndingTown$Reader" (218 : Nat) "EndingTown$Village" "not" "LEndingTown$Letters;" "EndingTown") ∈ lw_tbl := lw_at lw_m1 106 rfl
theorem q208 : (Jvm.Cond.fieldLinkNest "EndingTown$Reader" (137 : Nat) "EndingTown$Village" "places" "I" "EndingTown") ∈ lw_tbl := lw_at lw_m1 109 rfl
theorem q210 : (Jvm.Cond.fieldLinkNest "EndingTown$Reader" (198 : Nat) "EndingTown$Village" "people" "I" "EndingTown") ∈ lw_tbl := lw_at lw_m1 111 rfl
theorem q354 : (Jvm.Cond.fieldLinkNest "EndingTown$Reader" (29 : Nat) "EndingTown" "tape" "[B" "EndingTown") ∈ lw_tbl := lw_at lw_m2 15 rfl
theorem q592 : (Jvm.Cond.selects "EndingTown$Reader" ({ cls := "java/lang/Object", name := "getClass", desc := "()Ljava/lang/Class;" } : Jvm.MethodName) ({ cls := "java/lang/Object", name := "getClass", desc := "()Ljava/lang/Class;" } : Jvm.MethodName)) ∈ lw_all := lw_g (lw_at lw_m3 13 rfl) rfl
theorem q708 : (Jvm.Cond.instantiable "EndingTown$Reader" (10 : Nat)) ∈ lw_all := lw_g (lw_at lw_m3 129 rfl) rfl
theorem q710 : (Jvm.Cond.instanceMethod ({ cls := "EndingTown$Reader", name := "<init>", desc := "(LEndingTown;I)V" } : Jvm.MethodName)) ∈ lw_all := lw_g (lw_at lw_m3 131 rfl) rfl
theorem q711 : (Jvm.Cond.code ({ cls := "EndingTown$Reader", name := "<init>", desc := "(LEndingTown;I)V" } : Jvm.MethodName) prog_9_method_1_code (3 : Nat) (Option.none : Option Jvm.ClassFile.FieldType)) ∈ lw_all := lw_g (lw_at lw_m3 132 rfl) rfl
theorem q712 : (Jvm.Cond.methodLink "EndingTown$Reader" (9 : Nat) ({ cls := "java/lang/Object", name := "<init>", desc := "()V" } : Jvm.MethodName)) ∈ lw_all := lw_g (lw_at lw_m3 133 rfl) rfl
theorem q713 : (Jvm.Cond.classLink "EndingTown$Reader" (15 : Nat) "EndingTown$Village") ∈ lw_all := lw_g (lw_at lw_m3 134 rfl) rfl
theorem q714 : (Jvm.Cond.methodLink "EndingTown$Reader" (17 : Nat) ({ cls := "EndingTown$Village", name := "<init>", desc := "()V" } : Jvm.MethodName)) ∈ lw_all := lw_g (lw_at lw_m3 135 rfl) rfl
theorem q715 : (Jvm.Cond.fieldLink "EndingTown$Reader" (22 : Nat) "EndingTown$Reader" "size" "I") ∈ lw_all := lw_g (lw_at lw_m3 136 rfl) rfl
theorem q716 : (Jvm.Cond.fieldLink "EndingTown$Reader" (18 : Nat) "EndingTown$Reader" "told" "LEndingTown$Village;") ∈ lw_all := lw_g (lw_at lw_m3 137 rfl) rfl
theorem q717 : (Jvm.Cond.fieldLink "EndingTown$Reader" (26 : Nat) "EndingTown$Reader" "at" "I") ∈ lw_all := lw_g (lw_at lw_m3 138 rfl) rfl
theorem q718 : (Jvm.Cond.fieldLink "EndingTown$Reader" (44 : Nat) "EndingTown$Reader" "token" "I") ∈ lw_all := lw_g (lw_at lw_m3 139 rfl) rfl
theorem q719 : (Jvm.Cond.fieldLink "EndingTown$Reader" (41 : Nat) "EndingTown$Reader" "begins" "I") ∈ lw_all := lw_g (lw_at lw_m3 140 rfl) rfl
theorem q721 : (Jvm.Cond.fieldLink "EndingTown$Reader" (63 : Nat) "EndingTown$Reader" "ends" "I") ∈ lw_all := lw_g (lw_at lw_m3 142 rfl) rfl
theorem q722 : (Jvm.Cond.fieldLink "EndingTown$Reader" (54 : Nat) "EndingTown$Reader" "number" "I") ∈ lw_all := lw_g (lw_at lw_m3 143 rfl) rfl
theorem q723 : (Jvm.Cond.fieldLink "EndingTown$Reader" (130 : Nat) "EndingTown$Reader" "isPlaces" "Z") ∈ lw_all := lw_g (lw_at lw_m3 144 rfl) rfl
theorem q724 : (Jvm.Cond.fieldLink "EndingTown$Reader" (134 : Nat) "EndingTown$Reader" "isLate" "Z") ∈ lw_all := lw_g (lw_at lw_m3 145 rfl) rfl
theorem q725 : (Jvm.Cond.fieldLink "EndingTown$Reader" (3 : Nat) "EndingTown$Reader" "this$0" "LEndingTown;") ∈ lw_all := lw_g (lw_at lw_m3 146 rfl) rfl
theorem q726 : (Jvm.Cond.laysFinal "EndingTown$Reader" "EndingTown$Reader" "size" "I") ∈ lw_all := lw_g (lw_at lw_m3 147 rfl) rfl
theorem q727 : (Jvm.Cond.soleField "EndingTown$Reader" "size") ∈ lw_all := lw_g (lw_at lw_m3 148 rfl) rfl
theorem q728 : (Jvm.Cond.laysFinal "EndingTown$Reader" "EndingTown$Reader" "told" "LEndingTown$Village;") ∈ lw_all := lw_g (lw_at lw_m3 149 rfl) rfl
theorem q729 : (Jvm.Cond.soleField "EndingTown$Reader" "told") ∈ lw_all := lw_g (lw_at lw_m3 150 rfl) rfl
theorem q730 : (Jvm.Cond.lays "EndingTown$Reader" "EndingTown$Reader" "at" "I") ∈ lw_all := lw_g (lw_at lw_m3 151 rfl) rfl
theorem q731 : (Jvm.Cond.soleField "EndingTown$Reader" "at") ∈ lw_all := lw_g (lw_at lw_m3 152 rfl) rfl
theorem q732 : (Jvm.Cond.lays "EndingTown$Reader" "EndingTown$Reader" "token" "I") ∈ lw_all := lw_g (lw_at lw_m3 153 rfl) rfl
theorem q733 : (Jvm.Cond.soleField "EndingTown$Reader" "token") ∈ lw_all := lw_g (lw_at lw_m3 154 rfl) rfl
theorem q734 : (Jvm.Cond.lays "EndingTown$Reader" "EndingTown$Reader" "begins" "I") ∈ lw_all := lw_g (lw_at lw_m3 155 rfl) rfl
theorem q735 : (Jvm.Cond.soleField "EndingTown$Reader" "begins") ∈ lw_all := lw_g (lw_at lw_m3 156 rfl) rfl
theorem q736 : (Jvm.Cond.lays "EndingTown$Reader" "EndingTown$Reader" "ends" "I") ∈ lw_all := lw_g (lw_at lw_m3 157 rfl) rfl
theorem q737 : (Jvm.Cond.soleField "EndingTown$Reader" "ends") ∈ lw_all := lw_g (lw_at lw_m3 158 rfl) rfl
theorem q738 : (Jvm.Cond.lays "EndingTown$Reader" "EndingTown$Reader" "number" "I") ∈ lw_all := lw_g (lw_at lw_m3 159 rfl) rfl
theorem q739 : (Jvm.Cond.soleField "EndingTown$Reader" "number") ∈ lw_all := lw_g (lw_at lw_m3 160 rfl) rfl
theorem q740 : (Jvm.Cond.lays "EndingTown$Reader" "EndingTown$Reader" "isPlaces" "Z") ∈ lw_all := lw_g (lw_at lw_m3 161 rfl) rfl
theorem q741 : (Jvm.Cond.soleField "EndingTown$Reader" "isPlaces") ∈ lw_all := lw_g (lw_at lw_m3 162 rfl) rfl
theorem q742 : (Jvm.Cond.lays "EndingTown$Reader" "EndingTown$Reader" "isLate" "Z") ∈ lw_all := lw_g (lw_at lw_m3 163 rfl) rfl
theorem q743 : (Jvm.Cond.soleField "EndingTown$Reader" "isLate") ∈ lw_all := lw_g (lw_at lw_m3 164 rfl) rfl
theorem q744 : (Jvm.Cond.laysFinal "EndingTown$Reader" "EndingTown$Reader" "this$0" "LEndingTown;") ∈ lw_all := lw_g (lw_at lw_m3 165 rfl) rfl
theorem q745 : (Jvm.Cond.soleField "EndingTown$Reader" "this$0") ∈ lw_all := lw_g (lw_at lw_m3 166 rfl) rfl
theorem q746 : (Jvm.Cond.superclass "EndingTown$Reader" "java/lang/Object") ∈ lw_all := lw_g (lw_at lw_m3 167 rfl) rfl
theorem q748 : (Jvm.Cond.instanceMethod ({ cls := "EndingTown$Reader", name := "read", desc := "()LEndingTown$Village;" } : Jvm.MethodName)) ∈ lw_all := lw_g (lw_at lw_m3 169 rfl) rfl
theorem q749 : (Jvm.Cond.selects "EndingTown$Reader" ({ cls := "EndingTown$Reader", name := "read", desc := "()LEndingTown$Village;" } : Jvm.MethodName) ({ cls := "EndingTown$Reader", name := "read", desc := "()LEndingTown$Village;" } : Jvm.MethodName)) ∈ lw_all := lw_g (lw_at lw_m3 170 rfl) rfl
theorem q750 : (Jvm.Cond.code ({ cls := "EndingTown$Reader", name := "read", desc := "()LEndingTown$Village;" } : Jvm.MethodName) prog_9_method_24_code (1 : Nat) (Option.some (Jvm.ClassFile.FieldType.object "EndingTown$Village"))) ∈ lw_all := lw_g (lw_at lw_m3 171 rfl) rfl
theorem q751 : (Jvm.Cond.methodLink "EndingTown$Reader" (79 : Nat) ({ cls := "EndingTown$Reader", name := "next", desc := "()V" } : Jvm.MethodName)) ∈ lw_all := lw_g (lw_at lw_m3 172 rfl) rfl
theorem q752 : (Jvm.Cond.instanceMethod ({ cls := "EndingTown$Reader", name := "next", desc := "()V" } : Jvm.MethodName)) ∈ lw_all := lw_g (lw_at lw_m3 173 rfl) rfl
theorem q753 : (Jvm.Cond.selects "EndingTown$Reader" ({ cls := "EndingTown$Reader", name := "next", desc := "()V" } : Jvm.MethodName) ({ cls := "EndingTown$Reader", name := "next", desc := "()V" } : Jvm.MethodName)) ∈ lw_all := lw_g (lw_at lw_m3 174 rfl) rfl
theorem q754 : (Jvm.Cond.code ({ cls := "EndingTown$Reader", name := "next", desc := "()V" } : Jvm.MethodName) prog_9_method_5_code (1 : Nat) (Option.none : Option Jvm.ClassFile.FieldType)) ∈ lw_all := lw_g (lw_at lw_m3 175 rfl) rfl
theorem q755 : (Jvm.Cond.methodLink "EndingTown$Reader" (33 : Nat) ({ cls := "EndingTown$Reader", name := "here", desc := "()I" } : Jvm.MethodName)) ∈ lw_all := lw_g (lw_at lw_m3 176 rfl) rfl
theorem q756 : (Jvm.Cond.privateMethod ({ cls := "EndingTown$Reader", name := "here", desc := "()I" } : Jvm.MethodName)) ∈ lw_tbl := lw_at lw_m3 177 rfl
theorem q757 : (Jvm.Cond.instanceMethod ({ cls := "EndingTown$Reader", name := "here", desc := "()I" } : Jvm.MethodName)) ∈ lw_all := lw_g (lw_at lw_m3 178 rfl) rfl
theorem q758 : (Jvm.Cond.code ({ cls := "EndingTown$Reader", name := "here", desc := "()I" } : Jvm.MethodName) prog_9_method_2_code (1 : Nat) (Option.some Jvm.ClassFile.FieldType.int)) ∈ lw_all := lw_g (lw_at lw_m3 179 rfl) rfl
theorem q759 : (Jvm.Cond.methodLink "EndingTown$Reader" (47 : Nat) ({ cls := "EndingTown$Reader", name := "isLetter", desc := "()Z" } : Jvm.MethodName)) ∈ lw_all := lw_g (lw_at lw_m3 180 rfl) rfl
theorem q760 : (Jvm.Cond.privateMethod ({ cls := "EndingTown$Reader", name := "isLetter", desc := "()Z" } : Jvm.MethodName)) ∈ lw_tbl := lw_at lw_m3 181 rfl
theorem q761 : (Jvm.Cond.instanceMethod ({ cls := "EndingTown$Reader", name := "isLetter", desc := "()Z" } : Jvm.MethodName)) ∈ lw_all := lw_g (lw_at lw_m3 182 rfl) rfl
theorem q762 : (Jvm.Cond.code ({ cls := "EndingTown$Reader", name := "isLetter", desc := "()Z" } : Jvm.MethodName) prog_9_method_3_code (1 : Nat) (Option.some Jvm.ClassFile.FieldType.boolean)) ∈ lw_all := lw_g (lw_at lw_m3 183 rfl) rfl
theorem q763 : (Jvm.Cond.methodLinkNest "EndingTown$Reader" (37 : Nat) ({ cls := "EndingTown", name := "in", desc := "(III)Z" } : Jvm.MethodName) "EndingTown") ∈ lw_tbl := lw_at lw_m3 184 rfl
theorem q766 : (Jvm.Cond.methodLink "EndingTown$Reader" (51 : Nat) ({ cls := "EndingTown$Reader", name := "isDigit", desc := "()Z" } : Jvm.MethodName)) ∈ lw_all := lw_g (lw_at lw_m3 187 rfl) rfl
theorem q767 : (Jvm.Cond.privateMethod ({ cls := "EndingTown$Reader", name := "isDigit", desc := "()Z" } : Jvm.MethodName)) ∈ lw_tbl := lw_at lw_m3 188 rfl
theorem q768 : (Jvm.Cond.instanceMethod ({ cls := "EndingTown$Reader", name := "isDigit", desc := "()Z" } : Jvm.MethodName)) ∈ lw_all := lw_g (lw_at lw_m3 189 rfl) rfl
theorem q769 : (Jvm.Cond.code ({ cls := "EndingTown$Reader", name := "isDigit", desc := "()Z" } : Jvm.MethodName) prog_9_method_4_code (1 : Nat) (Option.some Jvm.ClassFile.FieldType.boolean)) ∈ lw_all := lw_g (lw_at lw_m3 190 rfl) rfl
theorem q770 : (Jvm.Cond.methodLink "EndingTown$Reader" (57 : Nat) ({ cls := "java/lang/Math", name := "min", desc := "(II)I" } : Jvm.MethodName)) ∈ lw_all := lw_g (lw_at lw_m3 191 rfl) rfl
theorem q771 : (Jvm.Cond.methodLink "EndingTown$Reader" (246 : Nat) ({ cls := "EndingTown$Reader", name := "line", desc := "()V" } : Jvm.MethodName)) ∈ lw_all := lw_g (lw_at lw_m3 192 rfl) rfl
theorem q772 : (Jvm.Cond.privateMethod ({ cls := "EndingTown$Reader", name := "line", desc := "()V" } : Jvm.MethodName)) ∈ lw_tbl := lw_at lw_m3 193 rfl
theorem q773 : (Jvm.Cond.instanceMethod ({ cls := "EndingTown$Reader", name := "line", desc := "()V" } : Jvm.MethodName)) ∈ lw_all := lw_g (lw_at lw_m3 194 rfl) rfl
theorem q774 : (Jvm.Cond.code ({ cls := "EndingTown$Reader", name := "line", desc := "()V" } : Jvm.MethodName) prog_9_method_23_code (1 : Nat) (Option.none : Option Jvm.ClassFile.FieldType)) ∈ lw_all := lw_g (lw_at lw_m3 195 rfl) rfl
theorem q775 : (Jvm.Cond.stringRef "EndingTown$Reader" (221 : Nat) "places") ∈ lw_tbl := lw_at lw_m3 196 rfl
theorem q776 : (Jvm.Cond.methodLink "EndingTown$Reader" (75 : Nat) ({ cls := "EndingTown$Reader", name := "is", desc := "(Ljava/lang/String;)Z" } : Jvm.MethodName)) ∈ lw_all := lw_g (lw_at lw_m3 197 rfl) rfl
theorem q777 : (Jvm.Cond.privateMethod ({ cls := "EndingTown$Reader", name := "is", desc := "(Ljava/lang/String;)Z" } : Jvm.MethodName)) ∈ lw_tbl := lw_at lw_m3 198 rfl
theorem q778 : (Jvm.Cond.instanceMethod ({ cls := "EndingTown$Reader", name := "is", desc := "(Ljava/lang/String;)Z" } : Jvm.MethodName)) ∈ lw_all := lw_g (lw_at lw_m3 199 rfl) rfl
theorem q779 : (Jvm.Cond.code ({ cls := "EndingTown$Reader", name := "is", desc := "(Ljava/lang/String;)Z" } : Jvm.MethodName) prog_9_method_6_code (3 : Nat) (Option.some Jvm.ClassFile.FieldType.boolean)) ∈ lw_all := lw_g (lw_at lw_m3 200 rfl) rfl
theorem q780 : (Jvm.Cond.methodLink "EndingTown$Reader" (66 : Nat) ({ cls := "java/lang/String", name := "length", desc := "()I" } : Jvm.MethodName)) ∈ lw_all := lw_g (lw_at lw_m3 201 rfl) rfl
theorem q790 : (Jvm.Cond.methodLink "EndingTown$Reader" (71 : Nat) ({ cls := "java/lang/String", name := "charAt", desc := "(I)C" } : Jvm.MethodName)) ∈ lw_all := lw_g (lw_at lw_m3 211 rfl) rfl
theorem q826 : (Jvm.Cond.methodLink "EndingTown$Reader" (222 : Nat) ({ cls := "EndingTown$Reader", name := "places", desc := "()V" } : Jvm.MethodName)) ∈ lw_all := lw_g (lw_at lw_m4 7 rfl) rfl
theorem q827 : (Jvm.Cond.privateMethod ({ cls := "EndingTown$Reader", name := "places", desc := "()V" } : Jvm.MethodName)) ∈ lw_tbl := lw_at lw_m4 8 rfl
theorem q828 : (Jvm.Cond.instanceMethod ({ cls := "EndingTown$Reader", name := "places", desc := "()V" } : Jvm.MethodName)) ∈ lw_all := lw_g (lw_at lw_m4 9 rfl) rfl
theorem q829 : (Jvm.Cond.code ({ cls := "EndingTown$Reader", name := "places", desc := "()V" } : Jvm.MethodName) prog_9_method_16_code (1 : Nat) (Option.none : Option Jvm.ClassFile.FieldType)) ∈ lw_all := lw_g (lw_at lw_m4 10 rfl) rfl
theorem q830 : (Jvm.Cond.methodLink "EndingTown$Reader" (87 : Nat) ({ cls := "EndingTown$Reader", name := "want", desc := "(ZI)V" } : Jvm.MethodName)) ∈ lw_all := lw_g (lw_at lw_m4 11 rfl) rfl
theorem q831 : (Jvm.Cond.privateMethod ({ cls := "EndingTown$Reader", name := "want", desc := "(ZI)V" } : Jvm.MethodName)) ∈ lw_tbl := lw_at lw_m4 12 rfl
theorem q832 : (Jvm.Cond.instanceMethod ({ cls := "EndingTown$Reader", name := "want", desc := "(ZI)V" } : Jvm.MethodName)) ∈ lw_all := lw_g (lw_at lw_m4 13 rfl) rfl
theorem q833 : (Jvm.Cond.code ({ cls := "EndingTown$Reader", name := "want", desc := "(ZI)V" } : Jvm.MethodName) prog_9_method_8_code (3 : Nat) (Option.none : Option Jvm.ClassFile.FieldType)) ∈ lw_all := lw_g (lw_at lw_m4 14 rfl) rfl
theorem q834 : (Jvm.Cond.classLink "EndingTown$Reader" (82 : Nat) "EndingTown$Wrong") ∈ lw_all := lw_g (lw_at lw_m4 15 rfl) rfl
theorem q843 : (Jvm.Cond.methodLink "EndingTown$Reader" (84 : Nat) ({ cls := "EndingTown$Wrong", name := "<init>", desc := "(I)V" } : Jvm.MethodName)) ∈ lw_all := lw_g (lw_at lw_m4 24 rfl) rfl
theorem q858 : (Jvm.Cond.methodLink "EndingTown$Reader" (103 : Nat) ({ cls := "EndingTown$Reader", name := "number", desc := "(II)I" } : Jvm.MethodName)) ∈ lw_all := lw_g (lw_at lw_m4 39 rfl) rfl
theorem q859 : (Jvm.Cond.privateMethod ({ cls := "EndingTown$Reader", name := "number", desc := "(II)I" } : Jvm.MethodName)) ∈ lw_tbl := lw_at lw_m4 40 rfl
theorem q860 : (Jvm.Cond.instanceMethod ({ cls := "EndingTown$Reader", name := "number", desc := "(II)I" } : Jvm.MethodName)) ∈ lw_all := lw_g (lw_at lw_m4 41 rfl) rfl
theorem q861 : (Jvm.Cond.code ({ cls := "EndingTown$Reader", name := "number", desc := "(II)I" } : Jvm.MethodName) prog_9_method_10_code (4 : Nat) (Option.some Jvm.ClassFile.FieldType.int)) ∈ lw_all := lw_g (lw_at lw_m4 42 rfl) rfl
theorem q862 : (Jvm.Cond.methodLink "EndingTown$Reader" (91 : Nat) ({ cls := "EndingTown$Reader", name := "numberNow", desc := "(II)I" } : Jvm.MethodName)) ∈ lw_all := lw_g (lw_at lw_m4 43 rfl) rfl
theorem q863 : (Jvm.Cond.privateMethod ({ cls := "EndingTown$Reader", name := "numberNow", desc := "(II)I" } : Jvm.MethodName)) ∈ lw_tbl := lw_at lw_m4 44 rfl
theorem q864 : (Jvm.Cond.instanceMethod ({ cls := "EndingTown$Reader", name := "numberNow", desc := "(II)I" } : Jvm.MethodName)) ∈ lw_all := lw_g (lw_at lw_m4 45 rfl) rfl
theorem q865 : (Jvm.Cond.code ({ cls := "EndingTown$Reader", name := "numberNow", desc := "(II)I" } : Jvm.MethodName) prog_9_method_9_code (3 : Nat) (Option.some Jvm.ClassFile.FieldType.int)) ∈ lw_all := lw_g (lw_at lw_m4 46 rfl) rfl
theorem q866 : (Jvm.Cond.stringRef "EndingTown$Reader" (224 : Nat) "near") ∈ lw_tbl := lw_at lw_m4 47 rfl
theorem q867 : (Jvm.Cond.methodLink "EndingTown$Reader" (170 : Nat) ({ cls := "EndingTown$Reader", name := "passes", desc := "(Ljava/lang/String;)Z" } : Jvm.MethodName)) ∈ lw_all := lw_g (lw_at lw_m4 48 rfl) rfl
theorem q868 : (Jvm.Cond.privateMethod ({ cls := "EndingTown$Reader", name := "passes", desc := "(Ljava/lang/String;)Z" } : Jvm.MethodName)) ∈ lw_tbl := lw_at lw_m4 49 rfl
theorem q869 : (Jvm.Cond.instanceMethod ({ cls := "EndingTown$Reader", name := "passes", desc := "(Ljava/lang/String;)Z" } : Jvm.MethodName)) ∈ lw_all := lw_g (lw_at lw_m4 50 rfl) rfl
theorem q870 : (Jvm.Cond.code ({ cls := "EndingTown$Reader", name := "passes", desc := "(Ljava/lang/String;)Z" } : Jvm.MethodName) prog_9_method_7_code (3 : Nat) (Option.some Jvm.ClassFile.FieldType.boolean)) ∈ lw_all := lw_g (lw_at lw_m4 51 rfl) rfl
theorem q871 : (Jvm.Cond.methodLink "EndingTown$Reader" (225 : Nat) ({ cls := "EndingTown$Reader", name := "near", desc := "()V" } : Jvm.MethodName)) ∈ lw_all := lw_g (lw_at lw_m4 52 rfl) rfl
theorem q872 : (Jvm.Cond.privateMethod ({ cls := "EndingTown$Reader", name := "near", desc := "()V" } : Jvm.MethodName)) ∈ lw_tbl := lw_at lw_m4 53 rfl
theorem q873 : (Jvm.Cond.instanceMethod ({ cls := "EndingTown$Reader", name := "near", desc := "()V" } : Jvm.MethodName)) ∈ lw_all := lw_g (lw_at lw_m4 54 rfl) rfl
theorem q874 : (Jvm.Cond.code ({ cls := "EndingTown$Reader", name := "near", desc := "()V" } : Jvm.MethodName) prog_9_method_17_code (3 : Nat) (Option.none : Option Jvm.ClassFile.FieldType)) ∈ lw_all := lw_g (lw_at lw_m4 55 rfl) rfl
theorem q875 : (Jvm.Cond.methodLink "EndingTown$Reader" (140 : Nat) ({ cls := "EndingTown$Reader", name := "one", desc := "(I)I" } : Jvm.MethodName)) ∈ lw_all := lw_g (lw_at lw_m4 56 rfl) rfl
theorem q876 : (Jvm.Cond.privateMethod ({ cls := "EndingTown$Reader", name := "one", desc := "(I)I" } : Jvm.MethodName)) ∈ lw_tbl := lw_at lw_m4 57 rfl
theorem q877 : (Jvm.Cond.instanceMethod ({ cls := "EndingTown$Reader", name := "one", desc := "(I)I" } : Jvm.MethodName)) ∈ lw_all := lw_g (lw_at lw_m4 58 rfl) rfl
theorem q878 : (Jvm.Cond.code ({ cls := "EndingTown$Reader", name := "one", desc := "(I)I" } : Jvm.MethodName) prog_9_method_12_code (3 : Nat) (Option.some Jvm.ClassFile.FieldType.int)) ∈ lw_all := lw_g (lw_at lw_m4 59 rfl) rfl
theorem q879 : (Jvm.Cond.methodLink "EndingTown$Reader" (94 : Nat) ({ cls := "EndingTown$Reader", name := "oneNow", desc := "(I)I" } : Jvm.MethodName)) ∈ lw_all := lw_g (lw_at lw_m4 60 rfl) rfl
theorem q880 : (Jvm.Cond.privateMethod ({ cls := "EndingTown$Reader", name := "oneNow", desc := "(I)I" } : Jvm.MethodName)) ∈ lw_tbl := lw_at lw_m4 61 rfl
theorem q881 : (Jvm.Cond.instanceMethod ({ cls := "EndingTown$Reader", name := "oneNow", desc := "(I)I" } : Jvm.MethodName)) ∈ lw_all := lw_g (lw_at lw_m4 62 rfl) rfl
theorem q882 : (Jvm.Cond.code ({ cls := "EndingTown$Reader", name := "oneNow", desc := "(I)I" } : Jvm.MethodName) prog_9_method_11_code (2 : Nat) (Option.some Jvm.ClassFile.FieldType.int)) ∈ lw_all := lw_g (lw_at lw_m4 63 rfl) rfl
theorem q883 : (Jvm.Cond.stringRef "EndingTown$Reader" (227 : Nat) "person") ∈ lw_tbl := lw_at lw_m4 64 rfl
theorem q884 : (Jvm.Cond.stringRef "EndingTown$Reader" (229 : Nat) "thing") ∈ lw_tbl := lw_at lw_m4 65 rfl
theorem q885 : (Jvm.Cond.methodLink "EndingTown$Reader" (230 : Nat) ({ cls := "EndingTown$Reader", name := "thing", desc := "()V" } : Jvm.MethodName)) ∈ lw_all := lw_g (lw_at lw_m4 66 rfl) rfl
theorem q886 : (Jvm.Cond.privateMethod ({ cls := "EndingTown$Reader", name := "thing", desc := "()V" } : Jvm.MethodName)) ∈ lw_tbl := lw_at lw_m4 67 rfl
theorem q887 : (Jvm.Cond.instanceMethod ({ cls := "EndingTown$Reader", name := "thing", desc := "()V" } : Jvm.MethodName)) ∈ lw_all := lw_g (lw_at lw_m4 68 rfl) rfl
theorem q888 : (Jvm.Cond.code ({ cls := "EndingTown$Reader", name := "thing", desc := "()V" } : Jvm.MethodName) prog_9_method_18_code (2 : Nat) (Option.none : Option Jvm.ClassFile.FieldType)) ∈ lw_all := lw_g (lw_at lw_m4 69 rfl) rfl
theorem q889 : (Jvm.Cond.interfaceEntry "EndingTown$Reader" (117 : Nat)) ∈ lw_tbl := lw_at lw_m4 70 rfl
theorem q890 : (Jvm.Cond.methodLink "EndingTown$Reader" (117 : Nat) ({ cls := "java/util/List", name := "size", desc := "()I" } : Jvm.MethodName)) ∈ lw_all := lw_g (lw_at lw_m4 71 rfl) rfl
theorem q891 : (Jvm.Cond.classLink "EndingTown$Reader" (150 : Nat) "EndingTown$Thing") ∈ lw_all := lw_g (lw_at lw_m4 72 rfl) rfl
theorem q893 : (Jvm.Cond.methodLinkNest "EndingTown$Reader" (152 : Nat) ({ cls := "EndingTown$Thing", name := "<init>", desc := "()V" } : Jvm.MethodName) "EndingTown") ∈ lw_tbl := lw_at lw_m4 74 rfl
theorem q899 : (Jvm.Cond.fieldLinkNest "EndingTown$Reader" (156 : Nat) "EndingTown$Thing" "stem" "I" "EndingTown") ∈ lw_tbl := lw_at lw_m4 80 rfl
theorem q903 : (Jvm.Cond.fieldLinkNest "EndingTown$Reader" (162 : Nat) "EndingTown$Thing" "place" "I" "EndingTown") ∈ lw_tbl := lw_at lw_m4 84 rfl
theorem q907 : (Jvm.Cond.fieldLinkNest "EndingTown$Reader" (165 : Nat) "EndingTown$Thing" "hour" "I" "EndingTown") ∈ lw_tbl := lw_at lw_m4 88 rfl
theorem q910 : (Jvm.Cond.fieldLinkNest "EndingTown$Reader" (173 : Nat) "EndingTown$Thing" "loud" "Z" "EndingTown") ∈ lw_tbl := lw_at lw_m4 91 rfl
theorem q914 : (Jvm.Cond.fieldLinkNest "EndingTown$Reader" (177 : Nat) "EndingTown$Thing" "never" "Z" "EndingTown") ∈ lw_tbl := lw_at lw_m4 95 rfl
theorem q926 : (Jvm.Cond.methodLink "EndingTown$Reader" (159 : Nat) ({ cls := "EndingTown$Village", name := "thingOf", desc := "(I)I" } : Jvm.MethodName)) ∈ lw_all := lw_g (lw_at lw_m4 107 rfl) rfl
theorem q935 : (Jvm.Cond.stringRef "EndingTown$Reader" (168 : Nat) "loud") ∈ lw_tbl := lw_at lw_m4 116 rfl
theorem q936 : (Jvm.Cond.stringRef "EndingTown$Reader" (175 : Nat) "never") ∈ lw_tbl := lw_at lw_m4 117 rfl
theorem q937 : (Jvm.Cond.interfaceEntry "EndingTown$Reader" (126 : Nat)) ∈ lw_tbl := lw_at lw_m4 118 rfl
theorem q938 : (Jvm.Cond.methodLink "EndingTown$Reader" (126 : Nat) ({ cls := "java/util/List", name := "add", desc := "(Ljava/lang/Object;)Z" } : Jvm.MethodName)) ∈ lw_all := lw_g (lw_at lw_m4 119 rfl) rfl
theorem q968 : (Jvm.Cond.stringRef "EndingTown$Reader" (232 : Nat) "rule") ∈ lw_tbl := lw_at lw_m4 149 rfl
theorem q969 : (Jvm.Cond.methodLink "EndingTown$Reader" (234 : Nat) ({ cls := "EndingTown$Reader", name := "rule", desc := "()V" } : Jvm.MethodName)) ∈ lw_all := lw_g (lw_at lw_m4 150 rfl) rfl
theorem q970 : (Jvm.Cond.privateMethod ({ cls := "EndingTown$Reader", name := "rule", desc := "()V" } : Jvm.MethodName)) ∈ lw_tbl := lw_at lw_m4 151 rfl
theorem q971 : (Jvm.Cond.instanceMethod ({ cls := "EndingTown$Reader", name := "rule", desc := "()V" } : Jvm.MethodName)) ∈ lw_all := lw_g (lw_at lw_m4 152 rfl) rfl
theorem q972 : (Jvm.Cond.code ({ cls := "EndingTown$Reader", name := "rule", desc := "()V" } : Jvm.MethodName) prog_9_method_19_code (3 : Nat) (Option.none : Option Jvm.ClassFile.FieldType)) ∈ lw_all := lw_g (lw_at lw_m4 153 rfl) rfl
theorem q973 : (Jvm.Cond.classLink "EndingTown$Reader" (182 : Nat) "EndingTown$Rule") ∈ lw_all := lw_g (lw_at lw_m4 154 rfl) rfl
theorem q975 : (Jvm.Cond.methodLinkNest "EndingTown$Reader" (184 : Nat) ({ cls := "EndingTown$Rule", name := "<init>", desc := "()V" } : Jvm.MethodName) "EndingTown") ∈ lw_tbl := lw_at lw_m4 156 rfl
theorem q981 : (Jvm.Cond.fieldLinkNest "EndingTown$Reader" (195 : Nat) "EndingTown$Rule" "from" "[I" "EndingTown") ∈ lw_tbl := lw_at lw_m4 162 rfl
theorem q983 : (Jvm.Cond.fieldLinkNest "EndingTown$Reader" (185 : Nat) "EndingTown$Rule" "thing" "I" "EndingTown") ∈ lw_tbl := lw_at lw_m4 164 rfl
theorem q986 : (Jvm.Cond.fieldLinkNest "EndingTown$Reader" (188 : Nat) "EndingTown$Rule" "many" "I" "EndingTown") ∈ lw_tbl := lw_at lw_m4 167 rfl
theorem q994 : (Jvm.Cond.methodLink "EndingTown$Reader" (191 : Nat) ({ cls := "EndingTown$Rule", name := "has", desc := "(I)Z" } : Jvm.MethodName)) ∈ lw_all := lw_g (lw_at lw_m4 175 rfl) rfl
theorem q998 : (Jvm.Cond.stringRef "EndingTown$Reader" (236 : Nat) "at") ∈ lw_tbl := lw_at lw_m4 179 rfl
theorem q999 : (Jvm.Cond.methodLink "EndingTown$Reader" (237 : Nat) ({ cls := "EndingTown$Reader", name := "at", desc := "()V" } : Jvm.MethodName)) ∈ lw_all := lw_g (lw_at lw_m4 180 rfl) rfl
theorem q1000 : (Jvm.Cond.privateMethod ({ cls := "EndingTown$Reader", name := "at", desc := "()V" } : Jvm.MethodName)) ∈ lw_tbl := lw_at lw_m4 181 rfl
theorem q1001 : (Jvm.Cond.instanceMethod ({ cls := "EndingTown$Reader", name := "at", desc := "()V" } : Jvm.MethodName)) ∈ lw_all := lw_g (lw_at lw_m4 182 rfl) rfl
theorem q1002 : (Jvm.Cond.code ({ cls := "EndingTown$Reader", name := "at", desc := "()V" } : Jvm.MethodName) prog_9_method_20_code (3 : Nat) (Option.none : Option Jvm.ClassFile.FieldType)) ∈ lw_all := lw_g (lw_at lw_m4 183 rfl) rfl
theorem q1003 : (Jvm.Cond.stringRef "EndingTown$Reader" (239 : Nat) "weigh") ∈ lw_tbl := lw_at lw_m4 184 rfl
theorem q1004 : (Jvm.Cond.methodLink "EndingTown$Reader" (241 : Nat) ({ cls := "EndingTown$Reader", name := "weigh", desc := "()V" } : Jvm.MethodName)) ∈ lw_all := lw_g (lw_at lw_m4 185 rfl) rfl
theorem q1005 : (Jvm.Cond.privateMethod ({ cls := "EndingTown$Reader", name := "weigh", desc := "()V" } : Jvm.MethodName)) ∈ lw_tbl := lw_at lw_m4 186 rfl
theorem q1006 : (Jvm.Cond.instanceMethod ({ cls := "EndingTown$Reader", name := "weigh", desc := "()V" } : Jvm.MethodName)) ∈ lw_all := lw_g (lw_at lw_m4 187 rfl) rfl
theorem q1007 : (Jvm.Cond.code ({ cls := "EndingTown$Reader", name := "weigh", desc := "()V" } : Jvm.MethodName) prog_9_method_21_code (2 : Nat) (Option.none : Option Jvm.ClassFile.FieldType)) ∈ lw_all := lw_g (lw_at lw_m4 188 rfl) rfl
theorem q1008 : (Jvm.Cond.methodLink "EndingTown$Reader" (243 : Nat) ({ cls := "EndingTown$Reader", name := "tongue", desc := "()V" } : Jvm.MethodName)) ∈ lw_all := lw_g (lw_at lw_m4 189 rfl) rfl
theorem q1009 : (Jvm.Cond.privateMethod ({ cls := "EndingTown$Reader", name := "tongue", desc := "()V" } : Jvm.MethodName)) ∈ lw_tbl := lw_at lw_m4 190 rfl
theorem q1010 : (Jvm.Cond.instanceMethod ({ cls := "EndingTown$Reader", name := "tongue", desc := "()V" } : Jvm.MethodName)) ∈ lw_all := lw_g (lw_at lw_m4 191 rfl) rfl
theorem q1011 : (Jvm.Cond.code ({ cls := "EndingTown$Reader", name := "tongue", desc := "()V" } : Jvm.MethodName) prog_9_method_22_code (1 : Nat) (Option.none : Option Jvm.ClassFile.FieldType)) ∈ lw_all := lw_g (lw_at lw_m4 192 rfl) rfl
theorem q1012 : (Jvm.Cond.stringRef "EndingTown$Reader" (207 : Nat) "stem") ∈ lw_tbl := lw_at lw_m4 193 rfl
theorem q1013 : (Jvm.Cond.methodLink "EndingTown$Reader" (109 : Nat) ({ cls := "EndingTown$Reader", name := "letters", desc := "()LEndingTown$Letters;" } : Jvm.MethodName)) ∈ lw_all := lw_g (lw_at lw_m4 194 rfl) rfl
theorem q1014 : (Jvm.Cond.privateMethod ({ cls := "EndingTown$Reader", name := "letters", desc := "()LEndingTown$Letters;" } : Jvm.MethodName)) ∈ lw_tbl := lw_at lw_m4 195 rfl
theorem q1015 : (Jvm.Cond.instanceMethod ({ cls := "EndingTown$Reader", name := "letters", desc := "()LEndingTown$Letters;" } : Jvm.MethodName)) ∈ lw_all := lw_g (lw_at lw_m4 196 rfl) rfl
theorem q1016 : (Jvm.Cond.code ({ cls := "EndingTown$Reader", name := "letters", desc := "()LEndingTown$Letters;" } : Jvm.MethodName) prog_9_method_13_code (2 : Nat) (Option.some (Jvm.ClassFile.FieldType.object "EndingTown$Letters"))) ∈ lw_all := lw_g (lw_at lw_m4 197 rfl) rfl
theorem q1017 : (Jvm.Cond.classLink "EndingTown$Reader" (98 : Nat) "EndingTown$Letters") ∈ lw_all := lw_g (lw_at lw_m4 198 rfl) rfl
theorem q1019 : (Jvm.Cond.methodLink "EndingTown$Reader" (100 : Nat) ({ cls := "EndingTown$Letters", name := "<init>", desc := "([BII)V" } : Jvm.MethodName)) ∈ lw_all := lw_g (lw_at lw_m4 200 rfl) rfl
theorem q1029 : (Jvm.Cond.stringRef "EndingTown$Reader" (208 : Nat) "ending") ∈ lw_tbl := lw_at lw_m4 210 rfl
theorem q1030 : (Jvm.Cond.methodLink "EndingTown$Reader" (210 : Nat) ({ cls := "EndingTown$Reader", name := "ending", desc := "()V" } : Jvm.MethodName)) ∈ lw_all := lw_g (lw_at lw_m4 211 rfl) rfl
theorem q1031 : (Jvm.Cond.privateMethod ({ cls := "EndingTown$Reader", name := "ending", desc := "()V" } : Jvm.MethodName)) ∈ lw_tbl := lw_at lw_m4 212 rfl
theorem q1032 : (Jvm.Cond.instanceMethod ({ cls := "EndingTown$Reader", name := "ending", desc := "()V" } : Jvm.MethodName)) ∈ lw_all := lw_g (lw_at lw_m4 213 rfl) rfl
theorem q1033 : (Jvm.Cond.code ({ cls := "EndingTown$Reader", name := "ending", desc := "()V" } : Jvm.MethodName) prog_9_method_14_code (3 : Nat) (Option.none : Option Jvm.ClassFile.FieldType)) ∈ lw_all := lw_g (lw_at lw_m4 214 rfl) rfl
theorem q1034 : (Jvm.Cond.stringRef "EndingTown$Reader" (212 : Nat) "change") ∈ lw_tbl := lw_at lw_m4 215 rfl
theorem q1035 : (Jvm.Cond.methodLink "EndingTown$Reader" (214 : Nat) ({ cls := "EndingTown$Reader", name := "change", desc := "()V" } : Jvm.MethodName)) ∈ lw_all := lw_g (lw_at lw_m4 216 rfl) rfl
theorem q1036 : (Jvm.Cond.privateMethod ({ cls := "EndingTown$Reader", name := "change", desc := "()V" } : Jvm.MethodName)) ∈ lw_tbl := lw_at lw_m4 217 rfl
theorem q1037 : (Jvm.Cond.instanceMethod ({ cls := "EndingTown$Reader", name := "change", desc := "()V" } : Jvm.MethodName)) ∈ lw_all := lw_g (lw_at lw_m4 218 rfl) rfl
theorem q1038 : (Jvm.Cond.code ({ cls := "EndingTown$Reader", name := "change", desc := "()V" } : Jvm.MethodName) prog_9_method_15_code (3 : Nat) (Option.none : Option Jvm.ClassFile.FieldType)) ∈ lw_all := lw_g (lw_at lw_m4 219 rfl) rfl
theorem q1039 : (Jvm.Cond.classLink "EndingTown$Reader" (121 : Nat) "EndingTown$Change") ∈ lw_all := lw_g (lw_at lw_m4 220 rfl) rfl
theorem q1041 : (Jvm.Cond.methodLink "EndingTown$Reader" (123 : Nat) ({ cls := "EndingTown$Change", name := "<init>", desc := "(LEndingTown$Letters;LEndingTown$Letters;LEndingTown$Letters;)V" } : Jvm.MethodName)) ∈ lw_all := lw_g (lw_at lw_m4 222 rfl) rfl
theorem q1058 : (Jvm.Cond.stringRef "EndingTown$Reader" (216 : Nat) "not") ∈ lw_tbl := lw_at lw_m4 239 rfl
theorem q1226 : (Jvm.Cond.instanceMethod ({ cls := "EndingTown$Reader", name := "words", desc := "()Ljava/util/List;" } : Jvm.MethodName)) ∈ lw_all := lw_g (lw_at lw_m5 167 rfl) rfl
theorem q1227 : (Jvm.Cond.selects "EndingTown$Reader" ({ cls := "EndingTown$Reader", name := "words", desc := "()Ljava/util/List;" } : Jvm.MethodName) ({ cls := "EndingTown$Reader", name := "words", desc := "()Ljava/util/List;" } : Jvm.MethodName)) ∈ lw_all := lw_g (lw_at lw_m5 168 rfl) rfl
theorem q1228 : (Jvm.Cond.code ({ cls := "EndingTown$Reader", name := "words", desc := "()Ljava/util/List;" } : Jvm.MethodName) prog_9_method_25_code (2 : Nat) (Option.some (Jvm.ClassFile.FieldType.object "java/util/List"))) ∈ lw_all := lw_g (lw_at lw_m5 169 rfl) rfl
theorem q1229 : (Jvm.Cond.classLink "EndingTown$Reader" (249 : Nat) "java/util/ArrayList") ∈ lw_all := lw_g (lw_at lw_m5 170 rfl) rfl
theorem q1230 : (Jvm.Cond.methodLink "EndingTown$Reader" (251 : Nat) ({ cls := "java/util/ArrayList", name := "<init>", desc := "()V" } : Jvm.MethodName)) ∈ lw_all := lw_g (lw_at lw_m5 171 rfl) rfl
theorem q1937 : (Jvm.Cond.castable "EndingTown$Reader" "java/lang/Object") ∈ lw_tbl := lw_at lw_m8 158 rfl
theorem in_X12 : ∀ w ∈ wsX120, w ∈ lw_all := lw_in wsX120 [726, 728, 730, 732, 734, 736, 738, 740, 742, 744] (by decide +kernel) (by decide +kernel)
/-! EndingTownLaw -/
set_option maxRecDepth 100000
def RX0 : String := "EndingTownLaw"
abbrev cX0_village : ByteArray := method_3_code
def yX0_village : MethodName := ⟨RX0, "village", "(LEndingTown;I[J)I"⟩
def dkwX0_village_0 : List UInt8 := [44, 3, 42, 27, 182, 0, 7, 133, 80, 167, 0, 6, 78, 4, 172, 3, 172]
abbrev dktX0_village_0 : List UInt8 := dkwX0_village_0 ++ []
theorem dksX0_village_0 : cX0_village.data.toList.drop 0 = dktX0_village_0 := by decide +kernel
theorem dX0_village_0 : decode cX0_village 0 = .ok (.aload_n 2, 1) := dk_44 (dk_at dksX0_village_0 0 rfl rfl)
theorem dX0_village_1 : decode cX0_village 1 = .ok (.iconst 0, 1) := dk_3 (dk_at dksX0_village_0 1 rfl rfl)
theorem dX0_village_2 : decode cX0_village 2 = .ok (.aload_n 0, 1) := dk_42 (dk_at dksX0_village_0 2 rfl rfl)
theorem dX0_village_3 : decode cX0_village 3 = .ok (.iload_n 1, 1) := dk_27 (dk_at dksX0_village_0 3 rfl rfl)
theorem dX0_village_4 : decode cX0_village 4 = .ok (.invokevirtual 7, 3) := dk_182 0 7 (dk_at dksX0_village_0 4 rfl rfl)
theorem dX0_village_7 : decode cX0_village 7 = .ok (.i2l, 1) := dk_133 (dk_at dksX0_village_0 7 rfl rfl)
theorem dX0_village_8 : decode cX0_village 8 = .ok (.lastore, 1) := dk_80 (dk_at dksX0_village_0 8 rfl rfl)
theorem dX0_village_9 : decode cX0_village 9 = .ok (.goto 6, 3) := dk_167 0 6 (dk_at dksX0_village_0 9 rfl rfl)
theorem dX0_village_12 : decode cX0_village 12 = .ok (.astore_n 3, 1) := dk_78 (dk_at dksX0_village_0 12 rfl rfl)
theorem dX0_village_13 : decode cX0_village 13 = .ok (.iconst 1, 1) := dk_4 (dk_at dksX0_village_0 13 rfl rfl)
theorem dX0_village_14 : decode cX0_village 14 = .ok (.ireturn, 1) := dk_172 (dk_at dksX0_village_0 14 rfl rfl)
theorem dX0_village_15 : decode cX0_village 15 = .ok (.iconst 0, 1) := dk_3 (dk_at dksX0_village_0 15 rfl rfl)
theorem dX0_village_16 : decode cX0_village 16 = .ok (.ireturn, 1) := dk_172 (dk_at dksX0_village_0 16 rfl rfl)
abbrev cX0_count : ByteArray := method_4_code
def yX0_count : MethodName := ⟨RX0, "count", "(LEndingTown;I[J)I"⟩
def dkwX0_count_0 : List UInt8 := [44, 3, 42, 27, 182, 0, 15, 133, 80, 167, 0, 6, 78, 4, 172, 3, 172]
abbrev dktX0_count_0 : List UInt8 := dkwX0_count_0 ++ []
theorem dksX0_count_0 : cX0_count.data.toList.drop 0 = dktX0_count_0 := by decide +kernel
theorem dX0_count_0 : decode cX0_count 0 = .ok (.aload_n 2, 1) := dk_44 (dk_at dksX0_count_0 0 rfl rfl)
theorem dX0_count_1 : decode cX0_count 1 = .ok (.iconst 0, 1) := dk_3 (dk_at dksX0_count_0 1 rfl rfl)
theorem dX0_count_2 : decode cX0_count 2 = .ok (.aload_n 0, 1) := dk_42 (dk_at dksX0_count_0 2 rfl rfl)
theorem dX0_count_3 : decode cX0_count 3 = .ok (.iload_n 1, 1) := dk_27 (dk_at dksX0_count_0 3 rfl rfl)
theorem dX0_count_4 : decode cX0_count 4 = .ok (.invokevirtual 15, 3) := dk_182 0 15 (dk_at dksX0_count_0 4 rfl rfl)
theorem dX0_count_7 : decode cX0_count 7 = .ok (.i2l, 1) := dk_133 (dk_at dksX0_count_0 7 rfl rfl)
theorem dX0_count_8 : decode cX0_count 8 = .ok (.lastore, 1) := dk_80 (dk_at dksX0_count_0 8 rfl rfl)
theorem dX0_count_9 : decode cX0_count 9 = .ok (.goto 6, 3) := dk_167 0 6 (dk_at dksX0_count_0 9 rfl rfl)
theorem dX0_count_12 : decode cX0_count 12 = .ok (.astore_n 3, 1) := dk_78 (dk_at dksX0_count_0 12 rfl rfl)
theorem dX0_count_13 : decode cX0_count 13 = .ok (.iconst 1, 1) := dk_4 (dk_at dksX0_count_0 13 rfl rfl)
theorem dX0_count_14 : decode cX0_count 14 = .ok (.ireturn, 1) := dk_172 (dk_at dksX0_count_0 14 rfl rfl)
theorem dX0_count_15 : decode cX0_count 15 = .ok (.iconst 0, 1) := dk_3 (dk_at dksX0_count_0 15 rfl rfl)
theorem dX0_count_16 : decode cX0_count 16 = .ok (.ireturn, 1) := dk_172 (dk_at dksX0_count_0 16 rfl rfl)
abbrev cX0_where : ByteArray := method_5_code
def yX0_where : MethodName := ⟨RX0, "where", "(LEndingTown;II[J)I"⟩
def dkwX0_where_0 : List UInt8 := [45, 3, 42, 27, 28, 182, 0, 20, 133, 80, 167, 0, 7, 58, 4, 4, 172, 3, 172]
abbrev dktX0_where_0 : List UInt8 := dkwX0_where_0 ++ []
theorem dksX0_where_0 : cX0_where.data.toList.drop 0 = dktX0_where_0 := by decide +kernel
theorem dX0_where_0 : decode cX0_where 0 = .ok (.aload_n 3, 1) := dk_45 (dk_at dksX0_where_0 0 rfl rfl)
theorem dX0_where_1 : decode cX0_where 1 = .ok (.iconst 0, 1) := dk_3 (dk_at dksX0_where_0 1 rfl rfl)
theorem dX0_where_2 : decode cX0_where 2 = .ok (.aload_n 0, 1) := dk_42 (dk_at dksX0_where_0 2 rfl rfl)
theorem dX0_where_3 : decode cX0_where 3 = .ok (.iload_n 1, 1) := dk_27 (dk_at dksX0_where_0 3 rfl rfl)
theorem dX0_where_4 : decode cX0_where 4 = .ok (.iload_n 2, 1) := dk_28 (dk_at dksX0_where_0 4 rfl rfl)
theorem dX0_where_5 : decode cX0_where 5 = .ok (.invokevirtual 20, 3) := dk_182 0 20 (dk_at dksX0_where_0 5 rfl rfl)
theorem dX0_where_8 : decode cX0_where 8 = .ok (.i2l, 1) := dk_133 (dk_at dksX0_where_0 8 rfl rfl)
theorem dX0_where_9 : decode cX0_where 9 = .ok (.lastore, 1) := dk_80 (dk_at dksX0_where_0 9 rfl rfl)
theorem dX0_where_10 : decode cX0_where 10 = .ok (.goto 7, 3) := dk_167 0 7 (dk_at dksX0_where_0 10 rfl rfl)
theorem dX0_where_13 : decode cX0_where 13 = .ok (.astore 4, 2) := dk_58 4 (dk_at dksX0_where_0 13 rfl rfl)
theorem dX0_where_15 : decode cX0_where 15 = .ok (.iconst 1, 1) := dk_4 (dk_at dksX0_where_0 15 rfl rfl)
theorem dX0_where_16 : decode cX0_where 16 = .ok (.ireturn, 1) := dk_172 (dk_at dksX0_where_0 16 rfl rfl)
theorem dX0_where_17 : decode cX0_where 17 = .ok (.iconst 0, 1) := dk_3 (dk_at dksX0_where_0 17 rfl rfl)
theorem dX0_where_18 : decode cX0_where 18 = .ok (.ireturn, 1) := dk_172 (dk_at dksX0_where_0 18 rfl rfl)
abbrev cX0_thing : ByteArray := method_6_code
def yX0_thing : MethodName := ⟨RX0, "thing", "(LEndingTown;II[J)I"⟩
def dkwX0_thing_0 : List UInt8 := [45, 3, 42, 27, 28, 182, 0, 24, 133, 80, 167, 0, 7, 58, 4, 4, 172, 3, 172]
abbrev dktX0_thing_0 : List UInt8 := dkwX0_thing_0 ++ []
theorem dksX0_thing_0 : cX0_thing.data.toList.drop 0 = dktX0_thing_0 := by decide +kernel
theorem dX0_thing_0 : decode cX0_thing 0 = .ok (.aload_n 3, 1) := dk_45 (dk_at dksX0_thing_0 0 rfl rfl)
theorem dX0_thing_1 : decode cX0_thing 1 = .ok (.iconst 0, 1) := dk_3 (dk_at dksX0_thing_0 1 rfl rfl)
theorem dX0_thing_2 : decode cX0_thing 2 = .ok (.aload_n 0, 1) := dk_42 (dk_at dksX0_thing_0 2 rfl rfl)
theorem dX0_thing_3 : decode cX0_thing 3 = .ok (.iload_n 1, 1) := dk_27 (dk_at dksX0_thing_0 3 rfl rfl)
theorem dX0_thing_4 : decode cX0_thing 4 = .ok (.iload_n 2, 1) := dk_28 (dk_at dksX0_thing_0 4 rfl rfl)
theorem dX0_thing_5 : decode cX0_thing 5 = .ok (.invokevirtual 24, 3) := dk_182 0 24 (dk_at dksX0_thing_0 5 rfl rfl)
theorem dX0_thing_8 : decode cX0_thing 8 = .ok (.i2l, 1) := dk_133 (dk_at dksX0_thing_0 8 rfl rfl)
theorem dX0_thing_9 : decode cX0_thing 9 = .ok (.lastore, 1) := dk_80 (dk_at dksX0_thing_0 9 rfl rfl)
theorem dX0_thing_10 : decode cX0_thing 10 = .ok (.goto 7, 3) := dk_167 0 7 (dk_at dksX0_thing_0 10 rfl rfl)
theorem dX0_thing_13 : decode cX0_thing 13 = .ok (.astore 4, 2) := dk_58 4 (dk_at dksX0_thing_0 13 rfl rfl)
theorem dX0_thing_15 : decode cX0_thing 15 = .ok (.iconst 1, 1) := dk_4 (dk_at dksX0_thing_0 15 rfl rfl)
theorem dX0_thing_16 : decode cX0_thing 16 = .ok (.ireturn, 1) := dk_172 (dk_at dksX0_thing_0 16 rfl rfl)
theorem dX0_thing_17 : decode cX0_thing 17 = .ok (.iconst 0, 1) := dk_3 (dk_at dksX0_thing_0 17 rfl rfl)
theorem dX0_thing_18 : decode cX0_thing 18 = .ok (.ireturn, 1) := dk_172 (dk_at dksX0_thing_0 18 rfl rfl)
abbrev cX0_word : ByteArray := method_7_code
def yX0_word : MethodName := ⟨RX0, "word", "(LEndingTown;IIII[J)I"⟩
def dkwX0_word_0 : List UInt8 := [25, 5, 3, 42, 27, 28, 29, 21, 4, 182, 0, 27, 133, 80, 167, 0, 7, 58, 6, 4, 172, 3, 172]
abbrev dktX0_word_0 : List UInt8 := dkwX0_word_0 ++ []
theorem dksX0_word_0 : cX0_word.data.toList.drop 0 = dktX0_word_0 := by decide +kernel
theorem dX0_word_0 : decode cX0_word 0 = .ok (.aload 5, 2) := dk_25 5 (dk_at dksX0_word_0 0 rfl rfl)
theorem dX0_word_2 : decode cX0_word 2 = .ok (.iconst 0, 1) := dk_3 (dk_at dksX0_word_0 2 rfl rfl)
theorem dX0_word_3 : decode cX0_word 3 = .ok (.aload_n 0, 1) := dk_42 (dk_at dksX0_word_0 3 rfl rfl)
theorem dX0_word_4 : decode cX0_word 4 = .ok (.iload_n 1, 1) := dk_27 (dk_at dksX0_word_0 4 rfl rfl)
theorem dX0_word_5 : decode cX0_word 5 = .ok (.iload_n 2, 1) := dk_28 (dk_at dksX0_word_0 5 rfl rfl)
theorem dX0_word_6 : decode cX0_word 6 = .ok (.iload_n 3, 1) := dk_29 (dk_at dksX0_word_0 6 rfl rfl)
theorem dX0_word_7 : decode cX0_word 7 = .ok (.iload 4, 2) := dk_21 4 (dk_at dksX0_word_0 7 rfl rfl)
theorem dX0_word_9 : decode cX0_word 9 = .ok (.invokevirtual 27, 3) := dk_182 0 27 (dk_at dksX0_word_0 9 rfl rfl)
theorem dX0_word_12 : decode cX0_word 12 = .ok (.i2l, 1) := dk_133 (dk_at dksX0_word_0 12 rfl rfl)
theorem dX0_word_13 : decode cX0_word 13 = .ok (.lastore, 1) := dk_80 (dk_at dksX0_word_0 13 rfl rfl)
theorem dX0_word_14 : decode cX0_word 14 = .ok (.goto 7, 3) := dk_167 0 7 (dk_at dksX0_word_0 14 rfl rfl)
theorem dX0_word_17 : decode cX0_word 17 = .ok (.astore 6, 2) := dk_58 6 (dk_at dksX0_word_0 17 rfl rfl)
theorem dX0_word_19 : decode cX0_word 19 = .ok (.iconst 1, 1) := dk_4 (dk_at dksX0_word_0 19 rfl rfl)
theorem dX0_word_20 : decode cX0_word 20 = .ok (.ireturn, 1) := dk_172 (dk_at dksX0_word_0 20 rfl rfl)
theorem dX0_word_21 : decode cX0_word 21 = .ok (.iconst 0, 1) := dk_3 (dk_at dksX0_word_0 21 rfl rfl)
theorem dX0_word_22 : decode cX0_word 22 = .ok (.ireturn, 1) := dk_172 (dk_at dksX0_word_0 22 rfl rfl)
abbrev cX0_apart : ByteArray := method_8_code
def yX0_apart : MethodName := ⟨RX0, "apart", "(LEndingTown;I[J)I"⟩
def dkwX0_apart_0 : List UInt8 := [44, 3, 42, 27, 182, 0, 31, 133, 80, 167, 0, 6, 78, 4, 172, 3, 172]
abbrev dktX0_apart_0 : List UInt8 := dkwX0_apart_0 ++ []
theorem dksX0_apart_0 : cX0_apart.data.toList.drop 0 = dktX0_apart_0 := by decide +kernel
theorem dX0_apart_0 : decode cX0_apart 0 = .ok (.aload_n 2, 1) := dk_44 (dk_at dksX0_apart_0 0 rfl rfl)
theorem dX0_apart_1 : decode cX0_apart 1 = .ok (.iconst 0, 1) := dk_3 (dk_at dksX0_apart_0 1 rfl rfl)
theorem dX0_apart_2 : decode cX0_apart 2 = .ok (.aload_n 0, 1) := dk_42 (dk_at dksX0_apart_0 2 rfl rfl)
theorem dX0_apart_3 : decode cX0_apart 3 = .ok (.iload_n 1, 1) := dk_27 (dk_at dksX0_apart_0 3 rfl rfl)
theorem dX0_apart_4 : decode cX0_apart 4 = .ok (.invokevirtual 31, 3) := dk_182 0 31 (dk_at dksX0_apart_0 4 rfl rfl)
theorem dX0_apart_7 : decode cX0_apart 7 = .ok (.i2l, 1) := dk_133 (dk_at dksX0_apart_0 7 rfl rfl)
theorem dX0_apart_8 : decode cX0_apart 8 = .ok (.lastore, 1) := dk_80 (dk_at dksX0_apart_0 8 rfl rfl)
theorem dX0_apart_9 : decode cX0_apart 9 = .ok (.goto 6, 3) := dk_167 0 6 (dk_at dksX0_apart_0 9 rfl rfl)
theorem dX0_apart_12 : decode cX0_apart 12 = .ok (.astore_n 3, 1) := dk_78 (dk_at dksX0_apart_0 12 rfl rfl)
theorem dX0_apart_13 : decode cX0_apart 13 = .ok (.iconst 1, 1) := dk_4 (dk_at dksX0_apart_0 13 rfl rfl)
theorem dX0_apart_14 : decode cX0_apart 14 = .ok (.ireturn, 1) := dk_172 (dk_at dksX0_apart_0 14 rfl rfl)
theorem dX0_apart_15 : decode cX0_apart 15 = .ok (.iconst 0, 1) := dk_3 (dk_at dksX0_apart_0 15 rfl rfl)
theorem dX0_apart_16 : decode cX0_apart 16 = .ok (.ireturn, 1) := dk_172 (dk_at dksX0_apart_0 16 rfl rfl)
abbrev cX0_way : ByteArray := method_9_code
def yX0_way : MethodName := ⟨RX0, "way", "(LEndingTown;I[J)I"⟩
def dkwX0_way_0 : List UInt8 := [44, 3, 42, 27, 182, 0, 34, 133, 80, 167, 0, 6, 78, 4, 172, 3, 172]
abbrev dktX0_way_0 : List UInt8 := dkwX0_way_0 ++ []
theorem dksX0_way_0 : cX0_way.data.toList.drop 0 = dktX0_way_0 := by decide +kernel
theorem dX0_way_0 : decode cX0_way 0 = .ok (.aload_n 2, 1) := dk_44 (dk_at dksX0_way_0 0 rfl rfl)
theorem dX0_way_1 : decode cX0_way 1 = .ok (.iconst 0, 1) := dk_3 (dk_at dksX0_way_0 1 rfl rfl)
theorem dX0_way_2 : decode cX0_way 2 = .ok (.aload_n 0, 1) := dk_42 (dk_at dksX0_way_0 2 rfl rfl)
theorem dX0_way_3 : decode cX0_way 3 = .ok (.iload_n 1, 1) := dk_27 (dk_at dksX0_way_0 3 rfl rfl)
theorem dX0_way_4 : decode cX0_way 4 = .ok (.invokevirtual 34, 3) := dk_182 0 34 (dk_at dksX0_way_0 4 rfl rfl)
theorem dX0_way_7 : decode cX0_way 7 = .ok (.i2l, 1) := dk_133 (dk_at dksX0_way_0 7 rfl rfl)
theorem dX0_way_8 : decode cX0_way 8 = .ok (.lastore, 1) := dk_80 (dk_at dksX0_way_0 8 rfl rfl)
theorem dX0_way_9 : decode cX0_way 9 = .ok (.goto 6, 3) := dk_167 0 6 (dk_at dksX0_way_0 9 rfl rfl)
theorem dX0_way_12 : decode cX0_way 12 = .ok (.astore_n 3, 1) := dk_78 (dk_at dksX0_way_0 12 rfl rfl)
theorem dX0_way_13 : decode cX0_way 13 = .ok (.iconst 1, 1) := dk_4 (dk_at dksX0_way_0 13 rfl rfl)
theorem dX0_way_14 : decode cX0_way 14 = .ok (.ireturn, 1) := dk_172 (dk_at dksX0_way_0 14 rfl rfl)
theorem dX0_way_15 : decode cX0_way 15 = .ok (.iconst 0, 1) := dk_3 (dk_at dksX0_way_0 15 rfl rfl)
theorem dX0_way_16 : decode cX0_way 16 = .ok (.ireturn, 1) := dk_172 (dk_at dksX0_way_0 16 rfl rfl)
abbrev cX0_say : ByteArray := method_10_code
def yX0_say : MethodName := ⟨RX0, "say", "(LEndingTown;IIIIZ[J)I"⟩
def dkwX0_say_1 : List UInt8 := [172]
abbrev dktX0_say_1 : List UInt8 := dkwX0_say_1 ++ []
def dkwX0_say_0 : List UInt8 := [25, 6, 3, 42, 27, 28, 29, 21, 4, 21, 5, 182, 0, 37, 133, 80, 167, 0, 7, 58, 7, 4, 172, 3]
abbrev dktX0_say_0 : List UInt8 := dkwX0_say_0 ++ dktX0_say_1
theorem dksX0_say_0 : cX0_say.data.toList.drop 0 = dktX0_say_0 := by decide +kernel
theorem dksX0_say_1 : cX0_say.data.toList.drop 24 = dktX0_say_1 := dk_seg dksX0_say_0 24 rfl rfl
theorem dX0_say_0 : decode cX0_say 0 = .ok (.aload 6, 2) := dk_25 6 (dk_at dksX0_say_0 0 rfl rfl)
theorem dX0_say_2 : decode cX0_say 2 = .ok (.iconst 0, 1) := dk_3 (dk_at dksX0_say_0 2 rfl rfl)
theorem dX0_say_3 : decode cX0_say 3 = .ok (.aload_n 0, 1) := dk_42 (dk_at dksX0_say_0 3 rfl rfl)
theorem dX0_say_4 : decode cX0_say 4 = .ok (.iload_n 1, 1) := dk_27 (dk_at dksX0_say_0 4 rfl rfl)
theorem dX0_say_5 : decode cX0_say 5 = .ok (.iload_n 2, 1) := dk_28 (dk_at dksX0_say_0 5 rfl rfl)
theorem dX0_say_6 : decode cX0_say 6 = .ok (.iload_n 3, 1) := dk_29 (dk_at dksX0_say_0 6 rfl rfl)
theorem dX0_say_7 : decode cX0_say 7 = .ok (.iload 4, 2) := dk_21 4 (dk_at dksX0_say_0 7 rfl rfl)
theorem dX0_say_9 : decode cX0_say 9 = .ok (.iload 5, 2) := dk_21 5 (dk_at dksX0_say_0 9 rfl rfl)
theorem dX0_say_11 : decode cX0_say 11 = .ok (.invokevirtual 37, 3) := dk_182 0 37 (dk_at dksX0_say_0 11 rfl rfl)
theorem dX0_say_14 : decode cX0_say 14 = .ok (.i2l, 1) := dk_133 (dk_at dksX0_say_0 14 rfl rfl)
theorem dX0_say_15 : decode cX0_say 15 = .ok (.lastore, 1) := dk_80 (dk_at dksX0_say_0 15 rfl rfl)
theorem dX0_say_16 : decode cX0_say 16 = .ok (.goto 7, 3) := dk_167 0 7 (dk_at dksX0_say_0 16 rfl rfl)
theorem dX0_say_19 : decode cX0_say 19 = .ok (.astore 7, 2) := dk_58 7 (dk_at dksX0_say_0 19 rfl rfl)
theorem dX0_say_21 : decode cX0_say 21 = .ok (.iconst 1, 1) := dk_4 (dk_at dksX0_say_0 21 rfl rfl)
theorem dX0_say_22 : decode cX0_say 22 = .ok (.ireturn, 1) := dk_172 (dk_at dksX0_say_0 22 rfl rfl)
theorem dX0_say_23 : decode cX0_say 23 = .ok (.iconst 0, 1) := dk_3 (dk_at dksX0_say_0 23 rfl rfl)
theorem dX0_say_24 : decode cX0_say 24 = .ok (.ireturn, 1) := dk_172 (dk_at dksX0_say_1 0 rfl rfl)
abbrev cX0_utter : ByteArray := method_11_code
def yX0_utter : MethodName := ⟨RX0, "utter", "(LEndingTown;III[J)I"⟩
def dkwX0_utter_1 : List UInt8 := [172]
abbrev dktX0_utter_1 : List UInt8 := dkwX0_utter_1 ++ []
def dkwX0_utter_0 : List UInt8 := [25, 4, 3, 42, 27, 28, 29, 182, 0, 41, 133, 80, 167, 0, 11, 58, 5, 4, 172, 58, 5, 5, 172, 3]
abbrev dktX0_utter_0 : List UInt8 := dkwX0_utter_0 ++ dktX0_utter_1
theorem dksX0_utter_0 : cX0_utter.data.toList.drop 0 = dktX0_utter_0 := by decide +kernel
theorem dksX0_utter_1 : cX0_utter.data.toList.drop 24 = dktX0_utter_1 := dk_seg dksX0_utter_0 24 rfl rfl
theorem dX0_utter_0 : decode cX0_utter 0 = .ok (.aload 4, 2) := dk_25 4 (dk_at dksX0_utter_0 0 rfl rfl)
theorem dX0_utter_2 : decode cX0_utter 2 = .ok (.iconst 0, 1) := dk_3 (dk_at dksX0_utter_0 2 rfl rfl)
theorem dX0_utter_3 : decode cX0_utter 3 = .ok (.aload_n 0, 1) := dk_42 (dk_at dksX0_utter_0 3 rfl rfl)
theorem dX0_utter_4 : decode cX0_utter 4 = .ok (.iload_n 1, 1) := dk_27 (dk_at dksX0_utter_0 4 rfl rfl)
theorem dX0_utter_5 : decode cX0_utter 5 = .ok (.iload_n 2, 1) := dk_28 (dk_at dksX0_utter_0 5 rfl rfl)
theorem dX0_utter_6 : decode cX0_utter 6 = .ok (.iload_n 3, 1) := dk_29 (dk_at dksX0_utter_0 6 rfl rfl)
theorem dX0_utter_7 : decode cX0_utter 7 = .ok (.invokevirtual 41, 3) := dk_182 0 41 (dk_at dksX0_utter_0 7 rfl rfl)
theorem dX0_utter_10 : decode cX0_utter 10 = .ok (.i2l, 1) := dk_133 (dk_at dksX0_utter_0 10 rfl rfl)
theorem dX0_utter_11 : decode cX0_utter 11 = .ok (.lastore, 1) := dk_80 (dk_at dksX0_utter_0 11 rfl rfl)
theorem dX0_utter_12 : decode cX0_utter 12 = .ok (.goto 11, 3) := dk_167 0 11 (dk_at dksX0_utter_0 12 rfl rfl)
theorem dX0_utter_15 : decode cX0_utter 15 = .ok (.astore 5, 2) := dk_58 5 (dk_at dksX0_utter_0 15 rfl rfl)
theorem dX0_utter_17 : decode cX0_utter 17 = .ok (.iconst 1, 1) := dk_4 (dk_at dksX0_utter_0 17 rfl rfl)
theorem dX0_utter_18 : decode cX0_utter 18 = .ok (.ireturn, 1) := dk_172 (dk_at dksX0_utter_0 18 rfl rfl)
theorem dX0_utter_19 : decode cX0_utter 19 = .ok (.astore 5, 2) := dk_58 5 (dk_at dksX0_utter_0 19 rfl rfl)
theorem dX0_utter_21 : decode cX0_utter 21 = .ok (.iconst 2, 1) := dk_5 (dk_at dksX0_utter_0 21 rfl rfl)
theorem dX0_utter_22 : decode cX0_utter 22 = .ok (.ireturn, 1) := dk_172 (dk_at dksX0_utter_0 22 rfl rfl)
theorem dX0_utter_23 : decode cX0_utter 23 = .ok (.iconst 0, 1) := dk_3 (dk_at dksX0_utter_0 23 rfl rfl)
theorem dX0_utter_24 : decode cX0_utter 24 = .ok (.ireturn, 1) := dk_172 (dk_at dksX0_utter_1 0 rfl rfl)
abbrev cX0_saying : ByteArray := method_12_code
def yX0_saying : MethodName := ⟨RX0, "saying", "(LEndingTown;II[J)I"⟩
def dkwX0_saying_0 : List UInt8 := [45, 3, 42, 27, 28, 182, 0, 45, 133, 80, 167, 0, 7, 58, 4, 4, 172, 3, 172]
abbrev dktX0_saying_0 : List UInt8 := dkwX0_saying_0 ++ []
theorem dksX0_saying_0 : cX0_saying.data.toList.drop 0 = dktX0_saying_0 := by decide +kernel
theorem dX0_saying_0 : decode cX0_saying 0 = .ok (.aload_n 3, 1) := dk_45 (dk_at dksX0_saying_0 0 rfl rfl)
theorem dX0_saying_1 : decode cX0_saying 1 = .ok (.iconst 0, 1) := dk_3 (dk_at dksX0_saying_0 1 rfl rfl)
theorem dX0_saying_2 : decode cX0_saying 2 = .ok (.aload_n 0, 1) := dk_42 (dk_at dksX0_saying_0 2 rfl rfl)
theorem dX0_saying_3 : decode cX0_saying 3 = .ok (.iload_n 1, 1) := dk_27 (dk_at dksX0_saying_0 3 rfl rfl)
theorem dX0_saying_4 : decode cX0_saying 4 = .ok (.iload_n 2, 1) := dk_28 (dk_at dksX0_saying_0 4 rfl rfl)
theorem dX0_saying_5 : decode cX0_saying 5 = .ok (.invokevirtual 45, 3) := dk_182 0 45 (dk_at dksX0_saying_0 5 rfl rfl)
theorem dX0_saying_8 : decode cX0_saying 8 = .ok (.i2l, 1) := dk_133 (dk_at dksX0_saying_0 8 rfl rfl)
theorem dX0_saying_9 : decode cX0_saying 9 = .ok (.lastore, 1) := dk_80 (dk_at dksX0_saying_0 9 rfl rfl)
theorem dX0_saying_10 : decode cX0_saying 10 = .ok (.goto 7, 3) := dk_167 0 7 (dk_at dksX0_saying_0 10 rfl rfl)
theorem dX0_saying_13 : decode cX0_saying 13 = .ok (.astore 4, 2) := dk_58 4 (dk_at dksX0_saying_0 13 rfl rfl)
theorem dX0_saying_15 : decode cX0_saying 15 = .ok (.iconst 1, 1) := dk_4 (dk_at dksX0_saying_0 15 rfl rfl)
theorem dX0_saying_16 : decode cX0_saying 16 = .ok (.ireturn, 1) := dk_172 (dk_at dksX0_saying_0 16 rfl rfl)
theorem dX0_saying_17 : decode cX0_saying 17 = .ok (.iconst 0, 1) := dk_3 (dk_at dksX0_saying_0 17 rfl rfl)
theorem dX0_saying_18 : decode cX0_saying 18 = .ok (.ireturn, 1) := dk_172 (dk_at dksX0_saying_0 18 rfl rfl)
abbrev cX0_could : ByteArray := method_13_code
def yX0_could : MethodName := ⟨RX0, "could", "(LEndingTown;IIIZ[J)I"⟩
def dkwX0_could_0 : List UInt8 := [25, 5, 3, 42, 27, 28, 29, 21, 4, 182, 0, 48, 133, 80, 167, 0, 7, 58, 6, 4, 172, 3, 172]
abbrev dktX0_could_0 : List UInt8 := dkwX0_could_0 ++ []
theorem dksX0_could_0 : cX0_could.data.toList.drop 0 = dktX0_could_0 := by decide +kernel
theorem dX0_could_0 : decode cX0_could 0 = .ok (.aload 5, 2) := dk_25 5 (dk_at dksX0_could_0 0 rfl rfl)
theorem dX0_could_2 : decode cX0_could 2 = .ok (.iconst 0, 1) := dk_3 (dk_at dksX0_could_0 2 rfl rfl)
theorem dX0_could_3 : decode cX0_could 3 = .ok (.aload_n 0, 1) := dk_42 (dk_at dksX0_could_0 3 rfl rfl)
theorem dX0_could_4 : decode cX0_could 4 = .ok (.iload_n 1, 1) := dk_27 (dk_at dksX0_could_0 4 rfl rfl)
theorem dX0_could_5 : decode cX0_could 5 = .ok (.iload_n 2, 1) := dk_28 (dk_at dksX0_could_0 5 rfl rfl)
theorem dX0_could_6 : decode cX0_could 6 = .ok (.iload_n 3, 1) := dk_29 (dk_at dksX0_could_0 6 rfl rfl)
theorem dX0_could_7 : decode cX0_could 7 = .ok (.iload 4, 2) := dk_21 4 (dk_at dksX0_could_0 7 rfl rfl)
theorem dX0_could_9 : decode cX0_could 9 = .ok (.invokevirtual 48, 3) := dk_182 0 48 (dk_at dksX0_could_0 9 rfl rfl)
theorem dX0_could_12 : decode cX0_could 12 = .ok (.i2l, 1) := dk_133 (dk_at dksX0_could_0 12 rfl rfl)
theorem dX0_could_13 : decode cX0_could 13 = .ok (.lastore, 1) := dk_80 (dk_at dksX0_could_0 13 rfl rfl)
theorem dX0_could_14 : decode cX0_could 14 = .ok (.goto 7, 3) := dk_167 0 7 (dk_at dksX0_could_0 14 rfl rfl)
theorem dX0_could_17 : decode cX0_could 17 = .ok (.astore 6, 2) := dk_58 6 (dk_at dksX0_could_0 17 rfl rfl)
theorem dX0_could_19 : decode cX0_could 19 = .ok (.iconst 1, 1) := dk_4 (dk_at dksX0_could_0 19 rfl rfl)
theorem dX0_could_20 : decode cX0_could 20 = .ok (.ireturn, 1) := dk_172 (dk_at dksX0_could_0 20 rfl rfl)
theorem dX0_could_21 : decode cX0_could 21 = .ok (.iconst 0, 1) := dk_3 (dk_at dksX0_could_0 21 rfl rfl)
theorem dX0_could_22 : decode cX0_could 22 = .ok (.ireturn, 1) := dk_172 (dk_at dksX0_could_0 22 rfl rfl)
abbrev cX0_wrong : ByteArray := method_14_code
def yX0_wrong : MethodName := ⟨RX0, "wrong", "(LEndingTown;I[J)I"⟩
def dkwX0_wrong_0 : List UInt8 := [44, 3, 42, 27, 182, 0, 52, 133, 80, 167, 0, 6, 78, 4, 172, 3, 172]
abbrev dktX0_wrong_0 : List UInt8 := dkwX0_wrong_0 ++ []
theorem dksX0_wrong_0 : cX0_wrong.data.toList.drop 0 = dktX0_wrong_0 := by decide +kernel
theorem dX0_wrong_0 : decode cX0_wrong 0 = .ok (.aload_n 2, 1) := dk_44 (dk_at dksX0_wrong_0 0 rfl rfl)
theorem dX0_wrong_1 : decode cX0_wrong 1 = .ok (.iconst 0, 1) := dk_3 (dk_at dksX0_wrong_0 1 rfl rfl)
theorem dX0_wrong_2 : decode cX0_wrong 2 = .ok (.aload_n 0, 1) := dk_42 (dk_at dksX0_wrong_0 2 rfl rfl)
theorem dX0_wrong_3 : decode cX0_wrong 3 = .ok (.iload_n 1, 1) := dk_27 (dk_at dksX0_wrong_0 3 rfl rfl)
theorem dX0_wrong_4 : decode cX0_wrong 4 = .ok (.invokevirtual 52, 3) := dk_182 0 52 (dk_at dksX0_wrong_0 4 rfl rfl)
theorem dX0_wrong_7 : decode cX0_wrong 7 = .ok (.i2l, 1) := dk_133 (dk_at dksX0_wrong_0 7 rfl rfl)
theorem dX0_wrong_8 : decode cX0_wrong 8 = .ok (.lastore, 1) := dk_80 (dk_at dksX0_wrong_0 8 rfl rfl)
theorem dX0_wrong_9 : decode cX0_wrong 9 = .ok (.goto 6, 3) := dk_167 0 6 (dk_at dksX0_wrong_0 9 rfl rfl)
theorem dX0_wrong_12 : decode cX0_wrong 12 = .ok (.astore_n 3, 1) := dk_78 (dk_at dksX0_wrong_0 12 rfl rfl)
theorem dX0_wrong_13 : decode cX0_wrong 13 = .ok (.iconst 1, 1) := dk_4 (dk_at dksX0_wrong_0 13 rfl rfl)
theorem dX0_wrong_14 : decode cX0_wrong 14 = .ok (.ireturn, 1) := dk_172 (dk_at dksX0_wrong_0 14 rfl rfl)
theorem dX0_wrong_15 : decode cX0_wrong 15 = .ok (.iconst 0, 1) := dk_3 (dk_at dksX0_wrong_0 15 rfl rfl)
theorem dX0_wrong_16 : decode cX0_wrong 16 = .ok (.ireturn, 1) := dk_172 (dk_at dksX0_wrong_0 16 rfl rfl)
abbrev cX0_mended : ByteArray := method_15_code
def yX0_mended : MethodName := ⟨RX0, "mended", "(LEndingTown;I[J)I"⟩
def dkwX0_mended_0 : List UInt8 := [44, 3, 42, 27, 182, 0, 55, 133, 80, 167, 0, 6, 78, 4, 172, 3, 172]
abbrev dktX0_mended_0 : List UInt8 := dkwX0_mended_0 ++ []
theorem dksX0_mended_0 : cX0_mended.data.toList.drop 0 = dktX0_mended_0 := by decide +kernel
theorem dX0_mended_0 : decode cX0_mended 0 = .ok (.aload_n 2, 1) := dk_44 (dk_at dksX0_mended_0 0 rfl rfl)
theorem dX0_mended_1 : decode cX0_mended 1 = .ok (.iconst 0, 1) := dk_3 (dk_at dksX0_mended_0 1 rfl rfl)
theorem dX0_mended_2 : decode cX0_mended 2 = .ok (.aload_n 0, 1) := dk_42 (dk_at dksX0_mended_0 2 rfl rfl)
theorem dX0_mended_3 : decode cX0_mended 3 = .ok (.iload_n 1, 1) := dk_27 (dk_at dksX0_mended_0 3 rfl rfl)
theorem dX0_mended_4 : decode cX0_mended 4 = .ok (.invokevirtual 55, 3) := dk_182 0 55 (dk_at dksX0_mended_0 4 rfl rfl)
theorem dX0_mended_7 : decode cX0_mended 7 = .ok (.i2l, 1) := dk_133 (dk_at dksX0_mended_0 7 rfl rfl)
theorem dX0_mended_8 : decode cX0_mended 8 = .ok (.lastore, 1) := dk_80 (dk_at dksX0_mended_0 8 rfl rfl)
theorem dX0_mended_9 : decode cX0_mended 9 = .ok (.goto 6, 3) := dk_167 0 6 (dk_at dksX0_mended_0 9 rfl rfl)
theorem dX0_mended_12 : decode cX0_mended 12 = .ok (.astore_n 3, 1) := dk_78 (dk_at dksX0_mended_0 12 rfl rfl)
theorem dX0_mended_13 : decode cX0_mended 13 = .ok (.iconst 1, 1) := dk_4 (dk_at dksX0_mended_0 13 rfl rfl)
theorem dX0_mended_14 : decode cX0_mended 14 = .ok (.ireturn, 1) := dk_172 (dk_at dksX0_mended_0 14 rfl rfl)
theorem dX0_mended_15 : decode cX0_mended 15 = .ok (.iconst 0, 1) := dk_3 (dk_at dksX0_mended_0 15 rfl rfl)
theorem dX0_mended_16 : decode cX0_mended 16 = .ok (.ireturn, 1) := dk_172 (dk_at dksX0_mended_0 16 rfl rfl)
abbrev cX0_silence : ByteArray := method_16_code
def yX0_silence : MethodName := ⟨RX0, "silence", "(LEndingTown;II[J)I"⟩
def dkwX0_silence_0 : List UInt8 := [45, 3, 42, 27, 28, 182, 0, 58, 133, 80, 167, 0, 7, 58, 4, 4, 172, 3, 172]
abbrev dktX0_silence_0 : List UInt8 := dkwX0_silence_0 ++ []
theorem dksX0_silence_0 : cX0_silence.data.toList.drop 0 = dktX0_silence_0 := by decide +kernel
theorem dX0_silence_0 : decode cX0_silence 0 = .ok (.aload_n 3, 1) := dk_45 (dk_at dksX0_silence_0 0 rfl rfl)
theorem dX0_silence_1 : decode cX0_silence 1 = .ok (.iconst 0, 1) := dk_3 (dk_at dksX0_silence_0 1 rfl rfl)
theorem dX0_silence_2 : decode cX0_silence 2 = .ok (.aload_n 0, 1) := dk_42 (dk_at dksX0_silence_0 2 rfl rfl)
theorem dX0_silence_3 : decode cX0_silence 3 = .ok (.iload_n 1, 1) := dk_27 (dk_at dksX0_silence_0 3 rfl rfl)
theorem dX0_silence_4 : decode cX0_silence 4 = .ok (.iload_n 2, 1) := dk_28 (dk_at dksX0_silence_0 4 rfl rfl)
theorem dX0_silence_5 : decode cX0_silence 5 = .ok (.invokevirtual 58, 3) := dk_182 0 58 (dk_at dksX0_silence_0 5 rfl rfl)
theorem dX0_silence_8 : decode cX0_silence 8 = .ok (.i2l, 1) := dk_133 (dk_at dksX0_silence_0 8 rfl rfl)
theorem dX0_silence_9 : decode cX0_silence 9 = .ok (.lastore, 1) := dk_80 (dk_at dksX0_silence_0 9 rfl rfl)
theorem dX0_silence_10 : decode cX0_silence 10 = .ok (.goto 7, 3) := dk_167 0 7 (dk_at dksX0_silence_0 10 rfl rfl)
theorem dX0_silence_13 : decode cX0_silence 13 = .ok (.astore 4, 2) := dk_58 4 (dk_at dksX0_silence_0 13 rfl rfl)
theorem dX0_silence_15 : decode cX0_silence 15 = .ok (.iconst 1, 1) := dk_4 (dk_at dksX0_silence_0 15 rfl rfl)
theorem dX0_silence_16 : decode cX0_silence 16 = .ok (.ireturn, 1) := dk_172 (dk_at dksX0_silence_0 16 rfl rfl)
theorem dX0_silence_17 : decode cX0_silence 17 = .ok (.iconst 0, 1) := dk_3 (dk_at dksX0_silence_0 17 rfl rfl)
theorem dX0_silence_18 : decode cX0_silence 18 = .ok (.ireturn, 1) := dk_172 (dk_at dksX0_silence_0 18 rfl rfl)
abbrev cX0_likely : ByteArray := method_17_code
def yX0_likely : MethodName := ⟨RX0, "likely", "(LEndingTown;II[J)I"⟩
def dkwX0_likely_0 : List UInt8 := [45, 3, 42, 27, 28, 182, 0, 61, 133, 80, 167, 0, 7, 58, 4, 4, 172, 3, 172]
abbrev dktX0_likely_0 : List UInt8 := dkwX0_likely_0 ++ []
theorem dksX0_likely_0 : cX0_likely.data.toList.drop 0 = dktX0_likely_0 := by decide +kernel
theorem dX0_likely_0 : decode cX0_likely 0 = .ok (.aload_n 3, 1) := dk_45 (dk_at dksX0_likely_0 0 rfl rfl)
theorem dX0_likely_1 : decode cX0_likely 1 = .ok (.iconst 0, 1) := dk_3 (dk_at dksX0_likely_0 1 rfl rfl)
theorem dX0_likely_2 : decode cX0_likely 2 = .ok (.aload_n 0, 1) := dk_42 (dk_at dksX0_likely_0 2 rfl rfl)
theorem dX0_likely_3 : decode cX0_likely 3 = .ok (.iload_n 1, 1) := dk_27 (dk_at dksX0_likely_0 3 rfl rfl)
theorem dX0_likely_4 : decode cX0_likely 4 = .ok (.iload_n 2, 1) := dk_28 (dk_at dksX0_likely_0 4 rfl rfl)
theorem dX0_likely_5 : decode cX0_likely 5 = .ok (.invokevirtual 61, 3) := dk_182 0 61 (dk_at dksX0_likely_0 5 rfl rfl)
theorem dX0_likely_8 : decode cX0_likely 8 = .ok (.i2l, 1) := dk_133 (dk_at dksX0_likely_0 8 rfl rfl)
theorem dX0_likely_9 : decode cX0_likely 9 = .ok (.lastore, 1) := dk_80 (dk_at dksX0_likely_0 9 rfl rfl)
theorem dX0_likely_10 : decode cX0_likely 10 = .ok (.goto 7, 3) := dk_167 0 7 (dk_at dksX0_likely_0 10 rfl rfl)
theorem dX0_likely_13 : decode cX0_likely 13 = .ok (.astore 4, 2) := dk_58 4 (dk_at dksX0_likely_0 13 rfl rfl)
theorem dX0_likely_15 : decode cX0_likely 15 = .ok (.iconst 1, 1) := dk_4 (dk_at dksX0_likely_0 15 rfl rfl)
theorem dX0_likely_16 : decode cX0_likely 16 = .ok (.ireturn, 1) := dk_172 (dk_at dksX0_likely_0 16 rfl rfl)
theorem dX0_likely_17 : decode cX0_likely 17 = .ok (.iconst 0, 1) := dk_3 (dk_at dksX0_likely_0 17 rfl rfl)
theorem dX0_likely_18 : decode cX0_likely 18 = .ok (.ireturn, 1) := dk_172 (dk_at dksX0_likely_0 18 rfl rfl)
abbrev cX0_worlds : ByteArray := method_18_code
def yX0_worlds : MethodName := ⟨RX0, "worlds", "(LEndingTown;I[J)I"⟩
def dkwX0_worlds_0 : List UInt8 := [44, 3, 42, 27, 182, 0, 64, 133, 80, 167, 0, 6, 78, 4, 172, 3, 172]
abbrev dktX0_worlds_0 : List UInt8 := dkwX0_worlds_0 ++ []
theorem dksX0_worlds_0 : cX0_worlds.data.toList.drop 0 = dktX0_worlds_0 := by decide +kernel
theorem dX0_worlds_0 : decode cX0_worlds 0 = .ok (.aload_n 2, 1) := dk_44 (dk_at dksX0_worlds_0 0 rfl rfl)
theorem dX0_worlds_1 : decode cX0_worlds 1 = .ok (.iconst 0, 1) := dk_3 (dk_at dksX0_worlds_0 1 rfl rfl)
theorem dX0_worlds_2 : decode cX0_worlds 2 = .ok (.aload_n 0, 1) := dk_42 (dk_at dksX0_worlds_0 2 rfl rfl)
theorem dX0_worlds_3 : decode cX0_worlds 3 = .ok (.iload_n 1, 1) := dk_27 (dk_at dksX0_worlds_0 3 rfl rfl)
theorem dX0_worlds_4 : decode cX0_worlds 4 = .ok (.invokevirtual 64, 3) := dk_182 0 64 (dk_at dksX0_worlds_0 4 rfl rfl)
theorem dX0_worlds_7 : decode cX0_worlds 7 = .ok (.i2l, 1) := dk_133 (dk_at dksX0_worlds_0 7 rfl rfl)
theorem dX0_worlds_8 : decode cX0_worlds 8 = .ok (.lastore, 1) := dk_80 (dk_at dksX0_worlds_0 8 rfl rfl)
theorem dX0_worlds_9 : decode cX0_worlds 9 = .ok (.goto 6, 3) := dk_167 0 6 (dk_at dksX0_worlds_0 9 rfl rfl)
theorem dX0_worlds_12 : decode cX0_worlds 12 = .ok (.astore_n 3, 1) := dk_78 (dk_at dksX0_worlds_0 12 rfl rfl)
theorem dX0_worlds_13 : decode cX0_worlds 13 = .ok (.iconst 1, 1) := dk_4 (dk_at dksX0_worlds_0 13 rfl rfl)
theorem dX0_worlds_14 : decode cX0_worlds 14 = .ok (.ireturn, 1) := dk_172 (dk_at dksX0_worlds_0 14 rfl rfl)
theorem dX0_worlds_15 : decode cX0_worlds 15 = .ok (.iconst 0, 1) := dk_3 (dk_at dksX0_worlds_0 15 rfl rfl)
theorem dX0_worlds_16 : decode cX0_worlds 16 = .ok (.ireturn, 1) := dk_172 (dk_at dksX0_worlds_0 16 rfl rfl)
abbrev cX0_tell : ByteArray := method_19_code
def yX0_tell : MethodName := ⟨RX0, "tell", "(LEndingTown;IIZ[J)I"⟩
def dkwX0_tell_0 : List UInt8 := [25, 4, 3, 42, 27, 28, 29, 182, 0, 67, 133, 80, 167, 0, 7, 58, 5, 4, 172, 3, 172]
abbrev dktX0_tell_0 : List UInt8 := dkwX0_tell_0 ++ []
theorem dksX0_tell_0 : cX0_tell.data.toList.drop 0 = dktX0_tell_0 := by decide +kernel
theorem dX0_tell_0 : decode cX0_tell 0 = .ok (.aload 4, 2) := dk_25 4 (dk_at dksX0_tell_0 0 rfl rfl)
theorem dX0_tell_2 : decode cX0_tell 2 = .ok (.iconst 0, 1) := dk_3 (dk_at dksX0_tell_0 2 rfl rfl)
theorem dX0_tell_3 : decode cX0_tell 3 = .ok (.aload_n 0, 1) := dk_42 (dk_at dksX0_tell_0 3 rfl rfl)
theorem dX0_tell_4 : decode cX0_tell 4 = .ok (.iload_n 1, 1) := dk_27 (dk_at dksX0_tell_0 4 rfl rfl)
theorem dX0_tell_5 : decode cX0_tell 5 = .ok (.iload_n 2, 1) := dk_28 (dk_at dksX0_tell_0 5 rfl rfl)
theorem dX0_tell_6 : decode cX0_tell 6 = .ok (.iload_n 3, 1) := dk_29 (dk_at dksX0_tell_0 6 rfl rfl)
theorem dX0_tell_7 : decode cX0_tell 7 = .ok (.invokevirtual 67, 3) := dk_182 0 67 (dk_at dksX0_tell_0 7 rfl rfl)
theorem dX0_tell_10 : decode cX0_tell 10 = .ok (.i2l, 1) := dk_133 (dk_at dksX0_tell_0 10 rfl rfl)
theorem dX0_tell_11 : decode cX0_tell 11 = .ok (.lastore, 1) := dk_80 (dk_at dksX0_tell_0 11 rfl rfl)
theorem dX0_tell_12 : decode cX0_tell 12 = .ok (.goto 7, 3) := dk_167 0 7 (dk_at dksX0_tell_0 12 rfl rfl)
theorem dX0_tell_15 : decode cX0_tell 15 = .ok (.astore 5, 2) := dk_58 5 (dk_at dksX0_tell_0 15 rfl rfl)
theorem dX0_tell_17 : decode cX0_tell 17 = .ok (.iconst 1, 1) := dk_4 (dk_at dksX0_tell_0 17 rfl rfl)
theorem dX0_tell_18 : decode cX0_tell 18 = .ok (.ireturn, 1) := dk_172 (dk_at dksX0_tell_0 18 rfl rfl)
theorem dX0_tell_19 : decode cX0_tell 19 = .ok (.iconst 0, 1) := dk_3 (dk_at dksX0_tell_0 19 rfl rfl)
theorem dX0_tell_20 : decode cX0_tell 20 = .ok (.ireturn, 1) := dk_172 (dk_at dksX0_tell_0 20 rfl rfl)
abbrev cX0_known : ByteArray := method_20_code
def yX0_known : MethodName := ⟨RX0, "known", "(LEndingTown;IIIZ[J)I"⟩
def dkwX0_known_1 : List UInt8 := [58, 6, 4, 172, 58, 6, 5, 172, 3, 172]
abbrev dktX0_known_1 : List UInt8 := dkwX0_known_1 ++ []
def dkwX0_known_0 : List UInt8 := [25, 5, 3, 42, 27, 28, 29, 21, 4, 182, 0, 71, 153, 0, 7, 10, 167, 0, 4, 9, 80, 167, 0, 11]
abbrev dktX0_known_0 : List UInt8 := dkwX0_known_0 ++ dktX0_known_1
theorem dksX0_known_0 : cX0_known.data.toList.drop 0 = dktX0_known_0 := by decide +kernel
theorem dksX0_known_1 : cX0_known.data.toList.drop 24 = dktX0_known_1 := dk_seg dksX0_known_0 24 rfl rfl
theorem dX0_known_0 : decode cX0_known 0 = .ok (.aload 5, 2) := dk_25 5 (dk_at dksX0_known_0 0 rfl rfl)
theorem dX0_known_2 : decode cX0_known 2 = .ok (.iconst 0, 1) := dk_3 (dk_at dksX0_known_0 2 rfl rfl)
theorem dX0_known_3 : decode cX0_known 3 = .ok (.aload_n 0, 1) := dk_42 (dk_at dksX0_known_0 3 rfl rfl)
theorem dX0_known_4 : decode cX0_known 4 = .ok (.iload_n 1, 1) := dk_27 (dk_at dksX0_known_0 4 rfl rfl)
theorem dX0_known_5 : decode cX0_known 5 = .ok (.iload_n 2, 1) := dk_28 (dk_at dksX0_known_0 5 rfl rfl)
theorem dX0_known_6 : decode cX0_known 6 = .ok (.iload_n 3, 1) := dk_29 (dk_at dksX0_known_0 6 rfl rfl)
theorem dX0_known_7 : decode cX0_known 7 = .ok (.iload 4, 2) := dk_21 4 (dk_at dksX0_known_0 7 rfl rfl)
theorem dX0_known_9 : decode cX0_known 9 = .ok (.invokevirtual 71, 3) := dk_182 0 71 (dk_at dksX0_known_0 9 rfl rfl)
theorem dX0_known_12 : decode cX0_known 12 = .ok (.ifCond .eq 7, 3) := dk_153 0 7 (dk_at dksX0_known_0 12 rfl rfl)
theorem dX0_known_15 : decode cX0_known 15 = .ok (.lconst 1, 1) := dk_10 (dk_at dksX0_known_0 15 rfl rfl)
theorem dX0_known_16 : decode cX0_known 16 = .ok (.goto 4, 3) := dk_167 0 4 (dk_at dksX0_known_0 16 rfl rfl)
theorem dX0_known_19 : decode cX0_known 19 = .ok (.lconst 0, 1) := dk_9 (dk_at dksX0_known_0 19 rfl rfl)
theorem dX0_known_20 : decode cX0_known 20 = .ok (.lastore, 1) := dk_80 (dk_at dksX0_known_0 20 rfl rfl)
theorem dX0_known_21 : decode cX0_known 21 = .ok (.goto 11, 3) := dk_167 0 11 (dk_at dksX0_known_0 21 rfl rfl)
theorem dX0_known_24 : decode cX0_known 24 = .ok (.astore 6, 2) := dk_58 6 (dk_at dksX0_known_1 0 rfl rfl)
theorem dX0_known_26 : decode cX0_known 26 = .ok (.iconst 1, 1) := dk_4 (dk_at dksX0_known_1 2 rfl rfl)
theorem dX0_known_27 : decode cX0_known 27 = .ok (.ireturn, 1) := dk_172 (dk_at dksX0_known_1 3 rfl rfl)
theorem dX0_known_28 : decode cX0_known 28 = .ok (.astore 6, 2) := dk_58 6 (dk_at dksX0_known_1 4 rfl rfl)
theorem dX0_known_30 : decode cX0_known 30 = .ok (.iconst 2, 1) := dk_5 (dk_at dksX0_known_1 6 rfl rfl)
theorem dX0_known_31 : decode cX0_known 31 = .ok (.ireturn, 1) := dk_172 (dk_at dksX0_known_1 7 rfl rfl)
theorem dX0_known_32 : decode cX0_known 32 = .ok (.iconst 0, 1) := dk_3 (dk_at dksX0_known_1 8 rfl rfl)
theorem dX0_known_33 : decode cX0_known 33 = .ok (.ireturn, 1) := dk_172 (dk_at dksX0_known_1 9 rfl rfl)
theorem q99 : (Jvm.Cond.initialized "EndingTownLaw") ∈ lw_all := lw_g (lw_at lw_m1 0 rfl) rfl
theorem q136 : (Jvm.Cond.classLink "EndingTownLaw" (8 : Nat) "EndingTown") ∈ lw_all := lw_g (lw_at lw_m1 37 rfl) rfl
theorem q138 : (Jvm.Cond.methodLink "EndingTownLaw" (75 : Nat) ({ cls := "EndingTown", name := "<init>", desc := "()V" } : Jvm.MethodName)) ∈ lw_all := lw_g (lw_at lw_m1 39 rfl) rfl
theorem q401 : (Jvm.Cond.methodLink "EndingTownLaw" (79 : Nat) ({ cls := "EndingTown", name := "feed", desc := "(IIIII)I" } : Jvm.MethodName)) ∈ lw_all := lw_g (lw_at lw_m2 62 rfl) rfl
theorem q405 : (Jvm.Cond.methodLink "EndingTownLaw" (94 : Nat) ({ cls := "EndingTown", name := "fault", desc := "()I" } : Jvm.MethodName)) ∈ lw_all := lw_g (lw_at lw_m2 66 rfl) rfl
theorem q409 : (Jvm.Cond.methodLink "EndingTownLaw" (126 : Nat) ({ cls := "EndingTown", name := "unsay", desc := "()I" } : Jvm.MethodName)) ∈ lw_all := lw_g (lw_at lw_m2 70 rfl) rfl
theorem q454 : (Jvm.Cond.methodLink "EndingTownLaw" (140 : Nat) ({ cls := "EndingTown", name := "mend", desc := "()I" } : Jvm.MethodName)) ∈ lw_all := lw_g (lw_at lw_m2 115 rfl) rfl
theorem q563 : (Jvm.Cond.methodLink "EndingTownLaw" (163 : Nat) ({ cls := "EndingTown", name := "image", desc := "()V" } : Jvm.MethodName)) ∈ lw_all := lw_g (lw_at lw_m2 224 rfl) rfl
theorem q627 : (Jvm.Cond.methodLink "EndingTownLaw" (167 : Nat) ({ cls := "EndingTown", name := "restore", desc := "()Z" } : Jvm.MethodName)) ∈ lw_all := lw_g (lw_at lw_m3 48 rfl) rfl
theorem q631 : (Jvm.Cond.methodLink "EndingTownLaw" (84 : Nat) ({ cls := "EndingTownLaw", name := "village", desc := "(LEndingTown;I[J)I" } : Jvm.MethodName)) ∈ lw_all := lw_g (lw_at lw_m3 52 rfl) rfl
theorem q632 : (Jvm.Cond.static ({ cls := "EndingTownLaw", name := "village", desc := "(LEndingTown;I[J)I" } : Jvm.MethodName)) ∈ lw_all := lw_g (lw_at lw_m3 53 rfl) rfl
theorem q633 : (Jvm.Cond.codeWith ({ cls := "EndingTownLaw", name := "village", desc := "(LEndingTown;I[J)I" } : Jvm.MethodName) method_3_code (4 : Nat) (Option.some Jvm.ClassFile.FieldType.int) [((0 : Nat), (9 : Nat), (12 : Nat), (13 : Nat))]) ∈ lw_all := lw_g (lw_at lw_m3 54 rfl) rfl
theorem q634 : (Jvm.Cond.classLink "EndingTownLaw" (13 : Nat) "java/lang/IllegalArgumentException") ∈ lw_all := lw_g (lw_at lw_m3 55 rfl) rfl
theorem q635 : (Jvm.Cond.methodLink "EndingTownLaw" (7 : Nat) ({ cls := "EndingTown", name := "village", desc := "(I)I" } : Jvm.MethodName)) ∈ lw_all := lw_g (lw_at lw_m3 56 rfl) rfl
theorem q1059 : (Jvm.Cond.methodLink "EndingTownLaw" (98 : Nat) ({ cls := "EndingTownLaw", name := "count", desc := "(LEndingTown;I[J)I" } : Jvm.MethodName)) ∈ lw_all := lw_g (lw_at lw_m5 0 rfl) rfl
theorem q1060 : (Jvm.Cond.static ({ cls := "EndingTownLaw", name := "count", desc := "(LEndingTown;I[J)I" } : Jvm.MethodName)) ∈ lw_all := lw_g (lw_at lw_m5 1 rfl) rfl
theorem q1061 : (Jvm.Cond.codeWith ({ cls := "EndingTownLaw", name := "count", desc := "(LEndingTown;I[J)I" } : Jvm.MethodName) method_4_code (4 : Nat) (Option.some Jvm.ClassFile.FieldType.int) [((0 : Nat), (9 : Nat), (12 : Nat), (18 : Nat))]) ∈ lw_all := lw_g (lw_at lw_m5 2 rfl) rfl
theorem q1062 : (Jvm.Cond.classLink "EndingTownLaw" (18 : Nat) "java/util/NoSuchElementException") ∈ lw_all := lw_g (lw_at lw_m5 3 rfl) rfl
theorem q1063 : (Jvm.Cond.methodLink "EndingTownLaw" (15 : Nat) ({ cls := "EndingTown", name := "count", desc := "(I)I" } : Jvm.MethodName)) ∈ lw_all := lw_g (lw_at lw_m5 4 rfl) rfl
theorem q1082 : (Jvm.Cond.methodLink "EndingTownLaw" (101 : Nat) ({ cls := "EndingTownLaw", name := "where", desc := "(LEndingTown;II[J)I" } : Jvm.MethodName)) ∈ lw_all := lw_g (lw_at lw_m5 23 rfl) rfl
theorem q1083 : (Jvm.Cond.static ({ cls := "EndingTownLaw", name := "where", desc := "(LEndingTown;II[J)I" } : Jvm.MethodName)) ∈ lw_all := lw_g (lw_at lw_m5 24 rfl) rfl
theorem q1084 : (Jvm.Cond.codeWith ({ cls := "EndingTownLaw", name := "where", desc := "(LEndingTown;II[J)I" } : Jvm.MethodName) method_5_code (5 : Nat) (Option.some Jvm.ClassFile.FieldType.int) [((0 : Nat), (10 : Nat), (13 : Nat), (18 : Nat))]) ∈ lw_all := lw_g (lw_at lw_m5 25 rfl) rfl
theorem q1085 : (Jvm.Cond.methodLink "EndingTownLaw" (20 : Nat) ({ cls := "EndingTown", name := "where", desc := "(II)I" } : Jvm.MethodName)) ∈ lw_all := lw_g (lw_at lw_m5 26 rfl) rfl
theorem q1102 : (Jvm.Cond.methodLink "EndingTownLaw" (105 : Nat) ({ cls := "EndingTownLaw", name := "thing", desc := "(LEndingTown;II[J)I" } : Jvm.MethodName)) ∈ lw_all := lw_g (lw_at lw_m5 43 rfl) rfl
theorem q1103 : (Jvm.Cond.static ({ cls := "EndingTownLaw", name := "thing", desc := "(LEndingTown;II[J)I" } : Jvm.MethodName)) ∈ lw_all := lw_g (lw_at lw_m5 44 rfl) rfl
theorem q1104 : (Jvm.Cond.codeWith ({ cls := "EndingTownLaw", name := "thing", desc := "(LEndingTown;II[J)I" } : Jvm.MethodName) method_6_code (5 : Nat) (Option.some Jvm.ClassFile.FieldType.int) [((0 : Nat), (10 : Nat), (13 : Nat), (18 : Nat))]) ∈ lw_all := lw_g (lw_at lw_m5 45 rfl) rfl
theorem q1105 : (Jvm.Cond.methodLink "EndingTownLaw" (24 : Nat) ({ cls := "EndingTown", name := "thing", desc := "(II)I" } : Jvm.MethodName)) ∈ lw_all := lw_g (lw_at lw_m5 46 rfl) rfl
theorem q1114 : (Jvm.Cond.methodLink "EndingTownLaw" (108 : Nat) ({ cls := "EndingTownLaw", name := "word", desc := "(LEndingTown;IIII[J)I" } : Jvm.MethodName)) ∈ lw_all := lw_g (lw_at lw_m5 55 rfl) rfl
theorem q1115 : (Jvm.Cond.static ({ cls := "EndingTownLaw", name := "word", desc := "(LEndingTown;IIII[J)I" } : Jvm.MethodName)) ∈ lw_all := lw_g (lw_at lw_m5 56 rfl) rfl
theorem q1116 : (Jvm.Cond.codeWith ({ cls := "EndingTownLaw", name := "word", desc := "(LEndingTown;IIII[J)I" } : Jvm.MethodName) method_7_code (7 : Nat) (Option.some Jvm.ClassFile.FieldType.int) [((0 : Nat), (14 : Nat), (17 : Nat), (18 : Nat))]) ∈ lw_all := lw_g (lw_at lw_m5 57 rfl) rfl
theorem q1117 : (Jvm.Cond.methodLink "EndingTownLaw" (27 : Nat) ({ cls := "EndingTown", name := "word", desc := "(IIII)I" } : Jvm.MethodName)) ∈ lw_all := lw_g (lw_at lw_m5 58 rfl) rfl
theorem q1141 : (Jvm.Cond.methodLink "EndingTownLaw" (112 : Nat) ({ cls := "EndingTownLaw", name := "apart", desc := "(LEndingTown;I[J)I" } : Jvm.MethodName)) ∈ lw_all := lw_g (lw_at lw_m5 82 rfl) rfl
theorem q1142 : (Jvm.Cond.static ({ cls := "EndingTownLaw", name := "apart", desc := "(LEndingTown;I[J)I" } : Jvm.MethodName)) ∈ lw_all := lw_g (lw_at lw_m5 83 rfl) rfl
theorem q1143 : (Jvm.Cond.codeWith ({ cls := "EndingTownLaw", name := "apart", desc := "(LEndingTown;I[J)I" } : Jvm.MethodName) method_8_code (4 : Nat) (Option.some Jvm.ClassFile.FieldType.int) [((0 : Nat), (9 : Nat), (12 : Nat), (13 : Nat))]) ∈ lw_all := lw_g (lw_at lw_m5 84 rfl) rfl
theorem q1144 : (Jvm.Cond.methodLink "EndingTownLaw" (31 : Nat) ({ cls := "EndingTown", name := "apart", desc := "(I)I" } : Jvm.MethodName)) ∈ lw_all := lw_g (lw_at lw_m5 85 rfl) rfl
theorem q1159 : (Jvm.Cond.methodLink "EndingTownLaw" (115 : Nat) ({ cls := "EndingTownLaw", name := "way", desc := "(LEndingTown;I[J)I" } : Jvm.MethodName)) ∈ lw_all := lw_g (lw_at lw_m5 100 rfl) rfl
theorem q1160 : (Jvm.Cond.static ({ cls := "EndingTownLaw", name := "way", desc := "(LEndingTown;I[J)I" } : Jvm.MethodName)) ∈ lw_all := lw_g (lw_at lw_m5 101 rfl) rfl
theorem q1161 : (Jvm.Cond.codeWith ({ cls := "EndingTownLaw", name := "way", desc := "(LEndingTown;I[J)I" } : Jvm.MethodName) method_9_code (4 : Nat) (Option.some Jvm.ClassFile.FieldType.int) [((0 : Nat), (9 : Nat), (12 : Nat), (18 : Nat))]) ∈ lw_all := lw_g (lw_at lw_m5 102 rfl) rfl
theorem q1162 : (Jvm.Cond.methodLink "EndingTownLaw" (34 : Nat) ({ cls := "EndingTown", name := "way", desc := "(I)I" } : Jvm.MethodName)) ∈ lw_all := lw_g (lw_at lw_m5 103 rfl) rfl
theorem q1166 : (Jvm.Cond.methodLink "EndingTownLaw" (118 : Nat) ({ cls := "EndingTownLaw", name := "say", desc := "(LEndingTown;IIIIZ[J)I" } : Jvm.MethodName)) ∈ lw_all := lw_g (lw_at lw_m5 107 rfl) rfl
theorem q1167 : (Jvm.Cond.static ({ cls := "EndingTownLaw", name := "say", desc := "(LEndingTown;IIIIZ[J)I" } : Jvm.MethodName)) ∈ lw_all := lw_g (lw_at lw_m5 108 rfl) rfl
theorem q1168 : (Jvm.Cond.codeWith ({ cls := "EndingTownLaw", name := "say", desc := "(LEndingTown;IIIIZ[J)I" } : Jvm.MethodName) method_10_code (8 : Nat) (Option.some Jvm.ClassFile.FieldType.int) [((0 : Nat), (16 : Nat), (19 : Nat), (18 : Nat))]) ∈ lw_all := lw_g (lw_at lw_m5 109 rfl) rfl
theorem q1169 : (Jvm.Cond.methodLink "EndingTownLaw" (37 : Nat) ({ cls := "EndingTown", name := "say", desc := "(IIIIZ)I" } : Jvm.MethodName)) ∈ lw_all := lw_g (lw_at lw_m5 110 rfl) rfl
theorem q1218 : (Jvm.Cond.methodLink "EndingTownLaw" (122 : Nat) ({ cls := "EndingTownLaw", name := "utter", desc := "(LEndingTown;III[J)I" } : Jvm.MethodName)) ∈ lw_all := lw_g (lw_at lw_m5 159 rfl) rfl
theorem q1219 : (Jvm.Cond.static ({ cls := "EndingTownLaw", name := "utter", desc := "(LEndingTown;III[J)I" } : Jvm.MethodName)) ∈ lw_all := lw_g (lw_at lw_m5 160 rfl) rfl
theorem q1220 : (Jvm.Cond.codeWith ({ cls := "EndingTownLaw", name := "utter", desc := "(LEndingTown;III[J)I" } : Jvm.MethodName) method_11_code (6 : Nat) (Option.some Jvm.ClassFile.FieldType.int) [((0 : Nat), (12 : Nat), (15 : Nat), (18 : Nat)), ((0 : Nat), (12 : Nat), (19 : Nat), (13 : Nat))]) ∈ lw_all := lw_g (lw_at lw_m5 161 rfl) rfl
theorem q1221 : (Jvm.Cond.methodLink "EndingTownLaw" (41 : Nat) ({ cls := "EndingTown", name := "utter", desc := "(III)I" } : Jvm.MethodName)) ∈ lw_all := lw_g (lw_at lw_m5 162 rfl) rfl
theorem q1232 : (Jvm.Cond.methodLink "EndingTownLaw" (130 : Nat) ({ cls := "EndingTownLaw", name := "saying", desc := "(LEndingTown;II[J)I" } : Jvm.MethodName)) ∈ lw_all := lw_g (lw_at lw_m5 173 rfl) rfl
theorem q1233 : (Jvm.Cond.static ({ cls := "EndingTownLaw", name := "saying", desc := "(LEndingTown;II[J)I" } : Jvm.MethodName)) ∈ lw_all := lw_g (lw_at lw_m5 174 rfl) rfl
theorem q1234 : (Jvm.Cond.codeWith ({ cls := "EndingTownLaw", name := "saying", desc := "(LEndingTown;II[J)I" } : Jvm.MethodName) method_12_code (5 : Nat) (Option.some Jvm.ClassFile.FieldType.int) [((0 : Nat), (10 : Nat), (13 : Nat), (18 : Nat))]) ∈ lw_all := lw_g (lw_at lw_m5 175 rfl) rfl
theorem q1235 : (Jvm.Cond.methodLink "EndingTownLaw" (45 : Nat) ({ cls := "EndingTown", name := "saying", desc := "(II)I" } : Jvm.MethodName)) ∈ lw_all := lw_g (lw_at lw_m5 176 rfl) rfl
theorem q1267 : (Jvm.Cond.methodLink "EndingTownLaw" (133 : Nat) ({ cls := "EndingTownLaw", name := "could", desc := "(LEndingTown;IIIZ[J)I" } : Jvm.MethodName)) ∈ lw_all := lw_g (lw_at lw_m5 208 rfl) rfl
theorem q1268 : (Jvm.Cond.static ({ cls := "EndingTownLaw", name := "could", desc := "(LEndingTown;IIIZ[J)I" } : Jvm.MethodName)) ∈ lw_all := lw_g (lw_at lw_m5 209 rfl) rfl
theorem q1269 : (Jvm.Cond.codeWith ({ cls := "EndingTownLaw", name := "could", desc := "(LEndingTown;IIIZ[J)I" } : Jvm.MethodName) method_13_code (7 : Nat) (Option.some Jvm.ClassFile.FieldType.int) [((0 : Nat), (14 : Nat), (17 : Nat), (18 : Nat))]) ∈ lw_all := lw_g (lw_at lw_m5 210 rfl) rfl
theorem q1270 : (Jvm.Cond.methodLink "EndingTownLaw" (48 : Nat) ({ cls := "EndingTown", name := "could", desc := "(IIIZ)I" } : Jvm.MethodName)) ∈ lw_all := lw_g (lw_at lw_m5 211 rfl) rfl
theorem q1275 : (Jvm.Cond.methodLink "EndingTownLaw" (137 : Nat) ({ cls := "EndingTownLaw", name := "wrong", desc := "(LEndingTown;I[J)I" } : Jvm.MethodName)) ∈ lw_all := lw_g (lw_at lw_m5 216 rfl) rfl
theorem q1276 : (Jvm.Cond.static ({ cls := "EndingTownLaw", name := "wrong", desc := "(LEndingTown;I[J)I" } : Jvm.MethodName)) ∈ lw_all := lw_g (lw_at lw_m5 217 rfl) rfl
theorem q1277 : (Jvm.Cond.codeWith ({ cls := "EndingTownLaw", name := "wrong", desc := "(LEndingTown;I[J)I" } : Jvm.MethodName) method_14_code (4 : Nat) (Option.some Jvm.ClassFile.FieldType.int) [((0 : Nat), (9 : Nat), (12 : Nat), (18 : Nat))]) ∈ lw_all := lw_g (lw_at lw_m5 218 rfl) rfl
theorem q1278 : (Jvm.Cond.methodLink "EndingTownLaw" (52 : Nat) ({ cls := "EndingTown", name := "wrong", desc := "(I)I" } : Jvm.MethodName)) ∈ lw_all := lw_g (lw_at lw_m5 219 rfl) rfl
theorem q1286 : (Jvm.Cond.methodLink "EndingTownLaw" (144 : Nat) ({ cls := "EndingTownLaw", name := "mended", desc := "(LEndingTown;I[J)I" } : Jvm.MethodName)) ∈ lw_all := lw_g (lw_at lw_m5 227 rfl) rfl
theorem q1287 : (Jvm.Cond.static ({ cls := "EndingTownLaw", name := "mended", desc := "(LEndingTown;I[J)I" } : Jvm.MethodName)) ∈ lw_all := lw_g (lw_at lw_m5 228 rfl) rfl
theorem q1288 : (Jvm.Cond.codeWith ({ cls := "EndingTownLaw", name := "mended", desc := "(LEndingTown;I[J)I" } : Jvm.MethodName) method_15_code (4 : Nat) (Option.some Jvm.ClassFile.FieldType.int) [((0 : Nat), (9 : Nat), (12 : Nat), (18 : Nat))]) ∈ lw_all := lw_g (lw_at lw_m5 229 rfl) rfl
theorem q1289 : (Jvm.Cond.methodLink "EndingTownLaw" (55 : Nat) ({ cls := "EndingTown", name := "mended", desc := "(I)I" } : Jvm.MethodName)) ∈ lw_all := lw_g (lw_at lw_m5 230 rfl) rfl
theorem q1293 : (Jvm.Cond.methodLink "EndingTownLaw" (147 : Nat) ({ cls := "EndingTownLaw", name := "silence", desc := "(LEndingTown;II[J)I" } : Jvm.MethodName)) ∈ lw_all := lw_g (lw_at lw_m5 234 rfl) rfl
theorem q1294 : (Jvm.Cond.static ({ cls := "EndingTownLaw", name := "silence", desc := "(LEndingTown;II[J)I" } : Jvm.MethodName)) ∈ lw_all := lw_g (lw_at lw_m5 235 rfl) rfl
theorem q1295 : (Jvm.Cond.codeWith ({ cls := "EndingTownLaw", name := "silence", desc := "(LEndingTown;II[J)I" } : Jvm.MethodName) method_16_code (5 : Nat) (Option.some Jvm.ClassFile.FieldType.int) [((0 : Nat), (10 : Nat), (13 : Nat), (18 : Nat))]) ∈ lw_all := lw_g (lw_at lw_m5 236 rfl) rfl
theorem q1296 : (Jvm.Cond.methodLink "EndingTownLaw" (58 : Nat) ({ cls := "EndingTown", name := "silence", desc := "(II)I" } : Jvm.MethodName)) ∈ lw_all := lw_g (lw_at lw_m5 237 rfl) rfl
theorem q1300 : (Jvm.Cond.methodLink "EndingTownLaw" (150 : Nat) ({ cls := "EndingTownLaw", name := "likely", desc := "(LEndingTown;II[J)I" } : Jvm.MethodName)) ∈ lw_all := lw_g (lw_at lw_m6 1 rfl) rfl
theorem q1301 : (Jvm.Cond.static ({ cls := "EndingTownLaw", name := "likely", desc := "(LEndingTown;II[J)I" } : Jvm.MethodName)) ∈ lw_all := lw_g (lw_at lw_m6 2 rfl) rfl
theorem q1302 : (Jvm.Cond.codeWith ({ cls := "EndingTownLaw", name := "likely", desc := "(LEndingTown;II[J)I" } : Jvm.MethodName) method_17_code (5 : Nat) (Option.some Jvm.ClassFile.FieldType.int) [((0 : Nat), (10 : Nat), (13 : Nat), (18 : Nat))]) ∈ lw_all := lw_g (lw_at lw_m6 3 rfl) rfl
theorem q1303 : (Jvm.Cond.methodLink "EndingTownLaw" (61 : Nat) ({ cls := "EndingTown", name := "likely", desc := "(II)I" } : Jvm.MethodName)) ∈ lw_all := lw_g (lw_at lw_m6 4 rfl) rfl
theorem q1309 : (Jvm.Cond.methodLink "EndingTownLaw" (153 : Nat) ({ cls := "EndingTownLaw", name := "worlds", desc := "(LEndingTown;I[J)I" } : Jvm.MethodName)) ∈ lw_all := lw_g (lw_at lw_m6 10 rfl) rfl
theorem q1310 : (Jvm.Cond.static ({ cls := "EndingTownLaw", name := "worlds", desc := "(LEndingTown;I[J)I" } : Jvm.MethodName)) ∈ lw_all := lw_g (lw_at lw_m6 11 rfl) rfl
theorem q1311 : (Jvm.Cond.codeWith ({ cls := "EndingTownLaw", name := "worlds", desc := "(LEndingTown;I[J)I" } : Jvm.MethodName) method_18_code (4 : Nat) (Option.some Jvm.ClassFile.FieldType.int) [((0 : Nat), (9 : Nat), (12 : Nat), (13 : Nat))]) ∈ lw_all := lw_g (lw_at lw_m6 12 rfl) rfl
theorem q1312 : (Jvm.Cond.methodLink "EndingTownLaw" (64 : Nat) ({ cls := "EndingTown", name := "worlds", desc := "(I)I" } : Jvm.MethodName)) ∈ lw_all := lw_g (lw_at lw_m6 13 rfl) rfl
theorem q1316 : (Jvm.Cond.methodLink "EndingTownLaw" (156 : Nat) ({ cls := "EndingTownLaw", name := "tell", desc := "(LEndingTown;IIZ[J)I" } : Jvm.MethodName)) ∈ lw_all := lw_g (lw_at lw_m6 17 rfl) rfl
theorem q1317 : (Jvm.Cond.static ({ cls := "EndingTownLaw", name := "tell", desc := "(LEndingTown;IIZ[J)I" } : Jvm.MethodName)) ∈ lw_all := lw_g (lw_at lw_m6 18 rfl) rfl
theorem q1318 : (Jvm.Cond.codeWith ({ cls := "EndingTownLaw", name := "tell", desc := "(LEndingTown;IIZ[J)I" } : Jvm.MethodName) method_19_code (6 : Nat) (Option.some Jvm.ClassFile.FieldType.int) [((0 : Nat), (12 : Nat), (15 : Nat), (18 : Nat))]) ∈ lw_all := lw_g (lw_at lw_m6 19 rfl) rfl
theorem q1319 : (Jvm.Cond.methodLink "EndingTownLaw" (67 : Nat) ({ cls := "EndingTown", name := "tell", desc := "(IIZ)I" } : Jvm.MethodName)) ∈ lw_all := lw_g (lw_at lw_m6 20 rfl) rfl
theorem q1351 : (Jvm.Cond.methodLink "EndingTownLaw" (160 : Nat) ({ cls := "EndingTownLaw", name := "known", desc := "(LEndingTown;IIIZ[J)I" } : Jvm.MethodName)) ∈ lw_all := lw_g (lw_at lw_m6 52 rfl) rfl
theorem q1352 : (Jvm.Cond.static ({ cls := "EndingTownLaw", name := "known", desc := "(LEndingTown;IIIZ[J)I" } : Jvm.MethodName)) ∈ lw_all := lw_g (lw_at lw_m6 53 rfl) rfl
theorem q1353 : (Jvm.Cond.codeWith ({ cls := "EndingTownLaw", name := "known", desc := "(LEndingTown;IIIZ[J)I" } : Jvm.MethodName) method_20_code (7 : Nat) (Option.some Jvm.ClassFile.FieldType.int) [((0 : Nat), (21 : Nat), (24 : Nat), (18 : Nat)), ((0 : Nat), (21 : Nat), (28 : Nat), (13 : Nat))]) ∈ lw_all := lw_g (lw_at lw_m6 54 rfl) rfl
theorem q1354 : (Jvm.Cond.methodLink "EndingTownLaw" (71 : Nat) ({ cls := "EndingTown", name := "known", desc := "(IIIZ)Z" } : Jvm.MethodName)) ∈ lw_all := lw_g (lw_at lw_m6 55 rfl) rfl
theorem q1358 : (Jvm.Cond.classLink "EndingTownLaw" (76 : Nat) "EndingTownModel") ∈ lw_all := lw_g (lw_at lw_m6 59 rfl) rfl
theorem q1360 : (Jvm.Cond.methodLink "EndingTownLaw" (78 : Nat) ({ cls := "EndingTownModel", name := "<init>", desc := "()V" } : Jvm.MethodName)) ∈ lw_all := lw_g (lw_at lw_m6 61 rfl) rfl
theorem q1587 : (Jvm.Cond.methodLink "EndingTownLaw" (90 : Nat) ({ cls := "EndingTownModel", name := "thrown", desc := "()I" } : Jvm.MethodName)) ∈ lw_all := lw_g (lw_at lw_m7 48 rfl) rfl
theorem q1591 : (Jvm.Cond.methodLink "EndingTownLaw" (83 : Nat) ({ cls := "EndingTownModel", name := "feed", desc := "(IIIII)I" } : Jvm.MethodName)) ∈ lw_all := lw_g (lw_at lw_m7 52 rfl) rfl
theorem q1599 : (Jvm.Cond.methodLink "EndingTownLaw" (89 : Nat) ({ cls := "EndingTownModel", name := "village", desc := "(I)I" } : Jvm.MethodName)) ∈ lw_all := lw_g (lw_at lw_m7 60 rfl) rfl
theorem q1691 : (Jvm.Cond.methodLink "EndingTownLaw" (97 : Nat) ({ cls := "EndingTownModel", name := "fault", desc := "()I" } : Jvm.MethodName)) ∈ lw_all := lw_g (lw_at lw_m7 152 rfl) rfl
theorem q1695 : (Jvm.Cond.methodLink "EndingTownLaw" (100 : Nat) ({ cls := "EndingTownModel", name := "count", desc := "(I)I" } : Jvm.MethodName)) ∈ lw_all := lw_g (lw_at lw_m7 156 rfl) rfl
theorem q1705 : (Jvm.Cond.methodLink "EndingTownLaw" (104 : Nat) ({ cls := "EndingTownModel", name := "where", desc := "(II)I" } : Jvm.MethodName)) ∈ lw_all := lw_g (lw_at lw_m7 166 rfl) rfl
theorem q1713 : (Jvm.Cond.methodLink "EndingTownLaw" (107 : Nat) ({ cls := "EndingTownModel", name := "thing", desc := "(II)I" } : Jvm.MethodName)) ∈ lw_all := lw_g (lw_at lw_m7 174 rfl) rfl
theorem q1721 : (Jvm.Cond.methodLink "EndingTownLaw" (111 : Nat) ({ cls := "EndingTownModel", name := "word", desc := "(IIII)I" } : Jvm.MethodName)) ∈ lw_all := lw_g (lw_at lw_m7 182 rfl) rfl
theorem q1741 : (Jvm.Cond.methodLink "EndingTownLaw" (114 : Nat) ({ cls := "EndingTownModel", name := "apart", desc := "(I)I" } : Jvm.MethodName)) ∈ lw_all := lw_g (lw_at lw_m7 202 rfl) rfl
theorem q1749 : (Jvm.Cond.methodLink "EndingTownLaw" (117 : Nat) ({ cls := "EndingTownModel", name := "way", desc := "(I)I" } : Jvm.MethodName)) ∈ lw_all := lw_g (lw_at lw_m7 210 rfl) rfl
theorem q1753 : (Jvm.Cond.methodLink "EndingTownLaw" (121 : Nat) ({ cls := "EndingTownModel", name := "say", desc := "(IIIIZ)I" } : Jvm.MethodName)) ∈ lw_all := lw_g (lw_at lw_m7 214 rfl) rfl
theorem q1765 : (Jvm.Cond.methodLink "EndingTownLaw" (125 : Nat) ({ cls := "EndingTownModel", name := "utter", desc := "(III)I" } : Jvm.MethodName)) ∈ lw_all := lw_g (lw_at lw_m7 226 rfl) rfl
theorem q1781 : (Jvm.Cond.methodLink "EndingTownLaw" (129 : Nat) ({ cls := "EndingTownModel", name := "unsay", desc := "()I" } : Jvm.MethodName)) ∈ lw_all := lw_g (lw_at lw_m8 2 rfl) rfl
theorem q1785 : (Jvm.Cond.methodLink "EndingTownLaw" (132 : Nat) ({ cls := "EndingTownModel", name := "saying", desc := "(II)I" } : Jvm.MethodName)) ∈ lw_all := lw_g (lw_at lw_m8 6 rfl) rfl
theorem q1849 : (Jvm.Cond.methodLink "EndingTownLaw" (136 : Nat) ({ cls := "EndingTownModel", name := "could", desc := "(IIIZ)I" } : Jvm.MethodName)) ∈ lw_all := lw_g (lw_at lw_m8 70 rfl) rfl
theorem q1853 : (Jvm.Cond.methodLink "EndingTownLaw" (139 : Nat) ({ cls := "EndingTownModel", name := "wrong", desc := "(I)I" } : Jvm.MethodName)) ∈ lw_all := lw_g (lw_at lw_m8 74 rfl) rfl
theorem q1861 : (Jvm.Cond.methodLink "EndingTownLaw" (143 : Nat) ({ cls := "EndingTownModel", name := "mend", desc := "()I" } : Jvm.MethodName)) ∈ lw_all := lw_g (lw_at lw_m8 82 rfl) rfl
theorem q1865 : (Jvm.Cond.methodLink "EndingTownLaw" (146 : Nat) ({ cls := "EndingTownModel", name := "mended", desc := "(I)I" } : Jvm.MethodName)) ∈ lw_all := lw_g (lw_at lw_m8 86 rfl) rfl
theorem q1869 : (Jvm.Cond.methodLink "EndingTownLaw" (149 : Nat) ({ cls := "EndingTownModel", name := "silence", desc := "(II)I" } : Jvm.MethodName)) ∈ lw_all := lw_g (lw_at lw_m8 90 rfl) rfl
theorem q1873 : (Jvm.Cond.methodLink "EndingTownLaw" (152 : Nat) ({ cls := "EndingTownModel", name := "likely", desc := "(II)I" } : Jvm.MethodName)) ∈ lw_all := lw_g (lw_at lw_m8 94 rfl) rfl
theorem q1879 : (Jvm.Cond.methodLink "EndingTownLaw" (155 : Nat) ({ cls := "EndingTownModel", name := "worlds", desc := "(I)I" } : Jvm.MethodName)) ∈ lw_all := lw_g (lw_at lw_m8 100 rfl) rfl
theorem q1883 : (Jvm.Cond.methodLink "EndingTownLaw" (159 : Nat) ({ cls := "EndingTownModel", name := "tell", desc := "(IIZ)I" } : Jvm.MethodName)) ∈ lw_all := lw_g (lw_at lw_m8 104 rfl) rfl
theorem q1910 : (Jvm.Cond.methodLink "EndingTownLaw" (162 : Nat) ({ cls := "EndingTownModel", name := "known", desc := "(IIIZ)Z" } : Jvm.MethodName)) ∈ lw_all := lw_g (lw_at lw_m8 131 rfl) rfl
theorem q1914 : (Jvm.Cond.methodLink "EndingTownLaw" (166 : Nat) ({ cls := "EndingTownModel", name := "image", desc := "()V" } : Jvm.MethodName)) ∈ lw_all := lw_g (lw_at lw_m8 135 rfl) rfl
theorem q1918 : (Jvm.Cond.methodLink "EndingTownLaw" (171 : Nat) ({ cls := "EndingTownModel", name := "restore", desc := "()Z" } : Jvm.MethodName)) ∈ lw_all := lw_g (lw_at lw_m8 139 rfl) rfl
