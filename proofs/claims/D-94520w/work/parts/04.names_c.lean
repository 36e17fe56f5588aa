/-! EndingTownModel -/
set_option maxRecDepth 100000
def RX11 : String := "EndingTownModel"
def TX11 : u_T := fun k => match k with
  | 0 => ("EndingTownModel", "thrown", "I", false)
  | 1 => ("EndingTownModel", "stems", "I", false)
  | 2 => ("EndingTownModel", "changes", "I", false)
  | 3 => ("EndingTownModel", "places", "I", false)
  | 4 => ("EndingTownModel", "people", "I", false)
  | 5 => ("EndingTownModel", "things", "I", false)
  | 6 => ("EndingTownModel", "rules", "I", false)
  | 7 => ("EndingTownModel", "stem", "[I", true)
  | 8 => ("EndingTownModel", "ending", "[I", true)
  | 9 => ("EndingTownModel", "change", "[I", true)
  | 10 => ("EndingTownModel", "not", "[I", true)
  | 11 => ("EndingTownModel", "thing", "[I", true)
  | 12 => ("EndingTownModel", "rule", "[I", true)
  | 13 => ("EndingTownModel", "near", "[I", true)
  | 14 => ("EndingTownModel", "where", "[I", true)
  | 15 => ("EndingTownModel", "weigh", "[I", true)
  | 16 => ("EndingTownModel", "tape", "[I", true)
  | 17 => ("EndingTownModel", "taped", "I", false)
  | 18 => ("EndingTownModel", "faultKind", "I", false)
  | 19 => ("EndingTownModel", "faultPlace", "I", false)
  | 20 => ("EndingTownModel", "refused", "[I", true)
  | 21 => ("EndingTownModel", "size", "I", false)
  | 22 => ("EndingTownModel", "next", "I", false)
  | 23 => ("EndingTownModel", "sort", "I", false)
  | 24 => ("EndingTownModel", "place", "I", false)
  | 25 => ("EndingTownModel", "long0", "I", false)
  | 26 => ("EndingTownModel", "value", "I", false)
  | 27 => ("EndingTownModel", "word", "J", false)
  | 28 => ("EndingTownModel", "newStems", "I", false)
  | 29 => ("EndingTownModel", "newChanges", "I", false)
  | 30 => ("EndingTownModel", "newPlaces", "I", false)
  | 31 => ("EndingTownModel", "newPeople", "I", false)
  | 32 => ("EndingTownModel", "newThings", "I", false)
  | 33 => ("EndingTownModel", "newRules", "I", false)
  | 34 => ("EndingTownModel", "hasNot", "Z", false)
  | 35 => ("EndingTownModel", "hasPlaces", "Z", false)
  | 36 => ("EndingTownModel", "hasOthers", "Z", false)
  | 37 => ("EndingTownModel", "newStem", "[I", true)
  | 38 => ("EndingTownModel", "newEnding", "[I", true)
  | 39 => ("EndingTownModel", "newChange", "[I", true)
  | 40 => ("EndingTownModel", "newNot", "[I", true)
  | 41 => ("EndingTownModel", "newThing", "[I", true)
  | 42 => ("EndingTownModel", "newRule", "[I", true)
  | 43 => ("EndingTownModel", "newNear", "[I", true)
  | 44 => ("EndingTownModel", "newWhere", "[I", true)
  | 45 => ("EndingTownModel", "newWeigh", "[I", true)
  | 46 => ("EndingTownModel", "spoken", "[I", true)
  | 47 => ("EndingTownModel", "way", "[I", true)
  | 48 => ("EndingTownModel", "spokenLong", "I", false)
  | 49 => ("EndingTownModel", "ways", "I", false)
  | 50 => ("EndingTownModel", "sayings", "I", false)
  | 51 => ("EndingTownModel", "said", "[I", true)
  | 52 => ("EndingTownModel", "wayKept", "[I", true)
  | 53 => ("EndingTownModel", "round", "[I", true)
  | 54 => ("EndingTownModel", "takes", "[I", true)
  | 55 => ("EndingTownModel", "pairWho", "[I", true)
  | 56 => ("EndingTownModel", "pairHour", "[I", true)
  | 57 => ("EndingTownModel", "pairOf", "[I", true)
  | 58 => ("EndingTownModel", "could", "[I", true)
  | 59 => ("EndingTownModel", "pairs", "I", false)
  | 60 => ("EndingTownModel", "there", "I", false)
  | 61 => ("EndingTownModel", "changed", "I", false)
  | 62 => ("EndingTownModel", "firstHow", "I", false)
  | 63 => ("EndingTownModel", "eyes", "[I", true)
  | 64 => ("EndingTownModel", "couldEyes", "[I", true)
  | 65 => ("EndingTownModel", "mendLong", "I", false)
  | 66 => ("EndingTownModel", "mend", "[I", true)
  | 67 => ("EndingTownModel", "worldThings", "I", false)
  | 68 => ("EndingTownModel", "left", "I", false)
  | 69 => ("EndingTownModel", "hasImage", "Z", false)
  | 70 => ("EndingTownModel", "imageSayings", "I", false)
  | 71 => ("EndingTownModel", "imageThings", "I", false)
  | 72 => ("EndingTownModel", "imageLeft", "I", false)
  | _ => ("EndingTownModel", "imageSaid", "[I", true)
def tyX11 : Nat → FieldType := fun k => match k with
  | 0 => .int
  | 1 => .int
  | 2 => .int
  | 3 => .int
  | 4 => .int
  | 5 => .int
  | 6 => .int
  | 7 => .array .int
  | 8 => .array .int
  | 9 => .array .int
  | 10 => .array .int
  | 11 => .array .int
  | 12 => .array .int
  | 13 => .array .int
  | 14 => .array .int
  | 15 => .array .int
  | 16 => .array .int
  | 17 => .int
  | 18 => .int
  | 19 => .int
  | 20 => .array .int
  | 21 => .int
  | 22 => .int
  | 23 => .int
  | 24 => .int
  | 25 => .int
  | 26 => .int
  | 27 => .long
  | 28 => .int
  | 29 => .int
  | 30 => .int
  | 31 => .int
  | 32 => .int
  | 33 => .int
  | 34 => .boolean
  | 35 => .boolean
  | 36 => .boolean
  | 37 => .array .int
  | 38 => .array .int
  | 39 => .array .int
  | 40 => .array .int
  | 41 => .array .int
  | 42 => .array .int
  | 43 => .array .int
  | 44 => .array .int
  | 45 => .array .int
  | 46 => .array .int
  | 47 => .array .int
  | 48 => .int
  | 49 => .int
  | 50 => .int
  | 51 => .array .int
  | 52 => .array .int
  | 53 => .array .int
  | 54 => .array .int
  | 55 => .array .int
  | 56 => .array .int
  | 57 => .array .int
  | 58 => .array .int
  | 59 => .int
  | 60 => .int
  | 61 => .int
  | 62 => .int
  | 63 => .array .int
  | 64 => .array .int
  | 65 => .int
  | 66 => .array .int
  | 67 => .int
  | 68 => .int
  | 69 => .boolean
  | 70 => .int
  | 71 => .int
  | 72 => .int
  | _ => .array .int
abbrev wsX110 : List Cond := u_ws RX11 TX11 74
set_option maxRecDepth 100000 in
theorem nmX11 : ∀ a, a < 74 → ∀ b, b < 74 → a ≠ b → (TX11 a).2.1 ≠ (TX11 b).2.1 := by decide +kernel
set_option maxRecDepth 100000 in
theorem tyX11_ok : ∀ k, k < 74 → parseFieldDescriptor (TX11 k).2.2.1 = some (tyX11 k) := by decide +kernel
abbrev cX11_init : ByteArray := prog_19_method_1_code
def yX11_init : MethodName := ⟨RX11, "<init>", "()V"⟩
def dkwX11_init_15 : List UInt8 := [16, 20, 188, 10, 181, 0, 116, 42, 16, 100, 188, 10, 181, 0, 119, 177]
abbrev dktX11_init_15 : List UInt8 := dkwX11_init_15 ++ []
def dkwX11_init_14 : List UInt8 := [42, 16, 20, 188, 10, 181, 0, 107, 42, 17, 0, 168, 188, 10, 181, 0, 110, 42, 2, 181, 0, 113, 42]
abbrev dktX11_init_14 : List UInt8 := dkwX11_init_14 ++ dktX11_init_15
def dkwX11_init_13 : List UInt8 := [16, 21, 188, 10, 181, 0, 98, 42, 16, 20, 188, 10, 181, 0, 101, 42, 17, 0, 168, 188, 10, 181, 0, 104]
abbrev dktX11_init_13 : List UInt8 := dkwX11_init_13 ++ dktX11_init_14
def dkwX11_init_12 : List UInt8 := [16, 20, 188, 10, 181, 0, 89, 42, 16, 20, 188, 10, 181, 0, 92, 42, 16, 21, 188, 10, 181, 0, 95, 42]
abbrev dktX11_init_12 : List UInt8 := dkwX11_init_12 ++ dktX11_init_13
def dkwX11_init_11 : List UInt8 := [188, 10, 181, 0, 80, 42, 16, 100, 188, 10, 181, 0, 83, 42, 17, 0, 180, 188, 10, 181, 0, 86, 42]
abbrev dktX11_init_11 : List UInt8 := dkwX11_init_11 ++ dktX11_init_12
def dkwX11_init_10 : List UInt8 := [181, 0, 71, 42, 16, 10, 188, 10, 181, 0, 74, 42, 16, 32, 188, 10, 181, 0, 77, 42, 17, 0, 180]
abbrev dktX11_init_10 : List UInt8 := dkwX11_init_10 ++ dktX11_init_11
def dkwX11_init_9 : List UInt8 := [42, 16, 30, 188, 10, 181, 0, 65, 42, 16, 6, 188, 10, 181, 0, 68, 42, 17, 0, 144, 188, 10]
abbrev dktX11_init_9 : List UInt8 := dkwX11_init_9 ++ dktX11_init_10
def dkwX11_init_8 : List UInt8 := [17, 0, 162, 188, 10, 181, 0, 56, 42, 16, 9, 188, 10, 181, 0, 59, 42, 16, 40, 188, 10, 181, 0, 62]
abbrev dktX11_init_8 : List UInt8 := dkwX11_init_8 ++ dktX11_init_9
def dkwX11_init_7 : List UInt8 := [6, 188, 10, 181, 0, 47, 42, 16, 108, 188, 10, 181, 0, 50, 42, 17, 0, 135, 188, 10, 181, 0, 53, 42]
abbrev dktX11_init_7 : List UInt8 := dkwX11_init_7 ++ dktX11_init_8
def dkwX11_init_6 : List UInt8 := [16, 9, 17, 1, 244, 79, 181, 0, 38, 42, 17, 3, 32, 188, 10, 181, 0, 41, 42, 2, 181, 0, 44, 42]
abbrev dktX11_init_6 : List UInt8 := dkwX11_init_6 ++ dktX11_init_7
def dkwX11_init_5 : List UInt8 := [79, 89, 16, 6, 17, 1, 244, 79, 89, 16, 7, 17, 1, 244, 79, 89, 16, 8, 17, 1, 244, 79, 89]
abbrev dktX11_init_5 : List UInt8 := dkwX11_init_5 ++ dktX11_init_6
def dkwX11_init_4 : List UInt8 := [79, 89, 5, 17, 1, 244, 79, 89, 6, 17, 1, 244, 79, 89, 7, 17, 1, 244, 79, 89, 8, 17, 1, 244]
abbrev dktX11_init_4 : List UInt8 := dkwX11_init_4 ++ dktX11_init_5
def dkwX11_init_3 : List UInt8 := [17, 0, 144, 188, 10, 181, 0, 35, 42, 16, 10, 188, 10, 89, 3, 17, 1, 244, 79, 89, 4, 17, 1, 244]
abbrev dktX11_init_3 : List UInt8 := dkwX11_init_3 ++ dktX11_init_4
def dkwX11_init_2 : List UInt8 := [188, 10, 181, 0, 26, 42, 16, 30, 188, 10, 181, 0, 29, 42, 16, 6, 188, 10, 181, 0, 32, 42]
abbrev dktX11_init_2 : List UInt8 := dkwX11_init_2 ++ dktX11_init_3
def dkwX11_init_1 : List UInt8 := [181, 0, 17, 42, 17, 0, 162, 188, 10, 181, 0, 20, 42, 16, 9, 188, 10, 181, 0, 23, 42, 16, 40]
abbrev dktX11_init_1 : List UInt8 := dkwX11_init_1 ++ dktX11_init_2
def dkwX11_init_0 : List UInt8 := [42, 183, 0, 1, 42, 4, 181, 0, 7, 42, 16, 108, 188, 10, 181, 0, 13, 42, 17, 0, 135, 188, 10]
abbrev dktX11_init_0 : List UInt8 := dkwX11_init_0 ++ dktX11_init_1
theorem dksX11_init_0 : cX11_init.data.toList.drop 0 = dktX11_init_0 := by decide +kernel
theorem dksX11_init_1 : cX11_init.data.toList.drop 23 = dktX11_init_1 := dk_seg dksX11_init_0 23 rfl rfl
theorem dksX11_init_2 : cX11_init.data.toList.drop 46 = dktX11_init_2 := dk_seg dksX11_init_1 23 rfl rfl
theorem dksX11_init_3 : cX11_init.data.toList.drop 68 = dktX11_init_3 := dk_seg dksX11_init_2 22 rfl rfl
theorem dksX11_init_4 : cX11_init.data.toList.drop 92 = dktX11_init_4 := dk_seg dksX11_init_3 24 rfl rfl
theorem dksX11_init_5 : cX11_init.data.toList.drop 116 = dktX11_init_5 := dk_seg dksX11_init_4 24 rfl rfl
theorem dksX11_init_6 : cX11_init.data.toList.drop 139 = dktX11_init_6 := dk_seg dksX11_init_5 23 rfl rfl
theorem dksX11_init_7 : cX11_init.data.toList.drop 163 = dktX11_init_7 := dk_seg dksX11_init_6 24 rfl rfl
theorem dksX11_init_8 : cX11_init.data.toList.drop 187 = dktX11_init_8 := dk_seg dksX11_init_7 24 rfl rfl
theorem dksX11_init_9 : cX11_init.data.toList.drop 211 = dktX11_init_9 := dk_seg dksX11_init_8 24 rfl rfl
theorem dksX11_init_10 : cX11_init.data.toList.drop 233 = dktX11_init_10 := dk_seg dksX11_init_9 22 rfl rfl
theorem dksX11_init_11 : cX11_init.data.toList.drop 256 = dktX11_init_11 := dk_seg dksX11_init_10 23 rfl rfl
theorem dksX11_init_12 : cX11_init.data.toList.drop 279 = dktX11_init_12 := dk_seg dksX11_init_11 23 rfl rfl
theorem dksX11_init_13 : cX11_init.data.toList.drop 303 = dktX11_init_13 := dk_seg dksX11_init_12 24 rfl rfl
theorem dksX11_init_14 : cX11_init.data.toList.drop 327 = dktX11_init_14 := dk_seg dksX11_init_13 24 rfl rfl
theorem dksX11_init_15 : cX11_init.data.toList.drop 350 = dktX11_init_15 := dk_seg dksX11_init_14 23 rfl rfl
theorem dX11_init_0 : decode cX11_init 0 = .ok (.aload_n 0, 1) := dk_42 (dk_at dksX11_init_0 0 rfl rfl)
theorem dX11_init_1 : decode cX11_init 1 = .ok (.invokespecial 1, 3) := dk_183 0 1 (dk_at dksX11_init_0 1 rfl rfl)
theorem dX11_init_4 : decode cX11_init 4 = .ok (.aload_n 0, 1) := dk_42 (dk_at dksX11_init_0 4 rfl rfl)
theorem dX11_init_5 : decode cX11_init 5 = .ok (.iconst 1, 1) := dk_4 (dk_at dksX11_init_0 5 rfl rfl)
theorem dX11_init_6 : decode cX11_init 6 = .ok (.putfield 7, 3) := dk_181 0 7 (dk_at dksX11_init_0 6 rfl rfl)
theorem dX11_init_9 : decode cX11_init 9 = .ok (.aload_n 0, 1) := dk_42 (dk_at dksX11_init_0 9 rfl rfl)
theorem dX11_init_10 : decode cX11_init 10 = .ok (.bipush 108, 2) := dk_16 108 (dk_at dksX11_init_0 10 rfl rfl)
theorem dX11_init_12 : decode cX11_init 12 = .ok (.newarray .int, 2) := dk_188_10 (dk_at dksX11_init_0 12 rfl rfl)
theorem dX11_init_14 : decode cX11_init 14 = .ok (.putfield 13, 3) := dk_181 0 13 (dk_at dksX11_init_0 14 rfl rfl)
theorem dX11_init_17 : decode cX11_init 17 = .ok (.aload_n 0, 1) := dk_42 (dk_at dksX11_init_0 17 rfl rfl)
theorem dX11_init_18 : decode cX11_init 18 = .ok (.sipush 135, 3) := dk_17 0 135 (dk_at dksX11_init_0 18 rfl rfl)
theorem dX11_init_21 : decode cX11_init 21 = .ok (.newarray .int, 2) := dk_188_10 (dk_at dksX11_init_0 21 rfl rfl)
theorem dX11_init_23 : decode cX11_init 23 = .ok (.putfield 17, 3) := dk_181 0 17 (dk_at dksX11_init_1 0 rfl rfl)
theorem dX11_init_26 : decode cX11_init 26 = .ok (.aload_n 0, 1) := dk_42 (dk_at dksX11_init_1 3 rfl rfl)
theorem dX11_init_27 : decode cX11_init 27 = .ok (.sipush 162, 3) := dk_17 0 162 (dk_at dksX11_init_1 4 rfl rfl)
theorem dX11_init_30 : decode cX11_init 30 = .ok (.newarray .int, 2) := dk_188_10 (dk_at dksX11_init_1 7 rfl rfl)
theorem dX11_init_32 : decode cX11_init 32 = .ok (.putfield 20, 3) := dk_181 0 20 (dk_at dksX11_init_1 9 rfl rfl)
theorem dX11_init_35 : decode cX11_init 35 = .ok (.aload_n 0, 1) := dk_42 (dk_at dksX11_init_1 12 rfl rfl)
theorem dX11_init_36 : decode cX11_init 36 = .ok (.bipush 9, 2) := dk_16 9 (dk_at dksX11_init_1 13 rfl rfl)
theorem dX11_init_38 : decode cX11_init 38 = .ok (.newarray .int, 2) := dk_188_10 (dk_at dksX11_init_1 15 rfl rfl)
theorem dX11_init_40 : decode cX11_init 40 = .ok (.putfield 23, 3) := dk_181 0 23 (dk_at dksX11_init_1 17 rfl rfl)
theorem dX11_init_43 : decode cX11_init 43 = .ok (.aload_n 0, 1) := dk_42 (dk_at dksX11_init_1 20 rfl rfl)
theorem dX11_init_44 : decode cX11_init 44 = .ok (.bipush 40, 2) := dk_16 40 (dk_at dksX11_init_1 21 rfl rfl)
theorem dX11_init_46 : decode cX11_init 46 = .ok (.newarray .int, 2) := dk_188_10 (dk_at dksX11_init_2 0 rfl rfl)
theorem dX11_init_48 : decode cX11_init 48 = .ok (.putfield 26, 3) := dk_181 0 26 (dk_at dksX11_init_2 2 rfl rfl)
theorem dX11_init_51 : decode cX11_init 51 = .ok (.aload_n 0, 1) := dk_42 (dk_at dksX11_init_2 5 rfl rfl)
theorem dX11_init_52 : decode cX11_init 52 = .ok (.bipush 30, 2) := dk_16 30 (dk_at dksX11_init_2 6 rfl rfl)
theorem dX11_init_54 : decode cX11_init 54 = .ok (.newarray .int, 2) := dk_188_10 (dk_at dksX11_init_2 8 rfl rfl)
theorem dX11_init_56 : decode cX11_init 56 = .ok (.putfield 29, 3) := dk_181 0 29 (dk_at dksX11_init_2 10 rfl rfl)
theorem dX11_init_59 : decode cX11_init 59 = .ok (.aload_n 0, 1) := dk_42 (dk_at dksX11_init_2 13 rfl rfl)
theorem dX11_init_60 : decode cX11_init 60 = .ok (.bipush 6, 2) := dk_16 6 (dk_at dksX11_init_2 14 rfl rfl)
theorem dX11_init_62 : decode cX11_init 62 = .ok (.newarray .int, 2) := dk_188_10 (dk_at dksX11_init_2 16 rfl rfl)
theorem dX11_init_64 : decode cX11_init 64 = .ok (.putfield 32, 3) := dk_181 0 32 (dk_at dksX11_init_2 18 rfl rfl)
theorem dX11_init_67 : decode cX11_init 67 = .ok (.aload_n 0, 1) := dk_42 (dk_at dksX11_init_2 21 rfl rfl)
theorem dX11_init_68 : decode cX11_init 68 = .ok (.sipush 144, 3) := dk_17 0 144 (dk_at dksX11_init_3 0 rfl rfl)
theorem dX11_init_71 : decode cX11_init 71 = .ok (.newarray .int, 2) := dk_188_10 (dk_at dksX11_init_3 3 rfl rfl)
theorem dX11_init_73 : decode cX11_init 73 = .ok (.putfield 35, 3) := dk_181 0 35 (dk_at dksX11_init_3 5 rfl rfl)
theorem dX11_init_76 : decode cX11_init 76 = .ok (.aload_n 0, 1) := dk_42 (dk_at dksX11_init_3 8 rfl rfl)
theorem dX11_init_77 : decode cX11_init 77 = .ok (.bipush 10, 2) := dk_16 10 (dk_at dksX11_init_3 9 rfl rfl)
theorem dX11_init_79 : decode cX11_init 79 = .ok (.newarray .int, 2) := dk_188_10 (dk_at dksX11_init_3 11 rfl rfl)
theorem dX11_init_81 : decode cX11_init 81 = .ok (.dup, 1) := dk_89 (dk_at dksX11_init_3 13 rfl rfl)
theorem dX11_init_82 : decode cX11_init 82 = .ok (.iconst 0, 1) := dk_3 (dk_at dksX11_init_3 14 rfl rfl)
theorem dX11_init_83 : decode cX11_init 83 = .ok (.sipush 500, 3) := dk_17 1 244 (dk_at dksX11_init_3 15 rfl rfl)
theorem dX11_init_86 : decode cX11_init 86 = .ok (.iastore, 1) := dk_79 (dk_at dksX11_init_3 18 rfl rfl)
theorem dX11_init_87 : decode cX11_init 87 = .ok (.dup, 1) := dk_89 (dk_at dksX11_init_3 19 rfl rfl)
theorem dX11_init_88 : decode cX11_init 88 = .ok (.iconst 1, 1) := dk_4 (dk_at dksX11_init_3 20 rfl rfl)
theorem dX11_init_89 : decode cX11_init 89 = .ok (.sipush 500, 3) := dk_17 1 244 (dk_at dksX11_init_3 21 rfl rfl)
theorem dX11_init_92 : decode cX11_init 92 = .ok (.iastore, 1) := dk_79 (dk_at dksX11_init_4 0 rfl rfl)
theorem dX11_init_93 : decode cX11_init 93 = .ok (.dup, 1) := dk_89 (dk_at dksX11_init_4 1 rfl rfl)
theorem dX11_init_94 : decode cX11_init 94 = .ok (.iconst 2, 1) := dk_5 (dk_at dksX11_init_4 2 rfl rfl)
theorem dX11_init_95 : decode cX11_init 95 = .ok (.sipush 500, 3) := dk_17 1 244 (dk_at dksX11_init_4 3 rfl rfl)
theorem dX11_init_98 : decode cX11_init 98 = .ok (.iastore, 1) := dk_79 (dk_at dksX11_init_4 6 rfl rfl)
theorem dX11_init_99 : decode cX11_init 99 = .ok (.dup, 1) := dk_89 (dk_at dksX11_init_4 7 rfl rfl)
theorem dX11_init_100 : decode cX11_init 100 = .ok (.iconst 3, 1) := dk_6 (dk_at dksX11_init_4 8 rfl rfl)
theorem dX11_init_101 : decode cX11_init 101 = .ok (.sipush 500, 3) := dk_17 1 244 (dk_at dksX11_init_4 9 rfl rfl)
theorem dX11_init_104 : decode cX11_init 104 = .ok (.iastore, 1) := dk_79 (dk_at dksX11_init_4 12 rfl rfl)
theorem dX11_init_105 : decode cX11_init 105 = .ok (.dup, 1) := dk_89 (dk_at dksX11_init_4 13 rfl rfl)
theorem dX11_init_106 : decode cX11_init 106 = .ok (.iconst 4, 1) := dk_7 (dk_at dksX11_init_4 14 rfl rfl)
theorem dX11_init_107 : decode cX11_init 107 = .ok (.sipush 500, 3) := dk_17 1 244 (dk_at dksX11_init_4 15 rfl rfl)
theorem dX11_init_110 : decode cX11_init 110 = .ok (.iastore, 1) := dk_79 (dk_at dksX11_init_4 18 rfl rfl)
theorem dX11_init_111 : decode cX11_init 111 = .ok (.dup, 1) := dk_89 (dk_at dksX11_init_4 19 rfl rfl)
theorem dX11_init_112 : decode cX11_init 112 = .ok (.iconst 5, 1) := dk_8 (dk_at dksX11_init_4 20 rfl rfl)
theorem dX11_init_113 : decode cX11_init 113 = .ok (.sipush 500, 3) := dk_17 1 244 (dk_at dksX11_init_4 21 rfl rfl)
theorem dX11_init_116 : decode cX11_init 116 = .ok (.iastore, 1) := dk_79 (dk_at dksX11_init_5 0 rfl rfl)
theorem dX11_init_117 : decode cX11_init 117 = .ok (.dup, 1) := dk_89 (dk_at dksX11_init_5 1 rfl rfl)
theorem dX11_init_118 : decode cX11_init 118 = .ok (.bipush 6, 2) := dk_16 6 (dk_at dksX11_init_5 2 rfl rfl)
theorem dX11_init_120 : decode cX11_init 120 = .ok (.sipush 500, 3) := dk_17 1 244 (dk_at dksX11_init_5 4 rfl rfl)
theorem dX11_init_123 : decode cX11_init 123 = .ok (.iastore, 1) := dk_79 (dk_at dksX11_init_5 7 rfl rfl)
theorem dX11_init_124 : decode cX11_init 124 = .ok (.dup, 1) := dk_89 (dk_at dksX11_init_5 8 rfl rfl)
theorem dX11_init_125 : decode cX11_init 125 = .ok (.bipush 7, 2) := dk_16 7 (dk_at dksX11_init_5 9 rfl rfl)
theorem dX11_init_127 : decode cX11_init 127 = .ok (.sipush 500, 3) := dk_17 1 244 (dk_at dksX11_init_5 11 rfl rfl)
theorem dX11_init_130 : decode cX11_init 130 = .ok (.iastore, 1) := dk_79 (dk_at dksX11_init_5 14 rfl rfl)
theorem dX11_init_131 : decode cX11_init 131 = .ok (.dup, 1) := dk_89 (dk_at dksX11_init_5 15 rfl rfl)
theorem dX11_init_132 : decode cX11_init 132 = .ok (.bipush 8, 2) := dk_16 8 (dk_at dksX11_init_5 16 rfl rfl)
theorem dX11_init_134 : decode cX11_init 134 = .ok (.sipush 500, 3) := dk_17 1 244 (dk_at dksX11_init_5 18 rfl rfl)
theorem dX11_init_137 : decode cX11_init 137 = .ok (.iastore, 1) := dk_79 (dk_at dksX11_init_5 21 rfl rfl)
theorem dX11_init_138 : decode cX11_init 138 = .ok (.dup, 1) := dk_89 (dk_at dksX11_init_5 22 rfl rfl)
theorem dX11_init_139 : decode cX11_init 139 = .ok (.bipush 9, 2) := dk_16 9 (dk_at dksX11_init_6 0 rfl rfl)
theorem dX11_init_141 : decode cX11_init 141 = .ok (.sipush 500, 3) := dk_17 1 244 (dk_at dksX11_init_6 2 rfl rfl)
theorem dX11_init_144 : decode cX11_init 144 = .ok (.iastore, 1) := dk_79 (dk_at dksX11_init_6 5 rfl rfl)
theorem dX11_init_145 : decode cX11_init 145 = .ok (.putfield 38, 3) := dk_181 0 38 (dk_at dksX11_init_6 6 rfl rfl)
theorem dX11_init_148 : decode cX11_init 148 = .ok (.aload_n 0, 1) := dk_42 (dk_at dksX11_init_6 9 rfl rfl)
theorem dX11_init_149 : decode cX11_init 149 = .ok (.sipush 800, 3) := dk_17 3 32 (dk_at dksX11_init_6 10 rfl rfl)
theorem dX11_init_152 : decode cX11_init 152 = .ok (.newarray .int, 2) := dk_188_10 (dk_at dksX11_init_6 13 rfl rfl)
theorem dX11_init_154 : decode cX11_init 154 = .ok (.putfield 41, 3) := dk_181 0 41 (dk_at dksX11_init_6 15 rfl rfl)
theorem dX11_init_157 : decode cX11_init 157 = .ok (.aload_n 0, 1) := dk_42 (dk_at dksX11_init_6 18 rfl rfl)
theorem dX11_init_158 : decode cX11_init 158 = .ok (.iconst (-1), 1) := dk_2 (dk_at dksX11_init_6 19 rfl rfl)
theorem dX11_init_159 : decode cX11_init 159 = .ok (.putfield 44, 3) := dk_181 0 44 (dk_at dksX11_init_6 20 rfl rfl)
theorem dX11_init_162 : decode cX11_init 162 = .ok (.aload_n 0, 1) := dk_42 (dk_at dksX11_init_6 23 rfl rfl)
theorem dX11_init_163 : decode cX11_init 163 = .ok (.iconst 3, 1) := dk_6 (dk_at dksX11_init_7 0 rfl rfl)
theorem dX11_init_164 : decode cX11_init 164 = .ok (.newarray .int, 2) := dk_188_10 (dk_at dksX11_init_7 1 rfl rfl)
theorem dX11_init_166 : decode cX11_init 166 = .ok (.putfield 47, 3) := dk_181 0 47 (dk_at dksX11_init_7 3 rfl rfl)
theorem dX11_init_169 : decode cX11_init 169 = .ok (.aload_n 0, 1) := dk_42 (dk_at dksX11_init_7 6 rfl rfl)
theorem dX11_init_170 : decode cX11_init 170 = .ok (.bipush 108, 2) := dk_16 108 (dk_at dksX11_init_7 7 rfl rfl)
theorem dX11_init_172 : decode cX11_init 172 = .ok (.newarray .int, 2) := dk_188_10 (dk_at dksX11_init_7 9 rfl rfl)
theorem dX11_init_174 : decode cX11_init 174 = .ok (.putfield 50, 3) := dk_181 0 50 (dk_at dksX11_init_7 11 rfl rfl)
theorem dX11_init_177 : decode cX11_init 177 = .ok (.aload_n 0, 1) := dk_42 (dk_at dksX11_init_7 14 rfl rfl)
theorem dX11_init_178 : decode cX11_init 178 = .ok (.sipush 135, 3) := dk_17 0 135 (dk_at dksX11_init_7 15 rfl rfl)
theorem dX11_init_181 : decode cX11_init 181 = .ok (.newarray .int, 2) := dk_188_10 (dk_at dksX11_init_7 18 rfl rfl)
theorem dX11_init_183 : decode cX11_init 183 = .ok (.putfield 53, 3) := dk_181 0 53 (dk_at dksX11_init_7 20 rfl rfl)
theorem dX11_init_186 : decode cX11_init 186 = .ok (.aload_n 0, 1) := dk_42 (dk_at dksX11_init_7 23 rfl rfl)
theorem dX11_init_187 : decode cX11_init 187 = .ok (.sipush 162, 3) := dk_17 0 162 (dk_at dksX11_init_8 0 rfl rfl)
theorem dX11_init_190 : decode cX11_init 190 = .ok (.newarray .int, 2) := dk_188_10 (dk_at dksX11_init_8 3 rfl rfl)
theorem dX11_init_192 : decode cX11_init 192 = .ok (.putfield 56, 3) := dk_181 0 56 (dk_at dksX11_init_8 5 rfl rfl)
theorem dX11_init_195 : decode cX11_init 195 = .ok (.aload_n 0, 1) := dk_42 (dk_at dksX11_init_8 8 rfl rfl)
theorem dX11_init_196 : decode cX11_init 196 = .ok (.bipush 9, 2) := dk_16 9 (dk_at dksX11_init_8 9 rfl rfl)
theorem dX11_init_198 : decode cX11_init 198 = .ok (.newarray .int, 2) := dk_188_10 (dk_at dksX11_init_8 11 rfl rfl)
theorem dX11_init_200 : decode cX11_init 200 = .ok (.putfield 59, 3) := dk_181 0 59 (dk_at dksX11_init_8 13 rfl rfl)
theorem dX11_init_203 : decode cX11_init 203 = .ok (.aload_n 0, 1) := dk_42 (dk_at dksX11_init_8 16 rfl rfl)
theorem dX11_init_204 : decode cX11_init 204 = .ok (.bipush 40, 2) := dk_16 40 (dk_at dksX11_init_8 17 rfl rfl)
theorem dX11_init_206 : decode cX11_init 206 = .ok (.newarray .int, 2) := dk_188_10 (dk_at dksX11_init_8 19 rfl rfl)
theorem dX11_init_208 : decode cX11_init 208 = .ok (.putfield 62, 3) := dk_181 0 62 (dk_at dksX11_init_8 21 rfl rfl)
theorem dX11_init_211 : decode cX11_init 211 = .ok (.aload_n 0, 1) := dk_42 (dk_at dksX11_init_9 0 rfl rfl)
theorem dX11_init_212 : decode cX11_init 212 = .ok (.bipush 30, 2) := dk_16 30 (dk_at dksX11_init_9 1 rfl rfl)
theorem dX11_init_214 : decode cX11_init 214 = .ok (.newarray .int, 2) := dk_188_10 (dk_at dksX11_init_9 3 rfl rfl)
theorem dX11_init_216 : decode cX11_init 216 = .ok (.putfield 65, 3) := dk_181 0 65 (dk_at dksX11_init_9 5 rfl rfl)
theorem dX11_init_219 : decode cX11_init 219 = .ok (.aload_n 0, 1) := dk_42 (dk_at dksX11_init_9 8 rfl rfl)
theorem dX11_init_220 : decode cX11_init 220 = .ok (.bipush 6, 2) := dk_16 6 (dk_at dksX11_init_9 9 rfl rfl)
theorem dX11_init_222 : decode cX11_init 222 = .ok (.newarray .int, 2) := dk_188_10 (dk_at dksX11_init_9 11 rfl rfl)
theorem dX11_init_224 : decode cX11_init 224 = .ok (.putfield 68, 3) := dk_181 0 68 (dk_at dksX11_init_9 13 rfl rfl)
theorem dX11_init_227 : decode cX11_init 227 = .ok (.aload_n 0, 1) := dk_42 (dk_at dksX11_init_9 16 rfl rfl)
theorem dX11_init_228 : decode cX11_init 228 = .ok (.sipush 144, 3) := dk_17 0 144 (dk_at dksX11_init_9 17 rfl rfl)
theorem dX11_init_231 : decode cX11_init 231 = .ok (.newarray .int, 2) := dk_188_10 (dk_at dksX11_init_9 20 rfl rfl)
theorem dX11_init_233 : decode cX11_init 233 = .ok (.putfield 71, 3) := dk_181 0 71 (dk_at dksX11_init_10 0 rfl rfl)
theorem dX11_init_236 : decode cX11_init 236 = .ok (.aload_n 0, 1) := dk_42 (dk_at dksX11_init_10 3 rfl rfl)
theorem dX11_init_237 : decode cX11_init 237 = .ok (.bipush 10, 2) := dk_16 10 (dk_at dksX11_init_10 4 rfl rfl)
theorem dX11_init_239 : decode cX11_init 239 = .ok (.newarray .int, 2) := dk_188_10 (dk_at dksX11_init_10 6 rfl rfl)
theorem dX11_init_241 : decode cX11_init 241 = .ok (.putfield 74, 3) := dk_181 0 74 (dk_at dksX11_init_10 8 rfl rfl)
theorem dX11_init_244 : decode cX11_init 244 = .ok (.aload_n 0, 1) := dk_42 (dk_at dksX11_init_10 11 rfl rfl)
theorem dX11_init_245 : decode cX11_init 245 = .ok (.bipush 32, 2) := dk_16 32 (dk_at dksX11_init_10 12 rfl rfl)
theorem dX11_init_247 : decode cX11_init 247 = .ok (.newarray .int, 2) := dk_188_10 (dk_at dksX11_init_10 14 rfl rfl)
theorem dX11_init_249 : decode cX11_init 249 = .ok (.putfield 77, 3) := dk_181 0 77 (dk_at dksX11_init_10 16 rfl rfl)
theorem dX11_init_252 : decode cX11_init 252 = .ok (.aload_n 0, 1) := dk_42 (dk_at dksX11_init_10 19 rfl rfl)
theorem dX11_init_253 : decode cX11_init 253 = .ok (.sipush 180, 3) := dk_17 0 180 (dk_at dksX11_init_10 20 rfl rfl)
theorem dX11_init_256 : decode cX11_init 256 = .ok (.newarray .int, 2) := dk_188_10 (dk_at dksX11_init_11 0 rfl rfl)
theorem dX11_init_258 : decode cX11_init 258 = .ok (.putfield 80, 3) := dk_181 0 80 (dk_at dksX11_init_11 2 rfl rfl)
theorem dX11_init_261 : decode cX11_init 261 = .ok (.aload_n 0, 1) := dk_42 (dk_at dksX11_init_11 5 rfl rfl)
theorem dX11_init_262 : decode cX11_init 262 = .ok (.bipush 100, 2) := dk_16 100 (dk_at dksX11_init_11 6 rfl rfl)
theorem dX11_init_264 : decode cX11_init 264 = .ok (.newarray .int, 2) := dk_188_10 (dk_at dksX11_init_11 8 rfl rfl)
theorem dX11_init_266 : decode cX11_init 266 = .ok (.putfield 83, 3) := dk_181 0 83 (dk_at dksX11_init_11 10 rfl rfl)
theorem dX11_init_269 : decode cX11_init 269 = .ok (.aload_n 0, 1) := dk_42 (dk_at dksX11_init_11 13 rfl rfl)
theorem dX11_init_270 : decode cX11_init 270 = .ok (.sipush 180, 3) := dk_17 0 180 (dk_at dksX11_init_11 14 rfl rfl)
theorem dX11_init_273 : decode cX11_init 273 = .ok (.newarray .int, 2) := dk_188_10 (dk_at dksX11_init_11 17 rfl rfl)
theorem dX11_init_275 : decode cX11_init 275 = .ok (.putfield 86, 3) := dk_181 0 86 (dk_at dksX11_init_11 19 rfl rfl)
theorem dX11_init_278 : decode cX11_init 278 = .ok (.aload_n 0, 1) := dk_42 (dk_at dksX11_init_11 22 rfl rfl)
theorem dX11_init_279 : decode cX11_init 279 = .ok (.bipush 20, 2) := dk_16 20 (dk_at dksX11_init_12 0 rfl rfl)
theorem dX11_init_281 : decode cX11_init 281 = .ok (.newarray .int, 2) := dk_188_10 (dk_at dksX11_init_12 2 rfl rfl)
theorem dX11_init_283 : decode cX11_init 283 = .ok (.putfield 89, 3) := dk_181 0 89 (dk_at dksX11_init_12 4 rfl rfl)
theorem dX11_init_286 : decode cX11_init 286 = .ok (.aload_n 0, 1) := dk_42 (dk_at dksX11_init_12 7 rfl rfl)
theorem dX11_init_287 : decode cX11_init 287 = .ok (.bipush 20, 2) := dk_16 20 (dk_at dksX11_init_12 8 rfl rfl)
theorem dX11_init_289 : decode cX11_init 289 = .ok (.newarray .int, 2) := dk_188_10 (dk_at dksX11_init_12 10 rfl rfl)
theorem dX11_init_291 : decode cX11_init 291 = .ok (.putfield 92, 3) := dk_181 0 92 (dk_at dksX11_init_12 12 rfl rfl)
theorem dX11_init_294 : decode cX11_init 294 = .ok (.aload_n 0, 1) := dk_42 (dk_at dksX11_init_12 15 rfl rfl)
theorem dX11_init_295 : decode cX11_init 295 = .ok (.bipush 21, 2) := dk_16 21 (dk_at dksX11_init_12 16 rfl rfl)
theorem dX11_init_297 : decode cX11_init 297 = .ok (.newarray .int, 2) := dk_188_10 (dk_at dksX11_init_12 18 rfl rfl)
theorem dX11_init_299 : decode cX11_init 299 = .ok (.putfield 95, 3) := dk_181 0 95 (dk_at dksX11_init_12 20 rfl rfl)
theorem dX11_init_302 : decode cX11_init 302 = .ok (.aload_n 0, 1) := dk_42 (dk_at dksX11_init_12 23 rfl rfl)
theorem dX11_init_303 : decode cX11_init 303 = .ok (.bipush 21, 2) := dk_16 21 (dk_at dksX11_init_13 0 rfl rfl)
theorem dX11_init_305 : decode cX11_init 305 = .ok (.newarray .int, 2) := dk_188_10 (dk_at dksX11_init_13 2 rfl rfl)
theorem dX11_init_307 : decode cX11_init 307 = .ok (.putfield 98, 3) := dk_181 0 98 (dk_at dksX11_init_13 4 rfl rfl)
theorem dX11_init_310 : decode cX11_init 310 = .ok (.aload_n 0, 1) := dk_42 (dk_at dksX11_init_13 7 rfl rfl)
theorem dX11_init_311 : decode cX11_init 311 = .ok (.bipush 20, 2) := dk_16 20 (dk_at dksX11_init_13 8 rfl rfl)
theorem dX11_init_313 : decode cX11_init 313 = .ok (.newarray .int, 2) := dk_188_10 (dk_at dksX11_init_13 10 rfl rfl)
theorem dX11_init_315 : decode cX11_init 315 = .ok (.putfield 101, 3) := dk_181 0 101 (dk_at dksX11_init_13 12 rfl rfl)
theorem dX11_init_318 : decode cX11_init 318 = .ok (.aload_n 0, 1) := dk_42 (dk_at dksX11_init_13 15 rfl rfl)
theorem dX11_init_319 : decode cX11_init 319 = .ok (.sipush 168, 3) := dk_17 0 168 (dk_at dksX11_init_13 16 rfl rfl)
theorem dX11_init_322 : decode cX11_init 322 = .ok (.newarray .int, 2) := dk_188_10 (dk_at dksX11_init_13 19 rfl rfl)
theorem dX11_init_324 : decode cX11_init 324 = .ok (.putfield 104, 3) := dk_181 0 104 (dk_at dksX11_init_13 21 rfl rfl)
theorem dX11_init_327 : decode cX11_init 327 = .ok (.aload_n 0, 1) := dk_42 (dk_at dksX11_init_14 0 rfl rfl)
theorem dX11_init_328 : decode cX11_init 328 = .ok (.bipush 20, 2) := dk_16 20 (dk_at dksX11_init_14 1 rfl rfl)
theorem dX11_init_330 : decode cX11_init 330 = .ok (.newarray .int, 2) := dk_188_10 (dk_at dksX11_init_14 3 rfl rfl)
theorem dX11_init_332 : decode cX11_init 332 = .ok (.putfield 107, 3) := dk_181 0 107 (dk_at dksX11_init_14 5 rfl rfl)
theorem dX11_init_335 : decode cX11_init 335 = .ok (.aload_n 0, 1) := dk_42 (dk_at dksX11_init_14 8 rfl rfl)
theorem dX11_init_336 : decode cX11_init 336 = .ok (.sipush 168, 3) := dk_17 0 168 (dk_at dksX11_init_14 9 rfl rfl)
theorem dX11_init_339 : decode cX11_init 339 = .ok (.newarray .int, 2) := dk_188_10 (dk_at dksX11_init_14 12 rfl rfl)
theorem dX11_init_341 : decode cX11_init 341 = .ok (.putfield 110, 3) := dk_181 0 110 (dk_at dksX11_init_14 14 rfl rfl)
theorem dX11_init_344 : decode cX11_init 344 = .ok (.aload_n 0, 1) := dk_42 (dk_at dksX11_init_14 17 rfl rfl)
theorem dX11_init_345 : decode cX11_init 345 = .ok (.iconst (-1), 1) := dk_2 (dk_at dksX11_init_14 18 rfl rfl)
theorem dX11_init_346 : decode cX11_init 346 = .ok (.putfield 113, 3) := dk_181 0 113 (dk_at dksX11_init_14 19 rfl rfl)
theorem dX11_init_349 : decode cX11_init 349 = .ok (.aload_n 0, 1) := dk_42 (dk_at dksX11_init_14 22 rfl rfl)
theorem dX11_init_350 : decode cX11_init 350 = .ok (.bipush 20, 2) := dk_16 20 (dk_at dksX11_init_15 0 rfl rfl)
theorem dX11_init_352 : decode cX11_init 352 = .ok (.newarray .int, 2) := dk_188_10 (dk_at dksX11_init_15 2 rfl rfl)
theorem dX11_init_354 : decode cX11_init 354 = .ok (.putfield 116, 3) := dk_181 0 116 (dk_at dksX11_init_15 4 rfl rfl)
theorem dX11_init_357 : decode cX11_init 357 = .ok (.aload_n 0, 1) := dk_42 (dk_at dksX11_init_15 7 rfl rfl)
theorem dX11_init_358 : decode cX11_init 358 = .ok (.bipush 100, 2) := dk_16 100 (dk_at dksX11_init_15 8 rfl rfl)
theorem dX11_init_360 : decode cX11_init 360 = .ok (.newarray .int, 2) := dk_188_10 (dk_at dksX11_init_15 10 rfl rfl)
theorem dX11_init_362 : decode cX11_init 362 = .ok (.putfield 119, 3) := dk_181 0 119 (dk_at dksX11_init_15 12 rfl rfl)
theorem dX11_init_365 : decode cX11_init 365 = .ok (.return_, 1) := dk_177 (dk_at dksX11_init_15 15 rfl rfl)
abbrev cX11_thrown : ByteArray := prog_19_method_2_code
def yX11_thrown : MethodName := ⟨RX11, "thrown", "()I"⟩
theorem dX11_thrown_0 : decode cX11_thrown 0 = .ok (.aload_n 0, 1) := by decide +kernel
theorem dX11_thrown_1 : decode cX11_thrown 1 = .ok (.getfield 122, 3) := by decide +kernel
theorem dX11_thrown_4 : decode cX11_thrown 4 = .ok (.ireturn, 1) := by decide +kernel
abbrev cX11_feed : ByteArray := prog_19_method_6_code
def yX11_feed : MethodName := ⟨RX11, "feed", "(IIIII)I"⟩
def dkwX11_feed_2 : List UInt8 := [182, 0, 128, 42, 180, 0, 125, 172]
abbrev dktX11_feed_2 : List UInt8 := dkwX11_feed_2 ++ []
def dkwX11_feed_1 : List UInt8 := [182, 0, 128, 42, 28, 182, 0, 128, 42, 29, 182, 0, 128, 42, 21, 4, 182, 0, 128, 42, 21, 5]
abbrev dktX11_feed_1 : List UInt8 := dkwX11_feed_1 ++ dktX11_feed_2
def dkwX11_feed_0 : List UInt8 := [42, 3, 181, 0, 122, 42, 180, 0, 125, 16, 20, 96, 17, 3, 32, 164, 0, 5, 2, 172, 42, 27]
abbrev dktX11_feed_0 : List UInt8 := dkwX11_feed_0 ++ dktX11_feed_1
theorem dksX11_feed_0 : cX11_feed.data.toList.drop 0 = dktX11_feed_0 := by decide +kernel
theorem dksX11_feed_1 : cX11_feed.data.toList.drop 22 = dktX11_feed_1 := dk_seg dksX11_feed_0 22 rfl rfl
theorem dksX11_feed_2 : cX11_feed.data.toList.drop 44 = dktX11_feed_2 := dk_seg dksX11_feed_1 22 rfl rfl
theorem dX11_feed_0 : decode cX11_feed 0 = .ok (.aload_n 0, 1) := dk_42 (dk_at dksX11_feed_0 0 rfl rfl)
theorem dX11_feed_1 : decode cX11_feed 1 = .ok (.iconst 0, 1) := dk_3 (dk_at dksX11_feed_0 1 rfl rfl)
theorem dX11_feed_2 : decode cX11_feed 2 = .ok (.putfield 122, 3) := dk_181 0 122 (dk_at dksX11_feed_0 2 rfl rfl)
theorem dX11_feed_5 : decode cX11_feed 5 = .ok (.aload_n 0, 1) := dk_42 (dk_at dksX11_feed_0 5 rfl rfl)
theorem dX11_feed_6 : decode cX11_feed 6 = .ok (.getfield 125, 3) := dk_180 0 125 (dk_at dksX11_feed_0 6 rfl rfl)
theorem dX11_feed_9 : decode cX11_feed 9 = .ok (.bipush 20, 2) := dk_16 20 (dk_at dksX11_feed_0 9 rfl rfl)
theorem dX11_feed_11 : decode cX11_feed 11 = .ok (.iadd, 1) := dk_96 (dk_at dksX11_feed_0 11 rfl rfl)
theorem dX11_feed_12 : decode cX11_feed 12 = .ok (.sipush 800, 3) := dk_17 3 32 (dk_at dksX11_feed_0 12 rfl rfl)
theorem dX11_feed_15 : decode cX11_feed 15 = .ok (.if_icmp .le 5, 3) := dk_164 0 5 (dk_at dksX11_feed_0 15 rfl rfl)
theorem dX11_feed_18 : decode cX11_feed 18 = .ok (.iconst (-1), 1) := dk_2 (dk_at dksX11_feed_0 18 rfl rfl)
theorem dX11_feed_19 : decode cX11_feed 19 = .ok (.ireturn, 1) := dk_172 (dk_at dksX11_feed_0 19 rfl rfl)
theorem dX11_feed_20 : decode cX11_feed 20 = .ok (.aload_n 0, 1) := dk_42 (dk_at dksX11_feed_0 20 rfl rfl)
theorem dX11_feed_21 : decode cX11_feed 21 = .ok (.iload_n 1, 1) := dk_27 (dk_at dksX11_feed_0 21 rfl rfl)
theorem dX11_feed_22 : decode cX11_feed 22 = .ok (.invokevirtual 128, 3) := dk_182 0 128 (dk_at dksX11_feed_1 0 rfl rfl)
theorem dX11_feed_25 : decode cX11_feed 25 = .ok (.aload_n 0, 1) := dk_42 (dk_at dksX11_feed_1 3 rfl rfl)
theorem dX11_feed_26 : decode cX11_feed 26 = .ok (.iload_n 2, 1) := dk_28 (dk_at dksX11_feed_1 4 rfl rfl)
theorem dX11_feed_27 : decode cX11_feed 27 = .ok (.invokevirtual 128, 3) := dk_182 0 128 (dk_at dksX11_feed_1 5 rfl rfl)
theorem dX11_feed_30 : decode cX11_feed 30 = .ok (.aload_n 0, 1) := dk_42 (dk_at dksX11_feed_1 8 rfl rfl)
theorem dX11_feed_31 : decode cX11_feed 31 = .ok (.iload_n 3, 1) := dk_29 (dk_at dksX11_feed_1 9 rfl rfl)
theorem dX11_feed_32 : decode cX11_feed 32 = .ok (.invokevirtual 128, 3) := dk_182 0 128 (dk_at dksX11_feed_1 10 rfl rfl)
theorem dX11_feed_35 : decode cX11_feed 35 = .ok (.aload_n 0, 1) := dk_42 (dk_at dksX11_feed_1 13 rfl rfl)
theorem dX11_feed_36 : decode cX11_feed 36 = .ok (.iload 4, 2) := dk_21 4 (dk_at dksX11_feed_1 14 rfl rfl)
theorem dX11_feed_38 : decode cX11_feed 38 = .ok (.invokevirtual 128, 3) := dk_182 0 128 (dk_at dksX11_feed_1 16 rfl rfl)
theorem dX11_feed_41 : decode cX11_feed 41 = .ok (.aload_n 0, 1) := dk_42 (dk_at dksX11_feed_1 19 rfl rfl)
theorem dX11_feed_42 : decode cX11_feed 42 = .ok (.iload 5, 2) := dk_21 5 (dk_at dksX11_feed_1 20 rfl rfl)
theorem dX11_feed_44 : decode cX11_feed 44 = .ok (.invokevirtual 128, 3) := dk_182 0 128 (dk_at dksX11_feed_2 0 rfl rfl)
theorem dX11_feed_47 : decode cX11_feed 47 = .ok (.aload_n 0, 1) := dk_42 (dk_at dksX11_feed_2 3 rfl rfl)
theorem dX11_feed_48 : decode cX11_feed 48 = .ok (.getfield 125, 3) := dk_180 0 125 (dk_at dksX11_feed_2 4 rfl rfl)
theorem dX11_feed_51 : decode cX11_feed 51 = .ok (.ireturn, 1) := dk_172 (dk_at dksX11_feed_2 7 rfl rfl)
abbrev cX11_lays : ByteArray := prog_19_method_7_code
def yX11_lays : MethodName := ⟨RX11, "lays", "(I)V"⟩
def dkwX11_lays_1 : List UInt8 := [89, 180, 0, 125, 4, 96, 181, 0, 125, 132, 2, 248, 167, 255, 223, 177]
abbrev dktX11_lays_1 : List UInt8 := dkwX11_lays_1 ++ []
def dkwX11_lays_0 : List UInt8 := [16, 24, 61, 28, 155, 0, 35, 42, 180, 0, 41, 42, 180, 0, 125, 27, 28, 122, 17, 0, 255, 126, 79, 42]
abbrev dktX11_lays_0 : List UInt8 := dkwX11_lays_0 ++ dktX11_lays_1
theorem dksX11_lays_0 : cX11_lays.data.toList.drop 0 = dktX11_lays_0 := by decide +kernel
theorem dksX11_lays_1 : cX11_lays.data.toList.drop 24 = dktX11_lays_1 := dk_seg dksX11_lays_0 24 rfl rfl
theorem dX11_lays_0 : decode cX11_lays 0 = .ok (.bipush 24, 2) := dk_16 24 (dk_at dksX11_lays_0 0 rfl rfl)
theorem dX11_lays_2 : decode cX11_lays 2 = .ok (.istore_n 2, 1) := dk_61 (dk_at dksX11_lays_0 2 rfl rfl)
theorem dX11_lays_3 : decode cX11_lays 3 = .ok (.iload_n 2, 1) := dk_28 (dk_at dksX11_lays_0 3 rfl rfl)
theorem dX11_lays_4 : decode cX11_lays 4 = .ok (.ifCond .lt 35, 3) := dk_155 0 35 (dk_at dksX11_lays_0 4 rfl rfl)
theorem dX11_lays_7 : decode cX11_lays 7 = .ok (.aload_n 0, 1) := dk_42 (dk_at dksX11_lays_0 7 rfl rfl)
theorem dX11_lays_8 : decode cX11_lays 8 = .ok (.getfield 41, 3) := dk_180 0 41 (dk_at dksX11_lays_0 8 rfl rfl)
theorem dX11_lays_11 : decode cX11_lays 11 = .ok (.aload_n 0, 1) := dk_42 (dk_at dksX11_lays_0 11 rfl rfl)
theorem dX11_lays_12 : decode cX11_lays 12 = .ok (.getfield 125, 3) := dk_180 0 125 (dk_at dksX11_lays_0 12 rfl rfl)
theorem dX11_lays_15 : decode cX11_lays 15 = .ok (.iload_n 1, 1) := dk_27 (dk_at dksX11_lays_0 15 rfl rfl)
theorem dX11_lays_16 : decode cX11_lays 16 = .ok (.iload_n 2, 1) := dk_28 (dk_at dksX11_lays_0 16 rfl rfl)
theorem dX11_lays_17 : decode cX11_lays 17 = .ok (.ishr, 1) := dk_122 (dk_at dksX11_lays_0 17 rfl rfl)
theorem dX11_lays_18 : decode cX11_lays 18 = .ok (.sipush 255, 3) := dk_17 0 255 (dk_at dksX11_lays_0 18 rfl rfl)
theorem dX11_lays_21 : decode cX11_lays 21 = .ok (.iand, 1) := dk_126 (dk_at dksX11_lays_0 21 rfl rfl)
theorem dX11_lays_22 : decode cX11_lays 22 = .ok (.iastore, 1) := dk_79 (dk_at dksX11_lays_0 22 rfl rfl)
theorem dX11_lays_23 : decode cX11_lays 23 = .ok (.aload_n 0, 1) := dk_42 (dk_at dksX11_lays_0 23 rfl rfl)
theorem dX11_lays_24 : decode cX11_lays 24 = .ok (.dup, 1) := dk_89 (dk_at dksX11_lays_1 0 rfl rfl)
theorem dX11_lays_25 : decode cX11_lays 25 = .ok (.getfield 125, 3) := dk_180 0 125 (dk_at dksX11_lays_1 1 rfl rfl)
theorem dX11_lays_28 : decode cX11_lays 28 = .ok (.iconst 1, 1) := dk_4 (dk_at dksX11_lays_1 4 rfl rfl)
theorem dX11_lays_29 : decode cX11_lays 29 = .ok (.iadd, 1) := dk_96 (dk_at dksX11_lays_1 5 rfl rfl)
theorem dX11_lays_30 : decode cX11_lays 30 = .ok (.putfield 125, 3) := dk_181 0 125 (dk_at dksX11_lays_1 6 rfl rfl)
theorem dX11_lays_33 : decode cX11_lays 33 = .ok (.iinc 2 (-8), 3) := dk_132 2 248 (dk_at dksX11_lays_1 9 rfl rfl)
theorem dX11_lays_36 : decode cX11_lays 36 = .ok (.goto (-33), 3) := dk_167 255 223 (dk_at dksX11_lays_1 12 rfl rfl)
theorem dX11_lays_39 : decode cX11_lays 39 = .ok (.return_, 1) := dk_177 (dk_at dksX11_lays_1 15 rfl rfl)
abbrev cX11_village : ByteArray := prog_19_method_29_code
def yX11_village : MethodName := ⟨RX11, "village", "(I)I"⟩
def dkwX11_village_15 : List UInt8 := [172]
abbrev dktX11_village_15 : List UInt8 := dkwX11_village_15 ++ []
def dkwX11_village_14 : List UInt8 := [181, 1, 23, 42, 3, 181, 1, 26, 42, 3, 181, 1, 29, 42, 2, 181, 0, 113, 42, 3, 181, 1, 32, 3]
abbrev dktX11_village_14 : List UInt8 := dkwX11_village_14 ++ dktX11_village_15
def dkwX11_village_13 : List UInt8 := [16, 24, 28, 104, 21, 4, 96, 29, 79, 132, 4, 1, 167, 255, 200, 132, 2, 1, 167, 255, 183, 42, 3]
abbrev dktX11_village_13 : List UInt8 := dkwX11_village_13 ++ dktX11_village_14
def dkwX11_village_12 : List UInt8 := [160, 0, 7, 29, 167, 0, 15, 42, 180, 0, 71, 16, 24, 28, 104, 21, 4, 96, 46, 62, 42, 180, 0, 35]
abbrev dktX11_village_12 : List UInt8 := dkwX11_village_12 ++ dktX11_village_13
def dkwX11_village_11 : List UInt8 := [62, 3, 54, 4, 21, 4, 16, 24, 162, 0, 55, 42, 180, 0, 71, 16, 24, 28, 104, 21, 4, 96, 46, 2]
abbrev dktX11_village_11 : List UInt8 := dkwX11_village_11 ++ dktX11_village_12
def dkwX11_village_10 : List UInt8 := [182, 1, 19, 42, 42, 180, 0, 74, 42, 180, 0, 38, 182, 1, 19, 3, 61, 28, 16, 6, 162, 0, 73, 3]
abbrev dktX11_village_10 : List UInt8 := dkwX11_village_10 ++ dktX11_village_11
def dkwX11_village_9 : List UInt8 := [182, 1, 19, 42, 42, 180, 0, 65, 42, 180, 0, 29, 182, 1, 19, 42, 42, 180, 0, 68, 42, 180, 0, 32]
abbrev dktX11_village_9 : List UInt8 := dkwX11_village_9 ++ dktX11_village_10
def dkwX11_village_8 : List UInt8 := [182, 1, 19, 42, 42, 180, 0, 59, 42, 180, 0, 23, 182, 1, 19, 42, 42, 180, 0, 62, 42, 180, 0, 26]
abbrev dktX11_village_8 : List UInt8 := dkwX11_village_8 ++ dktX11_village_9
def dkwX11_village_7 : List UInt8 := [182, 1, 19, 42, 42, 180, 0, 53, 42, 180, 0, 17, 182, 1, 19, 42, 42, 180, 0, 56, 42, 180, 0, 20]
abbrev dktX11_village_7 : List UInt8 := dkwX11_village_7 ++ dktX11_village_8
def dkwX11_village_6 : List UInt8 := [180, 0, 207, 181, 1, 13, 42, 42, 180, 0, 216, 181, 1, 16, 42, 42, 180, 0, 50, 42, 180, 0, 13]
abbrev dktX11_village_6 : List UInt8 := dkwX11_village_6 ++ dktX11_village_7
def dkwX11_village_5 : List UInt8 := [180, 0, 225, 181, 1, 7, 42, 42, 180, 0, 201, 181, 0, 7, 42, 42, 180, 0, 219, 181, 1, 10, 42, 42]
abbrev dktX11_village_5 : List UInt8 := dkwX11_village_5 ++ dktX11_village_6
def dkwX11_village_4 : List UInt8 := [180, 0, 47, 3, 92, 46, 4, 96, 79, 42, 180, 0, 173, 172, 42, 42, 180, 0, 210, 181, 1, 4, 42, 42]
abbrev dktX11_village_4 : List UInt8 := dkwX11_village_4 ++ dktX11_village_5
def dkwX11_village_3 : List UInt8 := [42, 180, 0, 152, 153, 0, 10, 42, 182, 1, 1, 167, 255, 238, 42, 182, 0, 176, 154, 0, 18, 42]
abbrev dktX11_village_3 : List UInt8 := dkwX11_village_3 ++ dktX11_village_4
def dkwX11_village_2 : List UInt8 := [27, 181, 0, 132, 42, 3, 181, 0, 135, 42, 182, 0, 254, 42, 182, 0, 180, 42, 182, 0, 176, 153, 0, 17]
abbrev dktX11_village_2 : List UInt8 := dkwX11_village_2 ++ dktX11_village_3
def dkwX11_village_1 : List UInt8 := [182, 0, 250, 154, 0, 5, 3, 172, 42, 3, 181, 0, 125, 42, 2, 181, 0, 44, 42, 3, 181, 0, 173, 42]
abbrev dktX11_village_1 : List UInt8 := dkwX11_village_1 ++ dktX11_village_2
def dkwX11_village_0 : List UInt8 := [42, 3, 181, 0, 122, 42, 27, 155, 0, 15, 27, 42, 180, 0, 125, 163, 0, 7, 4, 167, 0, 4, 3, 4]
abbrev dktX11_village_0 : List UInt8 := dkwX11_village_0 ++ dktX11_village_1
theorem dksX11_village_0 : cX11_village.data.toList.drop 0 = dktX11_village_0 := by decide +kernel
theorem dksX11_village_1 : cX11_village.data.toList.drop 24 = dktX11_village_1 := dk_seg dksX11_village_0 24 rfl rfl
theorem dksX11_village_2 : cX11_village.data.toList.drop 48 = dktX11_village_2 := dk_seg dksX11_village_1 24 rfl rfl
theorem dksX11_village_3 : cX11_village.data.toList.drop 72 = dktX11_village_3 := dk_seg dksX11_village_2 24 rfl rfl
theorem dksX11_village_4 : cX11_village.data.toList.drop 94 = dktX11_village_4 := dk_seg dksX11_village_3 22 rfl rfl
theorem dksX11_village_5 : cX11_village.data.toList.drop 118 = dktX11_village_5 := dk_seg dksX11_village_4 24 rfl rfl
theorem dksX11_village_6 : cX11_village.data.toList.drop 142 = dktX11_village_6 := dk_seg dksX11_village_5 24 rfl rfl
theorem dksX11_village_7 : cX11_village.data.toList.drop 165 = dktX11_village_7 := dk_seg dksX11_village_6 23 rfl rfl
theorem dksX11_village_8 : cX11_village.data.toList.drop 189 = dktX11_village_8 := dk_seg dksX11_village_7 24 rfl rfl
theorem dksX11_village_9 : cX11_village.data.toList.drop 213 = dktX11_village_9 := dk_seg dksX11_village_8 24 rfl rfl
theorem dksX11_village_10 : cX11_village.data.toList.drop 237 = dktX11_village_10 := dk_seg dksX11_village_9 24 rfl rfl
theorem dksX11_village_11 : cX11_village.data.toList.drop 261 = dktX11_village_11 := dk_seg dksX11_village_10 24 rfl rfl
theorem dksX11_village_12 : cX11_village.data.toList.drop 285 = dktX11_village_12 := dk_seg dksX11_village_11 24 rfl rfl
theorem dksX11_village_13 : cX11_village.data.toList.drop 309 = dktX11_village_13 := dk_seg dksX11_village_12 24 rfl rfl
theorem dksX11_village_14 : cX11_village.data.toList.drop 332 = dktX11_village_14 := dk_seg dksX11_village_13 23 rfl rfl
theorem dksX11_village_15 : cX11_village.data.toList.drop 356 = dktX11_village_15 := dk_seg dksX11_village_14 24 rfl rfl
theorem dX11_village_0 : decode cX11_village 0 = .ok (.aload_n 0, 1) := dk_42 (dk_at dksX11_village_0 0 rfl rfl)
theorem dX11_village_1 : decode cX11_village 1 = .ok (.iconst 0, 1) := dk_3 (dk_at dksX11_village_0 1 rfl rfl)
theorem dX11_village_2 : decode cX11_village 2 = .ok (.putfield 122, 3) := dk_181 0 122 (dk_at dksX11_village_0 2 rfl rfl)
theorem dX11_village_5 : decode cX11_village 5 = .ok (.aload_n 0, 1) := dk_42 (dk_at dksX11_village_0 5 rfl rfl)
theorem dX11_village_6 : decode cX11_village 6 = .ok (.iload_n 1, 1) := dk_27 (dk_at dksX11_village_0 6 rfl rfl)
theorem dX11_village_7 : decode cX11_village 7 = .ok (.ifCond .lt 15, 3) := dk_155 0 15 (dk_at dksX11_village_0 7 rfl rfl)
theorem dX11_village_10 : decode cX11_village 10 = .ok (.iload_n 1, 1) := dk_27 (dk_at dksX11_village_0 10 rfl rfl)
theorem dX11_village_11 : decode cX11_village 11 = .ok (.aload_n 0, 1) := dk_42 (dk_at dksX11_village_0 11 rfl rfl)
theorem dX11_village_12 : decode cX11_village 12 = .ok (.getfield 125, 3) := dk_180 0 125 (dk_at dksX11_village_0 12 rfl rfl)
theorem dX11_village_15 : decode cX11_village 15 = .ok (.if_icmp .gt 7, 3) := dk_163 0 7 (dk_at dksX11_village_0 15 rfl rfl)
theorem dX11_village_18 : decode cX11_village 18 = .ok (.iconst 1, 1) := dk_4 (dk_at dksX11_village_0 18 rfl rfl)
theorem dX11_village_19 : decode cX11_village 19 = .ok (.goto 4, 3) := dk_167 0 4 (dk_at dksX11_village_0 19 rfl rfl)
theorem dX11_village_22 : decode cX11_village 22 = .ok (.iconst 0, 1) := dk_3 (dk_at dksX11_village_0 22 rfl rfl)
theorem dX11_village_23 : decode cX11_village 23 = .ok (.iconst 1, 1) := dk_4 (dk_at dksX11_village_0 23 rfl rfl)
theorem dX11_village_24 : decode cX11_village 24 = .ok (.invokevirtual 250, 3) := dk_182 0 250 (dk_at dksX11_village_1 0 rfl rfl)
theorem dX11_village_27 : decode cX11_village 27 = .ok (.ifCond .ne 5, 3) := dk_154 0 5 (dk_at dksX11_village_1 3 rfl rfl)
theorem dX11_village_30 : decode cX11_village 30 = .ok (.iconst 0, 1) := dk_3 (dk_at dksX11_village_1 6 rfl rfl)
theorem dX11_village_31 : decode cX11_village 31 = .ok (.ireturn, 1) := dk_172 (dk_at dksX11_village_1 7 rfl rfl)
theorem dX11_village_32 : decode cX11_village 32 = .ok (.aload_n 0, 1) := dk_42 (dk_at dksX11_village_1 8 rfl rfl)
theorem dX11_village_33 : decode cX11_village 33 = .ok (.iconst 0, 1) := dk_3 (dk_at dksX11_village_1 9 rfl rfl)
theorem dX11_village_34 : decode cX11_village 34 = .ok (.putfield 125, 3) := dk_181 0 125 (dk_at dksX11_village_1 10 rfl rfl)
theorem dX11_village_37 : decode cX11_village 37 = .ok (.aload_n 0, 1) := dk_42 (dk_at dksX11_village_1 13 rfl rfl)
theorem dX11_village_38 : decode cX11_village 38 = .ok (.iconst (-1), 1) := dk_2 (dk_at dksX11_village_1 14 rfl rfl)
theorem dX11_village_39 : decode cX11_village 39 = .ok (.putfield 44, 3) := dk_181 0 44 (dk_at dksX11_village_1 15 rfl rfl)
theorem dX11_village_42 : decode cX11_village 42 = .ok (.aload_n 0, 1) := dk_42 (dk_at dksX11_village_1 18 rfl rfl)
theorem dX11_village_43 : decode cX11_village 43 = .ok (.iconst 0, 1) := dk_3 (dk_at dksX11_village_1 19 rfl rfl)
theorem dX11_village_44 : decode cX11_village 44 = .ok (.putfield 173, 3) := dk_181 0 173 (dk_at dksX11_village_1 20 rfl rfl)
theorem dX11_village_47 : decode cX11_village 47 = .ok (.aload_n 0, 1) := dk_42 (dk_at dksX11_village_1 23 rfl rfl)
theorem dX11_village_48 : decode cX11_village 48 = .ok (.iload_n 1, 1) := dk_27 (dk_at dksX11_village_2 0 rfl rfl)
theorem dX11_village_49 : decode cX11_village 49 = .ok (.putfield 132, 3) := dk_181 0 132 (dk_at dksX11_village_2 1 rfl rfl)
theorem dX11_village_52 : decode cX11_village 52 = .ok (.aload_n 0, 1) := dk_42 (dk_at dksX11_village_2 4 rfl rfl)
theorem dX11_village_53 : decode cX11_village 53 = .ok (.iconst 0, 1) := dk_3 (dk_at dksX11_village_2 5 rfl rfl)
theorem dX11_village_54 : decode cX11_village 54 = .ok (.putfield 135, 3) := dk_181 0 135 (dk_at dksX11_village_2 6 rfl rfl)
theorem dX11_village_57 : decode cX11_village 57 = .ok (.aload_n 0, 1) := dk_42 (dk_at dksX11_village_2 9 rfl rfl)
theorem dX11_village_58 : decode cX11_village 58 = .ok (.invokevirtual 254, 3) := dk_182 0 254 (dk_at dksX11_village_2 10 rfl rfl)
theorem dX11_village_61 : decode cX11_village 61 = .ok (.aload_n 0, 1) := dk_42 (dk_at dksX11_village_2 13 rfl rfl)
theorem dX11_village_62 : decode cX11_village 62 = .ok (.invokevirtual 180, 3) := dk_182 0 180 (dk_at dksX11_village_2 14 rfl rfl)
theorem dX11_village_65 : decode cX11_village 65 = .ok (.aload_n 0, 1) := dk_42 (dk_at dksX11_village_2 17 rfl rfl)
theorem dX11_village_66 : decode cX11_village 66 = .ok (.invokevirtual 176, 3) := dk_182 0 176 (dk_at dksX11_village_2 18 rfl rfl)
theorem dX11_village_69 : decode cX11_village 69 = .ok (.ifCond .eq 17, 3) := dk_153 0 17 (dk_at dksX11_village_2 21 rfl rfl)
theorem dX11_village_72 : decode cX11_village 72 = .ok (.aload_n 0, 1) := dk_42 (dk_at dksX11_village_3 0 rfl rfl)
theorem dX11_village_73 : decode cX11_village 73 = .ok (.getfield 152, 3) := dk_180 0 152 (dk_at dksX11_village_3 1 rfl rfl)
theorem dX11_village_76 : decode cX11_village 76 = .ok (.ifCond .eq 10, 3) := dk_153 0 10 (dk_at dksX11_village_3 4 rfl rfl)
theorem dX11_village_79 : decode cX11_village 79 = .ok (.aload_n 0, 1) := dk_42 (dk_at dksX11_village_3 7 rfl rfl)
theorem dX11_village_80 : decode cX11_village 80 = .ok (.invokevirtual 257, 3) := dk_182 1 1 (dk_at dksX11_village_3 8 rfl rfl)
theorem dX11_village_83 : decode cX11_village 83 = .ok (.goto (-18), 3) := dk_167 255 238 (dk_at dksX11_village_3 11 rfl rfl)
theorem dX11_village_86 : decode cX11_village 86 = .ok (.aload_n 0, 1) := dk_42 (dk_at dksX11_village_3 14 rfl rfl)
theorem dX11_village_87 : decode cX11_village 87 = .ok (.invokevirtual 176, 3) := dk_182 0 176 (dk_at dksX11_village_3 15 rfl rfl)
theorem dX11_village_90 : decode cX11_village 90 = .ok (.ifCond .ne 18, 3) := dk_154 0 18 (dk_at dksX11_village_3 18 rfl rfl)
theorem dX11_village_93 : decode cX11_village 93 = .ok (.aload_n 0, 1) := dk_42 (dk_at dksX11_village_3 21 rfl rfl)
theorem dX11_village_94 : decode cX11_village 94 = .ok (.getfield 47, 3) := dk_180 0 47 (dk_at dksX11_village_4 0 rfl rfl)
theorem dX11_village_97 : decode cX11_village 97 = .ok (.iconst 0, 1) := dk_3 (dk_at dksX11_village_4 3 rfl rfl)
theorem dX11_village_98 : decode cX11_village 98 = .ok (.dup2, 1) := dk_92 (dk_at dksX11_village_4 4 rfl rfl)
theorem dX11_village_99 : decode cX11_village 99 = .ok (.iaload, 1) := dk_46 (dk_at dksX11_village_4 5 rfl rfl)
theorem dX11_village_100 : decode cX11_village 100 = .ok (.iconst 1, 1) := dk_4 (dk_at dksX11_village_4 6 rfl rfl)
theorem dX11_village_101 : decode cX11_village 101 = .ok (.iadd, 1) := dk_96 (dk_at dksX11_village_4 7 rfl rfl)
theorem dX11_village_102 : decode cX11_village 102 = .ok (.iastore, 1) := dk_79 (dk_at dksX11_village_4 8 rfl rfl)
theorem dX11_village_103 : decode cX11_village 103 = .ok (.aload_n 0, 1) := dk_42 (dk_at dksX11_village_4 9 rfl rfl)
theorem dX11_village_104 : decode cX11_village 104 = .ok (.getfield 173, 3) := dk_180 0 173 (dk_at dksX11_village_4 10 rfl rfl)
theorem dX11_village_107 : decode cX11_village 107 = .ok (.ireturn, 1) := dk_172 (dk_at dksX11_village_4 13 rfl rfl)
theorem dX11_village_108 : decode cX11_village 108 = .ok (.aload_n 0, 1) := dk_42 (dk_at dksX11_village_4 14 rfl rfl)
theorem dX11_village_109 : decode cX11_village 109 = .ok (.aload_n 0, 1) := dk_42 (dk_at dksX11_village_4 15 rfl rfl)
theorem dX11_village_110 : decode cX11_village 110 = .ok (.getfield 210, 3) := dk_180 0 210 (dk_at dksX11_village_4 16 rfl rfl)
theorem dX11_village_113 : decode cX11_village 113 = .ok (.putfield 260, 3) := dk_181 1 4 (dk_at dksX11_village_4 19 rfl rfl)
theorem dX11_village_116 : decode cX11_village 116 = .ok (.aload_n 0, 1) := dk_42 (dk_at dksX11_village_4 22 rfl rfl)
theorem dX11_village_117 : decode cX11_village 117 = .ok (.aload_n 0, 1) := dk_42 (dk_at dksX11_village_4 23 rfl rfl)
theorem dX11_village_118 : decode cX11_village 118 = .ok (.getfield 225, 3) := dk_180 0 225 (dk_at dksX11_village_5 0 rfl rfl)
theorem dX11_village_121 : decode cX11_village 121 = .ok (.putfield 263, 3) := dk_181 1 7 (dk_at dksX11_village_5 3 rfl rfl)
theorem dX11_village_124 : decode cX11_village 124 = .ok (.aload_n 0, 1) := dk_42 (dk_at dksX11_village_5 6 rfl rfl)
theorem dX11_village_125 : decode cX11_village 125 = .ok (.aload_n 0, 1) := dk_42 (dk_at dksX11_village_5 7 rfl rfl)
theorem dX11_village_126 : decode cX11_village 126 = .ok (.getfield 201, 3) := dk_180 0 201 (dk_at dksX11_village_5 8 rfl rfl)
theorem dX11_village_129 : decode cX11_village 129 = .ok (.putfield 7, 3) := dk_181 0 7 (dk_at dksX11_village_5 11 rfl rfl)
theorem dX11_village_132 : decode cX11_village 132 = .ok (.aload_n 0, 1) := dk_42 (dk_at dksX11_village_5 14 rfl rfl)
theorem dX11_village_133 : decode cX11_village 133 = .ok (.aload_n 0, 1) := dk_42 (dk_at dksX11_village_5 15 rfl rfl)
theorem dX11_village_134 : decode cX11_village 134 = .ok (.getfield 219, 3) := dk_180 0 219 (dk_at dksX11_village_5 16 rfl rfl)
theorem dX11_village_137 : decode cX11_village 137 = .ok (.putfield 266, 3) := dk_181 1 10 (dk_at dksX11_village_5 19 rfl rfl)
theorem dX11_village_140 : decode cX11_village 140 = .ok (.aload_n 0, 1) := dk_42 (dk_at dksX11_village_5 22 rfl rfl)
theorem dX11_village_141 : decode cX11_village 141 = .ok (.aload_n 0, 1) := dk_42 (dk_at dksX11_village_5 23 rfl rfl)
theorem dX11_village_142 : decode cX11_village 142 = .ok (.getfield 207, 3) := dk_180 0 207 (dk_at dksX11_village_6 0 rfl rfl)
theorem dX11_village_145 : decode cX11_village 145 = .ok (.putfield 269, 3) := dk_181 1 13 (dk_at dksX11_village_6 3 rfl rfl)
theorem dX11_village_148 : decode cX11_village 148 = .ok (.aload_n 0, 1) := dk_42 (dk_at dksX11_village_6 6 rfl rfl)
theorem dX11_village_149 : decode cX11_village 149 = .ok (.aload_n 0, 1) := dk_42 (dk_at dksX11_village_6 7 rfl rfl)
theorem dX11_village_150 : decode cX11_village 150 = .ok (.getfield 216, 3) := dk_180 0 216 (dk_at dksX11_village_6 8 rfl rfl)
theorem dX11_village_153 : decode cX11_village 153 = .ok (.putfield 272, 3) := dk_181 1 16 (dk_at dksX11_village_6 11 rfl rfl)
theorem dX11_village_156 : decode cX11_village 156 = .ok (.aload_n 0, 1) := dk_42 (dk_at dksX11_village_6 14 rfl rfl)
theorem dX11_village_157 : decode cX11_village 157 = .ok (.aload_n 0, 1) := dk_42 (dk_at dksX11_village_6 15 rfl rfl)
theorem dX11_village_158 : decode cX11_village 158 = .ok (.getfield 50, 3) := dk_180 0 50 (dk_at dksX11_village_6 16 rfl rfl)
theorem dX11_village_161 : decode cX11_village 161 = .ok (.aload_n 0, 1) := dk_42 (dk_at dksX11_village_6 19 rfl rfl)
theorem dX11_village_162 : decode cX11_village 162 = .ok (.getfield 13, 3) := dk_180 0 13 (dk_at dksX11_village_6 20 rfl rfl)
theorem dX11_village_165 : decode cX11_village 165 = .ok (.invokevirtual 275, 3) := dk_182 1 19 (dk_at dksX11_village_7 0 rfl rfl)
theorem dX11_village_168 : decode cX11_village 168 = .ok (.aload_n 0, 1) := dk_42 (dk_at dksX11_village_7 3 rfl rfl)
theorem dX11_village_169 : decode cX11_village 169 = .ok (.aload_n 0, 1) := dk_42 (dk_at dksX11_village_7 4 rfl rfl)
theorem dX11_village_170 : decode cX11_village 170 = .ok (.getfield 53, 3) := dk_180 0 53 (dk_at dksX11_village_7 5 rfl rfl)
theorem dX11_village_173 : decode cX11_village 173 = .ok (.aload_n 0, 1) := dk_42 (dk_at dksX11_village_7 8 rfl rfl)
theorem dX11_village_174 : decode cX11_village 174 = .ok (.getfield 17, 3) := dk_180 0 17 (dk_at dksX11_village_7 9 rfl rfl)
theorem dX11_village_177 : decode cX11_village 177 = .ok (.invokevirtual 275, 3) := dk_182 1 19 (dk_at dksX11_village_7 12 rfl rfl)
theorem dX11_village_180 : decode cX11_village 180 = .ok (.aload_n 0, 1) := dk_42 (dk_at dksX11_village_7 15 rfl rfl)
theorem dX11_village_181 : decode cX11_village 181 = .ok (.aload_n 0, 1) := dk_42 (dk_at dksX11_village_7 16 rfl rfl)
theorem dX11_village_182 : decode cX11_village 182 = .ok (.getfield 56, 3) := dk_180 0 56 (dk_at dksX11_village_7 17 rfl rfl)
theorem dX11_village_185 : decode cX11_village 185 = .ok (.aload_n 0, 1) := dk_42 (dk_at dksX11_village_7 20 rfl rfl)
theorem dX11_village_186 : decode cX11_village 186 = .ok (.getfield 20, 3) := dk_180 0 20 (dk_at dksX11_village_7 21 rfl rfl)
theorem dX11_village_189 : decode cX11_village 189 = .ok (.invokevirtual 275, 3) := dk_182 1 19 (dk_at dksX11_village_8 0 rfl rfl)
theorem dX11_village_192 : decode cX11_village 192 = .ok (.aload_n 0, 1) := dk_42 (dk_at dksX11_village_8 3 rfl rfl)
theorem dX11_village_193 : decode cX11_village 193 = .ok (.aload_n 0, 1) := dk_42 (dk_at dksX11_village_8 4 rfl rfl)
theorem dX11_village_194 : decode cX11_village 194 = .ok (.getfield 59, 3) := dk_180 0 59 (dk_at dksX11_village_8 5 rfl rfl)
theorem dX11_village_197 : decode cX11_village 197 = .ok (.aload_n 0, 1) := dk_42 (dk_at dksX11_village_8 8 rfl rfl)
theorem dX11_village_198 : decode cX11_village 198 = .ok (.getfield 23, 3) := dk_180 0 23 (dk_at dksX11_village_8 9 rfl rfl)
theorem dX11_village_201 : decode cX11_village 201 = .ok (.invokevirtual 275, 3) := dk_182 1 19 (dk_at dksX11_village_8 12 rfl rfl)
theorem dX11_village_204 : decode cX11_village 204 = .ok (.aload_n 0, 1) := dk_42 (dk_at dksX11_village_8 15 rfl rfl)
theorem dX11_village_205 : decode cX11_village 205 = .ok (.aload_n 0, 1) := dk_42 (dk_at dksX11_village_8 16 rfl rfl)
theorem dX11_village_206 : decode cX11_village 206 = .ok (.getfield 62, 3) := dk_180 0 62 (dk_at dksX11_village_8 17 rfl rfl)
theorem dX11_village_209 : decode cX11_village 209 = .ok (.aload_n 0, 1) := dk_42 (dk_at dksX11_village_8 20 rfl rfl)
theorem dX11_village_210 : decode cX11_village 210 = .ok (.getfield 26, 3) := dk_180 0 26 (dk_at dksX11_village_8 21 rfl rfl)
theorem dX11_village_213 : decode cX11_village 213 = .ok (.invokevirtual 275, 3) := dk_182 1 19 (dk_at dksX11_village_9 0 rfl rfl)
theorem dX11_village_216 : decode cX11_village 216 = .ok (.aload_n 0, 1) := dk_42 (dk_at dksX11_village_9 3 rfl rfl)
theorem dX11_village_217 : decode cX11_village 217 = .ok (.aload_n 0, 1) := dk_42 (dk_at dksX11_village_9 4 rfl rfl)
theorem dX11_village_218 : decode cX11_village 218 = .ok (.getfield 65, 3) := dk_180 0 65 (dk_at dksX11_village_9 5 rfl rfl)
theorem dX11_village_221 : decode cX11_village 221 = .ok (.aload_n 0, 1) := dk_42 (dk_at dksX11_village_9 8 rfl rfl)
theorem dX11_village_222 : decode cX11_village 222 = .ok (.getfield 29, 3) := dk_180 0 29 (dk_at dksX11_village_9 9 rfl rfl)
theorem dX11_village_225 : decode cX11_village 225 = .ok (.invokevirtual 275, 3) := dk_182 1 19 (dk_at dksX11_village_9 12 rfl rfl)
theorem dX11_village_228 : decode cX11_village 228 = .ok (.aload_n 0, 1) := dk_42 (dk_at dksX11_village_9 15 rfl rfl)
theorem dX11_village_229 : decode cX11_village 229 = .ok (.aload_n 0, 1) := dk_42 (dk_at dksX11_village_9 16 rfl rfl)
theorem dX11_village_230 : decode cX11_village 230 = .ok (.getfield 68, 3) := dk_180 0 68 (dk_at dksX11_village_9 17 rfl rfl)
theorem dX11_village_233 : decode cX11_village 233 = .ok (.aload_n 0, 1) := dk_42 (dk_at dksX11_village_9 20 rfl rfl)
theorem dX11_village_234 : decode cX11_village 234 = .ok (.getfield 32, 3) := dk_180 0 32 (dk_at dksX11_village_9 21 rfl rfl)
theorem dX11_village_237 : decode cX11_village 237 = .ok (.invokevirtual 275, 3) := dk_182 1 19 (dk_at dksX11_village_10 0 rfl rfl)
theorem dX11_village_240 : decode cX11_village 240 = .ok (.aload_n 0, 1) := dk_42 (dk_at dksX11_village_10 3 rfl rfl)
theorem dX11_village_241 : decode cX11_village 241 = .ok (.aload_n 0, 1) := dk_42 (dk_at dksX11_village_10 4 rfl rfl)
theorem dX11_village_242 : decode cX11_village 242 = .ok (.getfield 74, 3) := dk_180 0 74 (dk_at dksX11_village_10 5 rfl rfl)
theorem dX11_village_245 : decode cX11_village 245 = .ok (.aload_n 0, 1) := dk_42 (dk_at dksX11_village_10 8 rfl rfl)
theorem dX11_village_246 : decode cX11_village 246 = .ok (.getfield 38, 3) := dk_180 0 38 (dk_at dksX11_village_10 9 rfl rfl)
theorem dX11_village_249 : decode cX11_village 249 = .ok (.invokevirtual 275, 3) := dk_182 1 19 (dk_at dksX11_village_10 12 rfl rfl)
theorem dX11_village_252 : decode cX11_village 252 = .ok (.iconst 0, 1) := dk_3 (dk_at dksX11_village_10 15 rfl rfl)
theorem dX11_village_253 : decode cX11_village 253 = .ok (.istore_n 2, 1) := dk_61 (dk_at dksX11_village_10 16 rfl rfl)
theorem dX11_village_254 : decode cX11_village 254 = .ok (.iload_n 2, 1) := dk_28 (dk_at dksX11_village_10 17 rfl rfl)
theorem dX11_village_255 : decode cX11_village 255 = .ok (.bipush 6, 2) := dk_16 6 (dk_at dksX11_village_10 18 rfl rfl)
theorem dX11_village_257 : decode cX11_village 257 = .ok (.if_icmp .ge 73, 3) := dk_162 0 73 (dk_at dksX11_village_10 20 rfl rfl)
theorem dX11_village_260 : decode cX11_village 260 = .ok (.iconst 0, 1) := dk_3 (dk_at dksX11_village_10 23 rfl rfl)
theorem dX11_village_261 : decode cX11_village 261 = .ok (.istore_n 3, 1) := dk_62 (dk_at dksX11_village_11 0 rfl rfl)
theorem dX11_village_262 : decode cX11_village 262 = .ok (.iconst 0, 1) := dk_3 (dk_at dksX11_village_11 1 rfl rfl)
theorem dX11_village_263 : decode cX11_village 263 = .ok (.istore 4, 2) := dk_54 4 (dk_at dksX11_village_11 2 rfl rfl)
theorem dX11_village_265 : decode cX11_village 265 = .ok (.iload 4, 2) := dk_21 4 (dk_at dksX11_village_11 4 rfl rfl)
theorem dX11_village_267 : decode cX11_village 267 = .ok (.bipush 24, 2) := dk_16 24 (dk_at dksX11_village_11 6 rfl rfl)
theorem dX11_village_269 : decode cX11_village 269 = .ok (.if_icmp .ge 55, 3) := dk_162 0 55 (dk_at dksX11_village_11 8 rfl rfl)
theorem dX11_village_272 : decode cX11_village 272 = .ok (.aload_n 0, 1) := dk_42 (dk_at dksX11_village_11 11 rfl rfl)
theorem dX11_village_273 : decode cX11_village 273 = .ok (.getfield 71, 3) := dk_180 0 71 (dk_at dksX11_village_11 12 rfl rfl)
theorem dX11_village_276 : decode cX11_village 276 = .ok (.bipush 24, 2) := dk_16 24 (dk_at dksX11_village_11 15 rfl rfl)
theorem dX11_village_278 : decode cX11_village 278 = .ok (.iload_n 2, 1) := dk_28 (dk_at dksX11_village_11 17 rfl rfl)
theorem dX11_village_279 : decode cX11_village 279 = .ok (.imul, 1) := dk_104 (dk_at dksX11_village_11 18 rfl rfl)
theorem dX11_village_280 : decode cX11_village 280 = .ok (.iload 4, 2) := dk_21 4 (dk_at dksX11_village_11 19 rfl rfl)
theorem dX11_village_282 : decode cX11_village 282 = .ok (.iadd, 1) := dk_96 (dk_at dksX11_village_11 21 rfl rfl)
theorem dX11_village_283 : decode cX11_village 283 = .ok (.iaload, 1) := dk_46 (dk_at dksX11_village_11 22 rfl rfl)
theorem dX11_village_284 : decode cX11_village 284 = .ok (.iconst (-1), 1) := dk_2 (dk_at dksX11_village_11 23 rfl rfl)
theorem dX11_village_285 : decode cX11_village 285 = .ok (.if_icmp .ne 7, 3) := dk_160 0 7 (dk_at dksX11_village_12 0 rfl rfl)
theorem dX11_village_288 : decode cX11_village 288 = .ok (.iload_n 3, 1) := dk_29 (dk_at dksX11_village_12 3 rfl rfl)
theorem dX11_village_289 : decode cX11_village 289 = .ok (.goto 15, 3) := dk_167 0 15 (dk_at dksX11_village_12 4 rfl rfl)
theorem dX11_village_292 : decode cX11_village 292 = .ok (.aload_n 0, 1) := dk_42 (dk_at dksX11_village_12 7 rfl rfl)
theorem dX11_village_293 : decode cX11_village 293 = .ok (.getfield 71, 3) := dk_180 0 71 (dk_at dksX11_village_12 8 rfl rfl)
theorem dX11_village_296 : decode cX11_village 296 = .ok (.bipush 24, 2) := dk_16 24 (dk_at dksX11_village_12 11 rfl rfl)
theorem dX11_village_298 : decode cX11_village 298 = .ok (.iload_n 2, 1) := dk_28 (dk_at dksX11_village_12 13 rfl rfl)
theorem dX11_village_299 : decode cX11_village 299 = .ok (.imul, 1) := dk_104 (dk_at dksX11_village_12 14 rfl rfl)
theorem dX11_village_300 : decode cX11_village 300 = .ok (.iload 4, 2) := dk_21 4 (dk_at dksX11_village_12 15 rfl rfl)
theorem dX11_village_302 : decode cX11_village 302 = .ok (.iadd, 1) := dk_96 (dk_at dksX11_village_12 17 rfl rfl)
theorem dX11_village_303 : decode cX11_village 303 = .ok (.iaload, 1) := dk_46 (dk_at dksX11_village_12 18 rfl rfl)
theorem dX11_village_304 : decode cX11_village 304 = .ok (.istore_n 3, 1) := dk_62 (dk_at dksX11_village_12 19 rfl rfl)
theorem dX11_village_305 : decode cX11_village 305 = .ok (.aload_n 0, 1) := dk_42 (dk_at dksX11_village_12 20 rfl rfl)
theorem dX11_village_306 : decode cX11_village 306 = .ok (.getfield 35, 3) := dk_180 0 35 (dk_at dksX11_village_12 21 rfl rfl)
theorem dX11_village_309 : decode cX11_village 309 = .ok (.bipush 24, 2) := dk_16 24 (dk_at dksX11_village_13 0 rfl rfl)
theorem dX11_village_311 : decode cX11_village 311 = .ok (.iload_n 2, 1) := dk_28 (dk_at dksX11_village_13 2 rfl rfl)
theorem dX11_village_312 : decode cX11_village 312 = .ok (.imul, 1) := dk_104 (dk_at dksX11_village_13 3 rfl rfl)
theorem dX11_village_313 : decode cX11_village 313 = .ok (.iload 4, 2) := dk_21 4 (dk_at dksX11_village_13 4 rfl rfl)
theorem dX11_village_315 : decode cX11_village 315 = .ok (.iadd, 1) := dk_96 (dk_at dksX11_village_13 6 rfl rfl)
theorem dX11_village_316 : decode cX11_village 316 = .ok (.iload_n 3, 1) := dk_29 (dk_at dksX11_village_13 7 rfl rfl)
theorem dX11_village_317 : decode cX11_village 317 = .ok (.iastore, 1) := dk_79 (dk_at dksX11_village_13 8 rfl rfl)
theorem dX11_village_318 : decode cX11_village 318 = .ok (.iinc 4 1, 3) := dk_132 4 1 (dk_at dksX11_village_13 9 rfl rfl)
theorem dX11_village_321 : decode cX11_village 321 = .ok (.goto (-56), 3) := dk_167 255 200 (dk_at dksX11_village_13 12 rfl rfl)
theorem dX11_village_324 : decode cX11_village 324 = .ok (.iinc 2 1, 3) := dk_132 2 1 (dk_at dksX11_village_13 15 rfl rfl)
theorem dX11_village_327 : decode cX11_village 327 = .ok (.goto (-73), 3) := dk_167 255 183 (dk_at dksX11_village_13 18 rfl rfl)
theorem dX11_village_330 : decode cX11_village 330 = .ok (.aload_n 0, 1) := dk_42 (dk_at dksX11_village_13 21 rfl rfl)
theorem dX11_village_331 : decode cX11_village 331 = .ok (.iconst 0, 1) := dk_3 (dk_at dksX11_village_13 22 rfl rfl)
theorem dX11_village_332 : decode cX11_village 332 = .ok (.putfield 279, 3) := dk_181 1 23 (dk_at dksX11_village_14 0 rfl rfl)
theorem dX11_village_335 : decode cX11_village 335 = .ok (.aload_n 0, 1) := dk_42 (dk_at dksX11_village_14 3 rfl rfl)
theorem dX11_village_336 : decode cX11_village 336 = .ok (.iconst 0, 1) := dk_3 (dk_at dksX11_village_14 4 rfl rfl)
theorem dX11_village_337 : decode cX11_village 337 = .ok (.putfield 282, 3) := dk_181 1 26 (dk_at dksX11_village_14 5 rfl rfl)
theorem dX11_village_340 : decode cX11_village 340 = .ok (.aload_n 0, 1) := dk_42 (dk_at dksX11_village_14 8 rfl rfl)
theorem dX11_village_341 : decode cX11_village 341 = .ok (.iconst 0, 1) := dk_3 (dk_at dksX11_village_14 9 rfl rfl)
theorem dX11_village_342 : decode cX11_village 342 = .ok (.putfield 285, 3) := dk_181 1 29 (dk_at dksX11_village_14 10 rfl rfl)
theorem dX11_village_345 : decode cX11_village 345 = .ok (.aload_n 0, 1) := dk_42 (dk_at dksX11_village_14 13 rfl rfl)
theorem dX11_village_346 : decode cX11_village 346 = .ok (.iconst (-1), 1) := dk_2 (dk_at dksX11_village_14 14 rfl rfl)
theorem dX11_village_347 : decode cX11_village 347 = .ok (.putfield 113, 3) := dk_181 0 113 (dk_at dksX11_village_14 15 rfl rfl)
theorem dX11_village_350 : decode cX11_village 350 = .ok (.aload_n 0, 1) := dk_42 (dk_at dksX11_village_14 18 rfl rfl)
theorem dX11_village_351 : decode cX11_village 351 = .ok (.iconst 0, 1) := dk_3 (dk_at dksX11_village_14 19 rfl rfl)
theorem dX11_village_352 : decode cX11_village 352 = .ok (.putfield 288, 3) := dk_181 1 32 (dk_at dksX11_village_14 20 rfl rfl)
theorem dX11_village_355 : decode cX11_village 355 = .ok (.iconst 0, 1) := dk_3 (dk_at dksX11_village_14 23 rfl rfl)
theorem dX11_village_356 : decode cX11_village 356 = .ok (.ireturn, 1) := dk_172 (dk_at dksX11_village_15 0 rfl rfl)
abbrev cX11_right : ByteArray := prog_19_method_3_code
def yX11_right : MethodName := ⟨RX11, "right", "(ZI)Z"⟩
def dkwX11_right_1 : List UInt8 := [167, 0, 4, 3, 172]
abbrev dktX11_right_1 : List UInt8 := dkwX11_right_1 ++ []
def dkwX11_right_0 : List UInt8 := [42, 180, 0, 122, 154, 0, 12, 27, 154, 0, 8, 42, 28, 181, 0, 122, 42, 180, 0, 122, 154, 0, 7, 4]
abbrev dktX11_right_0 : List UInt8 := dkwX11_right_0 ++ dktX11_right_1
theorem dksX11_right_0 : cX11_right.data.toList.drop 0 = dktX11_right_0 := by decide +kernel
theorem dksX11_right_1 : cX11_right.data.toList.drop 24 = dktX11_right_1 := dk_seg dksX11_right_0 24 rfl rfl
theorem dX11_right_0 : decode cX11_right 0 = .ok (.aload_n 0, 1) := dk_42 (dk_at dksX11_right_0 0 rfl rfl)
theorem dX11_right_1 : decode cX11_right 1 = .ok (.getfield 122, 3) := dk_180 0 122 (dk_at dksX11_right_0 1 rfl rfl)
theorem dX11_right_4 : decode cX11_right 4 = .ok (.ifCond .ne 12, 3) := dk_154 0 12 (dk_at dksX11_right_0 4 rfl rfl)
theorem dX11_right_7 : decode cX11_right 7 = .ok (.iload_n 1, 1) := dk_27 (dk_at dksX11_right_0 7 rfl rfl)
theorem dX11_right_8 : decode cX11_right 8 = .ok (.ifCond .ne 8, 3) := dk_154 0 8 (dk_at dksX11_right_0 8 rfl rfl)
theorem dX11_right_11 : decode cX11_right 11 = .ok (.aload_n 0, 1) := dk_42 (dk_at dksX11_right_0 11 rfl rfl)
theorem dX11_right_12 : decode cX11_right 12 = .ok (.iload_n 2, 1) := dk_28 (dk_at dksX11_right_0 12 rfl rfl)
theorem dX11_right_13 : decode cX11_right 13 = .ok (.putfield 122, 3) := dk_181 0 122 (dk_at dksX11_right_0 13 rfl rfl)
theorem dX11_right_16 : decode cX11_right 16 = .ok (.aload_n 0, 1) := dk_42 (dk_at dksX11_right_0 16 rfl rfl)
theorem dX11_right_17 : decode cX11_right 17 = .ok (.getfield 122, 3) := dk_180 0 122 (dk_at dksX11_right_0 17 rfl rfl)
theorem dX11_right_20 : decode cX11_right 20 = .ok (.ifCond .ne 7, 3) := dk_154 0 7 (dk_at dksX11_right_0 20 rfl rfl)
theorem dX11_right_23 : decode cX11_right 23 = .ok (.iconst 1, 1) := dk_4 (dk_at dksX11_right_0 23 rfl rfl)
theorem dX11_right_24 : decode cX11_right 24 = .ok (.goto 4, 3) := dk_167 0 4 (dk_at dksX11_right_1 0 rfl rfl)
theorem dX11_right_27 : decode cX11_right 27 = .ok (.iconst 0, 1) := dk_3 (dk_at dksX11_right_1 3 rfl rfl)
theorem dX11_right_28 : decode cX11_right 28 = .ok (.ireturn, 1) := dk_172 (dk_at dksX11_right_1 4 rfl rfl)
abbrev cX11_empties : ByteArray := prog_19_method_28_code
def yX11_empties : MethodName := ⟨RX11, "empties", "()V"⟩
def dkwX11_empties_6 : List UInt8 := [167, 255, 238, 177]
abbrev dktX11_empties_6 : List UInt8 := dkwX11_empties_6 ++ []
def dkwX11_empties_5 : List UInt8 := [167, 255, 239, 3, 60, 27, 16, 10, 162, 0, 18, 42, 180, 0, 74, 27, 17, 1, 244, 79, 132, 1, 1]
abbrev dktX11_empties_5 : List UInt8 := dkwX11_empties_5 ++ dktX11_empties_6
def dkwX11_empties_4 : List UInt8 := [167, 255, 240, 3, 60, 27, 17, 0, 144, 162, 0, 16, 42, 180, 0, 71, 27, 2, 79, 132, 1, 1]
abbrev dktX11_empties_4 : List UInt8 := dkwX11_empties_4 ++ dktX11_empties_5
def dkwX11_empties_3 : List UInt8 := [132, 1, 1, 167, 255, 239, 3, 60, 27, 16, 6, 162, 0, 16, 42, 180, 0, 68, 27, 3, 79, 132, 1, 1]
abbrev dktX11_empties_3 : List UInt8 := dkwX11_empties_3 ++ dktX11_empties_4
def dkwX11_empties_2 : List UInt8 := [180, 0, 59, 3, 3, 79, 3, 60, 27, 17, 0, 135, 162, 0, 16, 42, 180, 0, 53, 27, 3, 79]
abbrev dktX11_empties_2 : List UInt8 := dkwX11_empties_2 ++ dktX11_empties_3
def dkwX11_empties_1 : List UInt8 := [181, 0, 207, 42, 3, 181, 0, 216, 42, 3, 181, 0, 228, 42, 3, 181, 0, 231, 42, 3, 181, 0, 197, 42]
abbrev dktX11_empties_1 : List UInt8 := dkwX11_empties_1 ++ dktX11_empties_2
def dkwX11_empties_0 : List UInt8 := [42, 3, 181, 0, 210, 42, 3, 181, 0, 225, 42, 4, 181, 0, 201, 42, 3, 181, 0, 219, 42, 3]
abbrev dktX11_empties_0 : List UInt8 := dkwX11_empties_0 ++ dktX11_empties_1
theorem dksX11_empties_0 : cX11_empties.data.toList.drop 0 = dktX11_empties_0 := by decide +kernel
theorem dksX11_empties_1 : cX11_empties.data.toList.drop 22 = dktX11_empties_1 := dk_seg dksX11_empties_0 22 rfl rfl
theorem dksX11_empties_2 : cX11_empties.data.toList.drop 46 = dktX11_empties_2 := dk_seg dksX11_empties_1 24 rfl rfl
theorem dksX11_empties_3 : cX11_empties.data.toList.drop 68 = dktX11_empties_3 := dk_seg dksX11_empties_2 22 rfl rfl
theorem dksX11_empties_4 : cX11_empties.data.toList.drop 92 = dktX11_empties_4 := dk_seg dksX11_empties_3 24 rfl rfl
theorem dksX11_empties_5 : cX11_empties.data.toList.drop 114 = dktX11_empties_5 := dk_seg dksX11_empties_4 22 rfl rfl
theorem dksX11_empties_6 : cX11_empties.data.toList.drop 137 = dktX11_empties_6 := dk_seg dksX11_empties_5 23 rfl rfl
theorem dX11_empties_0 : decode cX11_empties 0 = .ok (.aload_n 0, 1) := dk_42 (dk_at dksX11_empties_0 0 rfl rfl)
theorem dX11_empties_1 : decode cX11_empties 1 = .ok (.iconst 0, 1) := dk_3 (dk_at dksX11_empties_0 1 rfl rfl)
theorem dX11_empties_2 : decode cX11_empties 2 = .ok (.putfield 210, 3) := dk_181 0 210 (dk_at dksX11_empties_0 2 rfl rfl)
theorem dX11_empties_5 : decode cX11_empties 5 = .ok (.aload_n 0, 1) := dk_42 (dk_at dksX11_empties_0 5 rfl rfl)
theorem dX11_empties_6 : decode cX11_empties 6 = .ok (.iconst 0, 1) := dk_3 (dk_at dksX11_empties_0 6 rfl rfl)
theorem dX11_empties_7 : decode cX11_empties 7 = .ok (.putfield 225, 3) := dk_181 0 225 (dk_at dksX11_empties_0 7 rfl rfl)
theorem dX11_empties_10 : decode cX11_empties 10 = .ok (.aload_n 0, 1) := dk_42 (dk_at dksX11_empties_0 10 rfl rfl)
theorem dX11_empties_11 : decode cX11_empties 11 = .ok (.iconst 1, 1) := dk_4 (dk_at dksX11_empties_0 11 rfl rfl)
theorem dX11_empties_12 : decode cX11_empties 12 = .ok (.putfield 201, 3) := dk_181 0 201 (dk_at dksX11_empties_0 12 rfl rfl)
theorem dX11_empties_15 : decode cX11_empties 15 = .ok (.aload_n 0, 1) := dk_42 (dk_at dksX11_empties_0 15 rfl rfl)
theorem dX11_empties_16 : decode cX11_empties 16 = .ok (.iconst 0, 1) := dk_3 (dk_at dksX11_empties_0 16 rfl rfl)
theorem dX11_empties_17 : decode cX11_empties 17 = .ok (.putfield 219, 3) := dk_181 0 219 (dk_at dksX11_empties_0 17 rfl rfl)
theorem dX11_empties_20 : decode cX11_empties 20 = .ok (.aload_n 0, 1) := dk_42 (dk_at dksX11_empties_0 20 rfl rfl)
theorem dX11_empties_21 : decode cX11_empties 21 = .ok (.iconst 0, 1) := dk_3 (dk_at dksX11_empties_0 21 rfl rfl)
theorem dX11_empties_22 : decode cX11_empties 22 = .ok (.putfield 207, 3) := dk_181 0 207 (dk_at dksX11_empties_1 0 rfl rfl)
theorem dX11_empties_25 : decode cX11_empties 25 = .ok (.aload_n 0, 1) := dk_42 (dk_at dksX11_empties_1 3 rfl rfl)
theorem dX11_empties_26 : decode cX11_empties 26 = .ok (.iconst 0, 1) := dk_3 (dk_at dksX11_empties_1 4 rfl rfl)
theorem dX11_empties_27 : decode cX11_empties 27 = .ok (.putfield 216, 3) := dk_181 0 216 (dk_at dksX11_empties_1 5 rfl rfl)
theorem dX11_empties_30 : decode cX11_empties 30 = .ok (.aload_n 0, 1) := dk_42 (dk_at dksX11_empties_1 8 rfl rfl)
theorem dX11_empties_31 : decode cX11_empties 31 = .ok (.iconst 0, 1) := dk_3 (dk_at dksX11_empties_1 9 rfl rfl)
theorem dX11_empties_32 : decode cX11_empties 32 = .ok (.putfield 228, 3) := dk_181 0 228 (dk_at dksX11_empties_1 10 rfl rfl)
theorem dX11_empties_35 : decode cX11_empties 35 = .ok (.aload_n 0, 1) := dk_42 (dk_at dksX11_empties_1 13 rfl rfl)
theorem dX11_empties_36 : decode cX11_empties 36 = .ok (.iconst 0, 1) := dk_3 (dk_at dksX11_empties_1 14 rfl rfl)
theorem dX11_empties_37 : decode cX11_empties 37 = .ok (.putfield 231, 3) := dk_181 0 231 (dk_at dksX11_empties_1 15 rfl rfl)
theorem dX11_empties_40 : decode cX11_empties 40 = .ok (.aload_n 0, 1) := dk_42 (dk_at dksX11_empties_1 18 rfl rfl)
theorem dX11_empties_41 : decode cX11_empties 41 = .ok (.iconst 0, 1) := dk_3 (dk_at dksX11_empties_1 19 rfl rfl)
theorem dX11_empties_42 : decode cX11_empties 42 = .ok (.putfield 197, 3) := dk_181 0 197 (dk_at dksX11_empties_1 20 rfl rfl)
theorem dX11_empties_45 : decode cX11_empties 45 = .ok (.aload_n 0, 1) := dk_42 (dk_at dksX11_empties_1 23 rfl rfl)
theorem dX11_empties_46 : decode cX11_empties 46 = .ok (.getfield 59, 3) := dk_180 0 59 (dk_at dksX11_empties_2 0 rfl rfl)
theorem dX11_empties_49 : decode cX11_empties 49 = .ok (.iconst 0, 1) := dk_3 (dk_at dksX11_empties_2 3 rfl rfl)
theorem dX11_empties_50 : decode cX11_empties 50 = .ok (.iconst 0, 1) := dk_3 (dk_at dksX11_empties_2 4 rfl rfl)
theorem dX11_empties_51 : decode cX11_empties 51 = .ok (.iastore, 1) := dk_79 (dk_at dksX11_empties_2 5 rfl rfl)
theorem dX11_empties_52 : decode cX11_empties 52 = .ok (.iconst 0, 1) := dk_3 (dk_at dksX11_empties_2 6 rfl rfl)
theorem dX11_empties_53 : decode cX11_empties 53 = .ok (.istore_n 1, 1) := dk_60 (dk_at dksX11_empties_2 7 rfl rfl)
theorem dX11_empties_54 : decode cX11_empties 54 = .ok (.iload_n 1, 1) := dk_27 (dk_at dksX11_empties_2 8 rfl rfl)
theorem dX11_empties_55 : decode cX11_empties 55 = .ok (.sipush 135, 3) := dk_17 0 135 (dk_at dksX11_empties_2 9 rfl rfl)
theorem dX11_empties_58 : decode cX11_empties 58 = .ok (.if_icmp .ge 16, 3) := dk_162 0 16 (dk_at dksX11_empties_2 12 rfl rfl)
theorem dX11_empties_61 : decode cX11_empties 61 = .ok (.aload_n 0, 1) := dk_42 (dk_at dksX11_empties_2 15 rfl rfl)
theorem dX11_empties_62 : decode cX11_empties 62 = .ok (.getfield 53, 3) := dk_180 0 53 (dk_at dksX11_empties_2 16 rfl rfl)
theorem dX11_empties_65 : decode cX11_empties 65 = .ok (.iload_n 1, 1) := dk_27 (dk_at dksX11_empties_2 19 rfl rfl)
theorem dX11_empties_66 : decode cX11_empties 66 = .ok (.iconst 0, 1) := dk_3 (dk_at dksX11_empties_2 20 rfl rfl)
theorem dX11_empties_67 : decode cX11_empties 67 = .ok (.iastore, 1) := dk_79 (dk_at dksX11_empties_2 21 rfl rfl)
theorem dX11_empties_68 : decode cX11_empties 68 = .ok (.iinc 1 1, 3) := dk_132 1 1 (dk_at dksX11_empties_3 0 rfl rfl)
theorem dX11_empties_71 : decode cX11_empties 71 = .ok (.goto (-17), 3) := dk_167 255 239 (dk_at dksX11_empties_3 3 rfl rfl)
theorem dX11_empties_74 : decode cX11_empties 74 = .ok (.iconst 0, 1) := dk_3 (dk_at dksX11_empties_3 6 rfl rfl)
theorem dX11_empties_75 : decode cX11_empties 75 = .ok (.istore_n 1, 1) := dk_60 (dk_at dksX11_empties_3 7 rfl rfl)
theorem dX11_empties_76 : decode cX11_empties 76 = .ok (.iload_n 1, 1) := dk_27 (dk_at dksX11_empties_3 8 rfl rfl)
theorem dX11_empties_77 : decode cX11_empties 77 = .ok (.bipush 6, 2) := dk_16 6 (dk_at dksX11_empties_3 9 rfl rfl)
theorem dX11_empties_79 : decode cX11_empties 79 = .ok (.if_icmp .ge 16, 3) := dk_162 0 16 (dk_at dksX11_empties_3 11 rfl rfl)
theorem dX11_empties_82 : decode cX11_empties 82 = .ok (.aload_n 0, 1) := dk_42 (dk_at dksX11_empties_3 14 rfl rfl)
theorem dX11_empties_83 : decode cX11_empties 83 = .ok (.getfield 68, 3) := dk_180 0 68 (dk_at dksX11_empties_3 15 rfl rfl)
theorem dX11_empties_86 : decode cX11_empties 86 = .ok (.iload_n 1, 1) := dk_27 (dk_at dksX11_empties_3 18 rfl rfl)
theorem dX11_empties_87 : decode cX11_empties 87 = .ok (.iconst 0, 1) := dk_3 (dk_at dksX11_empties_3 19 rfl rfl)
theorem dX11_empties_88 : decode cX11_empties 88 = .ok (.iastore, 1) := dk_79 (dk_at dksX11_empties_3 20 rfl rfl)
theorem dX11_empties_89 : decode cX11_empties 89 = .ok (.iinc 1 1, 3) := dk_132 1 1 (dk_at dksX11_empties_3 21 rfl rfl)
theorem dX11_empties_92 : decode cX11_empties 92 = .ok (.goto (-16), 3) := dk_167 255 240 (dk_at dksX11_empties_4 0 rfl rfl)
theorem dX11_empties_95 : decode cX11_empties 95 = .ok (.iconst 0, 1) := dk_3 (dk_at dksX11_empties_4 3 rfl rfl)
theorem dX11_empties_96 : decode cX11_empties 96 = .ok (.istore_n 1, 1) := dk_60 (dk_at dksX11_empties_4 4 rfl rfl)
theorem dX11_empties_97 : decode cX11_empties 97 = .ok (.iload_n 1, 1) := dk_27 (dk_at dksX11_empties_4 5 rfl rfl)
theorem dX11_empties_98 : decode cX11_empties 98 = .ok (.sipush 144, 3) := dk_17 0 144 (dk_at dksX11_empties_4 6 rfl rfl)
theorem dX11_empties_101 : decode cX11_empties 101 = .ok (.if_icmp .ge 16, 3) := dk_162 0 16 (dk_at dksX11_empties_4 9 rfl rfl)
theorem dX11_empties_104 : decode cX11_empties 104 = .ok (.aload_n 0, 1) := dk_42 (dk_at dksX11_empties_4 12 rfl rfl)
theorem dX11_empties_105 : decode cX11_empties 105 = .ok (.getfield 71, 3) := dk_180 0 71 (dk_at dksX11_empties_4 13 rfl rfl)
theorem dX11_empties_108 : decode cX11_empties 108 = .ok (.iload_n 1, 1) := dk_27 (dk_at dksX11_empties_4 16 rfl rfl)
theorem dX11_empties_109 : decode cX11_empties 109 = .ok (.iconst (-1), 1) := dk_2 (dk_at dksX11_empties_4 17 rfl rfl)
theorem dX11_empties_110 : decode cX11_empties 110 = .ok (.iastore, 1) := dk_79 (dk_at dksX11_empties_4 18 rfl rfl)
theorem dX11_empties_111 : decode cX11_empties 111 = .ok (.iinc 1 1, 3) := dk_132 1 1 (dk_at dksX11_empties_4 19 rfl rfl)
theorem dX11_empties_114 : decode cX11_empties 114 = .ok (.goto (-17), 3) := dk_167 255 239 (dk_at dksX11_empties_5 0 rfl rfl)
theorem dX11_empties_117 : decode cX11_empties 117 = .ok (.iconst 0, 1) := dk_3 (dk_at dksX11_empties_5 3 rfl rfl)
theorem dX11_empties_118 : decode cX11_empties 118 = .ok (.istore_n 1, 1) := dk_60 (dk_at dksX11_empties_5 4 rfl rfl)
theorem dX11_empties_119 : decode cX11_empties 119 = .ok (.iload_n 1, 1) := dk_27 (dk_at dksX11_empties_5 5 rfl rfl)
theorem dX11_empties_120 : decode cX11_empties 120 = .ok (.bipush 10, 2) := dk_16 10 (dk_at dksX11_empties_5 6 rfl rfl)
theorem dX11_empties_122 : decode cX11_empties 122 = .ok (.if_icmp .ge 18, 3) := dk_162 0 18 (dk_at dksX11_empties_5 8 rfl rfl)
theorem dX11_empties_125 : decode cX11_empties 125 = .ok (.aload_n 0, 1) := dk_42 (dk_at dksX11_empties_5 11 rfl rfl)
theorem dX11_empties_126 : decode cX11_empties 126 = .ok (.getfield 74, 3) := dk_180 0 74 (dk_at dksX11_empties_5 12 rfl rfl)
theorem dX11_empties_129 : decode cX11_empties 129 = .ok (.iload_n 1, 1) := dk_27 (dk_at dksX11_empties_5 15 rfl rfl)
theorem dX11_empties_130 : decode cX11_empties 130 = .ok (.sipush 500, 3) := dk_17 1 244 (dk_at dksX11_empties_5 16 rfl rfl)
theorem dX11_empties_133 : decode cX11_empties 133 = .ok (.iastore, 1) := dk_79 (dk_at dksX11_empties_5 19 rfl rfl)
theorem dX11_empties_134 : decode cX11_empties 134 = .ok (.iinc 1 1, 3) := dk_132 1 1 (dk_at dksX11_empties_5 20 rfl rfl)
theorem dX11_empties_137 : decode cX11_empties 137 = .ok (.goto (-18), 3) := dk_167 255 238 (dk_at dksX11_empties_6 0 rfl rfl)
theorem dX11_empties_140 : decode cX11_empties 140 = .ok (.return_, 1) := dk_177 (dk_at dksX11_empties_6 3 rfl rfl)
abbrev cX11_steps : ByteArray := prog_19_method_11_code
def yX11_steps : MethodName := ⟨RX11, "steps", "()V"⟩
def dkwX11_steps_12 : List UInt8 := [180, 0, 135, 42, 180, 0, 142, 100, 181, 0, 162, 177]
abbrev dktX11_steps_12 : List UInt8 := dkwX11_steps_12 ++ []
def dkwX11_steps_11 : List UInt8 := [4, 96, 181, 0, 135, 42, 27, 16, 59, 160, 0, 7, 6, 167, 0, 4, 7, 181, 0, 152, 42, 42]
abbrev dktX11_steps_11 : List UInt8 := dkwX11_steps_11 ++ dktX11_steps_12
def dkwX11_steps_10 : List UInt8 := [180, 0, 135, 4, 96, 181, 0, 135, 167, 255, 196, 42, 5, 181, 0, 152, 167, 0, 28, 42, 89, 180, 0, 135]
abbrev dktX11_steps_10 : List UInt8 := dkwX11_steps_10 ++ dktX11_steps_11
def dkwX11_steps_9 : List UInt8 := [16, 10, 42, 180, 0, 149, 104, 42, 42, 180, 0, 135, 182, 0, 138, 96, 16, 48, 100, 181, 0, 149, 42, 89]
abbrev dktX11_steps_9 : List UInt8 := dkwX11_steps_9 ++ dktX11_steps_10
def dkwX11_steps_8 : List UInt8 := [182, 0, 138, 184, 0, 159, 153, 0, 52, 42, 180, 0, 135, 42, 180, 0, 142, 100, 6, 162, 0, 26, 42]
abbrev dktX11_steps_8 : List UInt8 := dkwX11_steps_8 ++ dktX11_steps_9
def dkwX11_steps_7 : List UInt8 := [167, 255, 195, 42, 4, 181, 0, 152, 167, 0, 106, 27, 184, 0, 159, 153, 0, 74, 42, 42, 180, 0, 135]
abbrev dktX11_steps_7 : List UInt8 := dkwX11_steps_7 ++ dktX11_steps_8
def dkwX11_steps_6 : List UInt8 := [180, 0, 135, 182, 0, 138, 16, 96, 100, 133, 129, 181, 0, 145, 42, 89, 180, 0, 135, 4, 96, 181, 0, 135]
abbrev dktX11_steps_6 : List UInt8 := dkwX11_steps_6 ++ dktX11_steps_7
def dkwX11_steps_5 : List UInt8 := [42, 180, 0, 135, 42, 180, 0, 142, 100, 16, 6, 162, 0, 26, 42, 42, 180, 0, 145, 8, 121, 42, 42]
abbrev dktX11_steps_5 : List UInt8 := dkwX11_steps_5 ++ dktX11_steps_6
def dkwX11_steps_4 : List UInt8 := [167, 0, 185, 27, 184, 0, 155, 153, 0, 75, 42, 42, 180, 0, 135, 182, 0, 138, 184, 0, 155, 153, 0, 53]
abbrev dktX11_steps_4 : List UInt8 := dkwX11_steps_4 ++ dktX11_steps_5
def dkwX11_steps_3 : List UInt8 := [180, 0, 135, 182, 0, 138, 60, 42, 180, 0, 135, 42, 180, 0, 132, 161, 0, 11, 42, 3, 181, 0, 152]
abbrev dktX11_steps_3 : List UInt8 := dkwX11_steps_3 ++ dktX11_steps_4
def dkwX11_steps_2 : List UInt8 := [167, 255, 209, 42, 42, 180, 0, 135, 181, 0, 142, 42, 9, 181, 0, 145, 42, 3, 181, 0, 149, 42, 42]
abbrev dktX11_steps_2 : List UInt8 := dkwX11_steps_2 ++ dktX11_steps_3
def dkwX11_steps_1 : List UInt8 := [42, 42, 180, 0, 135, 182, 0, 138, 16, 10, 160, 0, 16, 42, 89, 180, 0, 135, 4, 96, 181, 0, 135]
abbrev dktX11_steps_1 : List UInt8 := dkwX11_steps_1 ++ dktX11_steps_2
def dkwX11_steps_0 : List UInt8 := [42, 180, 0, 135, 42, 180, 0, 132, 162, 0, 42, 42, 42, 180, 0, 135, 182, 0, 138, 16, 32, 159, 0, 16]
abbrev dktX11_steps_0 : List UInt8 := dkwX11_steps_0 ++ dktX11_steps_1
theorem dksX11_steps_0 : cX11_steps.data.toList.drop 0 = dktX11_steps_0 := by decide +kernel
theorem dksX11_steps_1 : cX11_steps.data.toList.drop 24 = dktX11_steps_1 := dk_seg dksX11_steps_0 24 rfl rfl
theorem dksX11_steps_2 : cX11_steps.data.toList.drop 47 = dktX11_steps_2 := dk_seg dksX11_steps_1 23 rfl rfl
theorem dksX11_steps_3 : cX11_steps.data.toList.drop 70 = dktX11_steps_3 := dk_seg dksX11_steps_2 23 rfl rfl
theorem dksX11_steps_4 : cX11_steps.data.toList.drop 93 = dktX11_steps_4 := dk_seg dksX11_steps_3 23 rfl rfl
theorem dksX11_steps_5 : cX11_steps.data.toList.drop 117 = dktX11_steps_5 := dk_seg dksX11_steps_4 24 rfl rfl
theorem dksX11_steps_6 : cX11_steps.data.toList.drop 140 = dktX11_steps_6 := dk_seg dksX11_steps_5 23 rfl rfl
theorem dksX11_steps_7 : cX11_steps.data.toList.drop 164 = dktX11_steps_7 := dk_seg dksX11_steps_6 24 rfl rfl
theorem dksX11_steps_8 : cX11_steps.data.toList.drop 187 = dktX11_steps_8 := dk_seg dksX11_steps_7 23 rfl rfl
theorem dksX11_steps_9 : cX11_steps.data.toList.drop 210 = dktX11_steps_9 := dk_seg dksX11_steps_8 23 rfl rfl
theorem dksX11_steps_10 : cX11_steps.data.toList.drop 234 = dktX11_steps_10 := dk_seg dksX11_steps_9 24 rfl rfl
theorem dksX11_steps_11 : cX11_steps.data.toList.drop 258 = dktX11_steps_11 := dk_seg dksX11_steps_10 24 rfl rfl
theorem dksX11_steps_12 : cX11_steps.data.toList.drop 280 = dktX11_steps_12 := dk_seg dksX11_steps_11 22 rfl rfl
theorem dX11_steps_0 : decode cX11_steps 0 = .ok (.aload_n 0, 1) := dk_42 (dk_at dksX11_steps_0 0 rfl rfl)
theorem dX11_steps_1 : decode cX11_steps 1 = .ok (.getfield 135, 3) := dk_180 0 135 (dk_at dksX11_steps_0 1 rfl rfl)
theorem dX11_steps_4 : decode cX11_steps 4 = .ok (.aload_n 0, 1) := dk_42 (dk_at dksX11_steps_0 4 rfl rfl)
theorem dX11_steps_5 : decode cX11_steps 5 = .ok (.getfield 132, 3) := dk_180 0 132 (dk_at dksX11_steps_0 5 rfl rfl)
theorem dX11_steps_8 : decode cX11_steps 8 = .ok (.if_icmp .ge 42, 3) := dk_162 0 42 (dk_at dksX11_steps_0 8 rfl rfl)
theorem dX11_steps_11 : decode cX11_steps 11 = .ok (.aload_n 0, 1) := dk_42 (dk_at dksX11_steps_0 11 rfl rfl)
theorem dX11_steps_12 : decode cX11_steps 12 = .ok (.aload_n 0, 1) := dk_42 (dk_at dksX11_steps_0 12 rfl rfl)
theorem dX11_steps_13 : decode cX11_steps 13 = .ok (.getfield 135, 3) := dk_180 0 135 (dk_at dksX11_steps_0 13 rfl rfl)
theorem dX11_steps_16 : decode cX11_steps 16 = .ok (.invokevirtual 138, 3) := dk_182 0 138 (dk_at dksX11_steps_0 16 rfl rfl)
theorem dX11_steps_19 : decode cX11_steps 19 = .ok (.bipush 32, 2) := dk_16 32 (dk_at dksX11_steps_0 19 rfl rfl)
theorem dX11_steps_21 : decode cX11_steps 21 = .ok (.if_icmp .eq 16, 3) := dk_159 0 16 (dk_at dksX11_steps_0 21 rfl rfl)
theorem dX11_steps_24 : decode cX11_steps 24 = .ok (.aload_n 0, 1) := dk_42 (dk_at dksX11_steps_1 0 rfl rfl)
theorem dX11_steps_25 : decode cX11_steps 25 = .ok (.aload_n 0, 1) := dk_42 (dk_at dksX11_steps_1 1 rfl rfl)
theorem dX11_steps_26 : decode cX11_steps 26 = .ok (.getfield 135, 3) := dk_180 0 135 (dk_at dksX11_steps_1 2 rfl rfl)
theorem dX11_steps_29 : decode cX11_steps 29 = .ok (.invokevirtual 138, 3) := dk_182 0 138 (dk_at dksX11_steps_1 5 rfl rfl)
theorem dX11_steps_32 : decode cX11_steps 32 = .ok (.bipush 10, 2) := dk_16 10 (dk_at dksX11_steps_1 8 rfl rfl)
theorem dX11_steps_34 : decode cX11_steps 34 = .ok (.if_icmp .ne 16, 3) := dk_160 0 16 (dk_at dksX11_steps_1 10 rfl rfl)
theorem dX11_steps_37 : decode cX11_steps 37 = .ok (.aload_n 0, 1) := dk_42 (dk_at dksX11_steps_1 13 rfl rfl)
theorem dX11_steps_38 : decode cX11_steps 38 = .ok (.dup, 1) := dk_89 (dk_at dksX11_steps_1 14 rfl rfl)
theorem dX11_steps_39 : decode cX11_steps 39 = .ok (.getfield 135, 3) := dk_180 0 135 (dk_at dksX11_steps_1 15 rfl rfl)
theorem dX11_steps_42 : decode cX11_steps 42 = .ok (.iconst 1, 1) := dk_4 (dk_at dksX11_steps_1 18 rfl rfl)
theorem dX11_steps_43 : decode cX11_steps 43 = .ok (.iadd, 1) := dk_96 (dk_at dksX11_steps_1 19 rfl rfl)
theorem dX11_steps_44 : decode cX11_steps 44 = .ok (.putfield 135, 3) := dk_181 0 135 (dk_at dksX11_steps_1 20 rfl rfl)
theorem dX11_steps_47 : decode cX11_steps 47 = .ok (.goto (-47), 3) := dk_167 255 209 (dk_at dksX11_steps_2 0 rfl rfl)
theorem dX11_steps_50 : decode cX11_steps 50 = .ok (.aload_n 0, 1) := dk_42 (dk_at dksX11_steps_2 3 rfl rfl)
theorem dX11_steps_51 : decode cX11_steps 51 = .ok (.aload_n 0, 1) := dk_42 (dk_at dksX11_steps_2 4 rfl rfl)
theorem dX11_steps_52 : decode cX11_steps 52 = .ok (.getfield 135, 3) := dk_180 0 135 (dk_at dksX11_steps_2 5 rfl rfl)
theorem dX11_steps_55 : decode cX11_steps 55 = .ok (.putfield 142, 3) := dk_181 0 142 (dk_at dksX11_steps_2 8 rfl rfl)
theorem dX11_steps_58 : decode cX11_steps 58 = .ok (.aload_n 0, 1) := dk_42 (dk_at dksX11_steps_2 11 rfl rfl)
theorem dX11_steps_59 : decode cX11_steps 59 = .ok (.lconst 0, 1) := dk_9 (dk_at dksX11_steps_2 12 rfl rfl)
theorem dX11_steps_60 : decode cX11_steps 60 = .ok (.putfield 145, 3) := dk_181 0 145 (dk_at dksX11_steps_2 13 rfl rfl)
theorem dX11_steps_63 : decode cX11_steps 63 = .ok (.aload_n 0, 1) := dk_42 (dk_at dksX11_steps_2 16 rfl rfl)
theorem dX11_steps_64 : decode cX11_steps 64 = .ok (.iconst 0, 1) := dk_3 (dk_at dksX11_steps_2 17 rfl rfl)
theorem dX11_steps_65 : decode cX11_steps 65 = .ok (.putfield 149, 3) := dk_181 0 149 (dk_at dksX11_steps_2 18 rfl rfl)
theorem dX11_steps_68 : decode cX11_steps 68 = .ok (.aload_n 0, 1) := dk_42 (dk_at dksX11_steps_2 21 rfl rfl)
theorem dX11_steps_69 : decode cX11_steps 69 = .ok (.aload_n 0, 1) := dk_42 (dk_at dksX11_steps_2 22 rfl rfl)
theorem dX11_steps_70 : decode cX11_steps 70 = .ok (.getfield 135, 3) := dk_180 0 135 (dk_at dksX11_steps_3 0 rfl rfl)
theorem dX11_steps_73 : decode cX11_steps 73 = .ok (.invokevirtual 138, 3) := dk_182 0 138 (dk_at dksX11_steps_3 3 rfl rfl)
theorem dX11_steps_76 : decode cX11_steps 76 = .ok (.istore_n 1, 1) := dk_60 (dk_at dksX11_steps_3 6 rfl rfl)
theorem dX11_steps_77 : decode cX11_steps 77 = .ok (.aload_n 0, 1) := dk_42 (dk_at dksX11_steps_3 7 rfl rfl)
theorem dX11_steps_78 : decode cX11_steps 78 = .ok (.getfield 135, 3) := dk_180 0 135 (dk_at dksX11_steps_3 8 rfl rfl)
theorem dX11_steps_81 : decode cX11_steps 81 = .ok (.aload_n 0, 1) := dk_42 (dk_at dksX11_steps_3 11 rfl rfl)
theorem dX11_steps_82 : decode cX11_steps 82 = .ok (.getfield 132, 3) := dk_180 0 132 (dk_at dksX11_steps_3 12 rfl rfl)
theorem dX11_steps_85 : decode cX11_steps 85 = .ok (.if_icmp .lt 11, 3) := dk_161 0 11 (dk_at dksX11_steps_3 15 rfl rfl)
theorem dX11_steps_88 : decode cX11_steps 88 = .ok (.aload_n 0, 1) := dk_42 (dk_at dksX11_steps_3 18 rfl rfl)
theorem dX11_steps_89 : decode cX11_steps 89 = .ok (.iconst 0, 1) := dk_3 (dk_at dksX11_steps_3 19 rfl rfl)
theorem dX11_steps_90 : decode cX11_steps 90 = .ok (.putfield 152, 3) := dk_181 0 152 (dk_at dksX11_steps_3 20 rfl rfl)
theorem dX11_steps_93 : decode cX11_steps 93 = .ok (.goto 185, 3) := dk_167 0 185 (dk_at dksX11_steps_4 0 rfl rfl)
theorem dX11_steps_96 : decode cX11_steps 96 = .ok (.iload_n 1, 1) := dk_27 (dk_at dksX11_steps_4 3 rfl rfl)
theorem dX11_steps_97 : decode cX11_steps 97 = .ok (.invokestatic 155, 3) := dk_184 0 155 (dk_at dksX11_steps_4 4 rfl rfl)
theorem dX11_steps_100 : decode cX11_steps 100 = .ok (.ifCond .eq 75, 3) := dk_153 0 75 (dk_at dksX11_steps_4 7 rfl rfl)
theorem dX11_steps_103 : decode cX11_steps 103 = .ok (.aload_n 0, 1) := dk_42 (dk_at dksX11_steps_4 10 rfl rfl)
theorem dX11_steps_104 : decode cX11_steps 104 = .ok (.aload_n 0, 1) := dk_42 (dk_at dksX11_steps_4 11 rfl rfl)
theorem dX11_steps_105 : decode cX11_steps 105 = .ok (.getfield 135, 3) := dk_180 0 135 (dk_at dksX11_steps_4 12 rfl rfl)
theorem dX11_steps_108 : decode cX11_steps 108 = .ok (.invokevirtual 138, 3) := dk_182 0 138 (dk_at dksX11_steps_4 15 rfl rfl)
theorem dX11_steps_111 : decode cX11_steps 111 = .ok (.invokestatic 155, 3) := dk_184 0 155 (dk_at dksX11_steps_4 18 rfl rfl)
theorem dX11_steps_114 : decode cX11_steps 114 = .ok (.ifCond .eq 53, 3) := dk_153 0 53 (dk_at dksX11_steps_4 21 rfl rfl)
theorem dX11_steps_117 : decode cX11_steps 117 = .ok (.aload_n 0, 1) := dk_42 (dk_at dksX11_steps_5 0 rfl rfl)
theorem dX11_steps_118 : decode cX11_steps 118 = .ok (.getfield 135, 3) := dk_180 0 135 (dk_at dksX11_steps_5 1 rfl rfl)
theorem dX11_steps_121 : decode cX11_steps 121 = .ok (.aload_n 0, 1) := dk_42 (dk_at dksX11_steps_5 4 rfl rfl)
theorem dX11_steps_122 : decode cX11_steps 122 = .ok (.getfield 142, 3) := dk_180 0 142 (dk_at dksX11_steps_5 5 rfl rfl)
theorem dX11_steps_125 : decode cX11_steps 125 = .ok (.isub, 1) := dk_100 (dk_at dksX11_steps_5 8 rfl rfl)
theorem dX11_steps_126 : decode cX11_steps 126 = .ok (.bipush 6, 2) := dk_16 6 (dk_at dksX11_steps_5 9 rfl rfl)
theorem dX11_steps_128 : decode cX11_steps 128 = .ok (.if_icmp .ge 26, 3) := dk_162 0 26 (dk_at dksX11_steps_5 11 rfl rfl)
theorem dX11_steps_131 : decode cX11_steps 131 = .ok (.aload_n 0, 1) := dk_42 (dk_at dksX11_steps_5 14 rfl rfl)
theorem dX11_steps_132 : decode cX11_steps 132 = .ok (.aload_n 0, 1) := dk_42 (dk_at dksX11_steps_5 15 rfl rfl)
theorem dX11_steps_133 : decode cX11_steps 133 = .ok (.getfield 145, 3) := dk_180 0 145 (dk_at dksX11_steps_5 16 rfl rfl)
theorem dX11_steps_136 : decode cX11_steps 136 = .ok (.iconst 5, 1) := dk_8 (dk_at dksX11_steps_5 19 rfl rfl)
theorem dX11_steps_137 : decode cX11_steps 137 = .ok (.lshl, 1) := dk_121 (dk_at dksX11_steps_5 20 rfl rfl)
theorem dX11_steps_138 : decode cX11_steps 138 = .ok (.aload_n 0, 1) := dk_42 (dk_at dksX11_steps_5 21 rfl rfl)
theorem dX11_steps_139 : decode cX11_steps 139 = .ok (.aload_n 0, 1) := dk_42 (dk_at dksX11_steps_5 22 rfl rfl)
theorem dX11_steps_140 : decode cX11_steps 140 = .ok (.getfield 135, 3) := dk_180 0 135 (dk_at dksX11_steps_6 0 rfl rfl)
theorem dX11_steps_143 : decode cX11_steps 143 = .ok (.invokevirtual 138, 3) := dk_182 0 138 (dk_at dksX11_steps_6 3 rfl rfl)
theorem dX11_steps_146 : decode cX11_steps 146 = .ok (.bipush 96, 2) := dk_16 96 (dk_at dksX11_steps_6 6 rfl rfl)
theorem dX11_steps_148 : decode cX11_steps 148 = .ok (.isub, 1) := dk_100 (dk_at dksX11_steps_6 8 rfl rfl)
theorem dX11_steps_149 : decode cX11_steps 149 = .ok (.i2l, 1) := dk_133 (dk_at dksX11_steps_6 9 rfl rfl)
theorem dX11_steps_150 : decode cX11_steps 150 = .ok (.lor, 1) := dk_129 (dk_at dksX11_steps_6 10 rfl rfl)
theorem dX11_steps_151 : decode cX11_steps 151 = .ok (.putfield 145, 3) := dk_181 0 145 (dk_at dksX11_steps_6 11 rfl rfl)
theorem dX11_steps_154 : decode cX11_steps 154 = .ok (.aload_n 0, 1) := dk_42 (dk_at dksX11_steps_6 14 rfl rfl)
theorem dX11_steps_155 : decode cX11_steps 155 = .ok (.dup, 1) := dk_89 (dk_at dksX11_steps_6 15 rfl rfl)
theorem dX11_steps_156 : decode cX11_steps 156 = .ok (.getfield 135, 3) := dk_180 0 135 (dk_at dksX11_steps_6 16 rfl rfl)
theorem dX11_steps_159 : decode cX11_steps 159 = .ok (.iconst 1, 1) := dk_4 (dk_at dksX11_steps_6 19 rfl rfl)
theorem dX11_steps_160 : decode cX11_steps 160 = .ok (.iadd, 1) := dk_96 (dk_at dksX11_steps_6 20 rfl rfl)
theorem dX11_steps_161 : decode cX11_steps 161 = .ok (.putfield 135, 3) := dk_181 0 135 (dk_at dksX11_steps_6 21 rfl rfl)
theorem dX11_steps_164 : decode cX11_steps 164 = .ok (.goto (-61), 3) := dk_167 255 195 (dk_at dksX11_steps_7 0 rfl rfl)
theorem dX11_steps_167 : decode cX11_steps 167 = .ok (.aload_n 0, 1) := dk_42 (dk_at dksX11_steps_7 3 rfl rfl)
theorem dX11_steps_168 : decode cX11_steps 168 = .ok (.iconst 1, 1) := dk_4 (dk_at dksX11_steps_7 4 rfl rfl)
theorem dX11_steps_169 : decode cX11_steps 169 = .ok (.putfield 152, 3) := dk_181 0 152 (dk_at dksX11_steps_7 5 rfl rfl)
theorem dX11_steps_172 : decode cX11_steps 172 = .ok (.goto 106, 3) := dk_167 0 106 (dk_at dksX11_steps_7 8 rfl rfl)
theorem dX11_steps_175 : decode cX11_steps 175 = .ok (.iload_n 1, 1) := dk_27 (dk_at dksX11_steps_7 11 rfl rfl)
theorem dX11_steps_176 : decode cX11_steps 176 = .ok (.invokestatic 159, 3) := dk_184 0 159 (dk_at dksX11_steps_7 12 rfl rfl)
theorem dX11_steps_179 : decode cX11_steps 179 = .ok (.ifCond .eq 74, 3) := dk_153 0 74 (dk_at dksX11_steps_7 15 rfl rfl)
theorem dX11_steps_182 : decode cX11_steps 182 = .ok (.aload_n 0, 1) := dk_42 (dk_at dksX11_steps_7 18 rfl rfl)
theorem dX11_steps_183 : decode cX11_steps 183 = .ok (.aload_n 0, 1) := dk_42 (dk_at dksX11_steps_7 19 rfl rfl)
theorem dX11_steps_184 : decode cX11_steps 184 = .ok (.getfield 135, 3) := dk_180 0 135 (dk_at dksX11_steps_7 20 rfl rfl)
theorem dX11_steps_187 : decode cX11_steps 187 = .ok (.invokevirtual 138, 3) := dk_182 0 138 (dk_at dksX11_steps_8 0 rfl rfl)
theorem dX11_steps_190 : decode cX11_steps 190 = .ok (.invokestatic 159, 3) := dk_184 0 159 (dk_at dksX11_steps_8 3 rfl rfl)
theorem dX11_steps_193 : decode cX11_steps 193 = .ok (.ifCond .eq 52, 3) := dk_153 0 52 (dk_at dksX11_steps_8 6 rfl rfl)
theorem dX11_steps_196 : decode cX11_steps 196 = .ok (.aload_n 0, 1) := dk_42 (dk_at dksX11_steps_8 9 rfl rfl)
theorem dX11_steps_197 : decode cX11_steps 197 = .ok (.getfield 135, 3) := dk_180 0 135 (dk_at dksX11_steps_8 10 rfl rfl)
theorem dX11_steps_200 : decode cX11_steps 200 = .ok (.aload_n 0, 1) := dk_42 (dk_at dksX11_steps_8 13 rfl rfl)
theorem dX11_steps_201 : decode cX11_steps 201 = .ok (.getfield 142, 3) := dk_180 0 142 (dk_at dksX11_steps_8 14 rfl rfl)
theorem dX11_steps_204 : decode cX11_steps 204 = .ok (.isub, 1) := dk_100 (dk_at dksX11_steps_8 17 rfl rfl)
theorem dX11_steps_205 : decode cX11_steps 205 = .ok (.iconst 3, 1) := dk_6 (dk_at dksX11_steps_8 18 rfl rfl)
theorem dX11_steps_206 : decode cX11_steps 206 = .ok (.if_icmp .ge 26, 3) := dk_162 0 26 (dk_at dksX11_steps_8 19 rfl rfl)
theorem dX11_steps_209 : decode cX11_steps 209 = .ok (.aload_n 0, 1) := dk_42 (dk_at dksX11_steps_8 22 rfl rfl)
theorem dX11_steps_210 : decode cX11_steps 210 = .ok (.bipush 10, 2) := dk_16 10 (dk_at dksX11_steps_9 0 rfl rfl)
theorem dX11_steps_212 : decode cX11_steps 212 = .ok (.aload_n 0, 1) := dk_42 (dk_at dksX11_steps_9 2 rfl rfl)
theorem dX11_steps_213 : decode cX11_steps 213 = .ok (.getfield 149, 3) := dk_180 0 149 (dk_at dksX11_steps_9 3 rfl rfl)
theorem dX11_steps_216 : decode cX11_steps 216 = .ok (.imul, 1) := dk_104 (dk_at dksX11_steps_9 6 rfl rfl)
theorem dX11_steps_217 : decode cX11_steps 217 = .ok (.aload_n 0, 1) := dk_42 (dk_at dksX11_steps_9 7 rfl rfl)
theorem dX11_steps_218 : decode cX11_steps 218 = .ok (.aload_n 0, 1) := dk_42 (dk_at dksX11_steps_9 8 rfl rfl)
theorem dX11_steps_219 : decode cX11_steps 219 = .ok (.getfield 135, 3) := dk_180 0 135 (dk_at dksX11_steps_9 9 rfl rfl)
theorem dX11_steps_222 : decode cX11_steps 222 = .ok (.invokevirtual 138, 3) := dk_182 0 138 (dk_at dksX11_steps_9 12 rfl rfl)
theorem dX11_steps_225 : decode cX11_steps 225 = .ok (.iadd, 1) := dk_96 (dk_at dksX11_steps_9 15 rfl rfl)
theorem dX11_steps_226 : decode cX11_steps 226 = .ok (.bipush 48, 2) := dk_16 48 (dk_at dksX11_steps_9 16 rfl rfl)
theorem dX11_steps_228 : decode cX11_steps 228 = .ok (.isub, 1) := dk_100 (dk_at dksX11_steps_9 18 rfl rfl)
theorem dX11_steps_229 : decode cX11_steps 229 = .ok (.putfield 149, 3) := dk_181 0 149 (dk_at dksX11_steps_9 19 rfl rfl)
theorem dX11_steps_232 : decode cX11_steps 232 = .ok (.aload_n 0, 1) := dk_42 (dk_at dksX11_steps_9 22 rfl rfl)
theorem dX11_steps_233 : decode cX11_steps 233 = .ok (.dup, 1) := dk_89 (dk_at dksX11_steps_9 23 rfl rfl)
theorem dX11_steps_234 : decode cX11_steps 234 = .ok (.getfield 135, 3) := dk_180 0 135 (dk_at dksX11_steps_10 0 rfl rfl)
theorem dX11_steps_237 : decode cX11_steps 237 = .ok (.iconst 1, 1) := dk_4 (dk_at dksX11_steps_10 3 rfl rfl)
theorem dX11_steps_238 : decode cX11_steps 238 = .ok (.iadd, 1) := dk_96 (dk_at dksX11_steps_10 4 rfl rfl)
theorem dX11_steps_239 : decode cX11_steps 239 = .ok (.putfield 135, 3) := dk_181 0 135 (dk_at dksX11_steps_10 5 rfl rfl)
theorem dX11_steps_242 : decode cX11_steps 242 = .ok (.goto (-60), 3) := dk_167 255 196 (dk_at dksX11_steps_10 8 rfl rfl)
theorem dX11_steps_245 : decode cX11_steps 245 = .ok (.aload_n 0, 1) := dk_42 (dk_at dksX11_steps_10 11 rfl rfl)
theorem dX11_steps_246 : decode cX11_steps 246 = .ok (.iconst 2, 1) := dk_5 (dk_at dksX11_steps_10 12 rfl rfl)
theorem dX11_steps_247 : decode cX11_steps 247 = .ok (.putfield 152, 3) := dk_181 0 152 (dk_at dksX11_steps_10 13 rfl rfl)
theorem dX11_steps_250 : decode cX11_steps 250 = .ok (.goto 28, 3) := dk_167 0 28 (dk_at dksX11_steps_10 16 rfl rfl)
theorem dX11_steps_253 : decode cX11_steps 253 = .ok (.aload_n 0, 1) := dk_42 (dk_at dksX11_steps_10 19 rfl rfl)
theorem dX11_steps_254 : decode cX11_steps 254 = .ok (.dup, 1) := dk_89 (dk_at dksX11_steps_10 20 rfl rfl)
theorem dX11_steps_255 : decode cX11_steps 255 = .ok (.getfield 135, 3) := dk_180 0 135 (dk_at dksX11_steps_10 21 rfl rfl)
theorem dX11_steps_258 : decode cX11_steps 258 = .ok (.iconst 1, 1) := dk_4 (dk_at dksX11_steps_11 0 rfl rfl)
theorem dX11_steps_259 : decode cX11_steps 259 = .ok (.iadd, 1) := dk_96 (dk_at dksX11_steps_11 1 rfl rfl)
theorem dX11_steps_260 : decode cX11_steps 260 = .ok (.putfield 135, 3) := dk_181 0 135 (dk_at dksX11_steps_11 2 rfl rfl)
theorem dX11_steps_263 : decode cX11_steps 263 = .ok (.aload_n 0, 1) := dk_42 (dk_at dksX11_steps_11 5 rfl rfl)
theorem dX11_steps_264 : decode cX11_steps 264 = .ok (.iload_n 1, 1) := dk_27 (dk_at dksX11_steps_11 6 rfl rfl)
theorem dX11_steps_265 : decode cX11_steps 265 = .ok (.bipush 59, 2) := dk_16 59 (dk_at dksX11_steps_11 7 rfl rfl)
theorem dX11_steps_267 : decode cX11_steps 267 = .ok (.if_icmp .ne 7, 3) := dk_160 0 7 (dk_at dksX11_steps_11 9 rfl rfl)
theorem dX11_steps_270 : decode cX11_steps 270 = .ok (.iconst 3, 1) := dk_6 (dk_at dksX11_steps_11 12 rfl rfl)
theorem dX11_steps_271 : decode cX11_steps 271 = .ok (.goto 4, 3) := dk_167 0 4 (dk_at dksX11_steps_11 13 rfl rfl)
theorem dX11_steps_274 : decode cX11_steps 274 = .ok (.iconst 4, 1) := dk_7 (dk_at dksX11_steps_11 16 rfl rfl)
theorem dX11_steps_275 : decode cX11_steps 275 = .ok (.putfield 152, 3) := dk_181 0 152 (dk_at dksX11_steps_11 17 rfl rfl)
theorem dX11_steps_278 : decode cX11_steps 278 = .ok (.aload_n 0, 1) := dk_42 (dk_at dksX11_steps_11 20 rfl rfl)
theorem dX11_steps_279 : decode cX11_steps 279 = .ok (.aload_n 0, 1) := dk_42 (dk_at dksX11_steps_11 21 rfl rfl)
theorem dX11_steps_280 : decode cX11_steps 280 = .ok (.getfield 135, 3) := dk_180 0 135 (dk_at dksX11_steps_12 0 rfl rfl)
theorem dX11_steps_283 : decode cX11_steps 283 = .ok (.aload_n 0, 1) := dk_42 (dk_at dksX11_steps_12 3 rfl rfl)
theorem dX11_steps_284 : decode cX11_steps 284 = .ok (.getfield 142, 3) := dk_180 0 142 (dk_at dksX11_steps_12 4 rfl rfl)
theorem dX11_steps_287 : decode cX11_steps 287 = .ok (.isub, 1) := dk_100 (dk_at dksX11_steps_12 7 rfl rfl)
theorem dX11_steps_288 : decode cX11_steps 288 = .ok (.putfield 162, 3) := dk_181 0 162 (dk_at dksX11_steps_12 8 rfl rfl)
theorem dX11_steps_291 : decode cX11_steps 291 = .ok (.return_, 1) := dk_177 (dk_at dksX11_steps_12 11 rfl rfl)
abbrev cX11_byteAt : ByteArray := prog_19_method_8_code
def yX11_byteAt : MethodName := ⟨RX11, "byteAt", "(I)I"⟩
def dkwX11_byteAt_0 : List UInt8 := [27, 42, 180, 0, 132, 162, 0, 12, 42, 180, 0, 41, 27, 46, 167, 0, 4, 3, 172]
abbrev dktX11_byteAt_0 : List UInt8 := dkwX11_byteAt_0 ++ []
theorem dksX11_byteAt_0 : cX11_byteAt.data.toList.drop 0 = dktX11_byteAt_0 := by decide +kernel
theorem dX11_byteAt_0 : decode cX11_byteAt 0 = .ok (.iload_n 1, 1) := dk_27 (dk_at dksX11_byteAt_0 0 rfl rfl)
theorem dX11_byteAt_1 : decode cX11_byteAt 1 = .ok (.aload_n 0, 1) := dk_42 (dk_at dksX11_byteAt_0 1 rfl rfl)
theorem dX11_byteAt_2 : decode cX11_byteAt 2 = .ok (.getfield 132, 3) := dk_180 0 132 (dk_at dksX11_byteAt_0 2 rfl rfl)
theorem dX11_byteAt_5 : decode cX11_byteAt 5 = .ok (.if_icmp .ge 12, 3) := dk_162 0 12 (dk_at dksX11_byteAt_0 5 rfl rfl)
theorem dX11_byteAt_8 : decode cX11_byteAt 8 = .ok (.aload_n 0, 1) := dk_42 (dk_at dksX11_byteAt_0 8 rfl rfl)
theorem dX11_byteAt_9 : decode cX11_byteAt 9 = .ok (.getfield 41, 3) := dk_180 0 41 (dk_at dksX11_byteAt_0 9 rfl rfl)
theorem dX11_byteAt_12 : decode cX11_byteAt 12 = .ok (.iload_n 1, 1) := dk_27 (dk_at dksX11_byteAt_0 12 rfl rfl)
theorem dX11_byteAt_13 : decode cX11_byteAt 13 = .ok (.iaload, 1) := dk_46 (dk_at dksX11_byteAt_0 13 rfl rfl)
theorem dX11_byteAt_14 : decode cX11_byteAt 14 = .ok (.goto 4, 3) := dk_167 0 4 (dk_at dksX11_byteAt_0 14 rfl rfl)
theorem dX11_byteAt_17 : decode cX11_byteAt 17 = .ok (.iconst 0, 1) := dk_3 (dk_at dksX11_byteAt_0 17 rfl rfl)
theorem dX11_byteAt_18 : decode cX11_byteAt 18 = .ok (.ireturn, 1) := dk_172 (dk_at dksX11_byteAt_0 18 rfl rfl)
abbrev cX11_isLetter : ByteArray := prog_19_method_9_code
def yX11_isLetter : MethodName := ⟨RX11, "isLetter", "(I)Z"⟩
def dkwX11_isLetter_0 : List UInt8 := [26, 16, 97, 161, 0, 13, 26, 16, 122, 163, 0, 7, 4, 167, 0, 4, 3, 172]
abbrev dktX11_isLetter_0 : List UInt8 := dkwX11_isLetter_0 ++ []
theorem dksX11_isLetter_0 : cX11_isLetter.data.toList.drop 0 = dktX11_isLetter_0 := by decide +kernel
theorem dX11_isLetter_0 : decode cX11_isLetter 0 = .ok (.iload_n 0, 1) := dk_26 (dk_at dksX11_isLetter_0 0 rfl rfl)
theorem dX11_isLetter_1 : decode cX11_isLetter 1 = .ok (.bipush 97, 2) := dk_16 97 (dk_at dksX11_isLetter_0 1 rfl rfl)
theorem dX11_isLetter_3 : decode cX11_isLetter 3 = .ok (.if_icmp .lt 13, 3) := dk_161 0 13 (dk_at dksX11_isLetter_0 3 rfl rfl)
theorem dX11_isLetter_6 : decode cX11_isLetter 6 = .ok (.iload_n 0, 1) := dk_26 (dk_at dksX11_isLetter_0 6 rfl rfl)
theorem dX11_isLetter_7 : decode cX11_isLetter 7 = .ok (.bipush 122, 2) := dk_16 122 (dk_at dksX11_isLetter_0 7 rfl rfl)
theorem dX11_isLetter_9 : decode cX11_isLetter 9 = .ok (.if_icmp .gt 7, 3) := dk_163 0 7 (dk_at dksX11_isLetter_0 9 rfl rfl)
theorem dX11_isLetter_12 : decode cX11_isLetter 12 = .ok (.iconst 1, 1) := dk_4 (dk_at dksX11_isLetter_0 12 rfl rfl)
theorem dX11_isLetter_13 : decode cX11_isLetter 13 = .ok (.goto 4, 3) := dk_167 0 4 (dk_at dksX11_isLetter_0 13 rfl rfl)
theorem dX11_isLetter_16 : decode cX11_isLetter 16 = .ok (.iconst 0, 1) := dk_3 (dk_at dksX11_isLetter_0 16 rfl rfl)
theorem dX11_isLetter_17 : decode cX11_isLetter 17 = .ok (.ireturn, 1) := dk_172 (dk_at dksX11_isLetter_0 17 rfl rfl)
abbrev cX11_isDigit : ByteArray := prog_19_method_10_code
def yX11_isDigit : MethodName := ⟨RX11, "isDigit", "(I)Z"⟩
def dkwX11_isDigit_0 : List UInt8 := [26, 16, 48, 161, 0, 13, 26, 16, 57, 163, 0, 7, 4, 167, 0, 4, 3, 172]
abbrev dktX11_isDigit_0 : List UInt8 := dkwX11_isDigit_0 ++ []
theorem dksX11_isDigit_0 : cX11_isDigit.data.toList.drop 0 = dktX11_isDigit_0 := by decide +kernel
theorem dX11_isDigit_0 : decode cX11_isDigit 0 = .ok (.iload_n 0, 1) := dk_26 (dk_at dksX11_isDigit_0 0 rfl rfl)
theorem dX11_isDigit_1 : decode cX11_isDigit 1 = .ok (.bipush 48, 2) := dk_16 48 (dk_at dksX11_isDigit_0 1 rfl rfl)
theorem dX11_isDigit_3 : decode cX11_isDigit 3 = .ok (.if_icmp .lt 13, 3) := dk_161 0 13 (dk_at dksX11_isDigit_0 3 rfl rfl)
theorem dX11_isDigit_6 : decode cX11_isDigit 6 = .ok (.iload_n 0, 1) := dk_26 (dk_at dksX11_isDigit_0 6 rfl rfl)
theorem dX11_isDigit_7 : decode cX11_isDigit 7 = .ok (.bipush 57, 2) := dk_16 57 (dk_at dksX11_isDigit_0 7 rfl rfl)
theorem dX11_isDigit_9 : decode cX11_isDigit 9 = .ok (.if_icmp .gt 7, 3) := dk_163 0 7 (dk_at dksX11_isDigit_0 9 rfl rfl)
theorem dX11_isDigit_12 : decode cX11_isDigit 12 = .ok (.iconst 1, 1) := dk_4 (dk_at dksX11_isDigit_0 12 rfl rfl)
theorem dX11_isDigit_13 : decode cX11_isDigit 13 = .ok (.goto 4, 3) := dk_167 0 4 (dk_at dksX11_isDigit_0 13 rfl rfl)
theorem dX11_isDigit_16 : decode cX11_isDigit 16 = .ok (.iconst 0, 1) := dk_3 (dk_at dksX11_isDigit_0 16 rfl rfl)
theorem dX11_isDigit_17 : decode cX11_isDigit 17 = .ok (.ireturn, 1) := dk_172 (dk_at dksX11_isDigit_0 17 rfl rfl)
abbrev cX11_isGood : ByteArray := prog_19_method_16_code
def yX11_isGood : MethodName := ⟨RX11, "isGood", "()Z"⟩
def dkwX11_isGood_0 : List UInt8 := [42, 180, 0, 173, 154, 0, 7, 4, 167, 0, 4, 3, 172]
abbrev dktX11_isGood_0 : List UInt8 := dkwX11_isGood_0 ++ []
theorem dksX11_isGood_0 : cX11_isGood.data.toList.drop 0 = dktX11_isGood_0 := by decide +kernel
theorem dX11_isGood_0 : decode cX11_isGood 0 = .ok (.aload_n 0, 1) := dk_42 (dk_at dksX11_isGood_0 0 rfl rfl)
theorem dX11_isGood_1 : decode cX11_isGood 1 = .ok (.getfield 173, 3) := dk_180 0 173 (dk_at dksX11_isGood_0 1 rfl rfl)
theorem dX11_isGood_4 : decode cX11_isGood 4 = .ok (.ifCond .ne 7, 3) := dk_154 0 7 (dk_at dksX11_isGood_0 4 rfl rfl)
theorem dX11_isGood_7 : decode cX11_isGood 7 = .ok (.iconst 1, 1) := dk_4 (dk_at dksX11_isGood_0 7 rfl rfl)
theorem dX11_isGood_8 : decode cX11_isGood 8 = .ok (.goto 4, 3) := dk_167 0 4 (dk_at dksX11_isGood_0 8 rfl rfl)
theorem dX11_isGood_11 : decode cX11_isGood 11 = .ok (.iconst 0, 1) := dk_3 (dk_at dksX11_isGood_0 11 rfl rfl)
theorem dX11_isGood_12 : decode cX11_isGood 12 = .ok (.ireturn, 1) := dk_172 (dk_at dksX11_isGood_0 12 rfl rfl)
abbrev cX11_line : ByteArray := prog_19_method_27_code
def yX11_line : MethodName := ⟨RX11, "line", "()V"⟩
def dkwX11_line_20 : List UInt8 := [42, 42, 180, 0, 152, 6, 160, 0, 7, 4, 167, 0, 4, 3, 182, 0, 246, 177]
abbrev dktX11_line_20 : List UInt8 := dkwX11_line_20 ++ []
def dkwX11_line_19 : List UInt8 := [5, 27, 104, 28, 79, 42, 180, 0, 74, 5, 27, 104, 4, 96, 29, 79, 167, 0, 8, 42, 4, 182, 0, 183]
abbrev dktX11_line_19 : List UInt8 := dkwX11_line_19 ++ dktX11_line_20
def dkwX11_line_18 : List UInt8 := [182, 0, 189, 61, 42, 3, 17, 3, 232, 182, 0, 189, 62, 42, 182, 0, 176, 153, 0, 23, 42, 180, 0, 74]
abbrev dktX11_line_18 : List UInt8 := dkwX11_line_18 ++ dktX11_line_19
def dkwX11_line_17 : List UInt8 := [16, 10, 182, 0, 213, 153, 0, 62, 42, 182, 0, 180, 42, 3, 7, 182, 0, 189, 60, 42, 3, 17, 3, 232]
abbrev dktX11_line_17 : List UInt8 := dkwX11_line_17 ++ dktX11_line_18
def dkwX11_line_16 : List UInt8 := [182, 0, 240, 167, 0, 92, 42, 16, 9, 182, 0, 213, 153, 0, 10, 42, 182, 0, 243, 167, 0, 76, 42]
abbrev dktX11_line_16 : List UInt8 := dkwX11_line_16 ++ dktX11_line_17
def dkwX11_line_15 : List UInt8 := [182, 0, 213, 153, 0, 10, 42, 182, 0, 237, 167, 0, 108, 42, 16, 8, 182, 0, 213, 153, 0, 10, 42]
abbrev dktX11_line_15 : List UInt8 := dkwX11_line_15 ++ dktX11_line_16
def dkwX11_line_14 : List UInt8 := [154, 0, 4, 177, 42, 182, 0, 180, 42, 89, 180, 0, 219, 4, 96, 181, 0, 219, 167, 0, 124, 42, 16, 7]
abbrev dktX11_line_14 : List UInt8 := dkwX11_line_14 ++ dktX11_line_15
def dkwX11_line_13 : List UInt8 := [182, 0, 213, 153, 0, 42, 42, 180, 0, 219, 16, 6, 160, 0, 8, 42, 5, 182, 0, 183, 42, 182, 0, 176]
abbrev dktX11_line_13 : List UInt8 := dkwX11_line_13 ++ dktX11_line_14
def dkwX11_line_12 : List UInt8 := [181, 0, 201, 167, 0, 187, 42, 8, 182, 0, 213, 153, 0, 10, 42, 182, 0, 234, 167, 0, 172, 42, 16, 6]
abbrev dktX11_line_12 : List UInt8 := dkwX11_line_12 ++ dktX11_line_13
def dkwX11_line_11 : List UInt8 := [182, 0, 176, 154, 0, 4, 177, 42, 4, 181, 0, 231, 42, 182, 0, 180, 42, 42, 4, 16, 6, 182, 0, 189]
abbrev dktX11_line_11 : List UInt8 := dkwX11_line_11 ++ dktX11_line_12
def dkwX11_line_10 : List UInt8 := [153, 0, 11, 42, 7, 182, 0, 183, 167, 0, 15, 42, 180, 0, 197, 153, 0, 8, 42, 8, 182, 0, 183, 42]
abbrev dktX11_line_10 : List UInt8 := dkwX11_line_10 ++ dktX11_line_11
def dkwX11_line_9 : List UInt8 := [180, 0, 59, 3, 182, 0, 193, 167, 0, 253, 42, 7, 182, 0, 213, 153, 0, 61, 42, 180, 0, 231]
abbrev dktX11_line_9 : List UInt8 := dkwX11_line_9 ++ dktX11_line_10
def dkwX11_line_8 : List UInt8 := [7, 182, 0, 183, 42, 182, 0, 176, 154, 0, 4, 177, 42, 4, 181, 0, 228, 42, 182, 0, 180, 42, 42]
abbrev dktX11_line_8 : List UInt8 := dkwX11_line_8 ++ dktX11_line_9
def dkwX11_line_7 : List UInt8 := [4, 96, 181, 0, 225, 167, 1, 46, 42, 6, 182, 0, 213, 153, 0, 44, 42, 180, 0, 228, 153, 0, 8, 42]
abbrev dktX11_line_7 : List UInt8 := dkwX11_line_7 ++ dktX11_line_8
def dkwX11_line_6 : List UInt8 := [27, 104, 96, 182, 0, 193, 132, 1, 1, 167, 255, 228, 42, 182, 0, 176, 153, 1, 59, 42, 89, 180, 0, 225]
abbrev dktX11_line_6 : List UInt8 := dkwX11_line_6 ++ dktX11_line_7
def dkwX11_line_5 : List UInt8 := [182, 0, 180, 3, 60, 27, 6, 162, 0, 29, 42, 42, 180, 0, 56, 16, 27, 42, 180, 0, 225, 104, 16, 9]
abbrev dktX11_line_5 : List UInt8 := dkwX11_line_5 ++ dktX11_line_6
def dkwX11_line_4 : List UInt8 := [180, 0, 225, 16, 6, 160, 0, 8, 42, 5, 182, 0, 183, 42, 182, 0, 176, 154, 0, 4, 177, 42]
abbrev dktX11_line_4 : List UInt8 := dkwX11_line_4 ++ dktX11_line_5
def dkwX11_line_3 : List UInt8 := [4, 182, 0, 213, 153, 0, 10, 42, 182, 0, 222, 167, 1, 133, 42, 5, 182, 0, 213, 153, 0, 82, 42]
abbrev dktX11_line_3 : List UInt8 := dkwX11_line_3 ++ dktX11_line_4
def dkwX11_line_2 : List UInt8 := [182, 0, 193, 42, 182, 0, 176, 153, 1, 161, 42, 89, 180, 0, 210, 4, 96, 181, 0, 210, 167, 1, 148, 42]
abbrev dktX11_line_2 : List UInt8 := dkwX11_line_2 ++ dktX11_line_3
def dkwX11_line_1 : List UInt8 := [182, 0, 176, 154, 0, 4, 177, 42, 182, 0, 180, 42, 42, 180, 0, 50, 16, 9, 42, 180, 0, 210, 104]
abbrev dktX11_line_1 : List UInt8 := dkwX11_line_1 ++ dktX11_line_2
def dkwX11_line_0 : List UInt8 := [42, 3, 182, 0, 213, 153, 0, 64, 42, 180, 0, 210, 16, 12, 160, 0, 8, 42, 5, 182, 0, 183, 42]
abbrev dktX11_line_0 : List UInt8 := dkwX11_line_0 ++ dktX11_line_1
theorem dksX11_line_0 : cX11_line.data.toList.drop 0 = dktX11_line_0 := by decide +kernel
theorem dksX11_line_1 : cX11_line.data.toList.drop 23 = dktX11_line_1 := dk_seg dksX11_line_0 23 rfl rfl
theorem dksX11_line_2 : cX11_line.data.toList.drop 46 = dktX11_line_2 := dk_seg dksX11_line_1 23 rfl rfl
theorem dksX11_line_3 : cX11_line.data.toList.drop 70 = dktX11_line_3 := dk_seg dksX11_line_2 24 rfl rfl
theorem dksX11_line_4 : cX11_line.data.toList.drop 93 = dktX11_line_4 := dk_seg dksX11_line_3 23 rfl rfl
theorem dksX11_line_5 : cX11_line.data.toList.drop 115 = dktX11_line_5 := dk_seg dksX11_line_4 22 rfl rfl
theorem dksX11_line_6 : cX11_line.data.toList.drop 139 = dktX11_line_6 := dk_seg dksX11_line_5 24 rfl rfl
theorem dksX11_line_7 : cX11_line.data.toList.drop 163 = dktX11_line_7 := dk_seg dksX11_line_6 24 rfl rfl
theorem dksX11_line_8 : cX11_line.data.toList.drop 187 = dktX11_line_8 := dk_seg dksX11_line_7 24 rfl rfl
theorem dksX11_line_9 : cX11_line.data.toList.drop 210 = dktX11_line_9 := dk_seg dksX11_line_8 23 rfl rfl
theorem dksX11_line_10 : cX11_line.data.toList.drop 232 = dktX11_line_10 := dk_seg dksX11_line_9 22 rfl rfl
theorem dksX11_line_11 : cX11_line.data.toList.drop 256 = dktX11_line_11 := dk_seg dksX11_line_10 24 rfl rfl
theorem dksX11_line_12 : cX11_line.data.toList.drop 280 = dktX11_line_12 := dk_seg dksX11_line_11 24 rfl rfl
theorem dksX11_line_13 : cX11_line.data.toList.drop 304 = dktX11_line_13 := dk_seg dksX11_line_12 24 rfl rfl
theorem dksX11_line_14 : cX11_line.data.toList.drop 328 = dktX11_line_14 := dk_seg dksX11_line_13 24 rfl rfl
theorem dksX11_line_15 : cX11_line.data.toList.drop 352 = dktX11_line_15 := dk_seg dksX11_line_14 24 rfl rfl
theorem dksX11_line_16 : cX11_line.data.toList.drop 375 = dktX11_line_16 := dk_seg dksX11_line_15 23 rfl rfl
theorem dksX11_line_17 : cX11_line.data.toList.drop 398 = dktX11_line_17 := dk_seg dksX11_line_16 23 rfl rfl
theorem dksX11_line_18 : cX11_line.data.toList.drop 422 = dktX11_line_18 := dk_seg dksX11_line_17 24 rfl rfl
theorem dksX11_line_19 : cX11_line.data.toList.drop 446 = dktX11_line_19 := dk_seg dksX11_line_18 24 rfl rfl
theorem dksX11_line_20 : cX11_line.data.toList.drop 470 = dktX11_line_20 := dk_seg dksX11_line_19 24 rfl rfl
theorem dX11_line_0 : decode cX11_line 0 = .ok (.aload_n 0, 1) := dk_42 (dk_at dksX11_line_0 0 rfl rfl)
theorem dX11_line_1 : decode cX11_line 1 = .ok (.iconst 0, 1) := dk_3 (dk_at dksX11_line_0 1 rfl rfl)
theorem dX11_line_2 : decode cX11_line 2 = .ok (.invokevirtual 213, 3) := dk_182 0 213 (dk_at dksX11_line_0 2 rfl rfl)
theorem dX11_line_5 : decode cX11_line 5 = .ok (.ifCond .eq 64, 3) := dk_153 0 64 (dk_at dksX11_line_0 5 rfl rfl)
theorem dX11_line_8 : decode cX11_line 8 = .ok (.aload_n 0, 1) := dk_42 (dk_at dksX11_line_0 8 rfl rfl)
theorem dX11_line_9 : decode cX11_line 9 = .ok (.getfield 210, 3) := dk_180 0 210 (dk_at dksX11_line_0 9 rfl rfl)
theorem dX11_line_12 : decode cX11_line 12 = .ok (.bipush 12, 2) := dk_16 12 (dk_at dksX11_line_0 12 rfl rfl)
theorem dX11_line_14 : decode cX11_line 14 = .ok (.if_icmp .ne 8, 3) := dk_160 0 8 (dk_at dksX11_line_0 14 rfl rfl)
theorem dX11_line_17 : decode cX11_line 17 = .ok (.aload_n 0, 1) := dk_42 (dk_at dksX11_line_0 17 rfl rfl)
theorem dX11_line_18 : decode cX11_line 18 = .ok (.iconst 2, 1) := dk_5 (dk_at dksX11_line_0 18 rfl rfl)
theorem dX11_line_19 : decode cX11_line 19 = .ok (.invokevirtual 183, 3) := dk_182 0 183 (dk_at dksX11_line_0 19 rfl rfl)
theorem dX11_line_22 : decode cX11_line 22 = .ok (.aload_n 0, 1) := dk_42 (dk_at dksX11_line_0 22 rfl rfl)
theorem dX11_line_23 : decode cX11_line 23 = .ok (.invokevirtual 176, 3) := dk_182 0 176 (dk_at dksX11_line_1 0 rfl rfl)
theorem dX11_line_26 : decode cX11_line 26 = .ok (.ifCond .ne 4, 3) := dk_154 0 4 (dk_at dksX11_line_1 3 rfl rfl)
theorem dX11_line_29 : decode cX11_line 29 = .ok (.return_, 1) := dk_177 (dk_at dksX11_line_1 6 rfl rfl)
theorem dX11_line_30 : decode cX11_line 30 = .ok (.aload_n 0, 1) := dk_42 (dk_at dksX11_line_1 7 rfl rfl)
theorem dX11_line_31 : decode cX11_line 31 = .ok (.invokevirtual 180, 3) := dk_182 0 180 (dk_at dksX11_line_1 8 rfl rfl)
theorem dX11_line_34 : decode cX11_line 34 = .ok (.aload_n 0, 1) := dk_42 (dk_at dksX11_line_1 11 rfl rfl)
theorem dX11_line_35 : decode cX11_line 35 = .ok (.aload_n 0, 1) := dk_42 (dk_at dksX11_line_1 12 rfl rfl)
theorem dX11_line_36 : decode cX11_line 36 = .ok (.getfield 50, 3) := dk_180 0 50 (dk_at dksX11_line_1 13 rfl rfl)
theorem dX11_line_39 : decode cX11_line 39 = .ok (.bipush 9, 2) := dk_16 9 (dk_at dksX11_line_1 16 rfl rfl)
theorem dX11_line_41 : decode cX11_line 41 = .ok (.aload_n 0, 1) := dk_42 (dk_at dksX11_line_1 18 rfl rfl)
theorem dX11_line_42 : decode cX11_line 42 = .ok (.getfield 210, 3) := dk_180 0 210 (dk_at dksX11_line_1 19 rfl rfl)
theorem dX11_line_45 : decode cX11_line 45 = .ok (.imul, 1) := dk_104 (dk_at dksX11_line_1 22 rfl rfl)
theorem dX11_line_46 : decode cX11_line 46 = .ok (.invokevirtual 193, 3) := dk_182 0 193 (dk_at dksX11_line_2 0 rfl rfl)
theorem dX11_line_49 : decode cX11_line 49 = .ok (.aload_n 0, 1) := dk_42 (dk_at dksX11_line_2 3 rfl rfl)
theorem dX11_line_50 : decode cX11_line 50 = .ok (.invokevirtual 176, 3) := dk_182 0 176 (dk_at dksX11_line_2 4 rfl rfl)
theorem dX11_line_53 : decode cX11_line 53 = .ok (.ifCond .eq 417, 3) := dk_153 1 161 (dk_at dksX11_line_2 7 rfl rfl)
theorem dX11_line_56 : decode cX11_line 56 = .ok (.aload_n 0, 1) := dk_42 (dk_at dksX11_line_2 10 rfl rfl)
theorem dX11_line_57 : decode cX11_line 57 = .ok (.dup, 1) := dk_89 (dk_at dksX11_line_2 11 rfl rfl)
theorem dX11_line_58 : decode cX11_line 58 = .ok (.getfield 210, 3) := dk_180 0 210 (dk_at dksX11_line_2 12 rfl rfl)
theorem dX11_line_61 : decode cX11_line 61 = .ok (.iconst 1, 1) := dk_4 (dk_at dksX11_line_2 15 rfl rfl)
theorem dX11_line_62 : decode cX11_line 62 = .ok (.iadd, 1) := dk_96 (dk_at dksX11_line_2 16 rfl rfl)
theorem dX11_line_63 : decode cX11_line 63 = .ok (.putfield 210, 3) := dk_181 0 210 (dk_at dksX11_line_2 17 rfl rfl)
theorem dX11_line_66 : decode cX11_line 66 = .ok (.goto 404, 3) := dk_167 1 148 (dk_at dksX11_line_2 20 rfl rfl)
theorem dX11_line_69 : decode cX11_line 69 = .ok (.aload_n 0, 1) := dk_42 (dk_at dksX11_line_2 23 rfl rfl)
theorem dX11_line_70 : decode cX11_line 70 = .ok (.iconst 1, 1) := dk_4 (dk_at dksX11_line_3 0 rfl rfl)
theorem dX11_line_71 : decode cX11_line 71 = .ok (.invokevirtual 213, 3) := dk_182 0 213 (dk_at dksX11_line_3 1 rfl rfl)
theorem dX11_line_74 : decode cX11_line 74 = .ok (.ifCond .eq 10, 3) := dk_153 0 10 (dk_at dksX11_line_3 4 rfl rfl)
theorem dX11_line_77 : decode cX11_line 77 = .ok (.aload_n 0, 1) := dk_42 (dk_at dksX11_line_3 7 rfl rfl)
theorem dX11_line_78 : decode cX11_line 78 = .ok (.invokevirtual 222, 3) := dk_182 0 222 (dk_at dksX11_line_3 8 rfl rfl)
theorem dX11_line_81 : decode cX11_line 81 = .ok (.goto 389, 3) := dk_167 1 133 (dk_at dksX11_line_3 11 rfl rfl)
theorem dX11_line_84 : decode cX11_line 84 = .ok (.aload_n 0, 1) := dk_42 (dk_at dksX11_line_3 14 rfl rfl)
theorem dX11_line_85 : decode cX11_line 85 = .ok (.iconst 2, 1) := dk_5 (dk_at dksX11_line_3 15 rfl rfl)
theorem dX11_line_86 : decode cX11_line 86 = .ok (.invokevirtual 213, 3) := dk_182 0 213 (dk_at dksX11_line_3 16 rfl rfl)
theorem dX11_line_89 : decode cX11_line 89 = .ok (.ifCond .eq 82, 3) := dk_153 0 82 (dk_at dksX11_line_3 19 rfl rfl)
theorem dX11_line_92 : decode cX11_line 92 = .ok (.aload_n 0, 1) := dk_42 (dk_at dksX11_line_3 22 rfl rfl)
theorem dX11_line_93 : decode cX11_line 93 = .ok (.getfield 225, 3) := dk_180 0 225 (dk_at dksX11_line_4 0 rfl rfl)
theorem dX11_line_96 : decode cX11_line 96 = .ok (.bipush 6, 2) := dk_16 6 (dk_at dksX11_line_4 3 rfl rfl)
theorem dX11_line_98 : decode cX11_line 98 = .ok (.if_icmp .ne 8, 3) := dk_160 0 8 (dk_at dksX11_line_4 5 rfl rfl)
theorem dX11_line_101 : decode cX11_line 101 = .ok (.aload_n 0, 1) := dk_42 (dk_at dksX11_line_4 8 rfl rfl)
theorem dX11_line_102 : decode cX11_line 102 = .ok (.iconst 2, 1) := dk_5 (dk_at dksX11_line_4 9 rfl rfl)
theorem dX11_line_103 : decode cX11_line 103 = .ok (.invokevirtual 183, 3) := dk_182 0 183 (dk_at dksX11_line_4 10 rfl rfl)
theorem dX11_line_106 : decode cX11_line 106 = .ok (.aload_n 0, 1) := dk_42 (dk_at dksX11_line_4 13 rfl rfl)
theorem dX11_line_107 : decode cX11_line 107 = .ok (.invokevirtual 176, 3) := dk_182 0 176 (dk_at dksX11_line_4 14 rfl rfl)
theorem dX11_line_110 : decode cX11_line 110 = .ok (.ifCond .ne 4, 3) := dk_154 0 4 (dk_at dksX11_line_4 17 rfl rfl)
theorem dX11_line_113 : decode cX11_line 113 = .ok (.return_, 1) := dk_177 (dk_at dksX11_line_4 20 rfl rfl)
theorem dX11_line_114 : decode cX11_line 114 = .ok (.aload_n 0, 1) := dk_42 (dk_at dksX11_line_4 21 rfl rfl)
theorem dX11_line_115 : decode cX11_line 115 = .ok (.invokevirtual 180, 3) := dk_182 0 180 (dk_at dksX11_line_5 0 rfl rfl)
theorem dX11_line_118 : decode cX11_line 118 = .ok (.iconst 0, 1) := dk_3 (dk_at dksX11_line_5 3 rfl rfl)
theorem dX11_line_119 : decode cX11_line 119 = .ok (.istore_n 1, 1) := dk_60 (dk_at dksX11_line_5 4 rfl rfl)
theorem dX11_line_120 : decode cX11_line 120 = .ok (.iload_n 1, 1) := dk_27 (dk_at dksX11_line_5 5 rfl rfl)
theorem dX11_line_121 : decode cX11_line 121 = .ok (.iconst 3, 1) := dk_6 (dk_at dksX11_line_5 6 rfl rfl)
theorem dX11_line_122 : decode cX11_line 122 = .ok (.if_icmp .ge 29, 3) := dk_162 0 29 (dk_at dksX11_line_5 7 rfl rfl)
theorem dX11_line_125 : decode cX11_line 125 = .ok (.aload_n 0, 1) := dk_42 (dk_at dksX11_line_5 10 rfl rfl)
theorem dX11_line_126 : decode cX11_line 126 = .ok (.aload_n 0, 1) := dk_42 (dk_at dksX11_line_5 11 rfl rfl)
theorem dX11_line_127 : decode cX11_line 127 = .ok (.getfield 56, 3) := dk_180 0 56 (dk_at dksX11_line_5 12 rfl rfl)
theorem dX11_line_130 : decode cX11_line 130 = .ok (.bipush 27, 2) := dk_16 27 (dk_at dksX11_line_5 15 rfl rfl)
theorem dX11_line_132 : decode cX11_line 132 = .ok (.aload_n 0, 1) := dk_42 (dk_at dksX11_line_5 17 rfl rfl)
theorem dX11_line_133 : decode cX11_line 133 = .ok (.getfield 225, 3) := dk_180 0 225 (dk_at dksX11_line_5 18 rfl rfl)
theorem dX11_line_136 : decode cX11_line 136 = .ok (.imul, 1) := dk_104 (dk_at dksX11_line_5 21 rfl rfl)
theorem dX11_line_137 : decode cX11_line 137 = .ok (.bipush 9, 2) := dk_16 9 (dk_at dksX11_line_5 22 rfl rfl)
theorem dX11_line_139 : decode cX11_line 139 = .ok (.iload_n 1, 1) := dk_27 (dk_at dksX11_line_6 0 rfl rfl)
theorem dX11_line_140 : decode cX11_line 140 = .ok (.imul, 1) := dk_104 (dk_at dksX11_line_6 1 rfl rfl)
theorem dX11_line_141 : decode cX11_line 141 = .ok (.iadd, 1) := dk_96 (dk_at dksX11_line_6 2 rfl rfl)
theorem dX11_line_142 : decode cX11_line 142 = .ok (.invokevirtual 193, 3) := dk_182 0 193 (dk_at dksX11_line_6 3 rfl rfl)
theorem dX11_line_145 : decode cX11_line 145 = .ok (.iinc 1 1, 3) := dk_132 1 1 (dk_at dksX11_line_6 6 rfl rfl)
theorem dX11_line_148 : decode cX11_line 148 = .ok (.goto (-28), 3) := dk_167 255 228 (dk_at dksX11_line_6 9 rfl rfl)
theorem dX11_line_151 : decode cX11_line 151 = .ok (.aload_n 0, 1) := dk_42 (dk_at dksX11_line_6 12 rfl rfl)
theorem dX11_line_152 : decode cX11_line 152 = .ok (.invokevirtual 176, 3) := dk_182 0 176 (dk_at dksX11_line_6 13 rfl rfl)
theorem dX11_line_155 : decode cX11_line 155 = .ok (.ifCond .eq 315, 3) := dk_153 1 59 (dk_at dksX11_line_6 16 rfl rfl)
theorem dX11_line_158 : decode cX11_line 158 = .ok (.aload_n 0, 1) := dk_42 (dk_at dksX11_line_6 19 rfl rfl)
theorem dX11_line_159 : decode cX11_line 159 = .ok (.dup, 1) := dk_89 (dk_at dksX11_line_6 20 rfl rfl)
theorem dX11_line_160 : decode cX11_line 160 = .ok (.getfield 225, 3) := dk_180 0 225 (dk_at dksX11_line_6 21 rfl rfl)
theorem dX11_line_163 : decode cX11_line 163 = .ok (.iconst 1, 1) := dk_4 (dk_at dksX11_line_7 0 rfl rfl)
theorem dX11_line_164 : decode cX11_line 164 = .ok (.iadd, 1) := dk_96 (dk_at dksX11_line_7 1 rfl rfl)
theorem dX11_line_165 : decode cX11_line 165 = .ok (.putfield 225, 3) := dk_181 0 225 (dk_at dksX11_line_7 2 rfl rfl)
theorem dX11_line_168 : decode cX11_line 168 = .ok (.goto 302, 3) := dk_167 1 46 (dk_at dksX11_line_7 5 rfl rfl)
theorem dX11_line_171 : decode cX11_line 171 = .ok (.aload_n 0, 1) := dk_42 (dk_at dksX11_line_7 8 rfl rfl)
theorem dX11_line_172 : decode cX11_line 172 = .ok (.iconst 3, 1) := dk_6 (dk_at dksX11_line_7 9 rfl rfl)
theorem dX11_line_173 : decode cX11_line 173 = .ok (.invokevirtual 213, 3) := dk_182 0 213 (dk_at dksX11_line_7 10 rfl rfl)
theorem dX11_line_176 : decode cX11_line 176 = .ok (.ifCond .eq 44, 3) := dk_153 0 44 (dk_at dksX11_line_7 13 rfl rfl)
theorem dX11_line_179 : decode cX11_line 179 = .ok (.aload_n 0, 1) := dk_42 (dk_at dksX11_line_7 16 rfl rfl)
theorem dX11_line_180 : decode cX11_line 180 = .ok (.getfield 228, 3) := dk_180 0 228 (dk_at dksX11_line_7 17 rfl rfl)
theorem dX11_line_183 : decode cX11_line 183 = .ok (.ifCond .eq 8, 3) := dk_153 0 8 (dk_at dksX11_line_7 20 rfl rfl)
theorem dX11_line_186 : decode cX11_line 186 = .ok (.aload_n 0, 1) := dk_42 (dk_at dksX11_line_7 23 rfl rfl)
theorem dX11_line_187 : decode cX11_line 187 = .ok (.iconst 4, 1) := dk_7 (dk_at dksX11_line_8 0 rfl rfl)
theorem dX11_line_188 : decode cX11_line 188 = .ok (.invokevirtual 183, 3) := dk_182 0 183 (dk_at dksX11_line_8 1 rfl rfl)
theorem dX11_line_191 : decode cX11_line 191 = .ok (.aload_n 0, 1) := dk_42 (dk_at dksX11_line_8 4 rfl rfl)
theorem dX11_line_192 : decode cX11_line 192 = .ok (.invokevirtual 176, 3) := dk_182 0 176 (dk_at dksX11_line_8 5 rfl rfl)
theorem dX11_line_195 : decode cX11_line 195 = .ok (.ifCond .ne 4, 3) := dk_154 0 4 (dk_at dksX11_line_8 8 rfl rfl)
theorem dX11_line_198 : decode cX11_line 198 = .ok (.return_, 1) := dk_177 (dk_at dksX11_line_8 11 rfl rfl)
theorem dX11_line_199 : decode cX11_line 199 = .ok (.aload_n 0, 1) := dk_42 (dk_at dksX11_line_8 12 rfl rfl)
theorem dX11_line_200 : decode cX11_line 200 = .ok (.iconst 1, 1) := dk_4 (dk_at dksX11_line_8 13 rfl rfl)
theorem dX11_line_201 : decode cX11_line 201 = .ok (.putfield 228, 3) := dk_181 0 228 (dk_at dksX11_line_8 14 rfl rfl)
theorem dX11_line_204 : decode cX11_line 204 = .ok (.aload_n 0, 1) := dk_42 (dk_at dksX11_line_8 17 rfl rfl)
theorem dX11_line_205 : decode cX11_line 205 = .ok (.invokevirtual 180, 3) := dk_182 0 180 (dk_at dksX11_line_8 18 rfl rfl)
theorem dX11_line_208 : decode cX11_line 208 = .ok (.aload_n 0, 1) := dk_42 (dk_at dksX11_line_8 21 rfl rfl)
theorem dX11_line_209 : decode cX11_line 209 = .ok (.aload_n 0, 1) := dk_42 (dk_at dksX11_line_8 22 rfl rfl)
theorem dX11_line_210 : decode cX11_line 210 = .ok (.getfield 59, 3) := dk_180 0 59 (dk_at dksX11_line_9 0 rfl rfl)
theorem dX11_line_213 : decode cX11_line 213 = .ok (.iconst 0, 1) := dk_3 (dk_at dksX11_line_9 3 rfl rfl)
theorem dX11_line_214 : decode cX11_line 214 = .ok (.invokevirtual 193, 3) := dk_182 0 193 (dk_at dksX11_line_9 4 rfl rfl)
theorem dX11_line_217 : decode cX11_line 217 = .ok (.goto 253, 3) := dk_167 0 253 (dk_at dksX11_line_9 7 rfl rfl)
theorem dX11_line_220 : decode cX11_line 220 = .ok (.aload_n 0, 1) := dk_42 (dk_at dksX11_line_9 10 rfl rfl)
theorem dX11_line_221 : decode cX11_line 221 = .ok (.iconst 4, 1) := dk_7 (dk_at dksX11_line_9 11 rfl rfl)
theorem dX11_line_222 : decode cX11_line 222 = .ok (.invokevirtual 213, 3) := dk_182 0 213 (dk_at dksX11_line_9 12 rfl rfl)
theorem dX11_line_225 : decode cX11_line 225 = .ok (.ifCond .eq 61, 3) := dk_153 0 61 (dk_at dksX11_line_9 15 rfl rfl)
theorem dX11_line_228 : decode cX11_line 228 = .ok (.aload_n 0, 1) := dk_42 (dk_at dksX11_line_9 18 rfl rfl)
theorem dX11_line_229 : decode cX11_line 229 = .ok (.getfield 231, 3) := dk_180 0 231 (dk_at dksX11_line_9 19 rfl rfl)
theorem dX11_line_232 : decode cX11_line 232 = .ok (.ifCond .eq 11, 3) := dk_153 0 11 (dk_at dksX11_line_10 0 rfl rfl)
theorem dX11_line_235 : decode cX11_line 235 = .ok (.aload_n 0, 1) := dk_42 (dk_at dksX11_line_10 3 rfl rfl)
theorem dX11_line_236 : decode cX11_line 236 = .ok (.iconst 4, 1) := dk_7 (dk_at dksX11_line_10 4 rfl rfl)
theorem dX11_line_237 : decode cX11_line 237 = .ok (.invokevirtual 183, 3) := dk_182 0 183 (dk_at dksX11_line_10 5 rfl rfl)
theorem dX11_line_240 : decode cX11_line 240 = .ok (.goto 15, 3) := dk_167 0 15 (dk_at dksX11_line_10 8 rfl rfl)
theorem dX11_line_243 : decode cX11_line 243 = .ok (.aload_n 0, 1) := dk_42 (dk_at dksX11_line_10 11 rfl rfl)
theorem dX11_line_244 : decode cX11_line 244 = .ok (.getfield 197, 3) := dk_180 0 197 (dk_at dksX11_line_10 12 rfl rfl)
theorem dX11_line_247 : decode cX11_line 247 = .ok (.ifCond .eq 8, 3) := dk_153 0 8 (dk_at dksX11_line_10 15 rfl rfl)
theorem dX11_line_250 : decode cX11_line 250 = .ok (.aload_n 0, 1) := dk_42 (dk_at dksX11_line_10 18 rfl rfl)
theorem dX11_line_251 : decode cX11_line 251 = .ok (.iconst 5, 1) := dk_8 (dk_at dksX11_line_10 19 rfl rfl)
theorem dX11_line_252 : decode cX11_line 252 = .ok (.invokevirtual 183, 3) := dk_182 0 183 (dk_at dksX11_line_10 20 rfl rfl)
theorem dX11_line_255 : decode cX11_line 255 = .ok (.aload_n 0, 1) := dk_42 (dk_at dksX11_line_10 23 rfl rfl)
theorem dX11_line_256 : decode cX11_line 256 = .ok (.invokevirtual 176, 3) := dk_182 0 176 (dk_at dksX11_line_11 0 rfl rfl)
theorem dX11_line_259 : decode cX11_line 259 = .ok (.ifCond .ne 4, 3) := dk_154 0 4 (dk_at dksX11_line_11 3 rfl rfl)
theorem dX11_line_262 : decode cX11_line 262 = .ok (.return_, 1) := dk_177 (dk_at dksX11_line_11 6 rfl rfl)
theorem dX11_line_263 : decode cX11_line 263 = .ok (.aload_n 0, 1) := dk_42 (dk_at dksX11_line_11 7 rfl rfl)
theorem dX11_line_264 : decode cX11_line 264 = .ok (.iconst 1, 1) := dk_4 (dk_at dksX11_line_11 8 rfl rfl)
theorem dX11_line_265 : decode cX11_line 265 = .ok (.putfield 231, 3) := dk_181 0 231 (dk_at dksX11_line_11 9 rfl rfl)
theorem dX11_line_268 : decode cX11_line 268 = .ok (.aload_n 0, 1) := dk_42 (dk_at dksX11_line_11 12 rfl rfl)
theorem dX11_line_269 : decode cX11_line 269 = .ok (.invokevirtual 180, 3) := dk_182 0 180 (dk_at dksX11_line_11 13 rfl rfl)
theorem dX11_line_272 : decode cX11_line 272 = .ok (.aload_n 0, 1) := dk_42 (dk_at dksX11_line_11 16 rfl rfl)
theorem dX11_line_273 : decode cX11_line 273 = .ok (.aload_n 0, 1) := dk_42 (dk_at dksX11_line_11 17 rfl rfl)
theorem dX11_line_274 : decode cX11_line 274 = .ok (.iconst 1, 1) := dk_4 (dk_at dksX11_line_11 18 rfl rfl)
theorem dX11_line_275 : decode cX11_line 275 = .ok (.bipush 6, 2) := dk_16 6 (dk_at dksX11_line_11 19 rfl rfl)
theorem dX11_line_277 : decode cX11_line 277 = .ok (.invokevirtual 189, 3) := dk_182 0 189 (dk_at dksX11_line_11 21 rfl rfl)
theorem dX11_line_280 : decode cX11_line 280 = .ok (.putfield 201, 3) := dk_181 0 201 (dk_at dksX11_line_12 0 rfl rfl)
theorem dX11_line_283 : decode cX11_line 283 = .ok (.goto 187, 3) := dk_167 0 187 (dk_at dksX11_line_12 3 rfl rfl)
theorem dX11_line_286 : decode cX11_line 286 = .ok (.aload_n 0, 1) := dk_42 (dk_at dksX11_line_12 6 rfl rfl)
theorem dX11_line_287 : decode cX11_line 287 = .ok (.iconst 5, 1) := dk_8 (dk_at dksX11_line_12 7 rfl rfl)
theorem dX11_line_288 : decode cX11_line 288 = .ok (.invokevirtual 213, 3) := dk_182 0 213 (dk_at dksX11_line_12 8 rfl rfl)
theorem dX11_line_291 : decode cX11_line 291 = .ok (.ifCond .eq 10, 3) := dk_153 0 10 (dk_at dksX11_line_12 11 rfl rfl)
theorem dX11_line_294 : decode cX11_line 294 = .ok (.aload_n 0, 1) := dk_42 (dk_at dksX11_line_12 14 rfl rfl)
theorem dX11_line_295 : decode cX11_line 295 = .ok (.invokevirtual 234, 3) := dk_182 0 234 (dk_at dksX11_line_12 15 rfl rfl)
theorem dX11_line_298 : decode cX11_line 298 = .ok (.goto 172, 3) := dk_167 0 172 (dk_at dksX11_line_12 18 rfl rfl)
theorem dX11_line_301 : decode cX11_line 301 = .ok (.aload_n 0, 1) := dk_42 (dk_at dksX11_line_12 21 rfl rfl)
theorem dX11_line_302 : decode cX11_line 302 = .ok (.bipush 6, 2) := dk_16 6 (dk_at dksX11_line_12 22 rfl rfl)
theorem dX11_line_304 : decode cX11_line 304 = .ok (.invokevirtual 213, 3) := dk_182 0 213 (dk_at dksX11_line_13 0 rfl rfl)
theorem dX11_line_307 : decode cX11_line 307 = .ok (.ifCond .eq 42, 3) := dk_153 0 42 (dk_at dksX11_line_13 3 rfl rfl)
theorem dX11_line_310 : decode cX11_line 310 = .ok (.aload_n 0, 1) := dk_42 (dk_at dksX11_line_13 6 rfl rfl)
theorem dX11_line_311 : decode cX11_line 311 = .ok (.getfield 219, 3) := dk_180 0 219 (dk_at dksX11_line_13 7 rfl rfl)
theorem dX11_line_314 : decode cX11_line 314 = .ok (.bipush 6, 2) := dk_16 6 (dk_at dksX11_line_13 10 rfl rfl)
theorem dX11_line_316 : decode cX11_line 316 = .ok (.if_icmp .ne 8, 3) := dk_160 0 8 (dk_at dksX11_line_13 12 rfl rfl)
theorem dX11_line_319 : decode cX11_line 319 = .ok (.aload_n 0, 1) := dk_42 (dk_at dksX11_line_13 15 rfl rfl)
theorem dX11_line_320 : decode cX11_line 320 = .ok (.iconst 2, 1) := dk_5 (dk_at dksX11_line_13 16 rfl rfl)
theorem dX11_line_321 : decode cX11_line 321 = .ok (.invokevirtual 183, 3) := dk_182 0 183 (dk_at dksX11_line_13 17 rfl rfl)
theorem dX11_line_324 : decode cX11_line 324 = .ok (.aload_n 0, 1) := dk_42 (dk_at dksX11_line_13 20 rfl rfl)
theorem dX11_line_325 : decode cX11_line 325 = .ok (.invokevirtual 176, 3) := dk_182 0 176 (dk_at dksX11_line_13 21 rfl rfl)
theorem dX11_line_328 : decode cX11_line 328 = .ok (.ifCond .ne 4, 3) := dk_154 0 4 (dk_at dksX11_line_14 0 rfl rfl)
theorem dX11_line_331 : decode cX11_line 331 = .ok (.return_, 1) := dk_177 (dk_at dksX11_line_14 3 rfl rfl)
theorem dX11_line_332 : decode cX11_line 332 = .ok (.aload_n 0, 1) := dk_42 (dk_at dksX11_line_14 4 rfl rfl)
theorem dX11_line_333 : decode cX11_line 333 = .ok (.invokevirtual 180, 3) := dk_182 0 180 (dk_at dksX11_line_14 5 rfl rfl)
theorem dX11_line_336 : decode cX11_line 336 = .ok (.aload_n 0, 1) := dk_42 (dk_at dksX11_line_14 8 rfl rfl)
theorem dX11_line_337 : decode cX11_line 337 = .ok (.dup, 1) := dk_89 (dk_at dksX11_line_14 9 rfl rfl)
theorem dX11_line_338 : decode cX11_line 338 = .ok (.getfield 219, 3) := dk_180 0 219 (dk_at dksX11_line_14 10 rfl rfl)
theorem dX11_line_341 : decode cX11_line 341 = .ok (.iconst 1, 1) := dk_4 (dk_at dksX11_line_14 13 rfl rfl)
theorem dX11_line_342 : decode cX11_line 342 = .ok (.iadd, 1) := dk_96 (dk_at dksX11_line_14 14 rfl rfl)
theorem dX11_line_343 : decode cX11_line 343 = .ok (.putfield 219, 3) := dk_181 0 219 (dk_at dksX11_line_14 15 rfl rfl)
theorem dX11_line_346 : decode cX11_line 346 = .ok (.goto 124, 3) := dk_167 0 124 (dk_at dksX11_line_14 18 rfl rfl)
theorem dX11_line_349 : decode cX11_line 349 = .ok (.aload_n 0, 1) := dk_42 (dk_at dksX11_line_14 21 rfl rfl)
theorem dX11_line_350 : decode cX11_line 350 = .ok (.bipush 7, 2) := dk_16 7 (dk_at dksX11_line_14 22 rfl rfl)
theorem dX11_line_352 : decode cX11_line 352 = .ok (.invokevirtual 213, 3) := dk_182 0 213 (dk_at dksX11_line_15 0 rfl rfl)
theorem dX11_line_355 : decode cX11_line 355 = .ok (.ifCond .eq 10, 3) := dk_153 0 10 (dk_at dksX11_line_15 3 rfl rfl)
theorem dX11_line_358 : decode cX11_line 358 = .ok (.aload_n 0, 1) := dk_42 (dk_at dksX11_line_15 6 rfl rfl)
theorem dX11_line_359 : decode cX11_line 359 = .ok (.invokevirtual 237, 3) := dk_182 0 237 (dk_at dksX11_line_15 7 rfl rfl)
theorem dX11_line_362 : decode cX11_line 362 = .ok (.goto 108, 3) := dk_167 0 108 (dk_at dksX11_line_15 10 rfl rfl)
theorem dX11_line_365 : decode cX11_line 365 = .ok (.aload_n 0, 1) := dk_42 (dk_at dksX11_line_15 13 rfl rfl)
theorem dX11_line_366 : decode cX11_line 366 = .ok (.bipush 8, 2) := dk_16 8 (dk_at dksX11_line_15 14 rfl rfl)
theorem dX11_line_368 : decode cX11_line 368 = .ok (.invokevirtual 213, 3) := dk_182 0 213 (dk_at dksX11_line_15 16 rfl rfl)
theorem dX11_line_371 : decode cX11_line 371 = .ok (.ifCond .eq 10, 3) := dk_153 0 10 (dk_at dksX11_line_15 19 rfl rfl)
theorem dX11_line_374 : decode cX11_line 374 = .ok (.aload_n 0, 1) := dk_42 (dk_at dksX11_line_15 22 rfl rfl)
theorem dX11_line_375 : decode cX11_line 375 = .ok (.invokevirtual 240, 3) := dk_182 0 240 (dk_at dksX11_line_16 0 rfl rfl)
theorem dX11_line_378 : decode cX11_line 378 = .ok (.goto 92, 3) := dk_167 0 92 (dk_at dksX11_line_16 3 rfl rfl)
theorem dX11_line_381 : decode cX11_line 381 = .ok (.aload_n 0, 1) := dk_42 (dk_at dksX11_line_16 6 rfl rfl)
theorem dX11_line_382 : decode cX11_line 382 = .ok (.bipush 9, 2) := dk_16 9 (dk_at dksX11_line_16 7 rfl rfl)
theorem dX11_line_384 : decode cX11_line 384 = .ok (.invokevirtual 213, 3) := dk_182 0 213 (dk_at dksX11_line_16 9 rfl rfl)
theorem dX11_line_387 : decode cX11_line 387 = .ok (.ifCond .eq 10, 3) := dk_153 0 10 (dk_at dksX11_line_16 12 rfl rfl)
theorem dX11_line_390 : decode cX11_line 390 = .ok (.aload_n 0, 1) := dk_42 (dk_at dksX11_line_16 15 rfl rfl)
theorem dX11_line_391 : decode cX11_line 391 = .ok (.invokevirtual 243, 3) := dk_182 0 243 (dk_at dksX11_line_16 16 rfl rfl)
theorem dX11_line_394 : decode cX11_line 394 = .ok (.goto 76, 3) := dk_167 0 76 (dk_at dksX11_line_16 19 rfl rfl)
theorem dX11_line_397 : decode cX11_line 397 = .ok (.aload_n 0, 1) := dk_42 (dk_at dksX11_line_16 22 rfl rfl)
theorem dX11_line_398 : decode cX11_line 398 = .ok (.bipush 10, 2) := dk_16 10 (dk_at dksX11_line_17 0 rfl rfl)
theorem dX11_line_400 : decode cX11_line 400 = .ok (.invokevirtual 213, 3) := dk_182 0 213 (dk_at dksX11_line_17 2 rfl rfl)
theorem dX11_line_403 : decode cX11_line 403 = .ok (.ifCond .eq 62, 3) := dk_153 0 62 (dk_at dksX11_line_17 5 rfl rfl)
theorem dX11_line_406 : decode cX11_line 406 = .ok (.aload_n 0, 1) := dk_42 (dk_at dksX11_line_17 8 rfl rfl)
theorem dX11_line_407 : decode cX11_line 407 = .ok (.invokevirtual 180, 3) := dk_182 0 180 (dk_at dksX11_line_17 9 rfl rfl)
theorem dX11_line_410 : decode cX11_line 410 = .ok (.aload_n 0, 1) := dk_42 (dk_at dksX11_line_17 12 rfl rfl)
theorem dX11_line_411 : decode cX11_line 411 = .ok (.iconst 0, 1) := dk_3 (dk_at dksX11_line_17 13 rfl rfl)
theorem dX11_line_412 : decode cX11_line 412 = .ok (.iconst 4, 1) := dk_7 (dk_at dksX11_line_17 14 rfl rfl)
theorem dX11_line_413 : decode cX11_line 413 = .ok (.invokevirtual 189, 3) := dk_182 0 189 (dk_at dksX11_line_17 15 rfl rfl)
theorem dX11_line_416 : decode cX11_line 416 = .ok (.istore_n 1, 1) := dk_60 (dk_at dksX11_line_17 18 rfl rfl)
theorem dX11_line_417 : decode cX11_line 417 = .ok (.aload_n 0, 1) := dk_42 (dk_at dksX11_line_17 19 rfl rfl)
theorem dX11_line_418 : decode cX11_line 418 = .ok (.iconst 0, 1) := dk_3 (dk_at dksX11_line_17 20 rfl rfl)
theorem dX11_line_419 : decode cX11_line 419 = .ok (.sipush 1000, 3) := dk_17 3 232 (dk_at dksX11_line_17 21 rfl rfl)
theorem dX11_line_422 : decode cX11_line 422 = .ok (.invokevirtual 189, 3) := dk_182 0 189 (dk_at dksX11_line_18 0 rfl rfl)
theorem dX11_line_425 : decode cX11_line 425 = .ok (.istore_n 2, 1) := dk_61 (dk_at dksX11_line_18 3 rfl rfl)
theorem dX11_line_426 : decode cX11_line 426 = .ok (.aload_n 0, 1) := dk_42 (dk_at dksX11_line_18 4 rfl rfl)
theorem dX11_line_427 : decode cX11_line 427 = .ok (.iconst 0, 1) := dk_3 (dk_at dksX11_line_18 5 rfl rfl)
theorem dX11_line_428 : decode cX11_line 428 = .ok (.sipush 1000, 3) := dk_17 3 232 (dk_at dksX11_line_18 6 rfl rfl)
theorem dX11_line_431 : decode cX11_line 431 = .ok (.invokevirtual 189, 3) := dk_182 0 189 (dk_at dksX11_line_18 9 rfl rfl)
theorem dX11_line_434 : decode cX11_line 434 = .ok (.istore_n 3, 1) := dk_62 (dk_at dksX11_line_18 12 rfl rfl)
theorem dX11_line_435 : decode cX11_line 435 = .ok (.aload_n 0, 1) := dk_42 (dk_at dksX11_line_18 13 rfl rfl)
theorem dX11_line_436 : decode cX11_line 436 = .ok (.invokevirtual 176, 3) := dk_182 0 176 (dk_at dksX11_line_18 14 rfl rfl)
theorem dX11_line_439 : decode cX11_line 439 = .ok (.ifCond .eq 23, 3) := dk_153 0 23 (dk_at dksX11_line_18 17 rfl rfl)
theorem dX11_line_442 : decode cX11_line 442 = .ok (.aload_n 0, 1) := dk_42 (dk_at dksX11_line_18 20 rfl rfl)
theorem dX11_line_443 : decode cX11_line 443 = .ok (.getfield 74, 3) := dk_180 0 74 (dk_at dksX11_line_18 21 rfl rfl)
theorem dX11_line_446 : decode cX11_line 446 = .ok (.iconst 2, 1) := dk_5 (dk_at dksX11_line_19 0 rfl rfl)
theorem dX11_line_447 : decode cX11_line 447 = .ok (.iload_n 1, 1) := dk_27 (dk_at dksX11_line_19 1 rfl rfl)
theorem dX11_line_448 : decode cX11_line 448 = .ok (.imul, 1) := dk_104 (dk_at dksX11_line_19 2 rfl rfl)
theorem dX11_line_449 : decode cX11_line 449 = .ok (.iload_n 2, 1) := dk_28 (dk_at dksX11_line_19 3 rfl rfl)
theorem dX11_line_450 : decode cX11_line 450 = .ok (.iastore, 1) := dk_79 (dk_at dksX11_line_19 4 rfl rfl)
theorem dX11_line_451 : decode cX11_line 451 = .ok (.aload_n 0, 1) := dk_42 (dk_at dksX11_line_19 5 rfl rfl)
theorem dX11_line_452 : decode cX11_line 452 = .ok (.getfield 74, 3) := dk_180 0 74 (dk_at dksX11_line_19 6 rfl rfl)
theorem dX11_line_455 : decode cX11_line 455 = .ok (.iconst 2, 1) := dk_5 (dk_at dksX11_line_19 9 rfl rfl)
theorem dX11_line_456 : decode cX11_line 456 = .ok (.iload_n 1, 1) := dk_27 (dk_at dksX11_line_19 10 rfl rfl)
theorem dX11_line_457 : decode cX11_line 457 = .ok (.imul, 1) := dk_104 (dk_at dksX11_line_19 11 rfl rfl)
theorem dX11_line_458 : decode cX11_line 458 = .ok (.iconst 1, 1) := dk_4 (dk_at dksX11_line_19 12 rfl rfl)
theorem dX11_line_459 : decode cX11_line 459 = .ok (.iadd, 1) := dk_96 (dk_at dksX11_line_19 13 rfl rfl)
theorem dX11_line_460 : decode cX11_line 460 = .ok (.iload_n 3, 1) := dk_29 (dk_at dksX11_line_19 14 rfl rfl)
theorem dX11_line_461 : decode cX11_line 461 = .ok (.iastore, 1) := dk_79 (dk_at dksX11_line_19 15 rfl rfl)
theorem dX11_line_462 : decode cX11_line 462 = .ok (.goto 8, 3) := dk_167 0 8 (dk_at dksX11_line_19 16 rfl rfl)
theorem dX11_line_465 : decode cX11_line 465 = .ok (.aload_n 0, 1) := dk_42 (dk_at dksX11_line_19 19 rfl rfl)
theorem dX11_line_466 : decode cX11_line 466 = .ok (.iconst 1, 1) := dk_4 (dk_at dksX11_line_19 20 rfl rfl)
theorem dX11_line_467 : decode cX11_line 467 = .ok (.invokevirtual 183, 3) := dk_182 0 183 (dk_at dksX11_line_19 21 rfl rfl)
theorem dX11_line_470 : decode cX11_line 470 = .ok (.aload_n 0, 1) := dk_42 (dk_at dksX11_line_20 0 rfl rfl)
theorem dX11_line_471 : decode cX11_line 471 = .ok (.aload_n 0, 1) := dk_42 (dk_at dksX11_line_20 1 rfl rfl)
theorem dX11_line_472 : decode cX11_line 472 = .ok (.getfield 152, 3) := dk_180 0 152 (dk_at dksX11_line_20 2 rfl rfl)
theorem dX11_line_475 : decode cX11_line 475 = .ok (.iconst 3, 1) := dk_6 (dk_at dksX11_line_20 5 rfl rfl)
theorem dX11_line_476 : decode cX11_line 476 = .ok (.if_icmp .ne 7, 3) := dk_160 0 7 (dk_at dksX11_line_20 6 rfl rfl)
theorem dX11_line_479 : decode cX11_line 479 = .ok (.iconst 1, 1) := dk_4 (dk_at dksX11_line_20 9 rfl rfl)
theorem dX11_line_480 : decode cX11_line 480 = .ok (.goto 4, 3) := dk_167 0 4 (dk_at dksX11_line_20 10 rfl rfl)
theorem dX11_line_483 : decode cX11_line 483 = .ok (.iconst 0, 1) := dk_3 (dk_at dksX11_line_20 13 rfl rfl)
theorem dX11_line_484 : decode cX11_line 484 = .ok (.invokevirtual 246, 3) := dk_182 0 246 (dk_at dksX11_line_20 14 rfl rfl)
theorem dX11_line_487 : decode cX11_line 487 = .ok (.return_, 1) := dk_177 (dk_at dksX11_line_20 17 rfl rfl)
abbrev cX11_is : ByteArray := prog_19_method_14_code
def yX11_is : MethodName := ⟨RX11, "is", "(I)Z"⟩
def dkwX11_is_1 : List UInt8 := [184, 0, 169, 148, 154, 0, 7, 4, 167, 0, 4, 3, 172]
abbrev dktX11_is_1 : List UInt8 := dkwX11_is_1 ++ []
def dkwX11_is_0 : List UInt8 := [42, 180, 0, 152, 4, 160, 0, 28, 42, 180, 0, 162, 16, 7, 162, 0, 19, 42, 180, 0, 145, 27]
abbrev dktX11_is_0 : List UInt8 := dkwX11_is_0 ++ dktX11_is_1
theorem dksX11_is_0 : cX11_is.data.toList.drop 0 = dktX11_is_0 := by decide +kernel
theorem dksX11_is_1 : cX11_is.data.toList.drop 22 = dktX11_is_1 := dk_seg dksX11_is_0 22 rfl rfl
theorem dX11_is_0 : decode cX11_is 0 = .ok (.aload_n 0, 1) := dk_42 (dk_at dksX11_is_0 0 rfl rfl)
theorem dX11_is_1 : decode cX11_is 1 = .ok (.getfield 152, 3) := dk_180 0 152 (dk_at dksX11_is_0 1 rfl rfl)
theorem dX11_is_4 : decode cX11_is 4 = .ok (.iconst 1, 1) := dk_4 (dk_at dksX11_is_0 4 rfl rfl)
theorem dX11_is_5 : decode cX11_is 5 = .ok (.if_icmp .ne 28, 3) := dk_160 0 28 (dk_at dksX11_is_0 5 rfl rfl)
theorem dX11_is_8 : decode cX11_is 8 = .ok (.aload_n 0, 1) := dk_42 (dk_at dksX11_is_0 8 rfl rfl)
theorem dX11_is_9 : decode cX11_is 9 = .ok (.getfield 162, 3) := dk_180 0 162 (dk_at dksX11_is_0 9 rfl rfl)
theorem dX11_is_12 : decode cX11_is 12 = .ok (.bipush 7, 2) := dk_16 7 (dk_at dksX11_is_0 12 rfl rfl)
theorem dX11_is_14 : decode cX11_is 14 = .ok (.if_icmp .ge 19, 3) := dk_162 0 19 (dk_at dksX11_is_0 14 rfl rfl)
theorem dX11_is_17 : decode cX11_is 17 = .ok (.aload_n 0, 1) := dk_42 (dk_at dksX11_is_0 17 rfl rfl)
theorem dX11_is_18 : decode cX11_is 18 = .ok (.getfield 145, 3) := dk_180 0 145 (dk_at dksX11_is_0 18 rfl rfl)
theorem dX11_is_21 : decode cX11_is 21 = .ok (.iload_n 1, 1) := dk_27 (dk_at dksX11_is_0 21 rfl rfl)
theorem dX11_is_22 : decode cX11_is 22 = .ok (.invokestatic 169, 3) := dk_184 0 169 (dk_at dksX11_is_1 0 rfl rfl)
theorem dX11_is_25 : decode cX11_is 25 = .ok (.lcmp, 1) := dk_148 (dk_at dksX11_is_1 3 rfl rfl)
theorem dX11_is_26 : decode cX11_is 26 = .ok (.ifCond .ne 7, 3) := dk_154 0 7 (dk_at dksX11_is_1 4 rfl rfl)
theorem dX11_is_29 : decode cX11_is 29 = .ok (.iconst 1, 1) := dk_4 (dk_at dksX11_is_1 7 rfl rfl)
theorem dX11_is_30 : decode cX11_is 30 = .ok (.goto 4, 3) := dk_167 0 4 (dk_at dksX11_is_1 8 rfl rfl)
theorem dX11_is_33 : decode cX11_is 33 = .ok (.iconst 0, 1) := dk_3 (dk_at dksX11_is_1 11 rfl rfl)
theorem dX11_is_34 : decode cX11_is 34 = .ok (.ireturn, 1) := dk_172 (dk_at dksX11_is_1 12 rfl rfl)
abbrev cX11_letters : ByteArray := prog_19_method_13_code
def yX11_letters : MethodName := ⟨RX11, "letters", "(I)J"⟩
def dkwX11_letters_10 : List UInt8 := [173]
abbrev dktX11_letters_10 : List UInt8 := dkwX11_letters_10 ++ []
def dkwX11_letters_9 : List UInt8 := [16, 117, 16, 100, 3, 3, 184, 0, 165, 173, 16, 110, 16, 101, 16, 118, 16, 101, 16, 114, 3, 184, 0, 165]
abbrev dktX11_letters_9 : List UInt8 := dkwX11_letters_9 ++ dktX11_letters_10
def dkwX11_letters_8 : List UInt8 := [184, 0, 165, 173, 16, 119, 16, 101, 16, 105, 16, 103, 16, 104, 3, 184, 0, 165, 173, 16, 108, 16, 111]
abbrev dktX11_letters_8 : List UInt8 := dkwX11_letters_8 ++ dktX11_letters_9
def dkwX11_letters_7 : List UInt8 := [173, 16, 114, 16, 117, 16, 108, 16, 101, 3, 3, 184, 0, 165, 173, 16, 97, 16, 116, 3, 3, 3, 3]
abbrev dktX11_letters_7 : List UInt8 := dkwX11_letters_7 ++ dktX11_letters_8
def dkwX11_letters_6 : List UInt8 := [16, 115, 16, 111, 16, 110, 184, 0, 165, 173, 16, 116, 16, 104, 16, 105, 16, 110, 16, 103, 3, 184, 0, 165]
abbrev dktX11_letters_6 : List UInt8 := dkwX11_letters_6 ++ dktX11_letters_7
def dkwX11_letters_5 : List UInt8 := [184, 0, 165, 173, 16, 110, 16, 101, 16, 97, 16, 114, 3, 3, 184, 0, 165, 173, 16, 112, 16, 101, 16, 114]
abbrev dktX11_letters_5 : List UInt8 := dkwX11_letters_5 ++ dktX11_letters_6
def dkwX11_letters_4 : List UInt8 := [16, 111, 16, 116, 3, 3, 3, 184, 0, 165, 173, 16, 112, 16, 108, 16, 97, 16, 99, 16, 101, 16, 115]
abbrev dktX11_letters_4 : List UInt8 := dkwX11_letters_4 ++ dktX11_letters_5
def dkwX11_letters_3 : List UInt8 := [16, 103, 184, 0, 165, 173, 16, 99, 16, 104, 16, 97, 16, 110, 16, 103, 16, 101, 184, 0, 165, 173, 16, 110]
abbrev dktX11_letters_3 : List UInt8 := dkwX11_letters_3 ++ dktX11_letters_4
def dkwX11_letters_2 : List UInt8 := [16, 115, 16, 116, 16, 101, 16, 109, 3, 3, 184, 0, 165, 173, 16, 101, 16, 110, 16, 100, 16, 105, 16, 110]
abbrev dktX11_letters_2 : List UInt8 := dkwX11_letters_2 ++ dktX11_letters_3
def dkwX11_letters_1 : List UInt8 := [170, 0, 0, 0, 0, 0, 238, 0, 0, 0, 0, 0, 0, 0, 11, 0, 0, 0, 63, 0, 0, 0, 77, 0, 0, 0, 93, 0, 0, 0, 109, 0, 0, 0, 122, 0, 0, 0, 138, 0, 0, 0, 152, 0, 0, 0, 168, 0, 0, 0, 183, 0, 0, 0, 197, 0, 0, 0, 209, 0, 0, 0, 224]
abbrev dktX11_letters_1 : List UInt8 := dkwX11_letters_1 ++ dktX11_letters_2
def dkwX11_letters_0 : List UInt8 := [26]
abbrev dktX11_letters_0 : List UInt8 := dkwX11_letters_0 ++ dktX11_letters_1
theorem dksX11_letters_0 : cX11_letters.data.toList.drop 0 = dktX11_letters_0 := by decide +kernel
theorem dksX11_letters_1 : cX11_letters.data.toList.drop 1 = dktX11_letters_1 := dk_seg dksX11_letters_0 1 rfl rfl
theorem dksX11_letters_2 : cX11_letters.data.toList.drop 64 = dktX11_letters_2 := dk_seg dksX11_letters_1 63 rfl rfl
theorem dksX11_letters_3 : cX11_letters.data.toList.drop 88 = dktX11_letters_3 := dk_seg dksX11_letters_2 24 rfl rfl
theorem dksX11_letters_4 : cX11_letters.data.toList.drop 112 = dktX11_letters_4 := dk_seg dksX11_letters_3 24 rfl rfl
theorem dksX11_letters_5 : cX11_letters.data.toList.drop 135 = dktX11_letters_5 := dk_seg dksX11_letters_4 23 rfl rfl
theorem dksX11_letters_6 : cX11_letters.data.toList.drop 159 = dktX11_letters_6 := dk_seg dksX11_letters_5 24 rfl rfl
theorem dksX11_letters_7 : cX11_letters.data.toList.drop 183 = dktX11_letters_7 := dk_seg dksX11_letters_6 24 rfl rfl
theorem dksX11_letters_8 : cX11_letters.data.toList.drop 206 = dktX11_letters_8 := dk_seg dksX11_letters_7 23 rfl rfl
theorem dksX11_letters_9 : cX11_letters.data.toList.drop 229 = dktX11_letters_9 := dk_seg dksX11_letters_8 23 rfl rfl
theorem dksX11_letters_10 : cX11_letters.data.toList.drop 253 = dktX11_letters_10 := dk_seg dksX11_letters_9 24 rfl rfl
theorem dX11_letters_0 : decode cX11_letters 0 = .ok (.iload_n 0, 1) := dk_26 (dk_at dksX11_letters_0 0 rfl rfl)
theorem dX11_letters_1 : decode cX11_letters 1 = .ok (.tableswitch 238 0 11 #[63, 77, 93, 109, 122, 138, 152, 168, 183, 197, 209, 224], 63) := by decide +kernel
theorem dX11_letters_64 : decode cX11_letters 64 = .ok (.bipush 115, 2) := dk_16 115 (dk_at dksX11_letters_2 0 rfl rfl)
theorem dX11_letters_66 : decode cX11_letters 66 = .ok (.bipush 116, 2) := dk_16 116 (dk_at dksX11_letters_2 2 rfl rfl)
theorem dX11_letters_68 : decode cX11_letters 68 = .ok (.bipush 101, 2) := dk_16 101 (dk_at dksX11_letters_2 4 rfl rfl)
theorem dX11_letters_70 : decode cX11_letters 70 = .ok (.bipush 109, 2) := dk_16 109 (dk_at dksX11_letters_2 6 rfl rfl)
theorem dX11_letters_72 : decode cX11_letters 72 = .ok (.iconst 0, 1) := dk_3 (dk_at dksX11_letters_2 8 rfl rfl)
theorem dX11_letters_73 : decode cX11_letters 73 = .ok (.iconst 0, 1) := dk_3 (dk_at dksX11_letters_2 9 rfl rfl)
theorem dX11_letters_74 : decode cX11_letters 74 = .ok (.invokestatic 165, 3) := dk_184 0 165 (dk_at dksX11_letters_2 10 rfl rfl)
theorem dX11_letters_77 : decode cX11_letters 77 = .ok (.lreturn, 1) := dk_173 (dk_at dksX11_letters_2 13 rfl rfl)
theorem dX11_letters_78 : decode cX11_letters 78 = .ok (.bipush 101, 2) := dk_16 101 (dk_at dksX11_letters_2 14 rfl rfl)
theorem dX11_letters_80 : decode cX11_letters 80 = .ok (.bipush 110, 2) := dk_16 110 (dk_at dksX11_letters_2 16 rfl rfl)
theorem dX11_letters_82 : decode cX11_letters 82 = .ok (.bipush 100, 2) := dk_16 100 (dk_at dksX11_letters_2 18 rfl rfl)
theorem dX11_letters_84 : decode cX11_letters 84 = .ok (.bipush 105, 2) := dk_16 105 (dk_at dksX11_letters_2 20 rfl rfl)
theorem dX11_letters_86 : decode cX11_letters 86 = .ok (.bipush 110, 2) := dk_16 110 (dk_at dksX11_letters_2 22 rfl rfl)
theorem dX11_letters_88 : decode cX11_letters 88 = .ok (.bipush 103, 2) := dk_16 103 (dk_at dksX11_letters_3 0 rfl rfl)
theorem dX11_letters_90 : decode cX11_letters 90 = .ok (.invokestatic 165, 3) := dk_184 0 165 (dk_at dksX11_letters_3 2 rfl rfl)
theorem dX11_letters_93 : decode cX11_letters 93 = .ok (.lreturn, 1) := dk_173 (dk_at dksX11_letters_3 5 rfl rfl)
theorem dX11_letters_94 : decode cX11_letters 94 = .ok (.bipush 99, 2) := dk_16 99 (dk_at dksX11_letters_3 6 rfl rfl)
theorem dX11_letters_96 : decode cX11_letters 96 = .ok (.bipush 104, 2) := dk_16 104 (dk_at dksX11_letters_3 8 rfl rfl)
theorem dX11_letters_98 : decode cX11_letters 98 = .ok (.bipush 97, 2) := dk_16 97 (dk_at dksX11_letters_3 10 rfl rfl)
theorem dX11_letters_100 : decode cX11_letters 100 = .ok (.bipush 110, 2) := dk_16 110 (dk_at dksX11_letters_3 12 rfl rfl)
theorem dX11_letters_102 : decode cX11_letters 102 = .ok (.bipush 103, 2) := dk_16 103 (dk_at dksX11_letters_3 14 rfl rfl)
theorem dX11_letters_104 : decode cX11_letters 104 = .ok (.bipush 101, 2) := dk_16 101 (dk_at dksX11_letters_3 16 rfl rfl)
theorem dX11_letters_106 : decode cX11_letters 106 = .ok (.invokestatic 165, 3) := dk_184 0 165 (dk_at dksX11_letters_3 18 rfl rfl)
theorem dX11_letters_109 : decode cX11_letters 109 = .ok (.lreturn, 1) := dk_173 (dk_at dksX11_letters_3 21 rfl rfl)
theorem dX11_letters_110 : decode cX11_letters 110 = .ok (.bipush 110, 2) := dk_16 110 (dk_at dksX11_letters_3 22 rfl rfl)
theorem dX11_letters_112 : decode cX11_letters 112 = .ok (.bipush 111, 2) := dk_16 111 (dk_at dksX11_letters_4 0 rfl rfl)
theorem dX11_letters_114 : decode cX11_letters 114 = .ok (.bipush 116, 2) := dk_16 116 (dk_at dksX11_letters_4 2 rfl rfl)
theorem dX11_letters_116 : decode cX11_letters 116 = .ok (.iconst 0, 1) := dk_3 (dk_at dksX11_letters_4 4 rfl rfl)
theorem dX11_letters_117 : decode cX11_letters 117 = .ok (.iconst 0, 1) := dk_3 (dk_at dksX11_letters_4 5 rfl rfl)
theorem dX11_letters_118 : decode cX11_letters 118 = .ok (.iconst 0, 1) := dk_3 (dk_at dksX11_letters_4 6 rfl rfl)
theorem dX11_letters_119 : decode cX11_letters 119 = .ok (.invokestatic 165, 3) := dk_184 0 165 (dk_at dksX11_letters_4 7 rfl rfl)
theorem dX11_letters_122 : decode cX11_letters 122 = .ok (.lreturn, 1) := dk_173 (dk_at dksX11_letters_4 10 rfl rfl)
theorem dX11_letters_123 : decode cX11_letters 123 = .ok (.bipush 112, 2) := dk_16 112 (dk_at dksX11_letters_4 11 rfl rfl)
theorem dX11_letters_125 : decode cX11_letters 125 = .ok (.bipush 108, 2) := dk_16 108 (dk_at dksX11_letters_4 13 rfl rfl)
theorem dX11_letters_127 : decode cX11_letters 127 = .ok (.bipush 97, 2) := dk_16 97 (dk_at dksX11_letters_4 15 rfl rfl)
theorem dX11_letters_129 : decode cX11_letters 129 = .ok (.bipush 99, 2) := dk_16 99 (dk_at dksX11_letters_4 17 rfl rfl)
theorem dX11_letters_131 : decode cX11_letters 131 = .ok (.bipush 101, 2) := dk_16 101 (dk_at dksX11_letters_4 19 rfl rfl)
theorem dX11_letters_133 : decode cX11_letters 133 = .ok (.bipush 115, 2) := dk_16 115 (dk_at dksX11_letters_4 21 rfl rfl)
theorem dX11_letters_135 : decode cX11_letters 135 = .ok (.invokestatic 165, 3) := dk_184 0 165 (dk_at dksX11_letters_5 0 rfl rfl)
theorem dX11_letters_138 : decode cX11_letters 138 = .ok (.lreturn, 1) := dk_173 (dk_at dksX11_letters_5 3 rfl rfl)
theorem dX11_letters_139 : decode cX11_letters 139 = .ok (.bipush 110, 2) := dk_16 110 (dk_at dksX11_letters_5 4 rfl rfl)
theorem dX11_letters_141 : decode cX11_letters 141 = .ok (.bipush 101, 2) := dk_16 101 (dk_at dksX11_letters_5 6 rfl rfl)
theorem dX11_letters_143 : decode cX11_letters 143 = .ok (.bipush 97, 2) := dk_16 97 (dk_at dksX11_letters_5 8 rfl rfl)
theorem dX11_letters_145 : decode cX11_letters 145 = .ok (.bipush 114, 2) := dk_16 114 (dk_at dksX11_letters_5 10 rfl rfl)
theorem dX11_letters_147 : decode cX11_letters 147 = .ok (.iconst 0, 1) := dk_3 (dk_at dksX11_letters_5 12 rfl rfl)
theorem dX11_letters_148 : decode cX11_letters 148 = .ok (.iconst 0, 1) := dk_3 (dk_at dksX11_letters_5 13 rfl rfl)
theorem dX11_letters_149 : decode cX11_letters 149 = .ok (.invokestatic 165, 3) := dk_184 0 165 (dk_at dksX11_letters_5 14 rfl rfl)
theorem dX11_letters_152 : decode cX11_letters 152 = .ok (.lreturn, 1) := dk_173 (dk_at dksX11_letters_5 17 rfl rfl)
theorem dX11_letters_153 : decode cX11_letters 153 = .ok (.bipush 112, 2) := dk_16 112 (dk_at dksX11_letters_5 18 rfl rfl)
theorem dX11_letters_155 : decode cX11_letters 155 = .ok (.bipush 101, 2) := dk_16 101 (dk_at dksX11_letters_5 20 rfl rfl)
theorem dX11_letters_157 : decode cX11_letters 157 = .ok (.bipush 114, 2) := dk_16 114 (dk_at dksX11_letters_5 22 rfl rfl)
theorem dX11_letters_159 : decode cX11_letters 159 = .ok (.bipush 115, 2) := dk_16 115 (dk_at dksX11_letters_6 0 rfl rfl)
theorem dX11_letters_161 : decode cX11_letters 161 = .ok (.bipush 111, 2) := dk_16 111 (dk_at dksX11_letters_6 2 rfl rfl)
theorem dX11_letters_163 : decode cX11_letters 163 = .ok (.bipush 110, 2) := dk_16 110 (dk_at dksX11_letters_6 4 rfl rfl)
theorem dX11_letters_165 : decode cX11_letters 165 = .ok (.invokestatic 165, 3) := dk_184 0 165 (dk_at dksX11_letters_6 6 rfl rfl)
theorem dX11_letters_168 : decode cX11_letters 168 = .ok (.lreturn, 1) := dk_173 (dk_at dksX11_letters_6 9 rfl rfl)
theorem dX11_letters_169 : decode cX11_letters 169 = .ok (.bipush 116, 2) := dk_16 116 (dk_at dksX11_letters_6 10 rfl rfl)
theorem dX11_letters_171 : decode cX11_letters 171 = .ok (.bipush 104, 2) := dk_16 104 (dk_at dksX11_letters_6 12 rfl rfl)
theorem dX11_letters_173 : decode cX11_letters 173 = .ok (.bipush 105, 2) := dk_16 105 (dk_at dksX11_letters_6 14 rfl rfl)
theorem dX11_letters_175 : decode cX11_letters 175 = .ok (.bipush 110, 2) := dk_16 110 (dk_at dksX11_letters_6 16 rfl rfl)
theorem dX11_letters_177 : decode cX11_letters 177 = .ok (.bipush 103, 2) := dk_16 103 (dk_at dksX11_letters_6 18 rfl rfl)
theorem dX11_letters_179 : decode cX11_letters 179 = .ok (.iconst 0, 1) := dk_3 (dk_at dksX11_letters_6 20 rfl rfl)
theorem dX11_letters_180 : decode cX11_letters 180 = .ok (.invokestatic 165, 3) := dk_184 0 165 (dk_at dksX11_letters_6 21 rfl rfl)
theorem dX11_letters_183 : decode cX11_letters 183 = .ok (.lreturn, 1) := dk_173 (dk_at dksX11_letters_7 0 rfl rfl)
theorem dX11_letters_184 : decode cX11_letters 184 = .ok (.bipush 114, 2) := dk_16 114 (dk_at dksX11_letters_7 1 rfl rfl)
theorem dX11_letters_186 : decode cX11_letters 186 = .ok (.bipush 117, 2) := dk_16 117 (dk_at dksX11_letters_7 3 rfl rfl)
theorem dX11_letters_188 : decode cX11_letters 188 = .ok (.bipush 108, 2) := dk_16 108 (dk_at dksX11_letters_7 5 rfl rfl)
theorem dX11_letters_190 : decode cX11_letters 190 = .ok (.bipush 101, 2) := dk_16 101 (dk_at dksX11_letters_7 7 rfl rfl)
theorem dX11_letters_192 : decode cX11_letters 192 = .ok (.iconst 0, 1) := dk_3 (dk_at dksX11_letters_7 9 rfl rfl)
theorem dX11_letters_193 : decode cX11_letters 193 = .ok (.iconst 0, 1) := dk_3 (dk_at dksX11_letters_7 10 rfl rfl)
theorem dX11_letters_194 : decode cX11_letters 194 = .ok (.invokestatic 165, 3) := dk_184 0 165 (dk_at dksX11_letters_7 11 rfl rfl)
theorem dX11_letters_197 : decode cX11_letters 197 = .ok (.lreturn, 1) := dk_173 (dk_at dksX11_letters_7 14 rfl rfl)
theorem dX11_letters_198 : decode cX11_letters 198 = .ok (.bipush 97, 2) := dk_16 97 (dk_at dksX11_letters_7 15 rfl rfl)
theorem dX11_letters_200 : decode cX11_letters 200 = .ok (.bipush 116, 2) := dk_16 116 (dk_at dksX11_letters_7 17 rfl rfl)
theorem dX11_letters_202 : decode cX11_letters 202 = .ok (.iconst 0, 1) := dk_3 (dk_at dksX11_letters_7 19 rfl rfl)
theorem dX11_letters_203 : decode cX11_letters 203 = .ok (.iconst 0, 1) := dk_3 (dk_at dksX11_letters_7 20 rfl rfl)
theorem dX11_letters_204 : decode cX11_letters 204 = .ok (.iconst 0, 1) := dk_3 (dk_at dksX11_letters_7 21 rfl rfl)
theorem dX11_letters_205 : decode cX11_letters 205 = .ok (.iconst 0, 1) := dk_3 (dk_at dksX11_letters_7 22 rfl rfl)
theorem dX11_letters_206 : decode cX11_letters 206 = .ok (.invokestatic 165, 3) := dk_184 0 165 (dk_at dksX11_letters_8 0 rfl rfl)
theorem dX11_letters_209 : decode cX11_letters 209 = .ok (.lreturn, 1) := dk_173 (dk_at dksX11_letters_8 3 rfl rfl)
theorem dX11_letters_210 : decode cX11_letters 210 = .ok (.bipush 119, 2) := dk_16 119 (dk_at dksX11_letters_8 4 rfl rfl)
theorem dX11_letters_212 : decode cX11_letters 212 = .ok (.bipush 101, 2) := dk_16 101 (dk_at dksX11_letters_8 6 rfl rfl)
theorem dX11_letters_214 : decode cX11_letters 214 = .ok (.bipush 105, 2) := dk_16 105 (dk_at dksX11_letters_8 8 rfl rfl)
theorem dX11_letters_216 : decode cX11_letters 216 = .ok (.bipush 103, 2) := dk_16 103 (dk_at dksX11_letters_8 10 rfl rfl)
theorem dX11_letters_218 : decode cX11_letters 218 = .ok (.bipush 104, 2) := dk_16 104 (dk_at dksX11_letters_8 12 rfl rfl)
theorem dX11_letters_220 : decode cX11_letters 220 = .ok (.iconst 0, 1) := dk_3 (dk_at dksX11_letters_8 14 rfl rfl)
theorem dX11_letters_221 : decode cX11_letters 221 = .ok (.invokestatic 165, 3) := dk_184 0 165 (dk_at dksX11_letters_8 15 rfl rfl)
theorem dX11_letters_224 : decode cX11_letters 224 = .ok (.lreturn, 1) := dk_173 (dk_at dksX11_letters_8 18 rfl rfl)
theorem dX11_letters_225 : decode cX11_letters 225 = .ok (.bipush 108, 2) := dk_16 108 (dk_at dksX11_letters_8 19 rfl rfl)
theorem dX11_letters_227 : decode cX11_letters 227 = .ok (.bipush 111, 2) := dk_16 111 (dk_at dksX11_letters_8 21 rfl rfl)
theorem dX11_letters_229 : decode cX11_letters 229 = .ok (.bipush 117, 2) := dk_16 117 (dk_at dksX11_letters_9 0 rfl rfl)
theorem dX11_letters_231 : decode cX11_letters 231 = .ok (.bipush 100, 2) := dk_16 100 (dk_at dksX11_letters_9 2 rfl rfl)
theorem dX11_letters_233 : decode cX11_letters 233 = .ok (.iconst 0, 1) := dk_3 (dk_at dksX11_letters_9 4 rfl rfl)
theorem dX11_letters_234 : decode cX11_letters 234 = .ok (.iconst 0, 1) := dk_3 (dk_at dksX11_letters_9 5 rfl rfl)
theorem dX11_letters_235 : decode cX11_letters 235 = .ok (.invokestatic 165, 3) := dk_184 0 165 (dk_at dksX11_letters_9 6 rfl rfl)
theorem dX11_letters_238 : decode cX11_letters 238 = .ok (.lreturn, 1) := dk_173 (dk_at dksX11_letters_9 9 rfl rfl)
theorem dX11_letters_239 : decode cX11_letters 239 = .ok (.bipush 110, 2) := dk_16 110 (dk_at dksX11_letters_9 10 rfl rfl)
theorem dX11_letters_241 : decode cX11_letters 241 = .ok (.bipush 101, 2) := dk_16 101 (dk_at dksX11_letters_9 12 rfl rfl)
theorem dX11_letters_243 : decode cX11_letters 243 = .ok (.bipush 118, 2) := dk_16 118 (dk_at dksX11_letters_9 14 rfl rfl)
theorem dX11_letters_245 : decode cX11_letters 245 = .ok (.bipush 101, 2) := dk_16 101 (dk_at dksX11_letters_9 16 rfl rfl)
theorem dX11_letters_247 : decode cX11_letters 247 = .ok (.bipush 114, 2) := dk_16 114 (dk_at dksX11_letters_9 18 rfl rfl)
theorem dX11_letters_249 : decode cX11_letters 249 = .ok (.iconst 0, 1) := dk_3 (dk_at dksX11_letters_9 20 rfl rfl)
theorem dX11_letters_250 : decode cX11_letters 250 = .ok (.invokestatic 165, 3) := dk_184 0 165 (dk_at dksX11_letters_9 21 rfl rfl)
theorem dX11_letters_253 : decode cX11_letters 253 = .ok (.lreturn, 1) := dk_173 (dk_at dksX11_letters_10 0 rfl rfl)
abbrev cX11_spelled : ByteArray := prog_19_method_12_code
def yX11_spelled : MethodName := ⟨RX11, "spelled", "(IIIIII)J"⟩
def dkwX11_spelled_3 : List UInt8 := [153, 0, 16, 22, 6, 8, 121, 21, 5, 16, 96, 100, 133, 129, 55, 6, 22, 6, 173]
abbrev dktX11_spelled_3 : List UInt8 := dkwX11_spelled_3 ++ []
def dkwX11_spelled_2 : List UInt8 := [133, 129, 55, 6, 21, 4, 153, 0, 16, 22, 6, 8, 121, 21, 4, 16, 96, 100, 133, 129, 55, 6, 21, 5]
abbrev dktX11_spelled_2 : List UInt8 := dkwX11_spelled_2 ++ dktX11_spelled_3
def dkwX11_spelled_1 : List UInt8 := [22, 6, 8, 121, 28, 16, 96, 100, 133, 129, 55, 6, 29, 153, 0, 15, 22, 6, 8, 121, 29, 16, 96, 100]
abbrev dktX11_spelled_1 : List UInt8 := dkwX11_spelled_1 ++ dktX11_spelled_2
def dkwX11_spelled_0 : List UInt8 := [26, 16, 96, 100, 133, 55, 6, 22, 6, 8, 121, 27, 16, 96, 100, 133, 129, 55, 6, 28, 153, 0, 15]
abbrev dktX11_spelled_0 : List UInt8 := dkwX11_spelled_0 ++ dktX11_spelled_1
theorem dksX11_spelled_0 : cX11_spelled.data.toList.drop 0 = dktX11_spelled_0 := by decide +kernel
theorem dksX11_spelled_1 : cX11_spelled.data.toList.drop 23 = dktX11_spelled_1 := dk_seg dksX11_spelled_0 23 rfl rfl
theorem dksX11_spelled_2 : cX11_spelled.data.toList.drop 47 = dktX11_spelled_2 := dk_seg dksX11_spelled_1 24 rfl rfl
theorem dksX11_spelled_3 : cX11_spelled.data.toList.drop 71 = dktX11_spelled_3 := dk_seg dksX11_spelled_2 24 rfl rfl
theorem dX11_spelled_0 : decode cX11_spelled 0 = .ok (.iload_n 0, 1) := dk_26 (dk_at dksX11_spelled_0 0 rfl rfl)
theorem dX11_spelled_1 : decode cX11_spelled 1 = .ok (.bipush 96, 2) := dk_16 96 (dk_at dksX11_spelled_0 1 rfl rfl)
theorem dX11_spelled_3 : decode cX11_spelled 3 = .ok (.isub, 1) := dk_100 (dk_at dksX11_spelled_0 3 rfl rfl)
theorem dX11_spelled_4 : decode cX11_spelled 4 = .ok (.i2l, 1) := dk_133 (dk_at dksX11_spelled_0 4 rfl rfl)
theorem dX11_spelled_5 : decode cX11_spelled 5 = .ok (.lstore 6, 2) := dk_55 6 (dk_at dksX11_spelled_0 5 rfl rfl)
theorem dX11_spelled_7 : decode cX11_spelled 7 = .ok (.lload 6, 2) := dk_22 6 (dk_at dksX11_spelled_0 7 rfl rfl)
theorem dX11_spelled_9 : decode cX11_spelled 9 = .ok (.iconst 5, 1) := dk_8 (dk_at dksX11_spelled_0 9 rfl rfl)
theorem dX11_spelled_10 : decode cX11_spelled 10 = .ok (.lshl, 1) := dk_121 (dk_at dksX11_spelled_0 10 rfl rfl)
theorem dX11_spelled_11 : decode cX11_spelled 11 = .ok (.iload_n 1, 1) := dk_27 (dk_at dksX11_spelled_0 11 rfl rfl)
theorem dX11_spelled_12 : decode cX11_spelled 12 = .ok (.bipush 96, 2) := dk_16 96 (dk_at dksX11_spelled_0 12 rfl rfl)
theorem dX11_spelled_14 : decode cX11_spelled 14 = .ok (.isub, 1) := dk_100 (dk_at dksX11_spelled_0 14 rfl rfl)
theorem dX11_spelled_15 : decode cX11_spelled 15 = .ok (.i2l, 1) := dk_133 (dk_at dksX11_spelled_0 15 rfl rfl)
theorem dX11_spelled_16 : decode cX11_spelled 16 = .ok (.lor, 1) := dk_129 (dk_at dksX11_spelled_0 16 rfl rfl)
theorem dX11_spelled_17 : decode cX11_spelled 17 = .ok (.lstore 6, 2) := dk_55 6 (dk_at dksX11_spelled_0 17 rfl rfl)
theorem dX11_spelled_19 : decode cX11_spelled 19 = .ok (.iload_n 2, 1) := dk_28 (dk_at dksX11_spelled_0 19 rfl rfl)
theorem dX11_spelled_20 : decode cX11_spelled 20 = .ok (.ifCond .eq 15, 3) := dk_153 0 15 (dk_at dksX11_spelled_0 20 rfl rfl)
theorem dX11_spelled_23 : decode cX11_spelled 23 = .ok (.lload 6, 2) := dk_22 6 (dk_at dksX11_spelled_1 0 rfl rfl)
theorem dX11_spelled_25 : decode cX11_spelled 25 = .ok (.iconst 5, 1) := dk_8 (dk_at dksX11_spelled_1 2 rfl rfl)
theorem dX11_spelled_26 : decode cX11_spelled 26 = .ok (.lshl, 1) := dk_121 (dk_at dksX11_spelled_1 3 rfl rfl)
theorem dX11_spelled_27 : decode cX11_spelled 27 = .ok (.iload_n 2, 1) := dk_28 (dk_at dksX11_spelled_1 4 rfl rfl)
theorem dX11_spelled_28 : decode cX11_spelled 28 = .ok (.bipush 96, 2) := dk_16 96 (dk_at dksX11_spelled_1 5 rfl rfl)
theorem dX11_spelled_30 : decode cX11_spelled 30 = .ok (.isub, 1) := dk_100 (dk_at dksX11_spelled_1 7 rfl rfl)
theorem dX11_spelled_31 : decode cX11_spelled 31 = .ok (.i2l, 1) := dk_133 (dk_at dksX11_spelled_1 8 rfl rfl)
theorem dX11_spelled_32 : decode cX11_spelled 32 = .ok (.lor, 1) := dk_129 (dk_at dksX11_spelled_1 9 rfl rfl)
theorem dX11_spelled_33 : decode cX11_spelled 33 = .ok (.lstore 6, 2) := dk_55 6 (dk_at dksX11_spelled_1 10 rfl rfl)
theorem dX11_spelled_35 : decode cX11_spelled 35 = .ok (.iload_n 3, 1) := dk_29 (dk_at dksX11_spelled_1 12 rfl rfl)
theorem dX11_spelled_36 : decode cX11_spelled 36 = .ok (.ifCond .eq 15, 3) := dk_153 0 15 (dk_at dksX11_spelled_1 13 rfl rfl)
theorem dX11_spelled_39 : decode cX11_spelled 39 = .ok (.lload 6, 2) := dk_22 6 (dk_at dksX11_spelled_1 16 rfl rfl)
theorem dX11_spelled_41 : decode cX11_spelled 41 = .ok (.iconst 5, 1) := dk_8 (dk_at dksX11_spelled_1 18 rfl rfl)
theorem dX11_spelled_42 : decode cX11_spelled 42 = .ok (.lshl, 1) := dk_121 (dk_at dksX11_spelled_1 19 rfl rfl)
theorem dX11_spelled_43 : decode cX11_spelled 43 = .ok (.iload_n 3, 1) := dk_29 (dk_at dksX11_spelled_1 20 rfl rfl)
theorem dX11_spelled_44 : decode cX11_spelled 44 = .ok (.bipush 96, 2) := dk_16 96 (dk_at dksX11_spelled_1 21 rfl rfl)
theorem dX11_spelled_46 : decode cX11_spelled 46 = .ok (.isub, 1) := dk_100 (dk_at dksX11_spelled_1 23 rfl rfl)
theorem dX11_spelled_47 : decode cX11_spelled 47 = .ok (.i2l, 1) := dk_133 (dk_at dksX11_spelled_2 0 rfl rfl)
theorem dX11_spelled_48 : decode cX11_spelled 48 = .ok (.lor, 1) := dk_129 (dk_at dksX11_spelled_2 1 rfl rfl)
theorem dX11_spelled_49 : decode cX11_spelled 49 = .ok (.lstore 6, 2) := dk_55 6 (dk_at dksX11_spelled_2 2 rfl rfl)
theorem dX11_spelled_51 : decode cX11_spelled 51 = .ok (.iload 4, 2) := dk_21 4 (dk_at dksX11_spelled_2 4 rfl rfl)
theorem dX11_spelled_53 : decode cX11_spelled 53 = .ok (.ifCond .eq 16, 3) := dk_153 0 16 (dk_at dksX11_spelled_2 6 rfl rfl)
theorem dX11_spelled_56 : decode cX11_spelled 56 = .ok (.lload 6, 2) := dk_22 6 (dk_at dksX11_spelled_2 9 rfl rfl)
theorem dX11_spelled_58 : decode cX11_spelled 58 = .ok (.iconst 5, 1) := dk_8 (dk_at dksX11_spelled_2 11 rfl rfl)
theorem dX11_spelled_59 : decode cX11_spelled 59 = .ok (.lshl, 1) := dk_121 (dk_at dksX11_spelled_2 12 rfl rfl)
theorem dX11_spelled_60 : decode cX11_spelled 60 = .ok (.iload 4, 2) := dk_21 4 (dk_at dksX11_spelled_2 13 rfl rfl)
theorem dX11_spelled_62 : decode cX11_spelled 62 = .ok (.bipush 96, 2) := dk_16 96 (dk_at dksX11_spelled_2 15 rfl rfl)
theorem dX11_spelled_64 : decode cX11_spelled 64 = .ok (.isub, 1) := dk_100 (dk_at dksX11_spelled_2 17 rfl rfl)
theorem dX11_spelled_65 : decode cX11_spelled 65 = .ok (.i2l, 1) := dk_133 (dk_at dksX11_spelled_2 18 rfl rfl)
theorem dX11_spelled_66 : decode cX11_spelled 66 = .ok (.lor, 1) := dk_129 (dk_at dksX11_spelled_2 19 rfl rfl)
theorem dX11_spelled_67 : decode cX11_spelled 67 = .ok (.lstore 6, 2) := dk_55 6 (dk_at dksX11_spelled_2 20 rfl rfl)
theorem dX11_spelled_69 : decode cX11_spelled 69 = .ok (.iload 5, 2) := dk_21 5 (dk_at dksX11_spelled_2 22 rfl rfl)
theorem dX11_spelled_71 : decode cX11_spelled 71 = .ok (.ifCond .eq 16, 3) := dk_153 0 16 (dk_at dksX11_spelled_3 0 rfl rfl)
theorem dX11_spelled_74 : decode cX11_spelled 74 = .ok (.lload 6, 2) := dk_22 6 (dk_at dksX11_spelled_3 3 rfl rfl)
theorem dX11_spelled_76 : decode cX11_spelled 76 = .ok (.iconst 5, 1) := dk_8 (dk_at dksX11_spelled_3 5 rfl rfl)
theorem dX11_spelled_77 : decode cX11_spelled 77 = .ok (.lshl, 1) := dk_121 (dk_at dksX11_spelled_3 6 rfl rfl)
theorem dX11_spelled_78 : decode cX11_spelled 78 = .ok (.iload 5, 2) := dk_21 5 (dk_at dksX11_spelled_3 7 rfl rfl)
theorem dX11_spelled_80 : decode cX11_spelled 80 = .ok (.bipush 96, 2) := dk_16 96 (dk_at dksX11_spelled_3 9 rfl rfl)
theorem dX11_spelled_82 : decode cX11_spelled 82 = .ok (.isub, 1) := dk_100 (dk_at dksX11_spelled_3 11 rfl rfl)
theorem dX11_spelled_83 : decode cX11_spelled 83 = .ok (.i2l, 1) := dk_133 (dk_at dksX11_spelled_3 12 rfl rfl)
theorem dX11_spelled_84 : decode cX11_spelled 84 = .ok (.lor, 1) := dk_129 (dk_at dksX11_spelled_3 13 rfl rfl)
theorem dX11_spelled_85 : decode cX11_spelled 85 = .ok (.lstore 6, 2) := dk_55 6 (dk_at dksX11_spelled_3 14 rfl rfl)
theorem dX11_spelled_87 : decode cX11_spelled 87 = .ok (.lload 6, 2) := dk_22 6 (dk_at dksX11_spelled_3 16 rfl rfl)
theorem dX11_spelled_89 : decode cX11_spelled 89 = .ok (.lreturn, 1) := dk_173 (dk_at dksX11_spelled_3 18 rfl rfl)
abbrev cX11_faults : ByteArray := prog_19_method_15_code
def yX11_faults : MethodName := ⟨RX11, "faults", "(I)V"⟩
def dkwX11_faults_0 : List UInt8 := [42, 180, 0, 173, 153, 0, 4, 177, 42, 27, 181, 0, 173, 42, 42, 180, 0, 142, 181, 0, 44, 177]
abbrev dktX11_faults_0 : List UInt8 := dkwX11_faults_0 ++ []
theorem dksX11_faults_0 : cX11_faults.data.toList.drop 0 = dktX11_faults_0 := by decide +kernel
theorem dX11_faults_0 : decode cX11_faults 0 = .ok (.aload_n 0, 1) := dk_42 (dk_at dksX11_faults_0 0 rfl rfl)
theorem dX11_faults_1 : decode cX11_faults 1 = .ok (.getfield 173, 3) := dk_180 0 173 (dk_at dksX11_faults_0 1 rfl rfl)
theorem dX11_faults_4 : decode cX11_faults 4 = .ok (.ifCond .eq 4, 3) := dk_153 0 4 (dk_at dksX11_faults_0 4 rfl rfl)
theorem dX11_faults_7 : decode cX11_faults 7 = .ok (.return_, 1) := dk_177 (dk_at dksX11_faults_0 7 rfl rfl)
theorem dX11_faults_8 : decode cX11_faults 8 = .ok (.aload_n 0, 1) := dk_42 (dk_at dksX11_faults_0 8 rfl rfl)
theorem dX11_faults_9 : decode cX11_faults 9 = .ok (.iload_n 1, 1) := dk_27 (dk_at dksX11_faults_0 9 rfl rfl)
theorem dX11_faults_10 : decode cX11_faults 10 = .ok (.putfield 173, 3) := dk_181 0 173 (dk_at dksX11_faults_0 10 rfl rfl)
theorem dX11_faults_13 : decode cX11_faults 13 = .ok (.aload_n 0, 1) := dk_42 (dk_at dksX11_faults_0 13 rfl rfl)
theorem dX11_faults_14 : decode cX11_faults 14 = .ok (.aload_n 0, 1) := dk_42 (dk_at dksX11_faults_0 14 rfl rfl)
theorem dX11_faults_15 : decode cX11_faults 15 = .ok (.getfield 142, 3) := dk_180 0 142 (dk_at dksX11_faults_0 15 rfl rfl)
theorem dX11_faults_18 : decode cX11_faults 18 = .ok (.putfield 44, 3) := dk_181 0 44 (dk_at dksX11_faults_0 18 rfl rfl)
theorem dX11_faults_21 : decode cX11_faults 21 = .ok (.return_, 1) := dk_177 (dk_at dksX11_faults_0 21 rfl rfl)
abbrev cX11_word0 : ByteArray := prog_19_method_21_code
def yX11_word0 : MethodName := ⟨RX11, "word0", "([II)V"⟩
def dkwX11_word0_3 : List UInt8 := [180, 0, 142, 29, 96, 182, 0, 138, 79, 132, 3, 1, 167, 255, 228, 42, 182, 0, 180, 177]
abbrev dktX11_word0_3 : List UInt8 := dkwX11_word0_3 ++ []
def dkwX11_word0_2 : List UInt8 := [42, 180, 0, 162, 79, 3, 62, 29, 42, 180, 0, 162, 162, 0, 26, 43, 28, 4, 96, 29, 96, 42, 42]
abbrev dktX11_word0_2 : List UInt8 := dkwX11_word0_2 ++ dktX11_word0_3
def dkwX11_word0_1 : List UInt8 := [42, 180, 0, 162, 16, 8, 164, 0, 8, 42, 5, 182, 0, 183, 42, 182, 0, 176, 154, 0, 4, 177, 43, 28]
abbrev dktX11_word0_1 : List UInt8 := dkwX11_word0_1 ++ dktX11_word0_2
def dkwX11_word0_0 : List UInt8 := [42, 182, 0, 176, 154, 0, 4, 177, 42, 180, 0, 152, 4, 159, 0, 11, 42, 4, 182, 0, 183, 167, 0, 17]
abbrev dktX11_word0_0 : List UInt8 := dkwX11_word0_0 ++ dktX11_word0_1
theorem dksX11_word0_0 : cX11_word0.data.toList.drop 0 = dktX11_word0_0 := by decide +kernel
theorem dksX11_word0_1 : cX11_word0.data.toList.drop 24 = dktX11_word0_1 := dk_seg dksX11_word0_0 24 rfl rfl
theorem dksX11_word0_2 : cX11_word0.data.toList.drop 48 = dktX11_word0_2 := dk_seg dksX11_word0_1 24 rfl rfl
theorem dksX11_word0_3 : cX11_word0.data.toList.drop 71 = dktX11_word0_3 := dk_seg dksX11_word0_2 23 rfl rfl
theorem dX11_word0_0 : decode cX11_word0 0 = .ok (.aload_n 0, 1) := dk_42 (dk_at dksX11_word0_0 0 rfl rfl)
theorem dX11_word0_1 : decode cX11_word0 1 = .ok (.invokevirtual 176, 3) := dk_182 0 176 (dk_at dksX11_word0_0 1 rfl rfl)
theorem dX11_word0_4 : decode cX11_word0 4 = .ok (.ifCond .ne 4, 3) := dk_154 0 4 (dk_at dksX11_word0_0 4 rfl rfl)
theorem dX11_word0_7 : decode cX11_word0 7 = .ok (.return_, 1) := dk_177 (dk_at dksX11_word0_0 7 rfl rfl)
theorem dX11_word0_8 : decode cX11_word0 8 = .ok (.aload_n 0, 1) := dk_42 (dk_at dksX11_word0_0 8 rfl rfl)
theorem dX11_word0_9 : decode cX11_word0 9 = .ok (.getfield 152, 3) := dk_180 0 152 (dk_at dksX11_word0_0 9 rfl rfl)
theorem dX11_word0_12 : decode cX11_word0 12 = .ok (.iconst 1, 1) := dk_4 (dk_at dksX11_word0_0 12 rfl rfl)
theorem dX11_word0_13 : decode cX11_word0 13 = .ok (.if_icmp .eq 11, 3) := dk_159 0 11 (dk_at dksX11_word0_0 13 rfl rfl)
theorem dX11_word0_16 : decode cX11_word0 16 = .ok (.aload_n 0, 1) := dk_42 (dk_at dksX11_word0_0 16 rfl rfl)
theorem dX11_word0_17 : decode cX11_word0 17 = .ok (.iconst 1, 1) := dk_4 (dk_at dksX11_word0_0 17 rfl rfl)
theorem dX11_word0_18 : decode cX11_word0 18 = .ok (.invokevirtual 183, 3) := dk_182 0 183 (dk_at dksX11_word0_0 18 rfl rfl)
theorem dX11_word0_21 : decode cX11_word0 21 = .ok (.goto 17, 3) := dk_167 0 17 (dk_at dksX11_word0_0 21 rfl rfl)
theorem dX11_word0_24 : decode cX11_word0 24 = .ok (.aload_n 0, 1) := dk_42 (dk_at dksX11_word0_1 0 rfl rfl)
theorem dX11_word0_25 : decode cX11_word0 25 = .ok (.getfield 162, 3) := dk_180 0 162 (dk_at dksX11_word0_1 1 rfl rfl)
theorem dX11_word0_28 : decode cX11_word0 28 = .ok (.bipush 8, 2) := dk_16 8 (dk_at dksX11_word0_1 4 rfl rfl)
theorem dX11_word0_30 : decode cX11_word0 30 = .ok (.if_icmp .le 8, 3) := dk_164 0 8 (dk_at dksX11_word0_1 6 rfl rfl)
theorem dX11_word0_33 : decode cX11_word0 33 = .ok (.aload_n 0, 1) := dk_42 (dk_at dksX11_word0_1 9 rfl rfl)
theorem dX11_word0_34 : decode cX11_word0 34 = .ok (.iconst 2, 1) := dk_5 (dk_at dksX11_word0_1 10 rfl rfl)
theorem dX11_word0_35 : decode cX11_word0 35 = .ok (.invokevirtual 183, 3) := dk_182 0 183 (dk_at dksX11_word0_1 11 rfl rfl)
theorem dX11_word0_38 : decode cX11_word0 38 = .ok (.aload_n 0, 1) := dk_42 (dk_at dksX11_word0_1 14 rfl rfl)
theorem dX11_word0_39 : decode cX11_word0 39 = .ok (.invokevirtual 176, 3) := dk_182 0 176 (dk_at dksX11_word0_1 15 rfl rfl)
theorem dX11_word0_42 : decode cX11_word0 42 = .ok (.ifCond .ne 4, 3) := dk_154 0 4 (dk_at dksX11_word0_1 18 rfl rfl)
theorem dX11_word0_45 : decode cX11_word0 45 = .ok (.return_, 1) := dk_177 (dk_at dksX11_word0_1 21 rfl rfl)
theorem dX11_word0_46 : decode cX11_word0 46 = .ok (.aload_n 1, 1) := dk_43 (dk_at dksX11_word0_1 22 rfl rfl)
theorem dX11_word0_47 : decode cX11_word0 47 = .ok (.iload_n 2, 1) := dk_28 (dk_at dksX11_word0_1 23 rfl rfl)
theorem dX11_word0_48 : decode cX11_word0 48 = .ok (.aload_n 0, 1) := dk_42 (dk_at dksX11_word0_2 0 rfl rfl)
theorem dX11_word0_49 : decode cX11_word0 49 = .ok (.getfield 162, 3) := dk_180 0 162 (dk_at dksX11_word0_2 1 rfl rfl)
theorem dX11_word0_52 : decode cX11_word0 52 = .ok (.iastore, 1) := dk_79 (dk_at dksX11_word0_2 4 rfl rfl)
theorem dX11_word0_53 : decode cX11_word0 53 = .ok (.iconst 0, 1) := dk_3 (dk_at dksX11_word0_2 5 rfl rfl)
theorem dX11_word0_54 : decode cX11_word0 54 = .ok (.istore_n 3, 1) := dk_62 (dk_at dksX11_word0_2 6 rfl rfl)
theorem dX11_word0_55 : decode cX11_word0 55 = .ok (.iload_n 3, 1) := dk_29 (dk_at dksX11_word0_2 7 rfl rfl)
theorem dX11_word0_56 : decode cX11_word0 56 = .ok (.aload_n 0, 1) := dk_42 (dk_at dksX11_word0_2 8 rfl rfl)
theorem dX11_word0_57 : decode cX11_word0 57 = .ok (.getfield 162, 3) := dk_180 0 162 (dk_at dksX11_word0_2 9 rfl rfl)
theorem dX11_word0_60 : decode cX11_word0 60 = .ok (.if_icmp .ge 26, 3) := dk_162 0 26 (dk_at dksX11_word0_2 12 rfl rfl)
theorem dX11_word0_63 : decode cX11_word0 63 = .ok (.aload_n 1, 1) := dk_43 (dk_at dksX11_word0_2 15 rfl rfl)
theorem dX11_word0_64 : decode cX11_word0 64 = .ok (.iload_n 2, 1) := dk_28 (dk_at dksX11_word0_2 16 rfl rfl)
theorem dX11_word0_65 : decode cX11_word0 65 = .ok (.iconst 1, 1) := dk_4 (dk_at dksX11_word0_2 17 rfl rfl)
theorem dX11_word0_66 : decode cX11_word0 66 = .ok (.iadd, 1) := dk_96 (dk_at dksX11_word0_2 18 rfl rfl)
theorem dX11_word0_67 : decode cX11_word0 67 = .ok (.iload_n 3, 1) := dk_29 (dk_at dksX11_word0_2 19 rfl rfl)
theorem dX11_word0_68 : decode cX11_word0 68 = .ok (.iadd, 1) := dk_96 (dk_at dksX11_word0_2 20 rfl rfl)
theorem dX11_word0_69 : decode cX11_word0 69 = .ok (.aload_n 0, 1) := dk_42 (dk_at dksX11_word0_2 21 rfl rfl)
theorem dX11_word0_70 : decode cX11_word0 70 = .ok (.aload_n 0, 1) := dk_42 (dk_at dksX11_word0_2 22 rfl rfl)
theorem dX11_word0_71 : decode cX11_word0 71 = .ok (.getfield 142, 3) := dk_180 0 142 (dk_at dksX11_word0_3 0 rfl rfl)
theorem dX11_word0_74 : decode cX11_word0 74 = .ok (.iload_n 3, 1) := dk_29 (dk_at dksX11_word0_3 3 rfl rfl)
theorem dX11_word0_75 : decode cX11_word0 75 = .ok (.iadd, 1) := dk_96 (dk_at dksX11_word0_3 4 rfl rfl)
theorem dX11_word0_76 : decode cX11_word0 76 = .ok (.invokevirtual 138, 3) := dk_182 0 138 (dk_at dksX11_word0_3 5 rfl rfl)
theorem dX11_word0_79 : decode cX11_word0 79 = .ok (.iastore, 1) := dk_79 (dk_at dksX11_word0_3 8 rfl rfl)
theorem dX11_word0_80 : decode cX11_word0 80 = .ok (.iinc 3 1, 3) := dk_132 3 1 (dk_at dksX11_word0_3 9 rfl rfl)
theorem dX11_word0_83 : decode cX11_word0 83 = .ok (.goto (-28), 3) := dk_167 255 228 (dk_at dksX11_word0_3 12 rfl rfl)
theorem dX11_word0_86 : decode cX11_word0 86 = .ok (.aload_n 0, 1) := dk_42 (dk_at dksX11_word0_3 15 rfl rfl)
theorem dX11_word0_87 : decode cX11_word0 87 = .ok (.invokevirtual 180, 3) := dk_182 0 180 (dk_at dksX11_word0_3 16 rfl rfl)
theorem dX11_word0_90 : decode cX11_word0 90 = .ok (.return_, 1) := dk_177 (dk_at dksX11_word0_3 19 rfl rfl)
abbrev cX11_readsEnding : ByteArray := prog_19_method_22_code
def yX11_readsEnding : MethodName := ⟨RX11, "readsEnding", "()V"⟩
def dkwX11_readsEnding_3 : List UInt8 := [182, 0, 189, 61, 42, 42, 180, 0, 53, 16, 9, 8, 27, 104, 28, 96, 104, 182, 0, 193, 177]
abbrev dktX11_readsEnding_3 : List UInt8 := dkwX11_readsEnding_3 ++ []
def dkwX11_readsEnding_2 : List UInt8 := [16, 9, 8, 27, 104, 42, 180, 0, 149, 96, 104, 46, 158, 0, 8, 42, 7, 182, 0, 183, 42, 3, 7]
abbrev dktX11_readsEnding_2 : List UInt8 := dkwX11_readsEnding_2 ++ dktX11_readsEnding_3
def dkwX11_readsEnding_1 : List UInt8 := [160, 0, 43, 42, 180, 0, 162, 6, 163, 0, 35, 42, 180, 0, 149, 8, 162, 0, 27, 42, 180, 0, 53]
abbrev dktX11_readsEnding_1 : List UInt8 := dkwX11_readsEnding_1 ++ dktX11_readsEnding_2
def dkwX11_readsEnding_0 : List UInt8 := [42, 182, 0, 180, 42, 3, 5, 182, 0, 189, 60, 42, 182, 0, 176, 153, 0, 51, 42, 180, 0, 152, 5]
abbrev dktX11_readsEnding_0 : List UInt8 := dkwX11_readsEnding_0 ++ dktX11_readsEnding_1
theorem dksX11_readsEnding_0 : cX11_readsEnding.data.toList.drop 0 = dktX11_readsEnding_0 := by decide +kernel
theorem dksX11_readsEnding_1 : cX11_readsEnding.data.toList.drop 23 = dktX11_readsEnding_1 := dk_seg dksX11_readsEnding_0 23 rfl rfl
theorem dksX11_readsEnding_2 : cX11_readsEnding.data.toList.drop 46 = dktX11_readsEnding_2 := dk_seg dksX11_readsEnding_1 23 rfl rfl
theorem dksX11_readsEnding_3 : cX11_readsEnding.data.toList.drop 69 = dktX11_readsEnding_3 := dk_seg dksX11_readsEnding_2 23 rfl rfl
theorem dX11_readsEnding_0 : decode cX11_readsEnding 0 = .ok (.aload_n 0, 1) := dk_42 (dk_at dksX11_readsEnding_0 0 rfl rfl)
theorem dX11_readsEnding_1 : decode cX11_readsEnding 1 = .ok (.invokevirtual 180, 3) := dk_182 0 180 (dk_at dksX11_readsEnding_0 1 rfl rfl)
theorem dX11_readsEnding_4 : decode cX11_readsEnding 4 = .ok (.aload_n 0, 1) := dk_42 (dk_at dksX11_readsEnding_0 4 rfl rfl)
theorem dX11_readsEnding_5 : decode cX11_readsEnding 5 = .ok (.iconst 0, 1) := dk_3 (dk_at dksX11_readsEnding_0 5 rfl rfl)
theorem dX11_readsEnding_6 : decode cX11_readsEnding 6 = .ok (.iconst 2, 1) := dk_5 (dk_at dksX11_readsEnding_0 6 rfl rfl)
theorem dX11_readsEnding_7 : decode cX11_readsEnding 7 = .ok (.invokevirtual 189, 3) := dk_182 0 189 (dk_at dksX11_readsEnding_0 7 rfl rfl)
theorem dX11_readsEnding_10 : decode cX11_readsEnding 10 = .ok (.istore_n 1, 1) := dk_60 (dk_at dksX11_readsEnding_0 10 rfl rfl)
theorem dX11_readsEnding_11 : decode cX11_readsEnding 11 = .ok (.aload_n 0, 1) := dk_42 (dk_at dksX11_readsEnding_0 11 rfl rfl)
theorem dX11_readsEnding_12 : decode cX11_readsEnding 12 = .ok (.invokevirtual 176, 3) := dk_182 0 176 (dk_at dksX11_readsEnding_0 12 rfl rfl)
theorem dX11_readsEnding_15 : decode cX11_readsEnding 15 = .ok (.ifCond .eq 51, 3) := dk_153 0 51 (dk_at dksX11_readsEnding_0 15 rfl rfl)
theorem dX11_readsEnding_18 : decode cX11_readsEnding 18 = .ok (.aload_n 0, 1) := dk_42 (dk_at dksX11_readsEnding_0 18 rfl rfl)
theorem dX11_readsEnding_19 : decode cX11_readsEnding 19 = .ok (.getfield 152, 3) := dk_180 0 152 (dk_at dksX11_readsEnding_0 19 rfl rfl)
theorem dX11_readsEnding_22 : decode cX11_readsEnding 22 = .ok (.iconst 2, 1) := dk_5 (dk_at dksX11_readsEnding_0 22 rfl rfl)
theorem dX11_readsEnding_23 : decode cX11_readsEnding 23 = .ok (.if_icmp .ne 43, 3) := dk_160 0 43 (dk_at dksX11_readsEnding_1 0 rfl rfl)
theorem dX11_readsEnding_26 : decode cX11_readsEnding 26 = .ok (.aload_n 0, 1) := dk_42 (dk_at dksX11_readsEnding_1 3 rfl rfl)
theorem dX11_readsEnding_27 : decode cX11_readsEnding 27 = .ok (.getfield 162, 3) := dk_180 0 162 (dk_at dksX11_readsEnding_1 4 rfl rfl)
theorem dX11_readsEnding_30 : decode cX11_readsEnding 30 = .ok (.iconst 3, 1) := dk_6 (dk_at dksX11_readsEnding_1 7 rfl rfl)
theorem dX11_readsEnding_31 : decode cX11_readsEnding 31 = .ok (.if_icmp .gt 35, 3) := dk_163 0 35 (dk_at dksX11_readsEnding_1 8 rfl rfl)
theorem dX11_readsEnding_34 : decode cX11_readsEnding 34 = .ok (.aload_n 0, 1) := dk_42 (dk_at dksX11_readsEnding_1 11 rfl rfl)
theorem dX11_readsEnding_35 : decode cX11_readsEnding 35 = .ok (.getfield 149, 3) := dk_180 0 149 (dk_at dksX11_readsEnding_1 12 rfl rfl)
theorem dX11_readsEnding_38 : decode cX11_readsEnding 38 = .ok (.iconst 5, 1) := dk_8 (dk_at dksX11_readsEnding_1 15 rfl rfl)
theorem dX11_readsEnding_39 : decode cX11_readsEnding 39 = .ok (.if_icmp .ge 27, 3) := dk_162 0 27 (dk_at dksX11_readsEnding_1 16 rfl rfl)
theorem dX11_readsEnding_42 : decode cX11_readsEnding 42 = .ok (.aload_n 0, 1) := dk_42 (dk_at dksX11_readsEnding_1 19 rfl rfl)
theorem dX11_readsEnding_43 : decode cX11_readsEnding 43 = .ok (.getfield 53, 3) := dk_180 0 53 (dk_at dksX11_readsEnding_1 20 rfl rfl)
theorem dX11_readsEnding_46 : decode cX11_readsEnding 46 = .ok (.bipush 9, 2) := dk_16 9 (dk_at dksX11_readsEnding_2 0 rfl rfl)
theorem dX11_readsEnding_48 : decode cX11_readsEnding 48 = .ok (.iconst 5, 1) := dk_8 (dk_at dksX11_readsEnding_2 2 rfl rfl)
theorem dX11_readsEnding_49 : decode cX11_readsEnding 49 = .ok (.iload_n 1, 1) := dk_27 (dk_at dksX11_readsEnding_2 3 rfl rfl)
theorem dX11_readsEnding_50 : decode cX11_readsEnding 50 = .ok (.imul, 1) := dk_104 (dk_at dksX11_readsEnding_2 4 rfl rfl)
theorem dX11_readsEnding_51 : decode cX11_readsEnding 51 = .ok (.aload_n 0, 1) := dk_42 (dk_at dksX11_readsEnding_2 5 rfl rfl)
theorem dX11_readsEnding_52 : decode cX11_readsEnding 52 = .ok (.getfield 149, 3) := dk_180 0 149 (dk_at dksX11_readsEnding_2 6 rfl rfl)
theorem dX11_readsEnding_55 : decode cX11_readsEnding 55 = .ok (.iadd, 1) := dk_96 (dk_at dksX11_readsEnding_2 9 rfl rfl)
theorem dX11_readsEnding_56 : decode cX11_readsEnding 56 = .ok (.imul, 1) := dk_104 (dk_at dksX11_readsEnding_2 10 rfl rfl)
theorem dX11_readsEnding_57 : decode cX11_readsEnding 57 = .ok (.iaload, 1) := dk_46 (dk_at dksX11_readsEnding_2 11 rfl rfl)
theorem dX11_readsEnding_58 : decode cX11_readsEnding 58 = .ok (.ifCond .le 8, 3) := dk_158 0 8 (dk_at dksX11_readsEnding_2 12 rfl rfl)
theorem dX11_readsEnding_61 : decode cX11_readsEnding 61 = .ok (.aload_n 0, 1) := dk_42 (dk_at dksX11_readsEnding_2 15 rfl rfl)
theorem dX11_readsEnding_62 : decode cX11_readsEnding 62 = .ok (.iconst 4, 1) := dk_7 (dk_at dksX11_readsEnding_2 16 rfl rfl)
theorem dX11_readsEnding_63 : decode cX11_readsEnding 63 = .ok (.invokevirtual 183, 3) := dk_182 0 183 (dk_at dksX11_readsEnding_2 17 rfl rfl)
theorem dX11_readsEnding_66 : decode cX11_readsEnding 66 = .ok (.aload_n 0, 1) := dk_42 (dk_at dksX11_readsEnding_2 20 rfl rfl)
theorem dX11_readsEnding_67 : decode cX11_readsEnding 67 = .ok (.iconst 0, 1) := dk_3 (dk_at dksX11_readsEnding_2 21 rfl rfl)
theorem dX11_readsEnding_68 : decode cX11_readsEnding 68 = .ok (.iconst 4, 1) := dk_7 (dk_at dksX11_readsEnding_2 22 rfl rfl)
theorem dX11_readsEnding_69 : decode cX11_readsEnding 69 = .ok (.invokevirtual 189, 3) := dk_182 0 189 (dk_at dksX11_readsEnding_3 0 rfl rfl)
theorem dX11_readsEnding_72 : decode cX11_readsEnding 72 = .ok (.istore_n 2, 1) := dk_61 (dk_at dksX11_readsEnding_3 3 rfl rfl)
theorem dX11_readsEnding_73 : decode cX11_readsEnding 73 = .ok (.aload_n 0, 1) := dk_42 (dk_at dksX11_readsEnding_3 4 rfl rfl)
theorem dX11_readsEnding_74 : decode cX11_readsEnding 74 = .ok (.aload_n 0, 1) := dk_42 (dk_at dksX11_readsEnding_3 5 rfl rfl)
theorem dX11_readsEnding_75 : decode cX11_readsEnding 75 = .ok (.getfield 53, 3) := dk_180 0 53 (dk_at dksX11_readsEnding_3 6 rfl rfl)
theorem dX11_readsEnding_78 : decode cX11_readsEnding 78 = .ok (.bipush 9, 2) := dk_16 9 (dk_at dksX11_readsEnding_3 9 rfl rfl)
theorem dX11_readsEnding_80 : decode cX11_readsEnding 80 = .ok (.iconst 5, 1) := dk_8 (dk_at dksX11_readsEnding_3 11 rfl rfl)
theorem dX11_readsEnding_81 : decode cX11_readsEnding 81 = .ok (.iload_n 1, 1) := dk_27 (dk_at dksX11_readsEnding_3 12 rfl rfl)
theorem dX11_readsEnding_82 : decode cX11_readsEnding 82 = .ok (.imul, 1) := dk_104 (dk_at dksX11_readsEnding_3 13 rfl rfl)
theorem dX11_readsEnding_83 : decode cX11_readsEnding 83 = .ok (.iload_n 2, 1) := dk_28 (dk_at dksX11_readsEnding_3 14 rfl rfl)
theorem dX11_readsEnding_84 : decode cX11_readsEnding 84 = .ok (.iadd, 1) := dk_96 (dk_at dksX11_readsEnding_3 15 rfl rfl)
theorem dX11_readsEnding_85 : decode cX11_readsEnding 85 = .ok (.imul, 1) := dk_104 (dk_at dksX11_readsEnding_3 16 rfl rfl)
theorem dX11_readsEnding_86 : decode cX11_readsEnding 86 = .ok (.invokevirtual 193, 3) := dk_182 0 193 (dk_at dksX11_readsEnding_3 17 rfl rfl)
theorem dX11_readsEnding_89 : decode cX11_readsEnding 89 = .ok (.return_, 1) := dk_177 (dk_at dksX11_readsEnding_3 20 rfl rfl)
abbrev cX11_number : ByteArray := prog_19_method_18_code
def yX11_number : MethodName := ⟨RX11, "number", "(II)I"⟩
def dkwX11_number_3 : List UInt8 := [29, 172]
abbrev dktX11_number_3 : List UInt8 := dkwX11_number_3 ++ []
def dkwX11_number_2 : List UInt8 := [164, 0, 8, 42, 5, 182, 0, 183, 42, 180, 0, 149, 62, 42, 182, 0, 176, 153, 0, 7, 42, 182, 0, 180]
abbrev dktX11_number_2 : List UInt8 := dkwX11_number_2 ++ dktX11_number_3
def dkwX11_number_1 : List UInt8 := [167, 0, 32, 42, 180, 0, 162, 6, 163, 0, 19, 42, 180, 0, 149, 27, 161, 0, 11, 42, 180, 0, 149, 28]
abbrev dktX11_number_1 : List UInt8 := dkwX11_number_1 ++ dktX11_number_2
def dkwX11_number_0 : List UInt8 := [42, 182, 0, 176, 154, 0, 5, 3, 172, 42, 180, 0, 152, 5, 159, 0, 11, 42, 4, 182, 0, 183]
abbrev dktX11_number_0 : List UInt8 := dkwX11_number_0 ++ dktX11_number_1
theorem dksX11_number_0 : cX11_number.data.toList.drop 0 = dktX11_number_0 := by decide +kernel
theorem dksX11_number_1 : cX11_number.data.toList.drop 22 = dktX11_number_1 := dk_seg dksX11_number_0 22 rfl rfl
theorem dksX11_number_2 : cX11_number.data.toList.drop 46 = dktX11_number_2 := dk_seg dksX11_number_1 24 rfl rfl
theorem dksX11_number_3 : cX11_number.data.toList.drop 70 = dktX11_number_3 := dk_seg dksX11_number_2 24 rfl rfl
theorem dX11_number_0 : decode cX11_number 0 = .ok (.aload_n 0, 1) := dk_42 (dk_at dksX11_number_0 0 rfl rfl)
theorem dX11_number_1 : decode cX11_number 1 = .ok (.invokevirtual 176, 3) := dk_182 0 176 (dk_at dksX11_number_0 1 rfl rfl)
theorem dX11_number_4 : decode cX11_number 4 = .ok (.ifCond .ne 5, 3) := dk_154 0 5 (dk_at dksX11_number_0 4 rfl rfl)
theorem dX11_number_7 : decode cX11_number 7 = .ok (.iconst 0, 1) := dk_3 (dk_at dksX11_number_0 7 rfl rfl)
theorem dX11_number_8 : decode cX11_number 8 = .ok (.ireturn, 1) := dk_172 (dk_at dksX11_number_0 8 rfl rfl)
theorem dX11_number_9 : decode cX11_number 9 = .ok (.aload_n 0, 1) := dk_42 (dk_at dksX11_number_0 9 rfl rfl)
theorem dX11_number_10 : decode cX11_number 10 = .ok (.getfield 152, 3) := dk_180 0 152 (dk_at dksX11_number_0 10 rfl rfl)
theorem dX11_number_13 : decode cX11_number 13 = .ok (.iconst 2, 1) := dk_5 (dk_at dksX11_number_0 13 rfl rfl)
theorem dX11_number_14 : decode cX11_number 14 = .ok (.if_icmp .eq 11, 3) := dk_159 0 11 (dk_at dksX11_number_0 14 rfl rfl)
theorem dX11_number_17 : decode cX11_number 17 = .ok (.aload_n 0, 1) := dk_42 (dk_at dksX11_number_0 17 rfl rfl)
theorem dX11_number_18 : decode cX11_number 18 = .ok (.iconst 1, 1) := dk_4 (dk_at dksX11_number_0 18 rfl rfl)
theorem dX11_number_19 : decode cX11_number 19 = .ok (.invokevirtual 183, 3) := dk_182 0 183 (dk_at dksX11_number_0 19 rfl rfl)
theorem dX11_number_22 : decode cX11_number 22 = .ok (.goto 32, 3) := dk_167 0 32 (dk_at dksX11_number_1 0 rfl rfl)
theorem dX11_number_25 : decode cX11_number 25 = .ok (.aload_n 0, 1) := dk_42 (dk_at dksX11_number_1 3 rfl rfl)
theorem dX11_number_26 : decode cX11_number 26 = .ok (.getfield 162, 3) := dk_180 0 162 (dk_at dksX11_number_1 4 rfl rfl)
theorem dX11_number_29 : decode cX11_number 29 = .ok (.iconst 3, 1) := dk_6 (dk_at dksX11_number_1 7 rfl rfl)
theorem dX11_number_30 : decode cX11_number 30 = .ok (.if_icmp .gt 19, 3) := dk_163 0 19 (dk_at dksX11_number_1 8 rfl rfl)
theorem dX11_number_33 : decode cX11_number 33 = .ok (.aload_n 0, 1) := dk_42 (dk_at dksX11_number_1 11 rfl rfl)
theorem dX11_number_34 : decode cX11_number 34 = .ok (.getfield 149, 3) := dk_180 0 149 (dk_at dksX11_number_1 12 rfl rfl)
theorem dX11_number_37 : decode cX11_number 37 = .ok (.iload_n 1, 1) := dk_27 (dk_at dksX11_number_1 15 rfl rfl)
theorem dX11_number_38 : decode cX11_number 38 = .ok (.if_icmp .lt 11, 3) := dk_161 0 11 (dk_at dksX11_number_1 16 rfl rfl)
theorem dX11_number_41 : decode cX11_number 41 = .ok (.aload_n 0, 1) := dk_42 (dk_at dksX11_number_1 19 rfl rfl)
theorem dX11_number_42 : decode cX11_number 42 = .ok (.getfield 149, 3) := dk_180 0 149 (dk_at dksX11_number_1 20 rfl rfl)
theorem dX11_number_45 : decode cX11_number 45 = .ok (.iload_n 2, 1) := dk_28 (dk_at dksX11_number_1 23 rfl rfl)
theorem dX11_number_46 : decode cX11_number 46 = .ok (.if_icmp .le 8, 3) := dk_164 0 8 (dk_at dksX11_number_2 0 rfl rfl)
theorem dX11_number_49 : decode cX11_number 49 = .ok (.aload_n 0, 1) := dk_42 (dk_at dksX11_number_2 3 rfl rfl)
theorem dX11_number_50 : decode cX11_number 50 = .ok (.iconst 2, 1) := dk_5 (dk_at dksX11_number_2 4 rfl rfl)
theorem dX11_number_51 : decode cX11_number 51 = .ok (.invokevirtual 183, 3) := dk_182 0 183 (dk_at dksX11_number_2 5 rfl rfl)
theorem dX11_number_54 : decode cX11_number 54 = .ok (.aload_n 0, 1) := dk_42 (dk_at dksX11_number_2 8 rfl rfl)
theorem dX11_number_55 : decode cX11_number 55 = .ok (.getfield 149, 3) := dk_180 0 149 (dk_at dksX11_number_2 9 rfl rfl)
theorem dX11_number_58 : decode cX11_number 58 = .ok (.istore_n 3, 1) := dk_62 (dk_at dksX11_number_2 12 rfl rfl)
theorem dX11_number_59 : decode cX11_number 59 = .ok (.aload_n 0, 1) := dk_42 (dk_at dksX11_number_2 13 rfl rfl)
theorem dX11_number_60 : decode cX11_number 60 = .ok (.invokevirtual 176, 3) := dk_182 0 176 (dk_at dksX11_number_2 14 rfl rfl)
theorem dX11_number_63 : decode cX11_number 63 = .ok (.ifCond .eq 7, 3) := dk_153 0 7 (dk_at dksX11_number_2 17 rfl rfl)
theorem dX11_number_66 : decode cX11_number 66 = .ok (.aload_n 0, 1) := dk_42 (dk_at dksX11_number_2 20 rfl rfl)
theorem dX11_number_67 : decode cX11_number 67 = .ok (.invokevirtual 180, 3) := dk_182 0 180 (dk_at dksX11_number_2 21 rfl rfl)
theorem dX11_number_70 : decode cX11_number 70 = .ok (.iload_n 3, 1) := dk_29 (dk_at dksX11_number_3 0 rfl rfl)
theorem dX11_number_71 : decode cX11_number 71 = .ok (.ireturn, 1) := dk_172 (dk_at dksX11_number_3 1 rfl rfl)
abbrev cX11_readsNear : ByteArray := prog_19_method_23_code
def yX11_readsNear : MethodName := ⟨RX11, "readsNear", "()V"⟩
def dkwX11_readsNear_3 : List UInt8 := [180, 0, 149, 92, 46, 4, 27, 120, 128, 79, 42, 182, 0, 180, 177]
abbrev dktX11_readsNear_3 : List UInt8 := dkwX11_readsNear_3 ++ []
def dkwX11_readsNear_2 : List UInt8 := [154, 0, 4, 177, 42, 180, 0, 68, 27, 92, 46, 4, 42, 180, 0, 149, 120, 128, 79, 42, 180, 0, 68, 42]
abbrev dktX11_readsNear_2 : List UInt8 := dkwX11_readsNear_2 ++ dktX11_readsNear_3
def dkwX11_readsNear_1 : List UInt8 := [182, 0, 186, 153, 0, 16, 42, 180, 0, 149, 27, 160, 0, 8, 42, 7, 182, 0, 183, 42, 182, 0, 176]
abbrev dktX11_readsNear_1 : List UInt8 := dkwX11_readsNear_1 ++ dktX11_readsNear_2
def dkwX11_readsNear_0 : List UInt8 := [42, 4, 181, 0, 197, 42, 182, 0, 180, 42, 42, 180, 0, 201, 182, 0, 204, 60, 42, 42, 180, 0, 201]
abbrev dktX11_readsNear_0 : List UInt8 := dkwX11_readsNear_0 ++ dktX11_readsNear_1
theorem dksX11_readsNear_0 : cX11_readsNear.data.toList.drop 0 = dktX11_readsNear_0 := by decide +kernel
theorem dksX11_readsNear_1 : cX11_readsNear.data.toList.drop 23 = dktX11_readsNear_1 := dk_seg dksX11_readsNear_0 23 rfl rfl
theorem dksX11_readsNear_2 : cX11_readsNear.data.toList.drop 46 = dktX11_readsNear_2 := dk_seg dksX11_readsNear_1 23 rfl rfl
theorem dksX11_readsNear_3 : cX11_readsNear.data.toList.drop 70 = dktX11_readsNear_3 := dk_seg dksX11_readsNear_2 24 rfl rfl
theorem dX11_readsNear_0 : decode cX11_readsNear 0 = .ok (.aload_n 0, 1) := dk_42 (dk_at dksX11_readsNear_0 0 rfl rfl)
theorem dX11_readsNear_1 : decode cX11_readsNear 1 = .ok (.iconst 1, 1) := dk_4 (dk_at dksX11_readsNear_0 1 rfl rfl)
theorem dX11_readsNear_2 : decode cX11_readsNear 2 = .ok (.putfield 197, 3) := dk_181 0 197 (dk_at dksX11_readsNear_0 2 rfl rfl)
theorem dX11_readsNear_5 : decode cX11_readsNear 5 = .ok (.aload_n 0, 1) := dk_42 (dk_at dksX11_readsNear_0 5 rfl rfl)
theorem dX11_readsNear_6 : decode cX11_readsNear 6 = .ok (.invokevirtual 180, 3) := dk_182 0 180 (dk_at dksX11_readsNear_0 6 rfl rfl)
theorem dX11_readsNear_9 : decode cX11_readsNear 9 = .ok (.aload_n 0, 1) := dk_42 (dk_at dksX11_readsNear_0 9 rfl rfl)
theorem dX11_readsNear_10 : decode cX11_readsNear 10 = .ok (.aload_n 0, 1) := dk_42 (dk_at dksX11_readsNear_0 10 rfl rfl)
theorem dX11_readsNear_11 : decode cX11_readsNear 11 = .ok (.getfield 201, 3) := dk_180 0 201 (dk_at dksX11_readsNear_0 11 rfl rfl)
theorem dX11_readsNear_14 : decode cX11_readsNear 14 = .ok (.invokevirtual 204, 3) := dk_182 0 204 (dk_at dksX11_readsNear_0 14 rfl rfl)
theorem dX11_readsNear_17 : decode cX11_readsNear 17 = .ok (.istore_n 1, 1) := dk_60 (dk_at dksX11_readsNear_0 17 rfl rfl)
theorem dX11_readsNear_18 : decode cX11_readsNear 18 = .ok (.aload_n 0, 1) := dk_42 (dk_at dksX11_readsNear_0 18 rfl rfl)
theorem dX11_readsNear_19 : decode cX11_readsNear 19 = .ok (.aload_n 0, 1) := dk_42 (dk_at dksX11_readsNear_0 19 rfl rfl)
theorem dX11_readsNear_20 : decode cX11_readsNear 20 = .ok (.getfield 201, 3) := dk_180 0 201 (dk_at dksX11_readsNear_0 20 rfl rfl)
theorem dX11_readsNear_23 : decode cX11_readsNear 23 = .ok (.invokevirtual 186, 3) := dk_182 0 186 (dk_at dksX11_readsNear_1 0 rfl rfl)
theorem dX11_readsNear_26 : decode cX11_readsNear 26 = .ok (.ifCond .eq 16, 3) := dk_153 0 16 (dk_at dksX11_readsNear_1 3 rfl rfl)
theorem dX11_readsNear_29 : decode cX11_readsNear 29 = .ok (.aload_n 0, 1) := dk_42 (dk_at dksX11_readsNear_1 6 rfl rfl)
theorem dX11_readsNear_30 : decode cX11_readsNear 30 = .ok (.getfield 149, 3) := dk_180 0 149 (dk_at dksX11_readsNear_1 7 rfl rfl)
theorem dX11_readsNear_33 : decode cX11_readsNear 33 = .ok (.iload_n 1, 1) := dk_27 (dk_at dksX11_readsNear_1 10 rfl rfl)
theorem dX11_readsNear_34 : decode cX11_readsNear 34 = .ok (.if_icmp .ne 8, 3) := dk_160 0 8 (dk_at dksX11_readsNear_1 11 rfl rfl)
theorem dX11_readsNear_37 : decode cX11_readsNear 37 = .ok (.aload_n 0, 1) := dk_42 (dk_at dksX11_readsNear_1 14 rfl rfl)
theorem dX11_readsNear_38 : decode cX11_readsNear 38 = .ok (.iconst 4, 1) := dk_7 (dk_at dksX11_readsNear_1 15 rfl rfl)
theorem dX11_readsNear_39 : decode cX11_readsNear 39 = .ok (.invokevirtual 183, 3) := dk_182 0 183 (dk_at dksX11_readsNear_1 16 rfl rfl)
theorem dX11_readsNear_42 : decode cX11_readsNear 42 = .ok (.aload_n 0, 1) := dk_42 (dk_at dksX11_readsNear_1 19 rfl rfl)
theorem dX11_readsNear_43 : decode cX11_readsNear 43 = .ok (.invokevirtual 176, 3) := dk_182 0 176 (dk_at dksX11_readsNear_1 20 rfl rfl)
theorem dX11_readsNear_46 : decode cX11_readsNear 46 = .ok (.ifCond .ne 4, 3) := dk_154 0 4 (dk_at dksX11_readsNear_2 0 rfl rfl)
theorem dX11_readsNear_49 : decode cX11_readsNear 49 = .ok (.return_, 1) := dk_177 (dk_at dksX11_readsNear_2 3 rfl rfl)
theorem dX11_readsNear_50 : decode cX11_readsNear 50 = .ok (.aload_n 0, 1) := dk_42 (dk_at dksX11_readsNear_2 4 rfl rfl)
theorem dX11_readsNear_51 : decode cX11_readsNear 51 = .ok (.getfield 68, 3) := dk_180 0 68 (dk_at dksX11_readsNear_2 5 rfl rfl)
theorem dX11_readsNear_54 : decode cX11_readsNear 54 = .ok (.iload_n 1, 1) := dk_27 (dk_at dksX11_readsNear_2 8 rfl rfl)
theorem dX11_readsNear_55 : decode cX11_readsNear 55 = .ok (.dup2, 1) := dk_92 (dk_at dksX11_readsNear_2 9 rfl rfl)
theorem dX11_readsNear_56 : decode cX11_readsNear 56 = .ok (.iaload, 1) := dk_46 (dk_at dksX11_readsNear_2 10 rfl rfl)
theorem dX11_readsNear_57 : decode cX11_readsNear 57 = .ok (.iconst 1, 1) := dk_4 (dk_at dksX11_readsNear_2 11 rfl rfl)
theorem dX11_readsNear_58 : decode cX11_readsNear 58 = .ok (.aload_n 0, 1) := dk_42 (dk_at dksX11_readsNear_2 12 rfl rfl)
theorem dX11_readsNear_59 : decode cX11_readsNear 59 = .ok (.getfield 149, 3) := dk_180 0 149 (dk_at dksX11_readsNear_2 13 rfl rfl)
theorem dX11_readsNear_62 : decode cX11_readsNear 62 = .ok (.ishl, 1) := dk_120 (dk_at dksX11_readsNear_2 16 rfl rfl)
theorem dX11_readsNear_63 : decode cX11_readsNear 63 = .ok (.ior, 1) := dk_128 (dk_at dksX11_readsNear_2 17 rfl rfl)
theorem dX11_readsNear_64 : decode cX11_readsNear 64 = .ok (.iastore, 1) := dk_79 (dk_at dksX11_readsNear_2 18 rfl rfl)
theorem dX11_readsNear_65 : decode cX11_readsNear 65 = .ok (.aload_n 0, 1) := dk_42 (dk_at dksX11_readsNear_2 19 rfl rfl)
theorem dX11_readsNear_66 : decode cX11_readsNear 66 = .ok (.getfield 68, 3) := dk_180 0 68 (dk_at dksX11_readsNear_2 20 rfl rfl)
theorem dX11_readsNear_69 : decode cX11_readsNear 69 = .ok (.aload_n 0, 1) := dk_42 (dk_at dksX11_readsNear_2 23 rfl rfl)
theorem dX11_readsNear_70 : decode cX11_readsNear 70 = .ok (.getfield 149, 3) := dk_180 0 149 (dk_at dksX11_readsNear_3 0 rfl rfl)
theorem dX11_readsNear_73 : decode cX11_readsNear 73 = .ok (.dup2, 1) := dk_92 (dk_at dksX11_readsNear_3 3 rfl rfl)
theorem dX11_readsNear_74 : decode cX11_readsNear 74 = .ok (.iaload, 1) := dk_46 (dk_at dksX11_readsNear_3 4 rfl rfl)
theorem dX11_readsNear_75 : decode cX11_readsNear 75 = .ok (.iconst 1, 1) := dk_4 (dk_at dksX11_readsNear_3 5 rfl rfl)
theorem dX11_readsNear_76 : decode cX11_readsNear 76 = .ok (.iload_n 1, 1) := dk_27 (dk_at dksX11_readsNear_3 6 rfl rfl)
theorem dX11_readsNear_77 : decode cX11_readsNear 77 = .ok (.ishl, 1) := dk_120 (dk_at dksX11_readsNear_3 7 rfl rfl)
theorem dX11_readsNear_78 : decode cX11_readsNear 78 = .ok (.ior, 1) := dk_128 (dk_at dksX11_readsNear_3 8 rfl rfl)
theorem dX11_readsNear_79 : decode cX11_readsNear 79 = .ok (.iastore, 1) := dk_79 (dk_at dksX11_readsNear_3 9 rfl rfl)
theorem dX11_readsNear_80 : decode cX11_readsNear 80 = .ok (.aload_n 0, 1) := dk_42 (dk_at dksX11_readsNear_3 10 rfl rfl)
theorem dX11_readsNear_81 : decode cX11_readsNear 81 = .ok (.invokevirtual 180, 3) := dk_182 0 180 (dk_at dksX11_readsNear_3 11 rfl rfl)
theorem dX11_readsNear_84 : decode cX11_readsNear 84 = .ok (.return_, 1) := dk_177 (dk_at dksX11_readsNear_3 14 rfl rfl)
abbrev cX11_among : ByteArray := prog_19_method_20_code
def yX11_among : MethodName := ⟨RX11, "among", "(I)I"⟩
def dkwX11_among_1 : List UInt8 := [42, 182, 0, 180, 28, 172]
abbrev dktX11_among_1 : List UInt8 := dkwX11_among_1 ++ []
def dkwX11_among_0 : List UInt8 := [42, 27, 182, 0, 186, 153, 0, 10, 42, 180, 0, 149, 167, 0, 4, 3, 61, 42, 182, 0, 176, 153, 0, 7]
abbrev dktX11_among_0 : List UInt8 := dkwX11_among_0 ++ dktX11_among_1
theorem dksX11_among_0 : cX11_among.data.toList.drop 0 = dktX11_among_0 := by decide +kernel
theorem dksX11_among_1 : cX11_among.data.toList.drop 24 = dktX11_among_1 := dk_seg dksX11_among_0 24 rfl rfl
theorem dX11_among_0 : decode cX11_among 0 = .ok (.aload_n 0, 1) := dk_42 (dk_at dksX11_among_0 0 rfl rfl)
theorem dX11_among_1 : decode cX11_among 1 = .ok (.iload_n 1, 1) := dk_27 (dk_at dksX11_among_0 1 rfl rfl)
theorem dX11_among_2 : decode cX11_among 2 = .ok (.invokevirtual 186, 3) := dk_182 0 186 (dk_at dksX11_among_0 2 rfl rfl)
theorem dX11_among_5 : decode cX11_among 5 = .ok (.ifCond .eq 10, 3) := dk_153 0 10 (dk_at dksX11_among_0 5 rfl rfl)
theorem dX11_among_8 : decode cX11_among 8 = .ok (.aload_n 0, 1) := dk_42 (dk_at dksX11_among_0 8 rfl rfl)
theorem dX11_among_9 : decode cX11_among 9 = .ok (.getfield 149, 3) := dk_180 0 149 (dk_at dksX11_among_0 9 rfl rfl)
theorem dX11_among_12 : decode cX11_among 12 = .ok (.goto 4, 3) := dk_167 0 4 (dk_at dksX11_among_0 12 rfl rfl)
theorem dX11_among_15 : decode cX11_among 15 = .ok (.iconst 0, 1) := dk_3 (dk_at dksX11_among_0 15 rfl rfl)
theorem dX11_among_16 : decode cX11_among 16 = .ok (.istore_n 2, 1) := dk_61 (dk_at dksX11_among_0 16 rfl rfl)
theorem dX11_among_17 : decode cX11_among 17 = .ok (.aload_n 0, 1) := dk_42 (dk_at dksX11_among_0 17 rfl rfl)
theorem dX11_among_18 : decode cX11_among 18 = .ok (.invokevirtual 176, 3) := dk_182 0 176 (dk_at dksX11_among_0 18 rfl rfl)
theorem dX11_among_21 : decode cX11_among 21 = .ok (.ifCond .eq 7, 3) := dk_153 0 7 (dk_at dksX11_among_0 21 rfl rfl)
theorem dX11_among_24 : decode cX11_among 24 = .ok (.aload_n 0, 1) := dk_42 (dk_at dksX11_among_1 0 rfl rfl)
theorem dX11_among_25 : decode cX11_among 25 = .ok (.invokevirtual 180, 3) := dk_182 0 180 (dk_at dksX11_among_1 1 rfl rfl)
theorem dX11_among_28 : decode cX11_among 28 = .ok (.iload_n 2, 1) := dk_28 (dk_at dksX11_among_1 4 rfl rfl)
theorem dX11_among_29 : decode cX11_among 29 = .ok (.ireturn, 1) := dk_172 (dk_at dksX11_among_1 5 rfl rfl)
abbrev cX11_amongHere : ByteArray := prog_19_method_19_code
def yX11_amongHere : MethodName := ⟨RX11, "amongHere", "(I)Z"⟩
def dkwX11_amongHere_2 : List UInt8 := [161, 0, 8, 42, 6, 182, 0, 183, 42, 182, 0, 176, 172]
abbrev dktX11_amongHere_2 : List UInt8 := dkwX11_amongHere_2 ++ []
def dkwX11_amongHere_1 : List UInt8 := [167, 0, 32, 42, 180, 0, 162, 6, 164, 0, 11, 42, 5, 182, 0, 183, 167, 0, 16, 42, 180, 0, 149, 27]
abbrev dktX11_amongHere_1 : List UInt8 := dkwX11_amongHere_1 ++ dktX11_amongHere_2
def dkwX11_amongHere_0 : List UInt8 := [42, 182, 0, 176, 154, 0, 5, 3, 172, 42, 180, 0, 152, 5, 159, 0, 11, 42, 4, 182, 0, 183]
abbrev dktX11_amongHere_0 : List UInt8 := dkwX11_amongHere_0 ++ dktX11_amongHere_1
theorem dksX11_amongHere_0 : cX11_amongHere.data.toList.drop 0 = dktX11_amongHere_0 := by decide +kernel
theorem dksX11_amongHere_1 : cX11_amongHere.data.toList.drop 22 = dktX11_amongHere_1 := dk_seg dksX11_amongHere_0 22 rfl rfl
theorem dksX11_amongHere_2 : cX11_amongHere.data.toList.drop 46 = dktX11_amongHere_2 := dk_seg dksX11_amongHere_1 24 rfl rfl
theorem dX11_amongHere_0 : decode cX11_amongHere 0 = .ok (.aload_n 0, 1) := dk_42 (dk_at dksX11_amongHere_0 0 rfl rfl)
theorem dX11_amongHere_1 : decode cX11_amongHere 1 = .ok (.invokevirtual 176, 3) := dk_182 0 176 (dk_at dksX11_amongHere_0 1 rfl rfl)
theorem dX11_amongHere_4 : decode cX11_amongHere 4 = .ok (.ifCond .ne 5, 3) := dk_154 0 5 (dk_at dksX11_amongHere_0 4 rfl rfl)
theorem dX11_amongHere_7 : decode cX11_amongHere 7 = .ok (.iconst 0, 1) := dk_3 (dk_at dksX11_amongHere_0 7 rfl rfl)
theorem dX11_amongHere_8 : decode cX11_amongHere 8 = .ok (.ireturn, 1) := dk_172 (dk_at dksX11_amongHere_0 8 rfl rfl)
theorem dX11_amongHere_9 : decode cX11_amongHere 9 = .ok (.aload_n 0, 1) := dk_42 (dk_at dksX11_amongHere_0 9 rfl rfl)
theorem dX11_amongHere_10 : decode cX11_amongHere 10 = .ok (.getfield 152, 3) := dk_180 0 152 (dk_at dksX11_amongHere_0 10 rfl rfl)
theorem dX11_amongHere_13 : decode cX11_amongHere 13 = .ok (.iconst 2, 1) := dk_5 (dk_at dksX11_amongHere_0 13 rfl rfl)
theorem dX11_amongHere_14 : decode cX11_amongHere 14 = .ok (.if_icmp .eq 11, 3) := dk_159 0 11 (dk_at dksX11_amongHere_0 14 rfl rfl)
theorem dX11_amongHere_17 : decode cX11_amongHere 17 = .ok (.aload_n 0, 1) := dk_42 (dk_at dksX11_amongHere_0 17 rfl rfl)
theorem dX11_amongHere_18 : decode cX11_amongHere 18 = .ok (.iconst 1, 1) := dk_4 (dk_at dksX11_amongHere_0 18 rfl rfl)
theorem dX11_amongHere_19 : decode cX11_amongHere 19 = .ok (.invokevirtual 183, 3) := dk_182 0 183 (dk_at dksX11_amongHere_0 19 rfl rfl)
theorem dX11_amongHere_22 : decode cX11_amongHere 22 = .ok (.goto 32, 3) := dk_167 0 32 (dk_at dksX11_amongHere_1 0 rfl rfl)
theorem dX11_amongHere_25 : decode cX11_amongHere 25 = .ok (.aload_n 0, 1) := dk_42 (dk_at dksX11_amongHere_1 3 rfl rfl)
theorem dX11_amongHere_26 : decode cX11_amongHere 26 = .ok (.getfield 162, 3) := dk_180 0 162 (dk_at dksX11_amongHere_1 4 rfl rfl)
theorem dX11_amongHere_29 : decode cX11_amongHere 29 = .ok (.iconst 3, 1) := dk_6 (dk_at dksX11_amongHere_1 7 rfl rfl)
theorem dX11_amongHere_30 : decode cX11_amongHere 30 = .ok (.if_icmp .le 11, 3) := dk_164 0 11 (dk_at dksX11_amongHere_1 8 rfl rfl)
theorem dX11_amongHere_33 : decode cX11_amongHere 33 = .ok (.aload_n 0, 1) := dk_42 (dk_at dksX11_amongHere_1 11 rfl rfl)
theorem dX11_amongHere_34 : decode cX11_amongHere 34 = .ok (.iconst 2, 1) := dk_5 (dk_at dksX11_amongHere_1 12 rfl rfl)
theorem dX11_amongHere_35 : decode cX11_amongHere 35 = .ok (.invokevirtual 183, 3) := dk_182 0 183 (dk_at dksX11_amongHere_1 13 rfl rfl)
theorem dX11_amongHere_38 : decode cX11_amongHere 38 = .ok (.goto 16, 3) := dk_167 0 16 (dk_at dksX11_amongHere_1 16 rfl rfl)
theorem dX11_amongHere_41 : decode cX11_amongHere 41 = .ok (.aload_n 0, 1) := dk_42 (dk_at dksX11_amongHere_1 19 rfl rfl)
theorem dX11_amongHere_42 : decode cX11_amongHere 42 = .ok (.getfield 149, 3) := dk_180 0 149 (dk_at dksX11_amongHere_1 20 rfl rfl)
theorem dX11_amongHere_45 : decode cX11_amongHere 45 = .ok (.iload_n 1, 1) := dk_27 (dk_at dksX11_amongHere_1 23 rfl rfl)
theorem dX11_amongHere_46 : decode cX11_amongHere 46 = .ok (.if_icmp .lt 8, 3) := dk_161 0 8 (dk_at dksX11_amongHere_2 0 rfl rfl)
theorem dX11_amongHere_49 : decode cX11_amongHere 49 = .ok (.aload_n 0, 1) := dk_42 (dk_at dksX11_amongHere_2 3 rfl rfl)
theorem dX11_amongHere_50 : decode cX11_amongHere 50 = .ok (.iconst 3, 1) := dk_6 (dk_at dksX11_amongHere_2 4 rfl rfl)
theorem dX11_amongHere_51 : decode cX11_amongHere 51 = .ok (.invokevirtual 183, 3) := dk_182 0 183 (dk_at dksX11_amongHere_2 5 rfl rfl)
theorem dX11_amongHere_54 : decode cX11_amongHere 54 = .ok (.aload_n 0, 1) := dk_42 (dk_at dksX11_amongHere_2 8 rfl rfl)
theorem dX11_amongHere_55 : decode cX11_amongHere 55 = .ok (.invokevirtual 176, 3) := dk_182 0 176 (dk_at dksX11_amongHere_2 9 rfl rfl)
theorem dX11_amongHere_58 : decode cX11_amongHere 58 = .ok (.ireturn, 1) := dk_172 (dk_at dksX11_amongHere_2 12 rfl rfl)
abbrev cX11_readsThing : ByteArray := prog_19_method_24_code
def yX11_readsThing : MethodName := ⟨RX11, "readsThing", "()V"⟩
def dkwX11_readsThing_10 : List UInt8 := [182, 0, 176, 153, 0, 13, 42, 89, 180, 0, 207, 4, 96, 181, 0, 207, 177]
abbrev dktX11_readsThing_10 : List UInt8 := dkwX11_readsThing_10 ++ []
def dkwX11_readsThing_9 : List UInt8 := [167, 0, 4, 3, 79, 42, 180, 0, 62, 27, 7, 96, 46, 4, 160, 0, 7, 42, 182, 0, 180, 42]
abbrev dktX11_readsThing_9 : List UInt8 := dkwX11_readsThing_9 ++ dktX11_readsThing_10
def dkwX11_readsThing_8 : List UInt8 := [180, 0, 62, 27, 7, 96, 42, 182, 0, 176, 153, 0, 16, 42, 16, 12, 182, 0, 213, 153, 0, 7, 4]
abbrev dktX11_readsThing_8 : List UInt8 := dkwX11_readsThing_8 ++ dktX11_readsThing_9
def dkwX11_readsThing_7 : List UInt8 := [167, 0, 4, 3, 79, 42, 180, 0, 62, 27, 6, 96, 46, 4, 160, 0, 7, 42, 182, 0, 180, 42]
abbrev dktX11_readsThing_7 : List UInt8 := dkwX11_readsThing_7 ++ dktX11_readsThing_8
def dkwX11_readsThing_6 : List UInt8 := [180, 0, 62, 27, 6, 96, 42, 182, 0, 176, 153, 0, 16, 42, 16, 11, 182, 0, 213, 153, 0, 7, 4]
abbrev dktX11_readsThing_6 : List UInt8 := dkwX11_readsThing_6 ++ dktX11_readsThing_7
def dkwX11_readsThing_5 : List UInt8 := [180, 0, 201, 182, 0, 204, 79, 42, 180, 0, 62, 27, 5, 96, 42, 3, 16, 23, 182, 0, 189, 79, 42]
abbrev dktX11_readsThing_5 : List UInt8 := dkwX11_readsThing_5 ++ dktX11_readsThing_6
def dkwX11_readsThing_4 : List UInt8 := [180, 0, 149, 79, 42, 182, 0, 176, 153, 0, 7, 42, 182, 0, 180, 42, 180, 0, 62, 27, 4, 96, 42, 42]
abbrev dktX11_readsThing_4 : List UInt8 := dkwX11_readsThing_4 ++ dktX11_readsThing_5
def dkwX11_readsThing_3 : List UInt8 := [180, 0, 149, 160, 0, 8, 42, 7, 182, 0, 183, 132, 2, 1, 167, 255, 225, 42, 180, 0, 62, 27, 42]
abbrev dktX11_readsThing_3 : List UInt8 := dkwX11_readsThing_3 ++ dktX11_readsThing_4
def dkwX11_readsThing_2 : List UInt8 := [153, 0, 39, 3, 61, 28, 42, 180, 0, 207, 162, 0, 29, 42, 180, 0, 62, 8, 28, 104, 46, 42]
abbrev dktX11_readsThing_2 : List UInt8 := dkwX11_readsThing_2 ++ dktX11_readsThing_3
def dkwX11_readsThing_1 : List UInt8 := [181, 0, 197, 42, 182, 0, 180, 8, 42, 180, 0, 207, 104, 60, 42, 42, 180, 0, 210, 182, 0, 186]
abbrev dktX11_readsThing_1 : List UInt8 := dkwX11_readsThing_1 ++ dktX11_readsThing_2
def dkwX11_readsThing_0 : List UInt8 := [42, 180, 0, 207, 16, 8, 160, 0, 8, 42, 5, 182, 0, 183, 42, 182, 0, 176, 154, 0, 4, 177, 42, 4]
abbrev dktX11_readsThing_0 : List UInt8 := dkwX11_readsThing_0 ++ dktX11_readsThing_1
theorem dksX11_readsThing_0 : cX11_readsThing.data.toList.drop 0 = dktX11_readsThing_0 := by decide +kernel
theorem dksX11_readsThing_1 : cX11_readsThing.data.toList.drop 24 = dktX11_readsThing_1 := dk_seg dksX11_readsThing_0 24 rfl rfl
theorem dksX11_readsThing_2 : cX11_readsThing.data.toList.drop 46 = dktX11_readsThing_2 := dk_seg dksX11_readsThing_1 22 rfl rfl
theorem dksX11_readsThing_3 : cX11_readsThing.data.toList.drop 68 = dktX11_readsThing_3 := dk_seg dksX11_readsThing_2 22 rfl rfl
theorem dksX11_readsThing_4 : cX11_readsThing.data.toList.drop 91 = dktX11_readsThing_4 := dk_seg dksX11_readsThing_3 23 rfl rfl
theorem dksX11_readsThing_5 : cX11_readsThing.data.toList.drop 115 = dktX11_readsThing_5 := dk_seg dksX11_readsThing_4 24 rfl rfl
theorem dksX11_readsThing_6 : cX11_readsThing.data.toList.drop 138 = dktX11_readsThing_6 := dk_seg dksX11_readsThing_5 23 rfl rfl
theorem dksX11_readsThing_7 : cX11_readsThing.data.toList.drop 161 = dktX11_readsThing_7 := dk_seg dksX11_readsThing_6 23 rfl rfl
theorem dksX11_readsThing_8 : cX11_readsThing.data.toList.drop 183 = dktX11_readsThing_8 := dk_seg dksX11_readsThing_7 22 rfl rfl
theorem dksX11_readsThing_9 : cX11_readsThing.data.toList.drop 206 = dktX11_readsThing_9 := dk_seg dksX11_readsThing_8 23 rfl rfl
theorem dksX11_readsThing_10 : cX11_readsThing.data.toList.drop 228 = dktX11_readsThing_10 := dk_seg dksX11_readsThing_9 22 rfl rfl
theorem dX11_readsThing_0 : decode cX11_readsThing 0 = .ok (.aload_n 0, 1) := dk_42 (dk_at dksX11_readsThing_0 0 rfl rfl)
theorem dX11_readsThing_1 : decode cX11_readsThing 1 = .ok (.getfield 207, 3) := dk_180 0 207 (dk_at dksX11_readsThing_0 1 rfl rfl)
theorem dX11_readsThing_4 : decode cX11_readsThing 4 = .ok (.bipush 8, 2) := dk_16 8 (dk_at dksX11_readsThing_0 4 rfl rfl)
theorem dX11_readsThing_6 : decode cX11_readsThing 6 = .ok (.if_icmp .ne 8, 3) := dk_160 0 8 (dk_at dksX11_readsThing_0 6 rfl rfl)
theorem dX11_readsThing_9 : decode cX11_readsThing 9 = .ok (.aload_n 0, 1) := dk_42 (dk_at dksX11_readsThing_0 9 rfl rfl)
theorem dX11_readsThing_10 : decode cX11_readsThing 10 = .ok (.iconst 2, 1) := dk_5 (dk_at dksX11_readsThing_0 10 rfl rfl)
theorem dX11_readsThing_11 : decode cX11_readsThing 11 = .ok (.invokevirtual 183, 3) := dk_182 0 183 (dk_at dksX11_readsThing_0 11 rfl rfl)
theorem dX11_readsThing_14 : decode cX11_readsThing 14 = .ok (.aload_n 0, 1) := dk_42 (dk_at dksX11_readsThing_0 14 rfl rfl)
theorem dX11_readsThing_15 : decode cX11_readsThing 15 = .ok (.invokevirtual 176, 3) := dk_182 0 176 (dk_at dksX11_readsThing_0 15 rfl rfl)
theorem dX11_readsThing_18 : decode cX11_readsThing 18 = .ok (.ifCond .ne 4, 3) := dk_154 0 4 (dk_at dksX11_readsThing_0 18 rfl rfl)
theorem dX11_readsThing_21 : decode cX11_readsThing 21 = .ok (.return_, 1) := dk_177 (dk_at dksX11_readsThing_0 21 rfl rfl)
theorem dX11_readsThing_22 : decode cX11_readsThing 22 = .ok (.aload_n 0, 1) := dk_42 (dk_at dksX11_readsThing_0 22 rfl rfl)
theorem dX11_readsThing_23 : decode cX11_readsThing 23 = .ok (.iconst 1, 1) := dk_4 (dk_at dksX11_readsThing_0 23 rfl rfl)
theorem dX11_readsThing_24 : decode cX11_readsThing 24 = .ok (.putfield 197, 3) := dk_181 0 197 (dk_at dksX11_readsThing_1 0 rfl rfl)
theorem dX11_readsThing_27 : decode cX11_readsThing 27 = .ok (.aload_n 0, 1) := dk_42 (dk_at dksX11_readsThing_1 3 rfl rfl)
theorem dX11_readsThing_28 : decode cX11_readsThing 28 = .ok (.invokevirtual 180, 3) := dk_182 0 180 (dk_at dksX11_readsThing_1 4 rfl rfl)
theorem dX11_readsThing_31 : decode cX11_readsThing 31 = .ok (.iconst 5, 1) := dk_8 (dk_at dksX11_readsThing_1 7 rfl rfl)
theorem dX11_readsThing_32 : decode cX11_readsThing 32 = .ok (.aload_n 0, 1) := dk_42 (dk_at dksX11_readsThing_1 8 rfl rfl)
theorem dX11_readsThing_33 : decode cX11_readsThing 33 = .ok (.getfield 207, 3) := dk_180 0 207 (dk_at dksX11_readsThing_1 9 rfl rfl)
theorem dX11_readsThing_36 : decode cX11_readsThing 36 = .ok (.imul, 1) := dk_104 (dk_at dksX11_readsThing_1 12 rfl rfl)
theorem dX11_readsThing_37 : decode cX11_readsThing 37 = .ok (.istore_n 1, 1) := dk_60 (dk_at dksX11_readsThing_1 13 rfl rfl)
theorem dX11_readsThing_38 : decode cX11_readsThing 38 = .ok (.aload_n 0, 1) := dk_42 (dk_at dksX11_readsThing_1 14 rfl rfl)
theorem dX11_readsThing_39 : decode cX11_readsThing 39 = .ok (.aload_n 0, 1) := dk_42 (dk_at dksX11_readsThing_1 15 rfl rfl)
theorem dX11_readsThing_40 : decode cX11_readsThing 40 = .ok (.getfield 210, 3) := dk_180 0 210 (dk_at dksX11_readsThing_1 16 rfl rfl)
theorem dX11_readsThing_43 : decode cX11_readsThing 43 = .ok (.invokevirtual 186, 3) := dk_182 0 186 (dk_at dksX11_readsThing_1 19 rfl rfl)
theorem dX11_readsThing_46 : decode cX11_readsThing 46 = .ok (.ifCond .eq 39, 3) := dk_153 0 39 (dk_at dksX11_readsThing_2 0 rfl rfl)
theorem dX11_readsThing_49 : decode cX11_readsThing 49 = .ok (.iconst 0, 1) := dk_3 (dk_at dksX11_readsThing_2 3 rfl rfl)
theorem dX11_readsThing_50 : decode cX11_readsThing 50 = .ok (.istore_n 2, 1) := dk_61 (dk_at dksX11_readsThing_2 4 rfl rfl)
theorem dX11_readsThing_51 : decode cX11_readsThing 51 = .ok (.iload_n 2, 1) := dk_28 (dk_at dksX11_readsThing_2 5 rfl rfl)
theorem dX11_readsThing_52 : decode cX11_readsThing 52 = .ok (.aload_n 0, 1) := dk_42 (dk_at dksX11_readsThing_2 6 rfl rfl)
theorem dX11_readsThing_53 : decode cX11_readsThing 53 = .ok (.getfield 207, 3) := dk_180 0 207 (dk_at dksX11_readsThing_2 7 rfl rfl)
theorem dX11_readsThing_56 : decode cX11_readsThing 56 = .ok (.if_icmp .ge 29, 3) := dk_162 0 29 (dk_at dksX11_readsThing_2 10 rfl rfl)
theorem dX11_readsThing_59 : decode cX11_readsThing 59 = .ok (.aload_n 0, 1) := dk_42 (dk_at dksX11_readsThing_2 13 rfl rfl)
theorem dX11_readsThing_60 : decode cX11_readsThing 60 = .ok (.getfield 62, 3) := dk_180 0 62 (dk_at dksX11_readsThing_2 14 rfl rfl)
theorem dX11_readsThing_63 : decode cX11_readsThing 63 = .ok (.iconst 5, 1) := dk_8 (dk_at dksX11_readsThing_2 17 rfl rfl)
theorem dX11_readsThing_64 : decode cX11_readsThing 64 = .ok (.iload_n 2, 1) := dk_28 (dk_at dksX11_readsThing_2 18 rfl rfl)
theorem dX11_readsThing_65 : decode cX11_readsThing 65 = .ok (.imul, 1) := dk_104 (dk_at dksX11_readsThing_2 19 rfl rfl)
theorem dX11_readsThing_66 : decode cX11_readsThing 66 = .ok (.iaload, 1) := dk_46 (dk_at dksX11_readsThing_2 20 rfl rfl)
theorem dX11_readsThing_67 : decode cX11_readsThing 67 = .ok (.aload_n 0, 1) := dk_42 (dk_at dksX11_readsThing_2 21 rfl rfl)
theorem dX11_readsThing_68 : decode cX11_readsThing 68 = .ok (.getfield 149, 3) := dk_180 0 149 (dk_at dksX11_readsThing_3 0 rfl rfl)
theorem dX11_readsThing_71 : decode cX11_readsThing 71 = .ok (.if_icmp .ne 8, 3) := dk_160 0 8 (dk_at dksX11_readsThing_3 3 rfl rfl)
theorem dX11_readsThing_74 : decode cX11_readsThing 74 = .ok (.aload_n 0, 1) := dk_42 (dk_at dksX11_readsThing_3 6 rfl rfl)
theorem dX11_readsThing_75 : decode cX11_readsThing 75 = .ok (.iconst 4, 1) := dk_7 (dk_at dksX11_readsThing_3 7 rfl rfl)
theorem dX11_readsThing_76 : decode cX11_readsThing 76 = .ok (.invokevirtual 183, 3) := dk_182 0 183 (dk_at dksX11_readsThing_3 8 rfl rfl)
theorem dX11_readsThing_79 : decode cX11_readsThing 79 = .ok (.iinc 2 1, 3) := dk_132 2 1 (dk_at dksX11_readsThing_3 11 rfl rfl)
theorem dX11_readsThing_82 : decode cX11_readsThing 82 = .ok (.goto (-31), 3) := dk_167 255 225 (dk_at dksX11_readsThing_3 14 rfl rfl)
theorem dX11_readsThing_85 : decode cX11_readsThing 85 = .ok (.aload_n 0, 1) := dk_42 (dk_at dksX11_readsThing_3 17 rfl rfl)
theorem dX11_readsThing_86 : decode cX11_readsThing 86 = .ok (.getfield 62, 3) := dk_180 0 62 (dk_at dksX11_readsThing_3 18 rfl rfl)
theorem dX11_readsThing_89 : decode cX11_readsThing 89 = .ok (.iload_n 1, 1) := dk_27 (dk_at dksX11_readsThing_3 21 rfl rfl)
theorem dX11_readsThing_90 : decode cX11_readsThing 90 = .ok (.aload_n 0, 1) := dk_42 (dk_at dksX11_readsThing_3 22 rfl rfl)
theorem dX11_readsThing_91 : decode cX11_readsThing 91 = .ok (.getfield 149, 3) := dk_180 0 149 (dk_at dksX11_readsThing_4 0 rfl rfl)
theorem dX11_readsThing_94 : decode cX11_readsThing 94 = .ok (.iastore, 1) := dk_79 (dk_at dksX11_readsThing_4 3 rfl rfl)
theorem dX11_readsThing_95 : decode cX11_readsThing 95 = .ok (.aload_n 0, 1) := dk_42 (dk_at dksX11_readsThing_4 4 rfl rfl)
theorem dX11_readsThing_96 : decode cX11_readsThing 96 = .ok (.invokevirtual 176, 3) := dk_182 0 176 (dk_at dksX11_readsThing_4 5 rfl rfl)
theorem dX11_readsThing_99 : decode cX11_readsThing 99 = .ok (.ifCond .eq 7, 3) := dk_153 0 7 (dk_at dksX11_readsThing_4 8 rfl rfl)
theorem dX11_readsThing_102 : decode cX11_readsThing 102 = .ok (.aload_n 0, 1) := dk_42 (dk_at dksX11_readsThing_4 11 rfl rfl)
theorem dX11_readsThing_103 : decode cX11_readsThing 103 = .ok (.invokevirtual 180, 3) := dk_182 0 180 (dk_at dksX11_readsThing_4 12 rfl rfl)
theorem dX11_readsThing_106 : decode cX11_readsThing 106 = .ok (.aload_n 0, 1) := dk_42 (dk_at dksX11_readsThing_4 15 rfl rfl)
theorem dX11_readsThing_107 : decode cX11_readsThing 107 = .ok (.getfield 62, 3) := dk_180 0 62 (dk_at dksX11_readsThing_4 16 rfl rfl)
theorem dX11_readsThing_110 : decode cX11_readsThing 110 = .ok (.iload_n 1, 1) := dk_27 (dk_at dksX11_readsThing_4 19 rfl rfl)
theorem dX11_readsThing_111 : decode cX11_readsThing 111 = .ok (.iconst 1, 1) := dk_4 (dk_at dksX11_readsThing_4 20 rfl rfl)
theorem dX11_readsThing_112 : decode cX11_readsThing 112 = .ok (.iadd, 1) := dk_96 (dk_at dksX11_readsThing_4 21 rfl rfl)
theorem dX11_readsThing_113 : decode cX11_readsThing 113 = .ok (.aload_n 0, 1) := dk_42 (dk_at dksX11_readsThing_4 22 rfl rfl)
theorem dX11_readsThing_114 : decode cX11_readsThing 114 = .ok (.aload_n 0, 1) := dk_42 (dk_at dksX11_readsThing_4 23 rfl rfl)
theorem dX11_readsThing_115 : decode cX11_readsThing 115 = .ok (.getfield 201, 3) := dk_180 0 201 (dk_at dksX11_readsThing_5 0 rfl rfl)
theorem dX11_readsThing_118 : decode cX11_readsThing 118 = .ok (.invokevirtual 204, 3) := dk_182 0 204 (dk_at dksX11_readsThing_5 3 rfl rfl)
theorem dX11_readsThing_121 : decode cX11_readsThing 121 = .ok (.iastore, 1) := dk_79 (dk_at dksX11_readsThing_5 6 rfl rfl)
theorem dX11_readsThing_122 : decode cX11_readsThing 122 = .ok (.aload_n 0, 1) := dk_42 (dk_at dksX11_readsThing_5 7 rfl rfl)
theorem dX11_readsThing_123 : decode cX11_readsThing 123 = .ok (.getfield 62, 3) := dk_180 0 62 (dk_at dksX11_readsThing_5 8 rfl rfl)
theorem dX11_readsThing_126 : decode cX11_readsThing 126 = .ok (.iload_n 1, 1) := dk_27 (dk_at dksX11_readsThing_5 11 rfl rfl)
theorem dX11_readsThing_127 : decode cX11_readsThing 127 = .ok (.iconst 2, 1) := dk_5 (dk_at dksX11_readsThing_5 12 rfl rfl)
theorem dX11_readsThing_128 : decode cX11_readsThing 128 = .ok (.iadd, 1) := dk_96 (dk_at dksX11_readsThing_5 13 rfl rfl)
theorem dX11_readsThing_129 : decode cX11_readsThing 129 = .ok (.aload_n 0, 1) := dk_42 (dk_at dksX11_readsThing_5 14 rfl rfl)
theorem dX11_readsThing_130 : decode cX11_readsThing 130 = .ok (.iconst 0, 1) := dk_3 (dk_at dksX11_readsThing_5 15 rfl rfl)
theorem dX11_readsThing_131 : decode cX11_readsThing 131 = .ok (.bipush 23, 2) := dk_16 23 (dk_at dksX11_readsThing_5 16 rfl rfl)
theorem dX11_readsThing_133 : decode cX11_readsThing 133 = .ok (.invokevirtual 189, 3) := dk_182 0 189 (dk_at dksX11_readsThing_5 18 rfl rfl)
theorem dX11_readsThing_136 : decode cX11_readsThing 136 = .ok (.iastore, 1) := dk_79 (dk_at dksX11_readsThing_5 21 rfl rfl)
theorem dX11_readsThing_137 : decode cX11_readsThing 137 = .ok (.aload_n 0, 1) := dk_42 (dk_at dksX11_readsThing_5 22 rfl rfl)
theorem dX11_readsThing_138 : decode cX11_readsThing 138 = .ok (.getfield 62, 3) := dk_180 0 62 (dk_at dksX11_readsThing_6 0 rfl rfl)
theorem dX11_readsThing_141 : decode cX11_readsThing 141 = .ok (.iload_n 1, 1) := dk_27 (dk_at dksX11_readsThing_6 3 rfl rfl)
theorem dX11_readsThing_142 : decode cX11_readsThing 142 = .ok (.iconst 3, 1) := dk_6 (dk_at dksX11_readsThing_6 4 rfl rfl)
theorem dX11_readsThing_143 : decode cX11_readsThing 143 = .ok (.iadd, 1) := dk_96 (dk_at dksX11_readsThing_6 5 rfl rfl)
theorem dX11_readsThing_144 : decode cX11_readsThing 144 = .ok (.aload_n 0, 1) := dk_42 (dk_at dksX11_readsThing_6 6 rfl rfl)
theorem dX11_readsThing_145 : decode cX11_readsThing 145 = .ok (.invokevirtual 176, 3) := dk_182 0 176 (dk_at dksX11_readsThing_6 7 rfl rfl)
theorem dX11_readsThing_148 : decode cX11_readsThing 148 = .ok (.ifCond .eq 16, 3) := dk_153 0 16 (dk_at dksX11_readsThing_6 10 rfl rfl)
theorem dX11_readsThing_151 : decode cX11_readsThing 151 = .ok (.aload_n 0, 1) := dk_42 (dk_at dksX11_readsThing_6 13 rfl rfl)
theorem dX11_readsThing_152 : decode cX11_readsThing 152 = .ok (.bipush 11, 2) := dk_16 11 (dk_at dksX11_readsThing_6 14 rfl rfl)
theorem dX11_readsThing_154 : decode cX11_readsThing 154 = .ok (.invokevirtual 213, 3) := dk_182 0 213 (dk_at dksX11_readsThing_6 16 rfl rfl)
theorem dX11_readsThing_157 : decode cX11_readsThing 157 = .ok (.ifCond .eq 7, 3) := dk_153 0 7 (dk_at dksX11_readsThing_6 19 rfl rfl)
theorem dX11_readsThing_160 : decode cX11_readsThing 160 = .ok (.iconst 1, 1) := dk_4 (dk_at dksX11_readsThing_6 22 rfl rfl)
theorem dX11_readsThing_161 : decode cX11_readsThing 161 = .ok (.goto 4, 3) := dk_167 0 4 (dk_at dksX11_readsThing_7 0 rfl rfl)
theorem dX11_readsThing_164 : decode cX11_readsThing 164 = .ok (.iconst 0, 1) := dk_3 (dk_at dksX11_readsThing_7 3 rfl rfl)
theorem dX11_readsThing_165 : decode cX11_readsThing 165 = .ok (.iastore, 1) := dk_79 (dk_at dksX11_readsThing_7 4 rfl rfl)
theorem dX11_readsThing_166 : decode cX11_readsThing 166 = .ok (.aload_n 0, 1) := dk_42 (dk_at dksX11_readsThing_7 5 rfl rfl)
theorem dX11_readsThing_167 : decode cX11_readsThing 167 = .ok (.getfield 62, 3) := dk_180 0 62 (dk_at dksX11_readsThing_7 6 rfl rfl)
theorem dX11_readsThing_170 : decode cX11_readsThing 170 = .ok (.iload_n 1, 1) := dk_27 (dk_at dksX11_readsThing_7 9 rfl rfl)
theorem dX11_readsThing_171 : decode cX11_readsThing 171 = .ok (.iconst 3, 1) := dk_6 (dk_at dksX11_readsThing_7 10 rfl rfl)
theorem dX11_readsThing_172 : decode cX11_readsThing 172 = .ok (.iadd, 1) := dk_96 (dk_at dksX11_readsThing_7 11 rfl rfl)
theorem dX11_readsThing_173 : decode cX11_readsThing 173 = .ok (.iaload, 1) := dk_46 (dk_at dksX11_readsThing_7 12 rfl rfl)
theorem dX11_readsThing_174 : decode cX11_readsThing 174 = .ok (.iconst 1, 1) := dk_4 (dk_at dksX11_readsThing_7 13 rfl rfl)
theorem dX11_readsThing_175 : decode cX11_readsThing 175 = .ok (.if_icmp .ne 7, 3) := dk_160 0 7 (dk_at dksX11_readsThing_7 14 rfl rfl)
theorem dX11_readsThing_178 : decode cX11_readsThing 178 = .ok (.aload_n 0, 1) := dk_42 (dk_at dksX11_readsThing_7 17 rfl rfl)
theorem dX11_readsThing_179 : decode cX11_readsThing 179 = .ok (.invokevirtual 180, 3) := dk_182 0 180 (dk_at dksX11_readsThing_7 18 rfl rfl)
theorem dX11_readsThing_182 : decode cX11_readsThing 182 = .ok (.aload_n 0, 1) := dk_42 (dk_at dksX11_readsThing_7 21 rfl rfl)
theorem dX11_readsThing_183 : decode cX11_readsThing 183 = .ok (.getfield 62, 3) := dk_180 0 62 (dk_at dksX11_readsThing_8 0 rfl rfl)
theorem dX11_readsThing_186 : decode cX11_readsThing 186 = .ok (.iload_n 1, 1) := dk_27 (dk_at dksX11_readsThing_8 3 rfl rfl)
theorem dX11_readsThing_187 : decode cX11_readsThing 187 = .ok (.iconst 4, 1) := dk_7 (dk_at dksX11_readsThing_8 4 rfl rfl)
theorem dX11_readsThing_188 : decode cX11_readsThing 188 = .ok (.iadd, 1) := dk_96 (dk_at dksX11_readsThing_8 5 rfl rfl)
theorem dX11_readsThing_189 : decode cX11_readsThing 189 = .ok (.aload_n 0, 1) := dk_42 (dk_at dksX11_readsThing_8 6 rfl rfl)
theorem dX11_readsThing_190 : decode cX11_readsThing 190 = .ok (.invokevirtual 176, 3) := dk_182 0 176 (dk_at dksX11_readsThing_8 7 rfl rfl)
theorem dX11_readsThing_193 : decode cX11_readsThing 193 = .ok (.ifCond .eq 16, 3) := dk_153 0 16 (dk_at dksX11_readsThing_8 10 rfl rfl)
theorem dX11_readsThing_196 : decode cX11_readsThing 196 = .ok (.aload_n 0, 1) := dk_42 (dk_at dksX11_readsThing_8 13 rfl rfl)
theorem dX11_readsThing_197 : decode cX11_readsThing 197 = .ok (.bipush 12, 2) := dk_16 12 (dk_at dksX11_readsThing_8 14 rfl rfl)
theorem dX11_readsThing_199 : decode cX11_readsThing 199 = .ok (.invokevirtual 213, 3) := dk_182 0 213 (dk_at dksX11_readsThing_8 16 rfl rfl)
theorem dX11_readsThing_202 : decode cX11_readsThing 202 = .ok (.ifCond .eq 7, 3) := dk_153 0 7 (dk_at dksX11_readsThing_8 19 rfl rfl)
theorem dX11_readsThing_205 : decode cX11_readsThing 205 = .ok (.iconst 1, 1) := dk_4 (dk_at dksX11_readsThing_8 22 rfl rfl)
theorem dX11_readsThing_206 : decode cX11_readsThing 206 = .ok (.goto 4, 3) := dk_167 0 4 (dk_at dksX11_readsThing_9 0 rfl rfl)
theorem dX11_readsThing_209 : decode cX11_readsThing 209 = .ok (.iconst 0, 1) := dk_3 (dk_at dksX11_readsThing_9 3 rfl rfl)
theorem dX11_readsThing_210 : decode cX11_readsThing 210 = .ok (.iastore, 1) := dk_79 (dk_at dksX11_readsThing_9 4 rfl rfl)
theorem dX11_readsThing_211 : decode cX11_readsThing 211 = .ok (.aload_n 0, 1) := dk_42 (dk_at dksX11_readsThing_9 5 rfl rfl)
theorem dX11_readsThing_212 : decode cX11_readsThing 212 = .ok (.getfield 62, 3) := dk_180 0 62 (dk_at dksX11_readsThing_9 6 rfl rfl)
theorem dX11_readsThing_215 : decode cX11_readsThing 215 = .ok (.iload_n 1, 1) := dk_27 (dk_at dksX11_readsThing_9 9 rfl rfl)
theorem dX11_readsThing_216 : decode cX11_readsThing 216 = .ok (.iconst 4, 1) := dk_7 (dk_at dksX11_readsThing_9 10 rfl rfl)
theorem dX11_readsThing_217 : decode cX11_readsThing 217 = .ok (.iadd, 1) := dk_96 (dk_at dksX11_readsThing_9 11 rfl rfl)
theorem dX11_readsThing_218 : decode cX11_readsThing 218 = .ok (.iaload, 1) := dk_46 (dk_at dksX11_readsThing_9 12 rfl rfl)
theorem dX11_readsThing_219 : decode cX11_readsThing 219 = .ok (.iconst 1, 1) := dk_4 (dk_at dksX11_readsThing_9 13 rfl rfl)
theorem dX11_readsThing_220 : decode cX11_readsThing 220 = .ok (.if_icmp .ne 7, 3) := dk_160 0 7 (dk_at dksX11_readsThing_9 14 rfl rfl)
theorem dX11_readsThing_223 : decode cX11_readsThing 223 = .ok (.aload_n 0, 1) := dk_42 (dk_at dksX11_readsThing_9 17 rfl rfl)
theorem dX11_readsThing_224 : decode cX11_readsThing 224 = .ok (.invokevirtual 180, 3) := dk_182 0 180 (dk_at dksX11_readsThing_9 18 rfl rfl)
theorem dX11_readsThing_227 : decode cX11_readsThing 227 = .ok (.aload_n 0, 1) := dk_42 (dk_at dksX11_readsThing_9 21 rfl rfl)
theorem dX11_readsThing_228 : decode cX11_readsThing 228 = .ok (.invokevirtual 176, 3) := dk_182 0 176 (dk_at dksX11_readsThing_10 0 rfl rfl)
theorem dX11_readsThing_231 : decode cX11_readsThing 231 = .ok (.ifCond .eq 13, 3) := dk_153 0 13 (dk_at dksX11_readsThing_10 3 rfl rfl)
theorem dX11_readsThing_234 : decode cX11_readsThing 234 = .ok (.aload_n 0, 1) := dk_42 (dk_at dksX11_readsThing_10 6 rfl rfl)
theorem dX11_readsThing_235 : decode cX11_readsThing 235 = .ok (.dup, 1) := dk_89 (dk_at dksX11_readsThing_10 7 rfl rfl)
theorem dX11_readsThing_236 : decode cX11_readsThing 236 = .ok (.getfield 207, 3) := dk_180 0 207 (dk_at dksX11_readsThing_10 8 rfl rfl)
theorem dX11_readsThing_239 : decode cX11_readsThing 239 = .ok (.iconst 1, 1) := dk_4 (dk_at dksX11_readsThing_10 11 rfl rfl)
theorem dX11_readsThing_240 : decode cX11_readsThing 240 = .ok (.iadd, 1) := dk_96 (dk_at dksX11_readsThing_10 12 rfl rfl)
theorem dX11_readsThing_241 : decode cX11_readsThing 241 = .ok (.putfield 207, 3) := dk_181 0 207 (dk_at dksX11_readsThing_10 13 rfl rfl)
theorem dX11_readsThing_244 : decode cX11_readsThing 244 = .ok (.return_, 1) := dk_177 (dk_at dksX11_readsThing_10 16 rfl rfl)
abbrev cX11_readsRule : ByteArray := prog_19_method_25_code
def yX11_readsRule : MethodName := ⟨RX11, "readsRule", "()V"⟩
def dkwX11_readsRule_9 : List UInt8 := [181, 0, 216, 177]
abbrev dktX11_readsRule_9 : List UInt8 := dkwX11_readsRule_9 ++ []
def dkwX11_readsRule_8 : List UInt8 := [167, 0, 4, 3, 61, 167, 255, 107, 42, 182, 0, 176, 153, 0, 13, 42, 89, 180, 0, 216, 4, 96]
abbrev dktX11_readsRule_8 : List UInt8 := dkwX11_readsRule_8 ++ dktX11_readsRule_9
def dkwX11_readsRule_7 : List UInt8 := [153, 0, 25, 42, 180, 0, 152, 5, 159, 0, 13, 42, 180, 0, 65, 27, 46, 5, 162, 0, 7, 4]
abbrev dktX11_readsRule_7 : List UInt8 := dkwX11_readsRule_7 ++ dktX11_readsRule_8
def dkwX11_readsRule_6 : List UInt8 := [42, 180, 0, 149, 79, 42, 180, 0, 65, 27, 92, 46, 4, 96, 79, 42, 182, 0, 180, 42, 182, 0, 176]
abbrev dktX11_readsRule_6 : List UInt8 := dkwX11_readsRule_6 ++ dktX11_readsRule_7
def dkwX11_readsRule_5 : List UInt8 := [167, 255, 221, 42, 182, 0, 176, 153, 0, 36, 42, 180, 0, 65, 27, 4, 96, 42, 180, 0, 65, 27, 46, 96]
abbrev dktX11_readsRule_5 : List UInt8 := dkwX11_readsRule_5 ++ dktX11_readsRule_6
def dkwX11_readsRule_4 : List UInt8 := [180, 0, 65, 27, 4, 96, 29, 96, 46, 42, 180, 0, 149, 160, 0, 8, 42, 7, 182, 0, 183, 132, 3, 1]
abbrev dktX11_readsRule_4 : List UInt8 := dkwX11_readsRule_4 ++ dktX11_readsRule_5
def dkwX11_readsRule_3 : List UInt8 := [180, 0, 207, 182, 0, 186, 153, 0, 43, 3, 62, 29, 42, 180, 0, 65, 27, 46, 162, 0, 31, 42]
abbrev dktX11_readsRule_3 : List UInt8 := dkwX11_readsRule_3 ++ dktX11_readsRule_4
def dkwX11_readsRule_2 : List UInt8 := [180, 0, 152, 5, 160, 0, 18, 42, 180, 0, 65, 27, 46, 7, 160, 0, 8, 42, 5, 182, 0, 183, 42, 42]
abbrev dktX11_readsRule_2 : List UInt8 := dkwX11_readsRule_2 ++ dktX11_readsRule_3
def dkwX11_readsRule_1 : List UInt8 := [182, 0, 180, 8, 42, 180, 0, 216, 104, 60, 42, 180, 0, 65, 27, 3, 79, 4, 61, 28, 153, 0, 151, 42]
abbrev dktX11_readsRule_1 : List UInt8 := dkwX11_readsRule_1 ++ dktX11_readsRule_2
def dkwX11_readsRule_0 : List UInt8 := [42, 180, 0, 216, 16, 6, 160, 0, 8, 42, 5, 182, 0, 183, 42, 182, 0, 176, 154, 0, 4, 177, 42]
abbrev dktX11_readsRule_0 : List UInt8 := dkwX11_readsRule_0 ++ dktX11_readsRule_1
theorem dksX11_readsRule_0 : cX11_readsRule.data.toList.drop 0 = dktX11_readsRule_0 := by decide +kernel
theorem dksX11_readsRule_1 : cX11_readsRule.data.toList.drop 23 = dktX11_readsRule_1 := dk_seg dksX11_readsRule_0 23 rfl rfl
theorem dksX11_readsRule_2 : cX11_readsRule.data.toList.drop 47 = dktX11_readsRule_2 := dk_seg dksX11_readsRule_1 24 rfl rfl
theorem dksX11_readsRule_3 : cX11_readsRule.data.toList.drop 71 = dktX11_readsRule_3 := dk_seg dksX11_readsRule_2 24 rfl rfl
theorem dksX11_readsRule_4 : cX11_readsRule.data.toList.drop 93 = dktX11_readsRule_4 := dk_seg dksX11_readsRule_3 22 rfl rfl
theorem dksX11_readsRule_5 : cX11_readsRule.data.toList.drop 117 = dktX11_readsRule_5 := dk_seg dksX11_readsRule_4 24 rfl rfl
theorem dksX11_readsRule_6 : cX11_readsRule.data.toList.drop 141 = dktX11_readsRule_6 := dk_seg dksX11_readsRule_5 24 rfl rfl
theorem dksX11_readsRule_7 : cX11_readsRule.data.toList.drop 164 = dktX11_readsRule_7 := dk_seg dksX11_readsRule_6 23 rfl rfl
theorem dksX11_readsRule_8 : cX11_readsRule.data.toList.drop 186 = dktX11_readsRule_8 := dk_seg dksX11_readsRule_7 22 rfl rfl
theorem dksX11_readsRule_9 : cX11_readsRule.data.toList.drop 208 = dktX11_readsRule_9 := dk_seg dksX11_readsRule_8 22 rfl rfl
theorem dX11_readsRule_0 : decode cX11_readsRule 0 = .ok (.aload_n 0, 1) := dk_42 (dk_at dksX11_readsRule_0 0 rfl rfl)
theorem dX11_readsRule_1 : decode cX11_readsRule 1 = .ok (.getfield 216, 3) := dk_180 0 216 (dk_at dksX11_readsRule_0 1 rfl rfl)
theorem dX11_readsRule_4 : decode cX11_readsRule 4 = .ok (.bipush 6, 2) := dk_16 6 (dk_at dksX11_readsRule_0 4 rfl rfl)
theorem dX11_readsRule_6 : decode cX11_readsRule 6 = .ok (.if_icmp .ne 8, 3) := dk_160 0 8 (dk_at dksX11_readsRule_0 6 rfl rfl)
theorem dX11_readsRule_9 : decode cX11_readsRule 9 = .ok (.aload_n 0, 1) := dk_42 (dk_at dksX11_readsRule_0 9 rfl rfl)
theorem dX11_readsRule_10 : decode cX11_readsRule 10 = .ok (.iconst 2, 1) := dk_5 (dk_at dksX11_readsRule_0 10 rfl rfl)
theorem dX11_readsRule_11 : decode cX11_readsRule 11 = .ok (.invokevirtual 183, 3) := dk_182 0 183 (dk_at dksX11_readsRule_0 11 rfl rfl)
theorem dX11_readsRule_14 : decode cX11_readsRule 14 = .ok (.aload_n 0, 1) := dk_42 (dk_at dksX11_readsRule_0 14 rfl rfl)
theorem dX11_readsRule_15 : decode cX11_readsRule 15 = .ok (.invokevirtual 176, 3) := dk_182 0 176 (dk_at dksX11_readsRule_0 15 rfl rfl)
theorem dX11_readsRule_18 : decode cX11_readsRule 18 = .ok (.ifCond .ne 4, 3) := dk_154 0 4 (dk_at dksX11_readsRule_0 18 rfl rfl)
theorem dX11_readsRule_21 : decode cX11_readsRule 21 = .ok (.return_, 1) := dk_177 (dk_at dksX11_readsRule_0 21 rfl rfl)
theorem dX11_readsRule_22 : decode cX11_readsRule 22 = .ok (.aload_n 0, 1) := dk_42 (dk_at dksX11_readsRule_0 22 rfl rfl)
theorem dX11_readsRule_23 : decode cX11_readsRule 23 = .ok (.invokevirtual 180, 3) := dk_182 0 180 (dk_at dksX11_readsRule_1 0 rfl rfl)
theorem dX11_readsRule_26 : decode cX11_readsRule 26 = .ok (.iconst 5, 1) := dk_8 (dk_at dksX11_readsRule_1 3 rfl rfl)
theorem dX11_readsRule_27 : decode cX11_readsRule 27 = .ok (.aload_n 0, 1) := dk_42 (dk_at dksX11_readsRule_1 4 rfl rfl)
theorem dX11_readsRule_28 : decode cX11_readsRule 28 = .ok (.getfield 216, 3) := dk_180 0 216 (dk_at dksX11_readsRule_1 5 rfl rfl)
theorem dX11_readsRule_31 : decode cX11_readsRule 31 = .ok (.imul, 1) := dk_104 (dk_at dksX11_readsRule_1 8 rfl rfl)
theorem dX11_readsRule_32 : decode cX11_readsRule 32 = .ok (.istore_n 1, 1) := dk_60 (dk_at dksX11_readsRule_1 9 rfl rfl)
theorem dX11_readsRule_33 : decode cX11_readsRule 33 = .ok (.aload_n 0, 1) := dk_42 (dk_at dksX11_readsRule_1 10 rfl rfl)
theorem dX11_readsRule_34 : decode cX11_readsRule 34 = .ok (.getfield 65, 3) := dk_180 0 65 (dk_at dksX11_readsRule_1 11 rfl rfl)
theorem dX11_readsRule_37 : decode cX11_readsRule 37 = .ok (.iload_n 1, 1) := dk_27 (dk_at dksX11_readsRule_1 14 rfl rfl)
theorem dX11_readsRule_38 : decode cX11_readsRule 38 = .ok (.iconst 0, 1) := dk_3 (dk_at dksX11_readsRule_1 15 rfl rfl)
theorem dX11_readsRule_39 : decode cX11_readsRule 39 = .ok (.iastore, 1) := dk_79 (dk_at dksX11_readsRule_1 16 rfl rfl)
theorem dX11_readsRule_40 : decode cX11_readsRule 40 = .ok (.iconst 1, 1) := dk_4 (dk_at dksX11_readsRule_1 17 rfl rfl)
theorem dX11_readsRule_41 : decode cX11_readsRule 41 = .ok (.istore_n 2, 1) := dk_61 (dk_at dksX11_readsRule_1 18 rfl rfl)
theorem dX11_readsRule_42 : decode cX11_readsRule 42 = .ok (.iload_n 2, 1) := dk_28 (dk_at dksX11_readsRule_1 19 rfl rfl)
theorem dX11_readsRule_43 : decode cX11_readsRule 43 = .ok (.ifCond .eq 151, 3) := dk_153 0 151 (dk_at dksX11_readsRule_1 20 rfl rfl)
theorem dX11_readsRule_46 : decode cX11_readsRule 46 = .ok (.aload_n 0, 1) := dk_42 (dk_at dksX11_readsRule_1 23 rfl rfl)
theorem dX11_readsRule_47 : decode cX11_readsRule 47 = .ok (.getfield 152, 3) := dk_180 0 152 (dk_at dksX11_readsRule_2 0 rfl rfl)
theorem dX11_readsRule_50 : decode cX11_readsRule 50 = .ok (.iconst 2, 1) := dk_5 (dk_at dksX11_readsRule_2 3 rfl rfl)
theorem dX11_readsRule_51 : decode cX11_readsRule 51 = .ok (.if_icmp .ne 18, 3) := dk_160 0 18 (dk_at dksX11_readsRule_2 4 rfl rfl)
theorem dX11_readsRule_54 : decode cX11_readsRule 54 = .ok (.aload_n 0, 1) := dk_42 (dk_at dksX11_readsRule_2 7 rfl rfl)
theorem dX11_readsRule_55 : decode cX11_readsRule 55 = .ok (.getfield 65, 3) := dk_180 0 65 (dk_at dksX11_readsRule_2 8 rfl rfl)
theorem dX11_readsRule_58 : decode cX11_readsRule 58 = .ok (.iload_n 1, 1) := dk_27 (dk_at dksX11_readsRule_2 11 rfl rfl)
theorem dX11_readsRule_59 : decode cX11_readsRule 59 = .ok (.iaload, 1) := dk_46 (dk_at dksX11_readsRule_2 12 rfl rfl)
theorem dX11_readsRule_60 : decode cX11_readsRule 60 = .ok (.iconst 4, 1) := dk_7 (dk_at dksX11_readsRule_2 13 rfl rfl)
theorem dX11_readsRule_61 : decode cX11_readsRule 61 = .ok (.if_icmp .ne 8, 3) := dk_160 0 8 (dk_at dksX11_readsRule_2 14 rfl rfl)
theorem dX11_readsRule_64 : decode cX11_readsRule 64 = .ok (.aload_n 0, 1) := dk_42 (dk_at dksX11_readsRule_2 17 rfl rfl)
theorem dX11_readsRule_65 : decode cX11_readsRule 65 = .ok (.iconst 2, 1) := dk_5 (dk_at dksX11_readsRule_2 18 rfl rfl)
theorem dX11_readsRule_66 : decode cX11_readsRule 66 = .ok (.invokevirtual 183, 3) := dk_182 0 183 (dk_at dksX11_readsRule_2 19 rfl rfl)
theorem dX11_readsRule_69 : decode cX11_readsRule 69 = .ok (.aload_n 0, 1) := dk_42 (dk_at dksX11_readsRule_2 22 rfl rfl)
theorem dX11_readsRule_70 : decode cX11_readsRule 70 = .ok (.aload_n 0, 1) := dk_42 (dk_at dksX11_readsRule_2 23 rfl rfl)
theorem dX11_readsRule_71 : decode cX11_readsRule 71 = .ok (.getfield 207, 3) := dk_180 0 207 (dk_at dksX11_readsRule_3 0 rfl rfl)
theorem dX11_readsRule_74 : decode cX11_readsRule 74 = .ok (.invokevirtual 186, 3) := dk_182 0 186 (dk_at dksX11_readsRule_3 3 rfl rfl)
theorem dX11_readsRule_77 : decode cX11_readsRule 77 = .ok (.ifCond .eq 43, 3) := dk_153 0 43 (dk_at dksX11_readsRule_3 6 rfl rfl)
theorem dX11_readsRule_80 : decode cX11_readsRule 80 = .ok (.iconst 0, 1) := dk_3 (dk_at dksX11_readsRule_3 9 rfl rfl)
theorem dX11_readsRule_81 : decode cX11_readsRule 81 = .ok (.istore_n 3, 1) := dk_62 (dk_at dksX11_readsRule_3 10 rfl rfl)
theorem dX11_readsRule_82 : decode cX11_readsRule 82 = .ok (.iload_n 3, 1) := dk_29 (dk_at dksX11_readsRule_3 11 rfl rfl)
theorem dX11_readsRule_83 : decode cX11_readsRule 83 = .ok (.aload_n 0, 1) := dk_42 (dk_at dksX11_readsRule_3 12 rfl rfl)
theorem dX11_readsRule_84 : decode cX11_readsRule 84 = .ok (.getfield 65, 3) := dk_180 0 65 (dk_at dksX11_readsRule_3 13 rfl rfl)
theorem dX11_readsRule_87 : decode cX11_readsRule 87 = .ok (.iload_n 1, 1) := dk_27 (dk_at dksX11_readsRule_3 16 rfl rfl)
theorem dX11_readsRule_88 : decode cX11_readsRule 88 = .ok (.iaload, 1) := dk_46 (dk_at dksX11_readsRule_3 17 rfl rfl)
theorem dX11_readsRule_89 : decode cX11_readsRule 89 = .ok (.if_icmp .ge 31, 3) := dk_162 0 31 (dk_at dksX11_readsRule_3 18 rfl rfl)
theorem dX11_readsRule_92 : decode cX11_readsRule 92 = .ok (.aload_n 0, 1) := dk_42 (dk_at dksX11_readsRule_3 21 rfl rfl)
theorem dX11_readsRule_93 : decode cX11_readsRule 93 = .ok (.getfield 65, 3) := dk_180 0 65 (dk_at dksX11_readsRule_4 0 rfl rfl)
theorem dX11_readsRule_96 : decode cX11_readsRule 96 = .ok (.iload_n 1, 1) := dk_27 (dk_at dksX11_readsRule_4 3 rfl rfl)
theorem dX11_readsRule_97 : decode cX11_readsRule 97 = .ok (.iconst 1, 1) := dk_4 (dk_at dksX11_readsRule_4 4 rfl rfl)
theorem dX11_readsRule_98 : decode cX11_readsRule 98 = .ok (.iadd, 1) := dk_96 (dk_at dksX11_readsRule_4 5 rfl rfl)
theorem dX11_readsRule_99 : decode cX11_readsRule 99 = .ok (.iload_n 3, 1) := dk_29 (dk_at dksX11_readsRule_4 6 rfl rfl)
theorem dX11_readsRule_100 : decode cX11_readsRule 100 = .ok (.iadd, 1) := dk_96 (dk_at dksX11_readsRule_4 7 rfl rfl)
theorem dX11_readsRule_101 : decode cX11_readsRule 101 = .ok (.iaload, 1) := dk_46 (dk_at dksX11_readsRule_4 8 rfl rfl)
theorem dX11_readsRule_102 : decode cX11_readsRule 102 = .ok (.aload_n 0, 1) := dk_42 (dk_at dksX11_readsRule_4 9 rfl rfl)
theorem dX11_readsRule_103 : decode cX11_readsRule 103 = .ok (.getfield 149, 3) := dk_180 0 149 (dk_at dksX11_readsRule_4 10 rfl rfl)
theorem dX11_readsRule_106 : decode cX11_readsRule 106 = .ok (.if_icmp .ne 8, 3) := dk_160 0 8 (dk_at dksX11_readsRule_4 13 rfl rfl)
theorem dX11_readsRule_109 : decode cX11_readsRule 109 = .ok (.aload_n 0, 1) := dk_42 (dk_at dksX11_readsRule_4 16 rfl rfl)
theorem dX11_readsRule_110 : decode cX11_readsRule 110 = .ok (.iconst 4, 1) := dk_7 (dk_at dksX11_readsRule_4 17 rfl rfl)
theorem dX11_readsRule_111 : decode cX11_readsRule 111 = .ok (.invokevirtual 183, 3) := dk_182 0 183 (dk_at dksX11_readsRule_4 18 rfl rfl)
theorem dX11_readsRule_114 : decode cX11_readsRule 114 = .ok (.iinc 3 1, 3) := dk_132 3 1 (dk_at dksX11_readsRule_4 21 rfl rfl)
theorem dX11_readsRule_117 : decode cX11_readsRule 117 = .ok (.goto (-35), 3) := dk_167 255 221 (dk_at dksX11_readsRule_5 0 rfl rfl)
theorem dX11_readsRule_120 : decode cX11_readsRule 120 = .ok (.aload_n 0, 1) := dk_42 (dk_at dksX11_readsRule_5 3 rfl rfl)
theorem dX11_readsRule_121 : decode cX11_readsRule 121 = .ok (.invokevirtual 176, 3) := dk_182 0 176 (dk_at dksX11_readsRule_5 4 rfl rfl)
theorem dX11_readsRule_124 : decode cX11_readsRule 124 = .ok (.ifCond .eq 36, 3) := dk_153 0 36 (dk_at dksX11_readsRule_5 7 rfl rfl)
theorem dX11_readsRule_127 : decode cX11_readsRule 127 = .ok (.aload_n 0, 1) := dk_42 (dk_at dksX11_readsRule_5 10 rfl rfl)
theorem dX11_readsRule_128 : decode cX11_readsRule 128 = .ok (.getfield 65, 3) := dk_180 0 65 (dk_at dksX11_readsRule_5 11 rfl rfl)
theorem dX11_readsRule_131 : decode cX11_readsRule 131 = .ok (.iload_n 1, 1) := dk_27 (dk_at dksX11_readsRule_5 14 rfl rfl)
theorem dX11_readsRule_132 : decode cX11_readsRule 132 = .ok (.iconst 1, 1) := dk_4 (dk_at dksX11_readsRule_5 15 rfl rfl)
theorem dX11_readsRule_133 : decode cX11_readsRule 133 = .ok (.iadd, 1) := dk_96 (dk_at dksX11_readsRule_5 16 rfl rfl)
theorem dX11_readsRule_134 : decode cX11_readsRule 134 = .ok (.aload_n 0, 1) := dk_42 (dk_at dksX11_readsRule_5 17 rfl rfl)
theorem dX11_readsRule_135 : decode cX11_readsRule 135 = .ok (.getfield 65, 3) := dk_180 0 65 (dk_at dksX11_readsRule_5 18 rfl rfl)
theorem dX11_readsRule_138 : decode cX11_readsRule 138 = .ok (.iload_n 1, 1) := dk_27 (dk_at dksX11_readsRule_5 21 rfl rfl)
theorem dX11_readsRule_139 : decode cX11_readsRule 139 = .ok (.iaload, 1) := dk_46 (dk_at dksX11_readsRule_5 22 rfl rfl)
theorem dX11_readsRule_140 : decode cX11_readsRule 140 = .ok (.iadd, 1) := dk_96 (dk_at dksX11_readsRule_5 23 rfl rfl)
theorem dX11_readsRule_141 : decode cX11_readsRule 141 = .ok (.aload_n 0, 1) := dk_42 (dk_at dksX11_readsRule_6 0 rfl rfl)
theorem dX11_readsRule_142 : decode cX11_readsRule 142 = .ok (.getfield 149, 3) := dk_180 0 149 (dk_at dksX11_readsRule_6 1 rfl rfl)
theorem dX11_readsRule_145 : decode cX11_readsRule 145 = .ok (.iastore, 1) := dk_79 (dk_at dksX11_readsRule_6 4 rfl rfl)
theorem dX11_readsRule_146 : decode cX11_readsRule 146 = .ok (.aload_n 0, 1) := dk_42 (dk_at dksX11_readsRule_6 5 rfl rfl)
theorem dX11_readsRule_147 : decode cX11_readsRule 147 = .ok (.getfield 65, 3) := dk_180 0 65 (dk_at dksX11_readsRule_6 6 rfl rfl)
theorem dX11_readsRule_150 : decode cX11_readsRule 150 = .ok (.iload_n 1, 1) := dk_27 (dk_at dksX11_readsRule_6 9 rfl rfl)
theorem dX11_readsRule_151 : decode cX11_readsRule 151 = .ok (.dup2, 1) := dk_92 (dk_at dksX11_readsRule_6 10 rfl rfl)
theorem dX11_readsRule_152 : decode cX11_readsRule 152 = .ok (.iaload, 1) := dk_46 (dk_at dksX11_readsRule_6 11 rfl rfl)
theorem dX11_readsRule_153 : decode cX11_readsRule 153 = .ok (.iconst 1, 1) := dk_4 (dk_at dksX11_readsRule_6 12 rfl rfl)
theorem dX11_readsRule_154 : decode cX11_readsRule 154 = .ok (.iadd, 1) := dk_96 (dk_at dksX11_readsRule_6 13 rfl rfl)
theorem dX11_readsRule_155 : decode cX11_readsRule 155 = .ok (.iastore, 1) := dk_79 (dk_at dksX11_readsRule_6 14 rfl rfl)
theorem dX11_readsRule_156 : decode cX11_readsRule 156 = .ok (.aload_n 0, 1) := dk_42 (dk_at dksX11_readsRule_6 15 rfl rfl)
theorem dX11_readsRule_157 : decode cX11_readsRule 157 = .ok (.invokevirtual 180, 3) := dk_182 0 180 (dk_at dksX11_readsRule_6 16 rfl rfl)
theorem dX11_readsRule_160 : decode cX11_readsRule 160 = .ok (.aload_n 0, 1) := dk_42 (dk_at dksX11_readsRule_6 19 rfl rfl)
theorem dX11_readsRule_161 : decode cX11_readsRule 161 = .ok (.invokevirtual 176, 3) := dk_182 0 176 (dk_at dksX11_readsRule_6 20 rfl rfl)
theorem dX11_readsRule_164 : decode cX11_readsRule 164 = .ok (.ifCond .eq 25, 3) := dk_153 0 25 (dk_at dksX11_readsRule_7 0 rfl rfl)
theorem dX11_readsRule_167 : decode cX11_readsRule 167 = .ok (.aload_n 0, 1) := dk_42 (dk_at dksX11_readsRule_7 3 rfl rfl)
theorem dX11_readsRule_168 : decode cX11_readsRule 168 = .ok (.getfield 152, 3) := dk_180 0 152 (dk_at dksX11_readsRule_7 4 rfl rfl)
theorem dX11_readsRule_171 : decode cX11_readsRule 171 = .ok (.iconst 2, 1) := dk_5 (dk_at dksX11_readsRule_7 7 rfl rfl)
theorem dX11_readsRule_172 : decode cX11_readsRule 172 = .ok (.if_icmp .eq 13, 3) := dk_159 0 13 (dk_at dksX11_readsRule_7 8 rfl rfl)
theorem dX11_readsRule_175 : decode cX11_readsRule 175 = .ok (.aload_n 0, 1) := dk_42 (dk_at dksX11_readsRule_7 11 rfl rfl)
theorem dX11_readsRule_176 : decode cX11_readsRule 176 = .ok (.getfield 65, 3) := dk_180 0 65 (dk_at dksX11_readsRule_7 12 rfl rfl)
theorem dX11_readsRule_179 : decode cX11_readsRule 179 = .ok (.iload_n 1, 1) := dk_27 (dk_at dksX11_readsRule_7 15 rfl rfl)
theorem dX11_readsRule_180 : decode cX11_readsRule 180 = .ok (.iaload, 1) := dk_46 (dk_at dksX11_readsRule_7 16 rfl rfl)
theorem dX11_readsRule_181 : decode cX11_readsRule 181 = .ok (.iconst 2, 1) := dk_5 (dk_at dksX11_readsRule_7 17 rfl rfl)
theorem dX11_readsRule_182 : decode cX11_readsRule 182 = .ok (.if_icmp .ge 7, 3) := dk_162 0 7 (dk_at dksX11_readsRule_7 18 rfl rfl)
theorem dX11_readsRule_185 : decode cX11_readsRule 185 = .ok (.iconst 1, 1) := dk_4 (dk_at dksX11_readsRule_7 21 rfl rfl)
theorem dX11_readsRule_186 : decode cX11_readsRule 186 = .ok (.goto 4, 3) := dk_167 0 4 (dk_at dksX11_readsRule_8 0 rfl rfl)
theorem dX11_readsRule_189 : decode cX11_readsRule 189 = .ok (.iconst 0, 1) := dk_3 (dk_at dksX11_readsRule_8 3 rfl rfl)
theorem dX11_readsRule_190 : decode cX11_readsRule 190 = .ok (.istore_n 2, 1) := dk_61 (dk_at dksX11_readsRule_8 4 rfl rfl)
theorem dX11_readsRule_191 : decode cX11_readsRule 191 = .ok (.goto (-149), 3) := dk_167 255 107 (dk_at dksX11_readsRule_8 5 rfl rfl)
theorem dX11_readsRule_194 : decode cX11_readsRule 194 = .ok (.aload_n 0, 1) := dk_42 (dk_at dksX11_readsRule_8 8 rfl rfl)
theorem dX11_readsRule_195 : decode cX11_readsRule 195 = .ok (.invokevirtual 176, 3) := dk_182 0 176 (dk_at dksX11_readsRule_8 9 rfl rfl)
theorem dX11_readsRule_198 : decode cX11_readsRule 198 = .ok (.ifCond .eq 13, 3) := dk_153 0 13 (dk_at dksX11_readsRule_8 12 rfl rfl)
theorem dX11_readsRule_201 : decode cX11_readsRule 201 = .ok (.aload_n 0, 1) := dk_42 (dk_at dksX11_readsRule_8 15 rfl rfl)
theorem dX11_readsRule_202 : decode cX11_readsRule 202 = .ok (.dup, 1) := dk_89 (dk_at dksX11_readsRule_8 16 rfl rfl)
theorem dX11_readsRule_203 : decode cX11_readsRule 203 = .ok (.getfield 216, 3) := dk_180 0 216 (dk_at dksX11_readsRule_8 17 rfl rfl)
theorem dX11_readsRule_206 : decode cX11_readsRule 206 = .ok (.iconst 1, 1) := dk_4 (dk_at dksX11_readsRule_8 20 rfl rfl)
theorem dX11_readsRule_207 : decode cX11_readsRule 207 = .ok (.iadd, 1) := dk_96 (dk_at dksX11_readsRule_8 21 rfl rfl)
theorem dX11_readsRule_208 : decode cX11_readsRule 208 = .ok (.putfield 216, 3) := dk_181 0 216 (dk_at dksX11_readsRule_9 0 rfl rfl)
theorem dX11_readsRule_211 : decode cX11_readsRule 211 = .ok (.return_, 1) := dk_177 (dk_at dksX11_readsRule_9 3 rfl rfl)
abbrev cX11_readsAt : ByteArray := prog_19_method_26_code
def yX11_readsAt : MethodName := ⟨RX11, "readsAt", "()V"⟩
def dkwX11_readsAt_2 : List UInt8 := [16, 24, 27, 104, 28, 96, 29, 79, 177]
abbrev dktX11_readsAt_2 : List UInt8 := dkwX11_readsAt_2 ++ []
def dkwX11_readsAt_1 : List UInt8 := [182, 0, 189, 61, 42, 42, 180, 0, 201, 182, 0, 204, 62, 42, 182, 0, 176, 153, 0, 15, 42, 180, 0, 71]
abbrev dktX11_readsAt_1 : List UInt8 := dkwX11_readsAt_1 ++ dktX11_readsAt_2
def dkwX11_readsAt_0 : List UInt8 := [42, 4, 181, 0, 197, 42, 182, 0, 180, 42, 42, 180, 0, 219, 182, 0, 204, 60, 42, 3, 16, 23]
abbrev dktX11_readsAt_0 : List UInt8 := dkwX11_readsAt_0 ++ dktX11_readsAt_1
theorem dksX11_readsAt_0 : cX11_readsAt.data.toList.drop 0 = dktX11_readsAt_0 := by decide +kernel
theorem dksX11_readsAt_1 : cX11_readsAt.data.toList.drop 22 = dktX11_readsAt_1 := dk_seg dksX11_readsAt_0 22 rfl rfl
theorem dksX11_readsAt_2 : cX11_readsAt.data.toList.drop 46 = dktX11_readsAt_2 := dk_seg dksX11_readsAt_1 24 rfl rfl
theorem dX11_readsAt_0 : decode cX11_readsAt 0 = .ok (.aload_n 0, 1) := dk_42 (dk_at dksX11_readsAt_0 0 rfl rfl)
theorem dX11_readsAt_1 : decode cX11_readsAt 1 = .ok (.iconst 1, 1) := dk_4 (dk_at dksX11_readsAt_0 1 rfl rfl)
theorem dX11_readsAt_2 : decode cX11_readsAt 2 = .ok (.putfield 197, 3) := dk_181 0 197 (dk_at dksX11_readsAt_0 2 rfl rfl)
theorem dX11_readsAt_5 : decode cX11_readsAt 5 = .ok (.aload_n 0, 1) := dk_42 (dk_at dksX11_readsAt_0 5 rfl rfl)
theorem dX11_readsAt_6 : decode cX11_readsAt 6 = .ok (.invokevirtual 180, 3) := dk_182 0 180 (dk_at dksX11_readsAt_0 6 rfl rfl)
theorem dX11_readsAt_9 : decode cX11_readsAt 9 = .ok (.aload_n 0, 1) := dk_42 (dk_at dksX11_readsAt_0 9 rfl rfl)
theorem dX11_readsAt_10 : decode cX11_readsAt 10 = .ok (.aload_n 0, 1) := dk_42 (dk_at dksX11_readsAt_0 10 rfl rfl)
theorem dX11_readsAt_11 : decode cX11_readsAt 11 = .ok (.getfield 219, 3) := dk_180 0 219 (dk_at dksX11_readsAt_0 11 rfl rfl)
theorem dX11_readsAt_14 : decode cX11_readsAt 14 = .ok (.invokevirtual 204, 3) := dk_182 0 204 (dk_at dksX11_readsAt_0 14 rfl rfl)
theorem dX11_readsAt_17 : decode cX11_readsAt 17 = .ok (.istore_n 1, 1) := dk_60 (dk_at dksX11_readsAt_0 17 rfl rfl)
theorem dX11_readsAt_18 : decode cX11_readsAt 18 = .ok (.aload_n 0, 1) := dk_42 (dk_at dksX11_readsAt_0 18 rfl rfl)
theorem dX11_readsAt_19 : decode cX11_readsAt 19 = .ok (.iconst 0, 1) := dk_3 (dk_at dksX11_readsAt_0 19 rfl rfl)
theorem dX11_readsAt_20 : decode cX11_readsAt 20 = .ok (.bipush 23, 2) := dk_16 23 (dk_at dksX11_readsAt_0 20 rfl rfl)
theorem dX11_readsAt_22 : decode cX11_readsAt 22 = .ok (.invokevirtual 189, 3) := dk_182 0 189 (dk_at dksX11_readsAt_1 0 rfl rfl)
theorem dX11_readsAt_25 : decode cX11_readsAt 25 = .ok (.istore_n 2, 1) := dk_61 (dk_at dksX11_readsAt_1 3 rfl rfl)
theorem dX11_readsAt_26 : decode cX11_readsAt 26 = .ok (.aload_n 0, 1) := dk_42 (dk_at dksX11_readsAt_1 4 rfl rfl)
theorem dX11_readsAt_27 : decode cX11_readsAt 27 = .ok (.aload_n 0, 1) := dk_42 (dk_at dksX11_readsAt_1 5 rfl rfl)
theorem dX11_readsAt_28 : decode cX11_readsAt 28 = .ok (.getfield 201, 3) := dk_180 0 201 (dk_at dksX11_readsAt_1 6 rfl rfl)
theorem dX11_readsAt_31 : decode cX11_readsAt 31 = .ok (.invokevirtual 204, 3) := dk_182 0 204 (dk_at dksX11_readsAt_1 9 rfl rfl)
theorem dX11_readsAt_34 : decode cX11_readsAt 34 = .ok (.istore_n 3, 1) := dk_62 (dk_at dksX11_readsAt_1 12 rfl rfl)
theorem dX11_readsAt_35 : decode cX11_readsAt 35 = .ok (.aload_n 0, 1) := dk_42 (dk_at dksX11_readsAt_1 13 rfl rfl)
theorem dX11_readsAt_36 : decode cX11_readsAt 36 = .ok (.invokevirtual 176, 3) := dk_182 0 176 (dk_at dksX11_readsAt_1 14 rfl rfl)
theorem dX11_readsAt_39 : decode cX11_readsAt 39 = .ok (.ifCond .eq 15, 3) := dk_153 0 15 (dk_at dksX11_readsAt_1 17 rfl rfl)
theorem dX11_readsAt_42 : decode cX11_readsAt 42 = .ok (.aload_n 0, 1) := dk_42 (dk_at dksX11_readsAt_1 20 rfl rfl)
theorem dX11_readsAt_43 : decode cX11_readsAt 43 = .ok (.getfield 71, 3) := dk_180 0 71 (dk_at dksX11_readsAt_1 21 rfl rfl)
theorem dX11_readsAt_46 : decode cX11_readsAt 46 = .ok (.bipush 24, 2) := dk_16 24 (dk_at dksX11_readsAt_2 0 rfl rfl)
theorem dX11_readsAt_48 : decode cX11_readsAt 48 = .ok (.iload_n 1, 1) := dk_27 (dk_at dksX11_readsAt_2 2 rfl rfl)
theorem dX11_readsAt_49 : decode cX11_readsAt 49 = .ok (.imul, 1) := dk_104 (dk_at dksX11_readsAt_2 3 rfl rfl)
theorem dX11_readsAt_50 : decode cX11_readsAt 50 = .ok (.iload_n 2, 1) := dk_28 (dk_at dksX11_readsAt_2 4 rfl rfl)
theorem dX11_readsAt_51 : decode cX11_readsAt 51 = .ok (.iadd, 1) := dk_96 (dk_at dksX11_readsAt_2 5 rfl rfl)
theorem dX11_readsAt_52 : decode cX11_readsAt 52 = .ok (.iload_n 3, 1) := dk_29 (dk_at dksX11_readsAt_2 6 rfl rfl)
theorem dX11_readsAt_53 : decode cX11_readsAt 53 = .ok (.iastore, 1) := dk_79 (dk_at dksX11_readsAt_2 7 rfl rfl)
theorem dX11_readsAt_54 : decode cX11_readsAt 54 = .ok (.return_, 1) := dk_177 (dk_at dksX11_readsAt_2 8 rfl rfl)
abbrev cX11_need : ByteArray := prog_19_method_17_code
def yX11_need : MethodName := ⟨RX11, "need", "(Z)V"⟩
def dkwX11_need_1 : List UInt8 := [177]
abbrev dktX11_need_1 : List UInt8 := dkwX11_need_1 ++ []
def dkwX11_need_0 : List UInt8 := [42, 182, 0, 176, 154, 0, 4, 177, 27, 153, 0, 10, 42, 182, 0, 180, 167, 0, 8, 42, 4, 182, 0, 183]
abbrev dktX11_need_0 : List UInt8 := dkwX11_need_0 ++ dktX11_need_1
theorem dksX11_need_0 : cX11_need.data.toList.drop 0 = dktX11_need_0 := by decide +kernel
theorem dksX11_need_1 : cX11_need.data.toList.drop 24 = dktX11_need_1 := dk_seg dksX11_need_0 24 rfl rfl
theorem dX11_need_0 : decode cX11_need 0 = .ok (.aload_n 0, 1) := dk_42 (dk_at dksX11_need_0 0 rfl rfl)
theorem dX11_need_1 : decode cX11_need 1 = .ok (.invokevirtual 176, 3) := dk_182 0 176 (dk_at dksX11_need_0 1 rfl rfl)
theorem dX11_need_4 : decode cX11_need 4 = .ok (.ifCond .ne 4, 3) := dk_154 0 4 (dk_at dksX11_need_0 4 rfl rfl)
theorem dX11_need_7 : decode cX11_need 7 = .ok (.return_, 1) := dk_177 (dk_at dksX11_need_0 7 rfl rfl)
theorem dX11_need_8 : decode cX11_need 8 = .ok (.iload_n 1, 1) := dk_27 (dk_at dksX11_need_0 8 rfl rfl)
theorem dX11_need_9 : decode cX11_need 9 = .ok (.ifCond .eq 10, 3) := dk_153 0 10 (dk_at dksX11_need_0 9 rfl rfl)
theorem dX11_need_12 : decode cX11_need 12 = .ok (.aload_n 0, 1) := dk_42 (dk_at dksX11_need_0 12 rfl rfl)
theorem dX11_need_13 : decode cX11_need 13 = .ok (.invokevirtual 180, 3) := dk_182 0 180 (dk_at dksX11_need_0 13 rfl rfl)
theorem dX11_need_16 : decode cX11_need 16 = .ok (.goto 8, 3) := dk_167 0 8 (dk_at dksX11_need_0 16 rfl rfl)
theorem dX11_need_19 : decode cX11_need 19 = .ok (.aload_n 0, 1) := dk_42 (dk_at dksX11_need_0 19 rfl rfl)
theorem dX11_need_20 : decode cX11_need 20 = .ok (.iconst 1, 1) := dk_4 (dk_at dksX11_need_0 20 rfl rfl)
theorem dX11_need_21 : decode cX11_need 21 = .ok (.invokevirtual 183, 3) := dk_182 0 183 (dk_at dksX11_need_0 21 rfl rfl)
theorem dX11_need_24 : decode cX11_need 24 = .ok (.return_, 1) := dk_177 (dk_at dksX11_need_1 0 rfl rfl)
abbrev cX11_copies : ByteArray := prog_19_method_5_code
def yX11_copies : MethodName := ⟨RX11, "copies", "([I[I)V"⟩
def dkwX11_copies_0 : List UInt8 := [3, 62, 29, 43, 190, 162, 0, 15, 44, 29, 43, 29, 46, 79, 132, 3, 1, 167, 255, 241, 177]
abbrev dktX11_copies_0 : List UInt8 := dkwX11_copies_0 ++ []
theorem dksX11_copies_0 : cX11_copies.data.toList.drop 0 = dktX11_copies_0 := by decide +kernel
theorem dX11_copies_0 : decode cX11_copies 0 = .ok (.iconst 0, 1) := dk_3 (dk_at dksX11_copies_0 0 rfl rfl)
theorem dX11_copies_1 : decode cX11_copies 1 = .ok (.istore_n 3, 1) := dk_62 (dk_at dksX11_copies_0 1 rfl rfl)
theorem dX11_copies_2 : decode cX11_copies 2 = .ok (.iload_n 3, 1) := dk_29 (dk_at dksX11_copies_0 2 rfl rfl)
theorem dX11_copies_3 : decode cX11_copies 3 = .ok (.aload_n 1, 1) := dk_43 (dk_at dksX11_copies_0 3 rfl rfl)
theorem dX11_copies_4 : decode cX11_copies 4 = .ok (.arraylength, 1) := dk_190 (dk_at dksX11_copies_0 4 rfl rfl)
theorem dX11_copies_5 : decode cX11_copies 5 = .ok (.if_icmp .ge 15, 3) := dk_162 0 15 (dk_at dksX11_copies_0 5 rfl rfl)
theorem dX11_copies_8 : decode cX11_copies 8 = .ok (.aload_n 2, 1) := dk_44 (dk_at dksX11_copies_0 8 rfl rfl)
theorem dX11_copies_9 : decode cX11_copies 9 = .ok (.iload_n 3, 1) := dk_29 (dk_at dksX11_copies_0 9 rfl rfl)
theorem dX11_copies_10 : decode cX11_copies 10 = .ok (.aload_n 1, 1) := dk_43 (dk_at dksX11_copies_0 10 rfl rfl)
theorem dX11_copies_11 : decode cX11_copies 11 = .ok (.iload_n 3, 1) := dk_29 (dk_at dksX11_copies_0 11 rfl rfl)
theorem dX11_copies_12 : decode cX11_copies 12 = .ok (.iaload, 1) := dk_46 (dk_at dksX11_copies_0 12 rfl rfl)
theorem dX11_copies_13 : decode cX11_copies 13 = .ok (.iastore, 1) := dk_79 (dk_at dksX11_copies_0 13 rfl rfl)
theorem dX11_copies_14 : decode cX11_copies 14 = .ok (.iinc 3 1, 3) := dk_132 3 1 (dk_at dksX11_copies_0 14 rfl rfl)
theorem dX11_copies_17 : decode cX11_copies 17 = .ok (.goto (-15), 3) := dk_167 255 241 (dk_at dksX11_copies_0 17 rfl rfl)
theorem dX11_copies_20 : decode cX11_copies 20 = .ok (.return_, 1) := dk_177 (dk_at dksX11_copies_0 20 rfl rfl)
abbrev cX11_fault : ByteArray := prog_19_method_30_code
def yX11_fault : MethodName := ⟨RX11, "fault", "()I"⟩
def dkwX11_fault_0 : List UInt8 := [42, 3, 181, 0, 122, 42, 180, 0, 44, 172]
abbrev dktX11_fault_0 : List UInt8 := dkwX11_fault_0 ++ []
theorem dksX11_fault_0 : cX11_fault.data.toList.drop 0 = dktX11_fault_0 := by decide +kernel
theorem dX11_fault_0 : decode cX11_fault 0 = .ok (.aload_n 0, 1) := dk_42 (dk_at dksX11_fault_0 0 rfl rfl)
theorem dX11_fault_1 : decode cX11_fault 1 = .ok (.iconst 0, 1) := dk_3 (dk_at dksX11_fault_0 1 rfl rfl)
theorem dX11_fault_2 : decode cX11_fault 2 = .ok (.putfield 122, 3) := dk_181 0 122 (dk_at dksX11_fault_0 2 rfl rfl)
theorem dX11_fault_5 : decode cX11_fault 5 = .ok (.aload_n 0, 1) := dk_42 (dk_at dksX11_fault_0 5 rfl rfl)
theorem dX11_fault_6 : decode cX11_fault 6 = .ok (.getfield 44, 3) := dk_180 0 44 (dk_at dksX11_fault_0 6 rfl rfl)
theorem dX11_fault_9 : decode cX11_fault 9 = .ok (.ireturn, 1) := dk_172 (dk_at dksX11_fault_0 9 rfl rfl)
abbrev cX11_count : ByteArray := prog_19_method_31_code
def yX11_count : MethodName := ⟨RX11, "count", "(I)I"⟩
def dkwX11_count_4 : List UInt8 := [42, 180, 0, 47, 27, 16, 8, 100, 46, 172]
abbrev dktX11_count_4 : List UInt8 := dkwX11_count_4 ++ []
def dkwX11_count_3 : List UInt8 := [172, 42, 180, 1, 16, 172, 42, 180, 1, 23, 172, 42, 180, 0, 125, 172, 42, 180, 1, 29, 184, 1, 39, 172]
abbrev dktX11_count_3 : List UInt8 := dkwX11_count_3 ++ dktX11_count_4
def dkwX11_count_2 : List UInt8 := [42, 180, 1, 4, 172, 42, 180, 1, 7, 172, 42, 180, 0, 7, 172, 42, 180, 1, 10, 172, 42, 180, 1, 13]
abbrev dktX11_count_2 : List UInt8 := dkwX11_count_2 ++ dktX11_count_3
def dkwX11_count_1 : List UInt8 := [170, 0, 0, 0, 109, 0, 0, 0, 0, 0, 0, 0, 11, 0, 0, 0, 61, 0, 0, 0, 66, 0, 0, 0, 71, 0, 0, 0, 76, 0, 0, 0, 81, 0, 0, 0, 86, 0, 0, 0, 91, 0, 0, 0, 96, 0, 0, 0, 109, 0, 0, 0, 109, 0, 0, 0, 109, 0, 0, 0, 101]
abbrev dktX11_count_1 : List UInt8 := dkwX11_count_1 ++ dktX11_count_2
def dkwX11_count_0 : List UInt8 := [42, 3, 181, 0, 122, 42, 27, 3, 16, 11, 184, 1, 35, 4, 182, 0, 250, 154, 0, 5, 3, 172, 27]
abbrev dktX11_count_0 : List UInt8 := dkwX11_count_0 ++ dktX11_count_1
theorem dksX11_count_0 : cX11_count.data.toList.drop 0 = dktX11_count_0 := by decide +kernel
theorem dksX11_count_1 : cX11_count.data.toList.drop 23 = dktX11_count_1 := dk_seg dksX11_count_0 23 rfl rfl
theorem dksX11_count_2 : cX11_count.data.toList.drop 84 = dktX11_count_2 := dk_seg dksX11_count_1 61 rfl rfl
theorem dksX11_count_3 : cX11_count.data.toList.drop 108 = dktX11_count_3 := dk_seg dksX11_count_2 24 rfl rfl
theorem dksX11_count_4 : cX11_count.data.toList.drop 132 = dktX11_count_4 := dk_seg dksX11_count_3 24 rfl rfl
theorem dX11_count_0 : decode cX11_count 0 = .ok (.aload_n 0, 1) := dk_42 (dk_at dksX11_count_0 0 rfl rfl)
theorem dX11_count_1 : decode cX11_count 1 = .ok (.iconst 0, 1) := dk_3 (dk_at dksX11_count_0 1 rfl rfl)
theorem dX11_count_2 : decode cX11_count 2 = .ok (.putfield 122, 3) := dk_181 0 122 (dk_at dksX11_count_0 2 rfl rfl)
theorem dX11_count_5 : decode cX11_count 5 = .ok (.aload_n 0, 1) := dk_42 (dk_at dksX11_count_0 5 rfl rfl)
theorem dX11_count_6 : decode cX11_count 6 = .ok (.iload_n 1, 1) := dk_27 (dk_at dksX11_count_0 6 rfl rfl)
theorem dX11_count_7 : decode cX11_count 7 = .ok (.iconst 0, 1) := dk_3 (dk_at dksX11_count_0 7 rfl rfl)
theorem dX11_count_8 : decode cX11_count 8 = .ok (.bipush 11, 2) := dk_16 11 (dk_at dksX11_count_0 8 rfl rfl)
theorem dX11_count_10 : decode cX11_count 10 = .ok (.invokestatic 291, 3) := dk_184 1 35 (dk_at dksX11_count_0 10 rfl rfl)
theorem dX11_count_13 : decode cX11_count 13 = .ok (.iconst 1, 1) := dk_4 (dk_at dksX11_count_0 13 rfl rfl)
theorem dX11_count_14 : decode cX11_count 14 = .ok (.invokevirtual 250, 3) := dk_182 0 250 (dk_at dksX11_count_0 14 rfl rfl)
theorem dX11_count_17 : decode cX11_count 17 = .ok (.ifCond .ne 5, 3) := dk_154 0 5 (dk_at dksX11_count_0 17 rfl rfl)
theorem dX11_count_20 : decode cX11_count 20 = .ok (.iconst 0, 1) := dk_3 (dk_at dksX11_count_0 20 rfl rfl)
theorem dX11_count_21 : decode cX11_count 21 = .ok (.ireturn, 1) := dk_172 (dk_at dksX11_count_0 21 rfl rfl)
theorem dX11_count_22 : decode cX11_count 22 = .ok (.iload_n 1, 1) := dk_27 (dk_at dksX11_count_0 22 rfl rfl)
theorem dX11_count_23 : decode cX11_count 23 = .ok (.tableswitch 109 0 11 #[61, 66, 71, 76, 81, 86, 91, 96, 109, 109, 109, 101], 61) := by decide +kernel
theorem dX11_count_84 : decode cX11_count 84 = .ok (.aload_n 0, 1) := dk_42 (dk_at dksX11_count_2 0 rfl rfl)
theorem dX11_count_85 : decode cX11_count 85 = .ok (.getfield 260, 3) := dk_180 1 4 (dk_at dksX11_count_2 1 rfl rfl)
theorem dX11_count_88 : decode cX11_count 88 = .ok (.ireturn, 1) := dk_172 (dk_at dksX11_count_2 4 rfl rfl)
theorem dX11_count_89 : decode cX11_count 89 = .ok (.aload_n 0, 1) := dk_42 (dk_at dksX11_count_2 5 rfl rfl)
theorem dX11_count_90 : decode cX11_count 90 = .ok (.getfield 263, 3) := dk_180 1 7 (dk_at dksX11_count_2 6 rfl rfl)
theorem dX11_count_93 : decode cX11_count 93 = .ok (.ireturn, 1) := dk_172 (dk_at dksX11_count_2 9 rfl rfl)
theorem dX11_count_94 : decode cX11_count 94 = .ok (.aload_n 0, 1) := dk_42 (dk_at dksX11_count_2 10 rfl rfl)
theorem dX11_count_95 : decode cX11_count 95 = .ok (.getfield 7, 3) := dk_180 0 7 (dk_at dksX11_count_2 11 rfl rfl)
theorem dX11_count_98 : decode cX11_count 98 = .ok (.ireturn, 1) := dk_172 (dk_at dksX11_count_2 14 rfl rfl)
theorem dX11_count_99 : decode cX11_count 99 = .ok (.aload_n 0, 1) := dk_42 (dk_at dksX11_count_2 15 rfl rfl)
theorem dX11_count_100 : decode cX11_count 100 = .ok (.getfield 266, 3) := dk_180 1 10 (dk_at dksX11_count_2 16 rfl rfl)
theorem dX11_count_103 : decode cX11_count 103 = .ok (.ireturn, 1) := dk_172 (dk_at dksX11_count_2 19 rfl rfl)
theorem dX11_count_104 : decode cX11_count 104 = .ok (.aload_n 0, 1) := dk_42 (dk_at dksX11_count_2 20 rfl rfl)
theorem dX11_count_105 : decode cX11_count 105 = .ok (.getfield 269, 3) := dk_180 1 13 (dk_at dksX11_count_2 21 rfl rfl)
theorem dX11_count_108 : decode cX11_count 108 = .ok (.ireturn, 1) := dk_172 (dk_at dksX11_count_3 0 rfl rfl)
theorem dX11_count_109 : decode cX11_count 109 = .ok (.aload_n 0, 1) := dk_42 (dk_at dksX11_count_3 1 rfl rfl)
theorem dX11_count_110 : decode cX11_count 110 = .ok (.getfield 272, 3) := dk_180 1 16 (dk_at dksX11_count_3 2 rfl rfl)
theorem dX11_count_113 : decode cX11_count 113 = .ok (.ireturn, 1) := dk_172 (dk_at dksX11_count_3 5 rfl rfl)
theorem dX11_count_114 : decode cX11_count 114 = .ok (.aload_n 0, 1) := dk_42 (dk_at dksX11_count_3 6 rfl rfl)
theorem dX11_count_115 : decode cX11_count 115 = .ok (.getfield 279, 3) := dk_180 1 23 (dk_at dksX11_count_3 7 rfl rfl)
theorem dX11_count_118 : decode cX11_count 118 = .ok (.ireturn, 1) := dk_172 (dk_at dksX11_count_3 10 rfl rfl)
theorem dX11_count_119 : decode cX11_count 119 = .ok (.aload_n 0, 1) := dk_42 (dk_at dksX11_count_3 11 rfl rfl)
theorem dX11_count_120 : decode cX11_count 120 = .ok (.getfield 125, 3) := dk_180 0 125 (dk_at dksX11_count_3 12 rfl rfl)
theorem dX11_count_123 : decode cX11_count 123 = .ok (.ireturn, 1) := dk_172 (dk_at dksX11_count_3 15 rfl rfl)
theorem dX11_count_124 : decode cX11_count 124 = .ok (.aload_n 0, 1) := dk_42 (dk_at dksX11_count_3 16 rfl rfl)
theorem dX11_count_125 : decode cX11_count 125 = .ok (.getfield 285, 3) := dk_180 1 29 (dk_at dksX11_count_3 17 rfl rfl)
theorem dX11_count_128 : decode cX11_count 128 = .ok (.invokestatic 295, 3) := dk_184 1 39 (dk_at dksX11_count_3 20 rfl rfl)
theorem dX11_count_131 : decode cX11_count 131 = .ok (.ireturn, 1) := dk_172 (dk_at dksX11_count_3 23 rfl rfl)
theorem dX11_count_132 : decode cX11_count 132 = .ok (.aload_n 0, 1) := dk_42 (dk_at dksX11_count_4 0 rfl rfl)
theorem dX11_count_133 : decode cX11_count 133 = .ok (.getfield 47, 3) := dk_180 0 47 (dk_at dksX11_count_4 1 rfl rfl)
theorem dX11_count_136 : decode cX11_count 136 = .ok (.iload_n 1, 1) := dk_27 (dk_at dksX11_count_4 4 rfl rfl)
theorem dX11_count_137 : decode cX11_count 137 = .ok (.bipush 8, 2) := dk_16 8 (dk_at dksX11_count_4 5 rfl rfl)
theorem dX11_count_139 : decode cX11_count 139 = .ok (.isub, 1) := dk_100 (dk_at dksX11_count_4 7 rfl rfl)
theorem dX11_count_140 : decode cX11_count 140 = .ok (.iaload, 1) := dk_46 (dk_at dksX11_count_4 8 rfl rfl)
theorem dX11_count_141 : decode cX11_count 141 = .ok (.ireturn, 1) := dk_172 (dk_at dksX11_count_4 9 rfl rfl)
abbrev cX11_within : ByteArray := prog_19_method_4_code
def yX11_within : MethodName := ⟨RX11, "within", "(III)Z"⟩
def dkwX11_within_0 : List UInt8 := [26, 27, 161, 0, 12, 26, 28, 163, 0, 7, 4, 167, 0, 4, 3, 172]
abbrev dktX11_within_0 : List UInt8 := dkwX11_within_0 ++ []
theorem dksX11_within_0 : cX11_within.data.toList.drop 0 = dktX11_within_0 := by decide +kernel
theorem dX11_within_0 : decode cX11_within 0 = .ok (.iload_n 0, 1) := dk_26 (dk_at dksX11_within_0 0 rfl rfl)
theorem dX11_within_1 : decode cX11_within 1 = .ok (.iload_n 1, 1) := dk_27 (dk_at dksX11_within_0 1 rfl rfl)
theorem dX11_within_2 : decode cX11_within 2 = .ok (.if_icmp .lt 12, 3) := dk_161 0 12 (dk_at dksX11_within_0 2 rfl rfl)
theorem dX11_within_5 : decode cX11_within 5 = .ok (.iload_n 0, 1) := dk_26 (dk_at dksX11_within_0 5 rfl rfl)
theorem dX11_within_6 : decode cX11_within 6 = .ok (.iload_n 2, 1) := dk_28 (dk_at dksX11_within_0 6 rfl rfl)
theorem dX11_within_7 : decode cX11_within 7 = .ok (.if_icmp .gt 7, 3) := dk_163 0 7 (dk_at dksX11_within_0 7 rfl rfl)
theorem dX11_within_10 : decode cX11_within 10 = .ok (.iconst 1, 1) := dk_4 (dk_at dksX11_within_0 10 rfl rfl)
theorem dX11_within_11 : decode cX11_within 11 = .ok (.goto 4, 3) := dk_167 0 4 (dk_at dksX11_within_0 11 rfl rfl)
theorem dX11_within_14 : decode cX11_within 14 = .ok (.iconst 0, 1) := dk_3 (dk_at dksX11_within_0 14 rfl rfl)
theorem dX11_within_15 : decode cX11_within 15 = .ok (.ireturn, 1) := dk_172 (dk_at dksX11_within_0 15 rfl rfl)
abbrev cX11_bits : ByteArray := prog_19_method_32_code
def yX11_bits : MethodName := ⟨RX11, "bits", "(I)I"⟩
def dkwX11_bits_1 : List UInt8 := [27, 172]
abbrev dktX11_bits_1 : List UInt8 := dkwX11_bits_1 ++ []
def dkwX11_bits_0 : List UInt8 := [3, 60, 3, 61, 28, 16, 31, 162, 0, 17, 27, 26, 28, 122, 4, 126, 96, 60, 132, 2, 1, 167, 255, 239]
abbrev dktX11_bits_0 : List UInt8 := dkwX11_bits_0 ++ dktX11_bits_1
theorem dksX11_bits_0 : cX11_bits.data.toList.drop 0 = dktX11_bits_0 := by decide +kernel
theorem dksX11_bits_1 : cX11_bits.data.toList.drop 24 = dktX11_bits_1 := dk_seg dksX11_bits_0 24 rfl rfl
theorem dX11_bits_0 : decode cX11_bits 0 = .ok (.iconst 0, 1) := dk_3 (dk_at dksX11_bits_0 0 rfl rfl)
theorem dX11_bits_1 : decode cX11_bits 1 = .ok (.istore_n 1, 1) := dk_60 (dk_at dksX11_bits_0 1 rfl rfl)
theorem dX11_bits_2 : decode cX11_bits 2 = .ok (.iconst 0, 1) := dk_3 (dk_at dksX11_bits_0 2 rfl rfl)
theorem dX11_bits_3 : decode cX11_bits 3 = .ok (.istore_n 2, 1) := dk_61 (dk_at dksX11_bits_0 3 rfl rfl)
theorem dX11_bits_4 : decode cX11_bits 4 = .ok (.iload_n 2, 1) := dk_28 (dk_at dksX11_bits_0 4 rfl rfl)
theorem dX11_bits_5 : decode cX11_bits 5 = .ok (.bipush 31, 2) := dk_16 31 (dk_at dksX11_bits_0 5 rfl rfl)
theorem dX11_bits_7 : decode cX11_bits 7 = .ok (.if_icmp .ge 17, 3) := dk_162 0 17 (dk_at dksX11_bits_0 7 rfl rfl)
theorem dX11_bits_10 : decode cX11_bits 10 = .ok (.iload_n 1, 1) := dk_27 (dk_at dksX11_bits_0 10 rfl rfl)
theorem dX11_bits_11 : decode cX11_bits 11 = .ok (.iload_n 0, 1) := dk_26 (dk_at dksX11_bits_0 11 rfl rfl)
theorem dX11_bits_12 : decode cX11_bits 12 = .ok (.iload_n 2, 1) := dk_28 (dk_at dksX11_bits_0 12 rfl rfl)
theorem dX11_bits_13 : decode cX11_bits 13 = .ok (.ishr, 1) := dk_122 (dk_at dksX11_bits_0 13 rfl rfl)
theorem dX11_bits_14 : decode cX11_bits 14 = .ok (.iconst 1, 1) := dk_4 (dk_at dksX11_bits_0 14 rfl rfl)
theorem dX11_bits_15 : decode cX11_bits 15 = .ok (.iand, 1) := dk_126 (dk_at dksX11_bits_0 15 rfl rfl)
theorem dX11_bits_16 : decode cX11_bits 16 = .ok (.iadd, 1) := dk_96 (dk_at dksX11_bits_0 16 rfl rfl)
theorem dX11_bits_17 : decode cX11_bits 17 = .ok (.istore_n 1, 1) := dk_60 (dk_at dksX11_bits_0 17 rfl rfl)
theorem dX11_bits_18 : decode cX11_bits 18 = .ok (.iinc 2 1, 3) := dk_132 2 1 (dk_at dksX11_bits_0 18 rfl rfl)
theorem dX11_bits_21 : decode cX11_bits 21 = .ok (.goto (-17), 3) := dk_167 255 239 (dk_at dksX11_bits_0 21 rfl rfl)
theorem dX11_bits_24 : decode cX11_bits 24 = .ok (.iload_n 1, 1) := dk_27 (dk_at dksX11_bits_1 0 rfl rfl)
theorem dX11_bits_25 : decode cX11_bits 25 = .ok (.ireturn, 1) := dk_172 (dk_at dksX11_bits_1 1 rfl rfl)
abbrev cX11_where : ByteArray := prog_19_method_35_code
def yX11_where : MethodName := ⟨RX11, "where", "(II)I"⟩
def dkwX11_where_1 : List UInt8 := [46, 167, 0, 4, 3, 172]
abbrev dktX11_where_1 : List UInt8 := dkwX11_where_1 ++ []
def dkwX11_where_0 : List UInt8 := [42, 3, 181, 0, 122, 42, 27, 28, 182, 1, 42, 153, 0, 17, 42, 180, 0, 35, 16, 24, 27, 104, 28, 96]
abbrev dktX11_where_0 : List UInt8 := dkwX11_where_0 ++ dktX11_where_1
theorem dksX11_where_0 : cX11_where.data.toList.drop 0 = dktX11_where_0 := by decide +kernel
theorem dksX11_where_1 : cX11_where.data.toList.drop 24 = dktX11_where_1 := dk_seg dksX11_where_0 24 rfl rfl
theorem dX11_where_0 : decode cX11_where 0 = .ok (.aload_n 0, 1) := dk_42 (dk_at dksX11_where_0 0 rfl rfl)
theorem dX11_where_1 : decode cX11_where 1 = .ok (.iconst 0, 1) := dk_3 (dk_at dksX11_where_0 1 rfl rfl)
theorem dX11_where_2 : decode cX11_where 2 = .ok (.putfield 122, 3) := dk_181 0 122 (dk_at dksX11_where_0 2 rfl rfl)
theorem dX11_where_5 : decode cX11_where 5 = .ok (.aload_n 0, 1) := dk_42 (dk_at dksX11_where_0 5 rfl rfl)
theorem dX11_where_6 : decode cX11_where 6 = .ok (.iload_n 1, 1) := dk_27 (dk_at dksX11_where_0 6 rfl rfl)
theorem dX11_where_7 : decode cX11_where 7 = .ok (.iload_n 2, 1) := dk_28 (dk_at dksX11_where_0 7 rfl rfl)
theorem dX11_where_8 : decode cX11_where 8 = .ok (.invokevirtual 298, 3) := dk_182 1 42 (dk_at dksX11_where_0 8 rfl rfl)
theorem dX11_where_11 : decode cX11_where 11 = .ok (.ifCond .eq 17, 3) := dk_153 0 17 (dk_at dksX11_where_0 11 rfl rfl)
theorem dX11_where_14 : decode cX11_where 14 = .ok (.aload_n 0, 1) := dk_42 (dk_at dksX11_where_0 14 rfl rfl)
theorem dX11_where_15 : decode cX11_where 15 = .ok (.getfield 35, 3) := dk_180 0 35 (dk_at dksX11_where_0 15 rfl rfl)
theorem dX11_where_18 : decode cX11_where 18 = .ok (.bipush 24, 2) := dk_16 24 (dk_at dksX11_where_0 18 rfl rfl)
theorem dX11_where_20 : decode cX11_where 20 = .ok (.iload_n 1, 1) := dk_27 (dk_at dksX11_where_0 20 rfl rfl)
theorem dX11_where_21 : decode cX11_where 21 = .ok (.imul, 1) := dk_104 (dk_at dksX11_where_0 21 rfl rfl)
theorem dX11_where_22 : decode cX11_where 22 = .ok (.iload_n 2, 1) := dk_28 (dk_at dksX11_where_0 22 rfl rfl)
theorem dX11_where_23 : decode cX11_where 23 = .ok (.iadd, 1) := dk_96 (dk_at dksX11_where_0 23 rfl rfl)
theorem dX11_where_24 : decode cX11_where 24 = .ok (.iaload, 1) := dk_46 (dk_at dksX11_where_1 0 rfl rfl)
theorem dX11_where_25 : decode cX11_where 25 = .ok (.goto 4, 3) := dk_167 0 4 (dk_at dksX11_where_1 1 rfl rfl)
theorem dX11_where_28 : decode cX11_where 28 = .ok (.iconst 0, 1) := dk_3 (dk_at dksX11_where_1 4 rfl rfl)
theorem dX11_where_29 : decode cX11_where 29 = .ok (.ireturn, 1) := dk_172 (dk_at dksX11_where_1 5 rfl rfl)
abbrev cX11_isWho : ByteArray := prog_19_method_33_code
def yX11_isWho : MethodName := ⟨RX11, "isWho", "(II)Z"⟩
def dkwX11_isWho_1 : List UInt8 := [167, 0, 4, 3, 4, 182, 0, 250, 172]
abbrev dktX11_isWho_1 : List UInt8 := dkwX11_isWho_1 ++ []
def dkwX11_isWho_0 : List UInt8 := [42, 27, 155, 0, 25, 27, 42, 180, 1, 10, 162, 0, 17, 28, 3, 16, 23, 184, 1, 35, 153, 0, 7, 4]
abbrev dktX11_isWho_0 : List UInt8 := dkwX11_isWho_0 ++ dktX11_isWho_1
theorem dksX11_isWho_0 : cX11_isWho.data.toList.drop 0 = dktX11_isWho_0 := by decide +kernel
theorem dksX11_isWho_1 : cX11_isWho.data.toList.drop 24 = dktX11_isWho_1 := dk_seg dksX11_isWho_0 24 rfl rfl
theorem dX11_isWho_0 : decode cX11_isWho 0 = .ok (.aload_n 0, 1) := dk_42 (dk_at dksX11_isWho_0 0 rfl rfl)
theorem dX11_isWho_1 : decode cX11_isWho 1 = .ok (.iload_n 1, 1) := dk_27 (dk_at dksX11_isWho_0 1 rfl rfl)
theorem dX11_isWho_2 : decode cX11_isWho 2 = .ok (.ifCond .lt 25, 3) := dk_155 0 25 (dk_at dksX11_isWho_0 2 rfl rfl)
theorem dX11_isWho_5 : decode cX11_isWho 5 = .ok (.iload_n 1, 1) := dk_27 (dk_at dksX11_isWho_0 5 rfl rfl)
theorem dX11_isWho_6 : decode cX11_isWho 6 = .ok (.aload_n 0, 1) := dk_42 (dk_at dksX11_isWho_0 6 rfl rfl)
theorem dX11_isWho_7 : decode cX11_isWho 7 = .ok (.getfield 266, 3) := dk_180 1 10 (dk_at dksX11_isWho_0 7 rfl rfl)
theorem dX11_isWho_10 : decode cX11_isWho 10 = .ok (.if_icmp .ge 17, 3) := dk_162 0 17 (dk_at dksX11_isWho_0 10 rfl rfl)
theorem dX11_isWho_13 : decode cX11_isWho 13 = .ok (.iload_n 2, 1) := dk_28 (dk_at dksX11_isWho_0 13 rfl rfl)
theorem dX11_isWho_14 : decode cX11_isWho 14 = .ok (.iconst 0, 1) := dk_3 (dk_at dksX11_isWho_0 14 rfl rfl)
theorem dX11_isWho_15 : decode cX11_isWho 15 = .ok (.bipush 23, 2) := dk_16 23 (dk_at dksX11_isWho_0 15 rfl rfl)
theorem dX11_isWho_17 : decode cX11_isWho 17 = .ok (.invokestatic 291, 3) := dk_184 1 35 (dk_at dksX11_isWho_0 17 rfl rfl)
theorem dX11_isWho_20 : decode cX11_isWho 20 = .ok (.ifCond .eq 7, 3) := dk_153 0 7 (dk_at dksX11_isWho_0 20 rfl rfl)
theorem dX11_isWho_23 : decode cX11_isWho 23 = .ok (.iconst 1, 1) := dk_4 (dk_at dksX11_isWho_0 23 rfl rfl)
theorem dX11_isWho_24 : decode cX11_isWho 24 = .ok (.goto 4, 3) := dk_167 0 4 (dk_at dksX11_isWho_1 0 rfl rfl)
theorem dX11_isWho_27 : decode cX11_isWho 27 = .ok (.iconst 0, 1) := dk_3 (dk_at dksX11_isWho_1 3 rfl rfl)
theorem dX11_isWho_28 : decode cX11_isWho 28 = .ok (.iconst 1, 1) := dk_4 (dk_at dksX11_isWho_1 4 rfl rfl)
theorem dX11_isWho_29 : decode cX11_isWho 29 = .ok (.invokevirtual 250, 3) := dk_182 0 250 (dk_at dksX11_isWho_1 5 rfl rfl)
theorem dX11_isWho_32 : decode cX11_isWho 32 = .ok (.ireturn, 1) := dk_172 (dk_at dksX11_isWho_1 8 rfl rfl)
abbrev cX11_thing : ByteArray := prog_19_method_36_code
def yX11_thing : MethodName := ⟨RX11, "thing", "(II)I"⟩
def dkwX11_thing_1 : List UInt8 := [153, 0, 16, 42, 180, 0, 26, 8, 27, 104, 28, 96, 46, 167, 0, 4, 3, 172]
abbrev dktX11_thing_1 : List UInt8 := dkwX11_thing_1 ++ []
def dkwX11_thing_0 : List UInt8 := [42, 3, 181, 0, 122, 42, 27, 182, 1, 46, 153, 0, 30, 42, 28, 3, 7, 184, 1, 35, 4, 182, 0, 250]
abbrev dktX11_thing_0 : List UInt8 := dkwX11_thing_0 ++ dktX11_thing_1
theorem dksX11_thing_0 : cX11_thing.data.toList.drop 0 = dktX11_thing_0 := by decide +kernel
theorem dksX11_thing_1 : cX11_thing.data.toList.drop 24 = dktX11_thing_1 := dk_seg dksX11_thing_0 24 rfl rfl
theorem dX11_thing_0 : decode cX11_thing 0 = .ok (.aload_n 0, 1) := dk_42 (dk_at dksX11_thing_0 0 rfl rfl)
theorem dX11_thing_1 : decode cX11_thing 1 = .ok (.iconst 0, 1) := dk_3 (dk_at dksX11_thing_0 1 rfl rfl)
theorem dX11_thing_2 : decode cX11_thing 2 = .ok (.putfield 122, 3) := dk_181 0 122 (dk_at dksX11_thing_0 2 rfl rfl)
theorem dX11_thing_5 : decode cX11_thing 5 = .ok (.aload_n 0, 1) := dk_42 (dk_at dksX11_thing_0 5 rfl rfl)
theorem dX11_thing_6 : decode cX11_thing 6 = .ok (.iload_n 1, 1) := dk_27 (dk_at dksX11_thing_0 6 rfl rfl)
theorem dX11_thing_7 : decode cX11_thing 7 = .ok (.invokevirtual 302, 3) := dk_182 1 46 (dk_at dksX11_thing_0 7 rfl rfl)
theorem dX11_thing_10 : decode cX11_thing 10 = .ok (.ifCond .eq 30, 3) := dk_153 0 30 (dk_at dksX11_thing_0 10 rfl rfl)
theorem dX11_thing_13 : decode cX11_thing 13 = .ok (.aload_n 0, 1) := dk_42 (dk_at dksX11_thing_0 13 rfl rfl)
theorem dX11_thing_14 : decode cX11_thing 14 = .ok (.iload_n 2, 1) := dk_28 (dk_at dksX11_thing_0 14 rfl rfl)
theorem dX11_thing_15 : decode cX11_thing 15 = .ok (.iconst 0, 1) := dk_3 (dk_at dksX11_thing_0 15 rfl rfl)
theorem dX11_thing_16 : decode cX11_thing 16 = .ok (.iconst 4, 1) := dk_7 (dk_at dksX11_thing_0 16 rfl rfl)
theorem dX11_thing_17 : decode cX11_thing 17 = .ok (.invokestatic 291, 3) := dk_184 1 35 (dk_at dksX11_thing_0 17 rfl rfl)
theorem dX11_thing_20 : decode cX11_thing 20 = .ok (.iconst 1, 1) := dk_4 (dk_at dksX11_thing_0 20 rfl rfl)
theorem dX11_thing_21 : decode cX11_thing 21 = .ok (.invokevirtual 250, 3) := dk_182 0 250 (dk_at dksX11_thing_0 21 rfl rfl)
theorem dX11_thing_24 : decode cX11_thing 24 = .ok (.ifCond .eq 16, 3) := dk_153 0 16 (dk_at dksX11_thing_1 0 rfl rfl)
theorem dX11_thing_27 : decode cX11_thing 27 = .ok (.aload_n 0, 1) := dk_42 (dk_at dksX11_thing_1 3 rfl rfl)
theorem dX11_thing_28 : decode cX11_thing 28 = .ok (.getfield 26, 3) := dk_180 0 26 (dk_at dksX11_thing_1 4 rfl rfl)
theorem dX11_thing_31 : decode cX11_thing 31 = .ok (.iconst 5, 1) := dk_8 (dk_at dksX11_thing_1 7 rfl rfl)
theorem dX11_thing_32 : decode cX11_thing 32 = .ok (.iload_n 1, 1) := dk_27 (dk_at dksX11_thing_1 8 rfl rfl)
theorem dX11_thing_33 : decode cX11_thing 33 = .ok (.imul, 1) := dk_104 (dk_at dksX11_thing_1 9 rfl rfl)
theorem dX11_thing_34 : decode cX11_thing 34 = .ok (.iload_n 2, 1) := dk_28 (dk_at dksX11_thing_1 10 rfl rfl)
theorem dX11_thing_35 : decode cX11_thing 35 = .ok (.iadd, 1) := dk_96 (dk_at dksX11_thing_1 11 rfl rfl)
theorem dX11_thing_36 : decode cX11_thing 36 = .ok (.iaload, 1) := dk_46 (dk_at dksX11_thing_1 12 rfl rfl)
theorem dX11_thing_37 : decode cX11_thing 37 = .ok (.goto 4, 3) := dk_167 0 4 (dk_at dksX11_thing_1 13 rfl rfl)
theorem dX11_thing_40 : decode cX11_thing 40 = .ok (.iconst 0, 1) := dk_3 (dk_at dksX11_thing_1 16 rfl rfl)
theorem dX11_thing_41 : decode cX11_thing 41 = .ok (.ireturn, 1) := dk_172 (dk_at dksX11_thing_1 17 rfl rfl)
abbrev cX11_isThing : ByteArray := prog_19_method_34_code
def yX11_isThing : MethodName := ⟨RX11, "isThing", "(I)Z"⟩
def dkwX11_isThing_0 : List UInt8 := [42, 27, 155, 0, 15, 27, 42, 180, 1, 13, 162, 0, 7, 4, 167, 0, 4, 3, 4, 182, 0, 250, 172]
abbrev dktX11_isThing_0 : List UInt8 := dkwX11_isThing_0 ++ []
theorem dksX11_isThing_0 : cX11_isThing.data.toList.drop 0 = dktX11_isThing_0 := by decide +kernel
theorem dX11_isThing_0 : decode cX11_isThing 0 = .ok (.aload_n 0, 1) := dk_42 (dk_at dksX11_isThing_0 0 rfl rfl)
theorem dX11_isThing_1 : decode cX11_isThing 1 = .ok (.iload_n 1, 1) := dk_27 (dk_at dksX11_isThing_0 1 rfl rfl)
theorem dX11_isThing_2 : decode cX11_isThing 2 = .ok (.ifCond .lt 15, 3) := dk_155 0 15 (dk_at dksX11_isThing_0 2 rfl rfl)
theorem dX11_isThing_5 : decode cX11_isThing 5 = .ok (.iload_n 1, 1) := dk_27 (dk_at dksX11_isThing_0 5 rfl rfl)
theorem dX11_isThing_6 : decode cX11_isThing 6 = .ok (.aload_n 0, 1) := dk_42 (dk_at dksX11_isThing_0 6 rfl rfl)
theorem dX11_isThing_7 : decode cX11_isThing 7 = .ok (.getfield 269, 3) := dk_180 1 13 (dk_at dksX11_isThing_0 7 rfl rfl)
theorem dX11_isThing_10 : decode cX11_isThing 10 = .ok (.if_icmp .ge 7, 3) := dk_162 0 7 (dk_at dksX11_isThing_0 10 rfl rfl)
theorem dX11_isThing_13 : decode cX11_isThing 13 = .ok (.iconst 1, 1) := dk_4 (dk_at dksX11_isThing_0 13 rfl rfl)
theorem dX11_isThing_14 : decode cX11_isThing 14 = .ok (.goto 4, 3) := dk_167 0 4 (dk_at dksX11_isThing_0 14 rfl rfl)
theorem dX11_isThing_17 : decode cX11_isThing 17 = .ok (.iconst 0, 1) := dk_3 (dk_at dksX11_isThing_0 17 rfl rfl)
theorem dX11_isThing_18 : decode cX11_isThing 18 = .ok (.iconst 1, 1) := dk_4 (dk_at dksX11_isThing_0 18 rfl rfl)
theorem dX11_isThing_19 : decode cX11_isThing 19 = .ok (.invokevirtual 250, 3) := dk_182 0 250 (dk_at dksX11_isThing_0 19 rfl rfl)
theorem dX11_isThing_22 : decode cX11_isThing 22 = .ok (.ireturn, 1) := dk_172 (dk_at dksX11_isThing_0 22 rfl rfl)
abbrev cX11_word : ByteArray := prog_19_method_41_code
def yX11_word : MethodName := ⟨RX11, "word", "(IIII)I"⟩
def dkwX11_word_4 : List UInt8 := [160, 0, 10, 42, 180, 1, 49, 167, 0, 10, 42, 180, 0, 77, 21, 4, 46, 172]
abbrev dktX11_word_4 : List UInt8 := dkwX11_word_4 ++ []
def dkwX11_word_3 : List UInt8 := [180, 1, 49, 162, 0, 7, 4, 167, 0, 4, 3, 4, 182, 0, 250, 154, 0, 5, 3, 172, 21, 4, 2]
abbrev dktX11_word_3 : List UInt8 := dkwX11_word_3 ++ dktX11_word_4
def dkwX11_word_2 : List UInt8 := [182, 0, 250, 154, 0, 5, 3, 172, 42, 27, 8, 28, 104, 29, 96, 182, 1, 61, 42, 21, 4, 42]
abbrev dktX11_word_2 : List UInt8 := dkwX11_word_2 ++ dktX11_word_3
def dkwX11_word_1 : List UInt8 := [153, 0, 22, 29, 3, 7, 184, 1, 35, 153, 0, 13, 21, 4, 2, 161, 0, 7, 4, 167, 0, 4, 3, 4]
abbrev dktX11_word_1 : List UInt8 := dkwX11_word_1 ++ dktX11_word_2
def dkwX11_word_0 : List UInt8 := [42, 3, 181, 0, 122, 42, 27, 155, 0, 39, 27, 42, 180, 1, 4, 162, 0, 31, 28, 3, 5, 184, 1, 35]
abbrev dktX11_word_0 : List UInt8 := dkwX11_word_0 ++ dktX11_word_1
theorem dksX11_word_0 : cX11_word.data.toList.drop 0 = dktX11_word_0 := by decide +kernel
theorem dksX11_word_1 : cX11_word.data.toList.drop 24 = dktX11_word_1 := dk_seg dksX11_word_0 24 rfl rfl
theorem dksX11_word_2 : cX11_word.data.toList.drop 48 = dktX11_word_2 := dk_seg dksX11_word_1 24 rfl rfl
theorem dksX11_word_3 : cX11_word.data.toList.drop 70 = dktX11_word_3 := dk_seg dksX11_word_2 22 rfl rfl
theorem dksX11_word_4 : cX11_word.data.toList.drop 93 = dktX11_word_4 := dk_seg dksX11_word_3 23 rfl rfl
theorem dX11_word_0 : decode cX11_word 0 = .ok (.aload_n 0, 1) := dk_42 (dk_at dksX11_word_0 0 rfl rfl)
theorem dX11_word_1 : decode cX11_word 1 = .ok (.iconst 0, 1) := dk_3 (dk_at dksX11_word_0 1 rfl rfl)
theorem dX11_word_2 : decode cX11_word 2 = .ok (.putfield 122, 3) := dk_181 0 122 (dk_at dksX11_word_0 2 rfl rfl)
theorem dX11_word_5 : decode cX11_word 5 = .ok (.aload_n 0, 1) := dk_42 (dk_at dksX11_word_0 5 rfl rfl)
theorem dX11_word_6 : decode cX11_word 6 = .ok (.iload_n 1, 1) := dk_27 (dk_at dksX11_word_0 6 rfl rfl)
theorem dX11_word_7 : decode cX11_word 7 = .ok (.ifCond .lt 39, 3) := dk_155 0 39 (dk_at dksX11_word_0 7 rfl rfl)
theorem dX11_word_10 : decode cX11_word 10 = .ok (.iload_n 1, 1) := dk_27 (dk_at dksX11_word_0 10 rfl rfl)
theorem dX11_word_11 : decode cX11_word 11 = .ok (.aload_n 0, 1) := dk_42 (dk_at dksX11_word_0 11 rfl rfl)
theorem dX11_word_12 : decode cX11_word 12 = .ok (.getfield 260, 3) := dk_180 1 4 (dk_at dksX11_word_0 12 rfl rfl)
theorem dX11_word_15 : decode cX11_word 15 = .ok (.if_icmp .ge 31, 3) := dk_162 0 31 (dk_at dksX11_word_0 15 rfl rfl)
theorem dX11_word_18 : decode cX11_word 18 = .ok (.iload_n 2, 1) := dk_28 (dk_at dksX11_word_0 18 rfl rfl)
theorem dX11_word_19 : decode cX11_word 19 = .ok (.iconst 0, 1) := dk_3 (dk_at dksX11_word_0 19 rfl rfl)
theorem dX11_word_20 : decode cX11_word 20 = .ok (.iconst 2, 1) := dk_5 (dk_at dksX11_word_0 20 rfl rfl)
theorem dX11_word_21 : decode cX11_word 21 = .ok (.invokestatic 291, 3) := dk_184 1 35 (dk_at dksX11_word_0 21 rfl rfl)
theorem dX11_word_24 : decode cX11_word 24 = .ok (.ifCond .eq 22, 3) := dk_153 0 22 (dk_at dksX11_word_1 0 rfl rfl)
theorem dX11_word_27 : decode cX11_word 27 = .ok (.iload_n 3, 1) := dk_29 (dk_at dksX11_word_1 3 rfl rfl)
theorem dX11_word_28 : decode cX11_word 28 = .ok (.iconst 0, 1) := dk_3 (dk_at dksX11_word_1 4 rfl rfl)
theorem dX11_word_29 : decode cX11_word 29 = .ok (.iconst 4, 1) := dk_7 (dk_at dksX11_word_1 5 rfl rfl)
theorem dX11_word_30 : decode cX11_word 30 = .ok (.invokestatic 291, 3) := dk_184 1 35 (dk_at dksX11_word_1 6 rfl rfl)
theorem dX11_word_33 : decode cX11_word 33 = .ok (.ifCond .eq 13, 3) := dk_153 0 13 (dk_at dksX11_word_1 9 rfl rfl)
theorem dX11_word_36 : decode cX11_word 36 = .ok (.iload 4, 2) := dk_21 4 (dk_at dksX11_word_1 12 rfl rfl)
theorem dX11_word_38 : decode cX11_word 38 = .ok (.iconst (-1), 1) := dk_2 (dk_at dksX11_word_1 14 rfl rfl)
theorem dX11_word_39 : decode cX11_word 39 = .ok (.if_icmp .lt 7, 3) := dk_161 0 7 (dk_at dksX11_word_1 15 rfl rfl)
theorem dX11_word_42 : decode cX11_word 42 = .ok (.iconst 1, 1) := dk_4 (dk_at dksX11_word_1 18 rfl rfl)
theorem dX11_word_43 : decode cX11_word 43 = .ok (.goto 4, 3) := dk_167 0 4 (dk_at dksX11_word_1 19 rfl rfl)
theorem dX11_word_46 : decode cX11_word 46 = .ok (.iconst 0, 1) := dk_3 (dk_at dksX11_word_1 22 rfl rfl)
theorem dX11_word_47 : decode cX11_word 47 = .ok (.iconst 1, 1) := dk_4 (dk_at dksX11_word_1 23 rfl rfl)
theorem dX11_word_48 : decode cX11_word 48 = .ok (.invokevirtual 250, 3) := dk_182 0 250 (dk_at dksX11_word_2 0 rfl rfl)
theorem dX11_word_51 : decode cX11_word 51 = .ok (.ifCond .ne 5, 3) := dk_154 0 5 (dk_at dksX11_word_2 3 rfl rfl)
theorem dX11_word_54 : decode cX11_word 54 = .ok (.iconst 0, 1) := dk_3 (dk_at dksX11_word_2 6 rfl rfl)
theorem dX11_word_55 : decode cX11_word 55 = .ok (.ireturn, 1) := dk_172 (dk_at dksX11_word_2 7 rfl rfl)
theorem dX11_word_56 : decode cX11_word 56 = .ok (.aload_n 0, 1) := dk_42 (dk_at dksX11_word_2 8 rfl rfl)
theorem dX11_word_57 : decode cX11_word 57 = .ok (.iload_n 1, 1) := dk_27 (dk_at dksX11_word_2 9 rfl rfl)
theorem dX11_word_58 : decode cX11_word 58 = .ok (.iconst 5, 1) := dk_8 (dk_at dksX11_word_2 10 rfl rfl)
theorem dX11_word_59 : decode cX11_word 59 = .ok (.iload_n 2, 1) := dk_28 (dk_at dksX11_word_2 11 rfl rfl)
theorem dX11_word_60 : decode cX11_word 60 = .ok (.imul, 1) := dk_104 (dk_at dksX11_word_2 12 rfl rfl)
theorem dX11_word_61 : decode cX11_word 61 = .ok (.iload_n 3, 1) := dk_29 (dk_at dksX11_word_2 13 rfl rfl)
theorem dX11_word_62 : decode cX11_word 62 = .ok (.iadd, 1) := dk_96 (dk_at dksX11_word_2 14 rfl rfl)
theorem dX11_word_63 : decode cX11_word 63 = .ok (.invokevirtual 317, 3) := dk_182 1 61 (dk_at dksX11_word_2 15 rfl rfl)
theorem dX11_word_66 : decode cX11_word 66 = .ok (.aload_n 0, 1) := dk_42 (dk_at dksX11_word_2 18 rfl rfl)
theorem dX11_word_67 : decode cX11_word 67 = .ok (.iload 4, 2) := dk_21 4 (dk_at dksX11_word_2 19 rfl rfl)
theorem dX11_word_69 : decode cX11_word 69 = .ok (.aload_n 0, 1) := dk_42 (dk_at dksX11_word_2 21 rfl rfl)
theorem dX11_word_70 : decode cX11_word 70 = .ok (.getfield 305, 3) := dk_180 1 49 (dk_at dksX11_word_3 0 rfl rfl)
theorem dX11_word_73 : decode cX11_word 73 = .ok (.if_icmp .ge 7, 3) := dk_162 0 7 (dk_at dksX11_word_3 3 rfl rfl)
theorem dX11_word_76 : decode cX11_word 76 = .ok (.iconst 1, 1) := dk_4 (dk_at dksX11_word_3 6 rfl rfl)
theorem dX11_word_77 : decode cX11_word 77 = .ok (.goto 4, 3) := dk_167 0 4 (dk_at dksX11_word_3 7 rfl rfl)
theorem dX11_word_80 : decode cX11_word 80 = .ok (.iconst 0, 1) := dk_3 (dk_at dksX11_word_3 10 rfl rfl)
theorem dX11_word_81 : decode cX11_word 81 = .ok (.iconst 1, 1) := dk_4 (dk_at dksX11_word_3 11 rfl rfl)
theorem dX11_word_82 : decode cX11_word 82 = .ok (.invokevirtual 250, 3) := dk_182 0 250 (dk_at dksX11_word_3 12 rfl rfl)
theorem dX11_word_85 : decode cX11_word 85 = .ok (.ifCond .ne 5, 3) := dk_154 0 5 (dk_at dksX11_word_3 15 rfl rfl)
theorem dX11_word_88 : decode cX11_word 88 = .ok (.iconst 0, 1) := dk_3 (dk_at dksX11_word_3 18 rfl rfl)
theorem dX11_word_89 : decode cX11_word 89 = .ok (.ireturn, 1) := dk_172 (dk_at dksX11_word_3 19 rfl rfl)
theorem dX11_word_90 : decode cX11_word 90 = .ok (.iload 4, 2) := dk_21 4 (dk_at dksX11_word_3 20 rfl rfl)
theorem dX11_word_92 : decode cX11_word 92 = .ok (.iconst (-1), 1) := dk_2 (dk_at dksX11_word_3 22 rfl rfl)
theorem dX11_word_93 : decode cX11_word 93 = .ok (.if_icmp .ne 10, 3) := dk_160 0 10 (dk_at dksX11_word_4 0 rfl rfl)
theorem dX11_word_96 : decode cX11_word 96 = .ok (.aload_n 0, 1) := dk_42 (dk_at dksX11_word_4 3 rfl rfl)
theorem dX11_word_97 : decode cX11_word 97 = .ok (.getfield 305, 3) := dk_180 1 49 (dk_at dksX11_word_4 4 rfl rfl)
theorem dX11_word_100 : decode cX11_word 100 = .ok (.goto 10, 3) := dk_167 0 10 (dk_at dksX11_word_4 7 rfl rfl)
theorem dX11_word_103 : decode cX11_word 103 = .ok (.aload_n 0, 1) := dk_42 (dk_at dksX11_word_4 10 rfl rfl)
theorem dX11_word_104 : decode cX11_word 104 = .ok (.getfield 77, 3) := dk_180 0 77 (dk_at dksX11_word_4 11 rfl rfl)
theorem dX11_word_107 : decode cX11_word 107 = .ok (.iload 4, 2) := dk_21 4 (dk_at dksX11_word_4 14 rfl rfl)
theorem dX11_word_109 : decode cX11_word 109 = .ok (.iaload, 1) := dk_46 (dk_at dksX11_word_4 16 rfl rfl)
theorem dX11_word_110 : decode cX11_word 110 = .ok (.ireturn, 1) := dk_172 (dk_at dksX11_word_4 17 rfl rfl)
abbrev cX11_speaks : ByteArray := prog_19_method_40_code
def yX11_speaks : MethodName := ⟨RX11, "speaks", "(II)V"⟩
def dkwX11_speaks_10 : List UInt8 := [167, 255, 221, 177]
abbrev dktX11_speaks_10 : List UInt8 := dkwX11_speaks_10 ++ []
def dkwX11_speaks_9 : List UInt8 := [162, 0, 27, 42, 42, 180, 0, 17, 16, 9, 28, 104, 4, 96, 21, 6, 96, 46, 182, 1, 58, 132, 6, 1]
abbrev dktX11_speaks_9 : List UInt8 := dkwX11_speaks_9 ++ dktX11_speaks_10
def dkwX11_speaks_8 : List UInt8 := [182, 1, 58, 132, 6, 1, 167, 255, 209, 21, 5, 54, 6, 21, 6, 42, 180, 0, 17, 16, 9, 28, 104, 46]
abbrev dktX11_speaks_8 : List UInt8 := dkwX11_speaks_8 ++ dktX11_speaks_9
def dkwX11_speaks_7 : List UInt8 := [16, 18, 96, 46, 162, 0, 28, 42, 42, 180, 0, 20, 16, 27, 29, 104, 16, 19, 96, 21, 6, 96, 46]
abbrev dktX11_speaks_7 : List UInt8 := dkwX11_speaks_7 ++ dktX11_speaks_8
def dkwX11_speaks_6 : List UInt8 := [167, 255, 218, 3, 54, 6, 29, 42, 180, 1, 7, 162, 0, 45, 21, 6, 42, 180, 0, 20, 16, 27, 29, 104]
abbrev dktX11_speaks_6 : List UInt8 := dkwX11_speaks_6 ++ dktX11_speaks_7
def dkwX11_speaks_5 : List UInt8 := [162, 0, 27, 42, 42, 180, 0, 13, 16, 9, 27, 104, 4, 96, 21, 6, 96, 46, 182, 1, 58, 132, 6, 1]
abbrev dktX11_speaks_5 : List UInt8 := dkwX11_speaks_5 ++ dktX11_speaks_6
def dkwX11_speaks_4 : List UInt8 := [104, 16, 9, 96, 46, 54, 5, 3, 54, 6, 21, 6, 42, 180, 0, 13, 16, 9, 27, 104, 46, 21, 4, 100]
abbrev dktX11_speaks_4 : List UInt8 := dkwX11_speaks_4 ++ dktX11_speaks_5
def dkwX11_speaks_3 : List UInt8 := [29, 104, 46, 54, 4, 29, 42, 180, 1, 7, 160, 0, 7, 3, 167, 0, 15, 42, 180, 0, 20, 16, 27, 29]
abbrev dktX11_speaks_3 : List UInt8 := dkwX11_speaks_3 ++ dktX11_speaks_4
def dkwX11_speaks_2 : List UInt8 := [132, 3, 1, 167, 255, 227, 29, 42, 180, 1, 7, 160, 0, 7, 3, 167, 0, 12, 42, 180, 0, 20, 16, 27]
abbrev dktX11_speaks_2 : List UInt8 := dkwX11_speaks_2 ++ dktX11_speaks_3
def dkwX11_speaks_1 : List UInt8 := [180, 1, 7, 162, 0, 27, 42, 27, 29, 182, 1, 52, 153, 0, 12, 42, 28, 29, 182, 1, 55, 154, 0, 9]
abbrev dktX11_speaks_1 : List UInt8 := dkwX11_speaks_1 ++ dktX11_speaks_2
def dkwX11_speaks_0 : List UInt8 := [42, 3, 181, 1, 49, 42, 180, 0, 17, 16, 9, 28, 104, 46, 154, 0, 4, 177, 3, 62, 29, 42]
abbrev dktX11_speaks_0 : List UInt8 := dkwX11_speaks_0 ++ dktX11_speaks_1
theorem dksX11_speaks_0 : cX11_speaks.data.toList.drop 0 = dktX11_speaks_0 := by decide +kernel
theorem dksX11_speaks_1 : cX11_speaks.data.toList.drop 22 = dktX11_speaks_1 := dk_seg dksX11_speaks_0 22 rfl rfl
theorem dksX11_speaks_2 : cX11_speaks.data.toList.drop 46 = dktX11_speaks_2 := dk_seg dksX11_speaks_1 24 rfl rfl
theorem dksX11_speaks_3 : cX11_speaks.data.toList.drop 70 = dktX11_speaks_3 := dk_seg dksX11_speaks_2 24 rfl rfl
theorem dksX11_speaks_4 : cX11_speaks.data.toList.drop 94 = dktX11_speaks_4 := dk_seg dksX11_speaks_3 24 rfl rfl
theorem dksX11_speaks_5 : cX11_speaks.data.toList.drop 118 = dktX11_speaks_5 := dk_seg dksX11_speaks_4 24 rfl rfl
theorem dksX11_speaks_6 : cX11_speaks.data.toList.drop 142 = dktX11_speaks_6 := dk_seg dksX11_speaks_5 24 rfl rfl
theorem dksX11_speaks_7 : cX11_speaks.data.toList.drop 166 = dktX11_speaks_7 := dk_seg dksX11_speaks_6 24 rfl rfl
theorem dksX11_speaks_8 : cX11_speaks.data.toList.drop 189 = dktX11_speaks_8 := dk_seg dksX11_speaks_7 23 rfl rfl
theorem dksX11_speaks_9 : cX11_speaks.data.toList.drop 213 = dktX11_speaks_9 := dk_seg dksX11_speaks_8 24 rfl rfl
theorem dksX11_speaks_10 : cX11_speaks.data.toList.drop 237 = dktX11_speaks_10 := dk_seg dksX11_speaks_9 24 rfl rfl
theorem dX11_speaks_0 : decode cX11_speaks 0 = .ok (.aload_n 0, 1) := dk_42 (dk_at dksX11_speaks_0 0 rfl rfl)
theorem dX11_speaks_1 : decode cX11_speaks 1 = .ok (.iconst 0, 1) := dk_3 (dk_at dksX11_speaks_0 1 rfl rfl)
theorem dX11_speaks_2 : decode cX11_speaks 2 = .ok (.putfield 305, 3) := dk_181 1 49 (dk_at dksX11_speaks_0 2 rfl rfl)
theorem dX11_speaks_5 : decode cX11_speaks 5 = .ok (.aload_n 0, 1) := dk_42 (dk_at dksX11_speaks_0 5 rfl rfl)
theorem dX11_speaks_6 : decode cX11_speaks 6 = .ok (.getfield 17, 3) := dk_180 0 17 (dk_at dksX11_speaks_0 6 rfl rfl)
theorem dX11_speaks_9 : decode cX11_speaks 9 = .ok (.bipush 9, 2) := dk_16 9 (dk_at dksX11_speaks_0 9 rfl rfl)
theorem dX11_speaks_11 : decode cX11_speaks 11 = .ok (.iload_n 2, 1) := dk_28 (dk_at dksX11_speaks_0 11 rfl rfl)
theorem dX11_speaks_12 : decode cX11_speaks 12 = .ok (.imul, 1) := dk_104 (dk_at dksX11_speaks_0 12 rfl rfl)
theorem dX11_speaks_13 : decode cX11_speaks 13 = .ok (.iaload, 1) := dk_46 (dk_at dksX11_speaks_0 13 rfl rfl)
theorem dX11_speaks_14 : decode cX11_speaks 14 = .ok (.ifCond .ne 4, 3) := dk_154 0 4 (dk_at dksX11_speaks_0 14 rfl rfl)
theorem dX11_speaks_17 : decode cX11_speaks 17 = .ok (.return_, 1) := dk_177 (dk_at dksX11_speaks_0 17 rfl rfl)
theorem dX11_speaks_18 : decode cX11_speaks 18 = .ok (.iconst 0, 1) := dk_3 (dk_at dksX11_speaks_0 18 rfl rfl)
theorem dX11_speaks_19 : decode cX11_speaks 19 = .ok (.istore_n 3, 1) := dk_62 (dk_at dksX11_speaks_0 19 rfl rfl)
theorem dX11_speaks_20 : decode cX11_speaks 20 = .ok (.iload_n 3, 1) := dk_29 (dk_at dksX11_speaks_0 20 rfl rfl)
theorem dX11_speaks_21 : decode cX11_speaks 21 = .ok (.aload_n 0, 1) := dk_42 (dk_at dksX11_speaks_0 21 rfl rfl)
theorem dX11_speaks_22 : decode cX11_speaks 22 = .ok (.getfield 263, 3) := dk_180 1 7 (dk_at dksX11_speaks_1 0 rfl rfl)
theorem dX11_speaks_25 : decode cX11_speaks 25 = .ok (.if_icmp .ge 27, 3) := dk_162 0 27 (dk_at dksX11_speaks_1 3 rfl rfl)
theorem dX11_speaks_28 : decode cX11_speaks 28 = .ok (.aload_n 0, 1) := dk_42 (dk_at dksX11_speaks_1 6 rfl rfl)
theorem dX11_speaks_29 : decode cX11_speaks 29 = .ok (.iload_n 1, 1) := dk_27 (dk_at dksX11_speaks_1 7 rfl rfl)
theorem dX11_speaks_30 : decode cX11_speaks 30 = .ok (.iload_n 3, 1) := dk_29 (dk_at dksX11_speaks_1 8 rfl rfl)
theorem dX11_speaks_31 : decode cX11_speaks 31 = .ok (.invokevirtual 308, 3) := dk_182 1 52 (dk_at dksX11_speaks_1 9 rfl rfl)
theorem dX11_speaks_34 : decode cX11_speaks 34 = .ok (.ifCond .eq 12, 3) := dk_153 0 12 (dk_at dksX11_speaks_1 12 rfl rfl)
theorem dX11_speaks_37 : decode cX11_speaks 37 = .ok (.aload_n 0, 1) := dk_42 (dk_at dksX11_speaks_1 15 rfl rfl)
theorem dX11_speaks_38 : decode cX11_speaks 38 = .ok (.iload_n 2, 1) := dk_28 (dk_at dksX11_speaks_1 16 rfl rfl)
theorem dX11_speaks_39 : decode cX11_speaks 39 = .ok (.iload_n 3, 1) := dk_29 (dk_at dksX11_speaks_1 17 rfl rfl)
theorem dX11_speaks_40 : decode cX11_speaks 40 = .ok (.invokevirtual 311, 3) := dk_182 1 55 (dk_at dksX11_speaks_1 18 rfl rfl)
theorem dX11_speaks_43 : decode cX11_speaks 43 = .ok (.ifCond .ne 9, 3) := dk_154 0 9 (dk_at dksX11_speaks_1 21 rfl rfl)
theorem dX11_speaks_46 : decode cX11_speaks 46 = .ok (.iinc 3 1, 3) := dk_132 3 1 (dk_at dksX11_speaks_2 0 rfl rfl)
theorem dX11_speaks_49 : decode cX11_speaks 49 = .ok (.goto (-29), 3) := dk_167 255 227 (dk_at dksX11_speaks_2 3 rfl rfl)
theorem dX11_speaks_52 : decode cX11_speaks 52 = .ok (.iload_n 3, 1) := dk_29 (dk_at dksX11_speaks_2 6 rfl rfl)
theorem dX11_speaks_53 : decode cX11_speaks 53 = .ok (.aload_n 0, 1) := dk_42 (dk_at dksX11_speaks_2 7 rfl rfl)
theorem dX11_speaks_54 : decode cX11_speaks 54 = .ok (.getfield 263, 3) := dk_180 1 7 (dk_at dksX11_speaks_2 8 rfl rfl)
theorem dX11_speaks_57 : decode cX11_speaks 57 = .ok (.if_icmp .ne 7, 3) := dk_160 0 7 (dk_at dksX11_speaks_2 11 rfl rfl)
theorem dX11_speaks_60 : decode cX11_speaks 60 = .ok (.iconst 0, 1) := dk_3 (dk_at dksX11_speaks_2 14 rfl rfl)
theorem dX11_speaks_61 : decode cX11_speaks 61 = .ok (.goto 12, 3) := dk_167 0 12 (dk_at dksX11_speaks_2 15 rfl rfl)
theorem dX11_speaks_64 : decode cX11_speaks 64 = .ok (.aload_n 0, 1) := dk_42 (dk_at dksX11_speaks_2 18 rfl rfl)
theorem dX11_speaks_65 : decode cX11_speaks 65 = .ok (.getfield 20, 3) := dk_180 0 20 (dk_at dksX11_speaks_2 19 rfl rfl)
theorem dX11_speaks_68 : decode cX11_speaks 68 = .ok (.bipush 27, 2) := dk_16 27 (dk_at dksX11_speaks_2 22 rfl rfl)
theorem dX11_speaks_70 : decode cX11_speaks 70 = .ok (.iload_n 3, 1) := dk_29 (dk_at dksX11_speaks_3 0 rfl rfl)
theorem dX11_speaks_71 : decode cX11_speaks 71 = .ok (.imul, 1) := dk_104 (dk_at dksX11_speaks_3 1 rfl rfl)
theorem dX11_speaks_72 : decode cX11_speaks 72 = .ok (.iaload, 1) := dk_46 (dk_at dksX11_speaks_3 2 rfl rfl)
theorem dX11_speaks_73 : decode cX11_speaks 73 = .ok (.istore 4, 2) := dk_54 4 (dk_at dksX11_speaks_3 3 rfl rfl)
theorem dX11_speaks_75 : decode cX11_speaks 75 = .ok (.iload_n 3, 1) := dk_29 (dk_at dksX11_speaks_3 5 rfl rfl)
theorem dX11_speaks_76 : decode cX11_speaks 76 = .ok (.aload_n 0, 1) := dk_42 (dk_at dksX11_speaks_3 6 rfl rfl)
theorem dX11_speaks_77 : decode cX11_speaks 77 = .ok (.getfield 263, 3) := dk_180 1 7 (dk_at dksX11_speaks_3 7 rfl rfl)
theorem dX11_speaks_80 : decode cX11_speaks 80 = .ok (.if_icmp .ne 7, 3) := dk_160 0 7 (dk_at dksX11_speaks_3 10 rfl rfl)
theorem dX11_speaks_83 : decode cX11_speaks 83 = .ok (.iconst 0, 1) := dk_3 (dk_at dksX11_speaks_3 13 rfl rfl)
theorem dX11_speaks_84 : decode cX11_speaks 84 = .ok (.goto 15, 3) := dk_167 0 15 (dk_at dksX11_speaks_3 14 rfl rfl)
theorem dX11_speaks_87 : decode cX11_speaks 87 = .ok (.aload_n 0, 1) := dk_42 (dk_at dksX11_speaks_3 17 rfl rfl)
theorem dX11_speaks_88 : decode cX11_speaks 88 = .ok (.getfield 20, 3) := dk_180 0 20 (dk_at dksX11_speaks_3 18 rfl rfl)
theorem dX11_speaks_91 : decode cX11_speaks 91 = .ok (.bipush 27, 2) := dk_16 27 (dk_at dksX11_speaks_3 21 rfl rfl)
theorem dX11_speaks_93 : decode cX11_speaks 93 = .ok (.iload_n 3, 1) := dk_29 (dk_at dksX11_speaks_3 23 rfl rfl)
theorem dX11_speaks_94 : decode cX11_speaks 94 = .ok (.imul, 1) := dk_104 (dk_at dksX11_speaks_4 0 rfl rfl)
theorem dX11_speaks_95 : decode cX11_speaks 95 = .ok (.bipush 9, 2) := dk_16 9 (dk_at dksX11_speaks_4 1 rfl rfl)
theorem dX11_speaks_97 : decode cX11_speaks 97 = .ok (.iadd, 1) := dk_96 (dk_at dksX11_speaks_4 3 rfl rfl)
theorem dX11_speaks_98 : decode cX11_speaks 98 = .ok (.iaload, 1) := dk_46 (dk_at dksX11_speaks_4 4 rfl rfl)
theorem dX11_speaks_99 : decode cX11_speaks 99 = .ok (.istore 5, 2) := dk_54 5 (dk_at dksX11_speaks_4 5 rfl rfl)
theorem dX11_speaks_101 : decode cX11_speaks 101 = .ok (.iconst 0, 1) := dk_3 (dk_at dksX11_speaks_4 7 rfl rfl)
theorem dX11_speaks_102 : decode cX11_speaks 102 = .ok (.istore 6, 2) := dk_54 6 (dk_at dksX11_speaks_4 8 rfl rfl)
theorem dX11_speaks_104 : decode cX11_speaks 104 = .ok (.iload 6, 2) := dk_21 6 (dk_at dksX11_speaks_4 10 rfl rfl)
theorem dX11_speaks_106 : decode cX11_speaks 106 = .ok (.aload_n 0, 1) := dk_42 (dk_at dksX11_speaks_4 12 rfl rfl)
theorem dX11_speaks_107 : decode cX11_speaks 107 = .ok (.getfield 13, 3) := dk_180 0 13 (dk_at dksX11_speaks_4 13 rfl rfl)
theorem dX11_speaks_110 : decode cX11_speaks 110 = .ok (.bipush 9, 2) := dk_16 9 (dk_at dksX11_speaks_4 16 rfl rfl)
theorem dX11_speaks_112 : decode cX11_speaks 112 = .ok (.iload_n 1, 1) := dk_27 (dk_at dksX11_speaks_4 18 rfl rfl)
theorem dX11_speaks_113 : decode cX11_speaks 113 = .ok (.imul, 1) := dk_104 (dk_at dksX11_speaks_4 19 rfl rfl)
theorem dX11_speaks_114 : decode cX11_speaks 114 = .ok (.iaload, 1) := dk_46 (dk_at dksX11_speaks_4 20 rfl rfl)
theorem dX11_speaks_115 : decode cX11_speaks 115 = .ok (.iload 4, 2) := dk_21 4 (dk_at dksX11_speaks_4 21 rfl rfl)
theorem dX11_speaks_117 : decode cX11_speaks 117 = .ok (.isub, 1) := dk_100 (dk_at dksX11_speaks_4 23 rfl rfl)
theorem dX11_speaks_118 : decode cX11_speaks 118 = .ok (.if_icmp .ge 27, 3) := dk_162 0 27 (dk_at dksX11_speaks_5 0 rfl rfl)
theorem dX11_speaks_121 : decode cX11_speaks 121 = .ok (.aload_n 0, 1) := dk_42 (dk_at dksX11_speaks_5 3 rfl rfl)
theorem dX11_speaks_122 : decode cX11_speaks 122 = .ok (.aload_n 0, 1) := dk_42 (dk_at dksX11_speaks_5 4 rfl rfl)
theorem dX11_speaks_123 : decode cX11_speaks 123 = .ok (.getfield 13, 3) := dk_180 0 13 (dk_at dksX11_speaks_5 5 rfl rfl)
theorem dX11_speaks_126 : decode cX11_speaks 126 = .ok (.bipush 9, 2) := dk_16 9 (dk_at dksX11_speaks_5 8 rfl rfl)
theorem dX11_speaks_128 : decode cX11_speaks 128 = .ok (.iload_n 1, 1) := dk_27 (dk_at dksX11_speaks_5 10 rfl rfl)
theorem dX11_speaks_129 : decode cX11_speaks 129 = .ok (.imul, 1) := dk_104 (dk_at dksX11_speaks_5 11 rfl rfl)
theorem dX11_speaks_130 : decode cX11_speaks 130 = .ok (.iconst 1, 1) := dk_4 (dk_at dksX11_speaks_5 12 rfl rfl)
theorem dX11_speaks_131 : decode cX11_speaks 131 = .ok (.iadd, 1) := dk_96 (dk_at dksX11_speaks_5 13 rfl rfl)
theorem dX11_speaks_132 : decode cX11_speaks 132 = .ok (.iload 6, 2) := dk_21 6 (dk_at dksX11_speaks_5 14 rfl rfl)
theorem dX11_speaks_134 : decode cX11_speaks 134 = .ok (.iadd, 1) := dk_96 (dk_at dksX11_speaks_5 16 rfl rfl)
theorem dX11_speaks_135 : decode cX11_speaks 135 = .ok (.iaload, 1) := dk_46 (dk_at dksX11_speaks_5 17 rfl rfl)
theorem dX11_speaks_136 : decode cX11_speaks 136 = .ok (.invokevirtual 314, 3) := dk_182 1 58 (dk_at dksX11_speaks_5 18 rfl rfl)
theorem dX11_speaks_139 : decode cX11_speaks 139 = .ok (.iinc 6 1, 3) := dk_132 6 1 (dk_at dksX11_speaks_5 21 rfl rfl)
theorem dX11_speaks_142 : decode cX11_speaks 142 = .ok (.goto (-38), 3) := dk_167 255 218 (dk_at dksX11_speaks_6 0 rfl rfl)
theorem dX11_speaks_145 : decode cX11_speaks 145 = .ok (.iconst 0, 1) := dk_3 (dk_at dksX11_speaks_6 3 rfl rfl)
theorem dX11_speaks_146 : decode cX11_speaks 146 = .ok (.istore 6, 2) := dk_54 6 (dk_at dksX11_speaks_6 4 rfl rfl)
theorem dX11_speaks_148 : decode cX11_speaks 148 = .ok (.iload_n 3, 1) := dk_29 (dk_at dksX11_speaks_6 6 rfl rfl)
theorem dX11_speaks_149 : decode cX11_speaks 149 = .ok (.aload_n 0, 1) := dk_42 (dk_at dksX11_speaks_6 7 rfl rfl)
theorem dX11_speaks_150 : decode cX11_speaks 150 = .ok (.getfield 263, 3) := dk_180 1 7 (dk_at dksX11_speaks_6 8 rfl rfl)
theorem dX11_speaks_153 : decode cX11_speaks 153 = .ok (.if_icmp .ge 45, 3) := dk_162 0 45 (dk_at dksX11_speaks_6 11 rfl rfl)
theorem dX11_speaks_156 : decode cX11_speaks 156 = .ok (.iload 6, 2) := dk_21 6 (dk_at dksX11_speaks_6 14 rfl rfl)
theorem dX11_speaks_158 : decode cX11_speaks 158 = .ok (.aload_n 0, 1) := dk_42 (dk_at dksX11_speaks_6 16 rfl rfl)
theorem dX11_speaks_159 : decode cX11_speaks 159 = .ok (.getfield 20, 3) := dk_180 0 20 (dk_at dksX11_speaks_6 17 rfl rfl)
theorem dX11_speaks_162 : decode cX11_speaks 162 = .ok (.bipush 27, 2) := dk_16 27 (dk_at dksX11_speaks_6 20 rfl rfl)
theorem dX11_speaks_164 : decode cX11_speaks 164 = .ok (.iload_n 3, 1) := dk_29 (dk_at dksX11_speaks_6 22 rfl rfl)
theorem dX11_speaks_165 : decode cX11_speaks 165 = .ok (.imul, 1) := dk_104 (dk_at dksX11_speaks_6 23 rfl rfl)
theorem dX11_speaks_166 : decode cX11_speaks 166 = .ok (.bipush 18, 2) := dk_16 18 (dk_at dksX11_speaks_7 0 rfl rfl)
theorem dX11_speaks_168 : decode cX11_speaks 168 = .ok (.iadd, 1) := dk_96 (dk_at dksX11_speaks_7 2 rfl rfl)
theorem dX11_speaks_169 : decode cX11_speaks 169 = .ok (.iaload, 1) := dk_46 (dk_at dksX11_speaks_7 3 rfl rfl)
theorem dX11_speaks_170 : decode cX11_speaks 170 = .ok (.if_icmp .ge 28, 3) := dk_162 0 28 (dk_at dksX11_speaks_7 4 rfl rfl)
theorem dX11_speaks_173 : decode cX11_speaks 173 = .ok (.aload_n 0, 1) := dk_42 (dk_at dksX11_speaks_7 7 rfl rfl)
theorem dX11_speaks_174 : decode cX11_speaks 174 = .ok (.aload_n 0, 1) := dk_42 (dk_at dksX11_speaks_7 8 rfl rfl)
theorem dX11_speaks_175 : decode cX11_speaks 175 = .ok (.getfield 20, 3) := dk_180 0 20 (dk_at dksX11_speaks_7 9 rfl rfl)
theorem dX11_speaks_178 : decode cX11_speaks 178 = .ok (.bipush 27, 2) := dk_16 27 (dk_at dksX11_speaks_7 12 rfl rfl)
theorem dX11_speaks_180 : decode cX11_speaks 180 = .ok (.iload_n 3, 1) := dk_29 (dk_at dksX11_speaks_7 14 rfl rfl)
theorem dX11_speaks_181 : decode cX11_speaks 181 = .ok (.imul, 1) := dk_104 (dk_at dksX11_speaks_7 15 rfl rfl)
theorem dX11_speaks_182 : decode cX11_speaks 182 = .ok (.bipush 19, 2) := dk_16 19 (dk_at dksX11_speaks_7 16 rfl rfl)
theorem dX11_speaks_184 : decode cX11_speaks 184 = .ok (.iadd, 1) := dk_96 (dk_at dksX11_speaks_7 18 rfl rfl)
theorem dX11_speaks_185 : decode cX11_speaks 185 = .ok (.iload 6, 2) := dk_21 6 (dk_at dksX11_speaks_7 19 rfl rfl)
theorem dX11_speaks_187 : decode cX11_speaks 187 = .ok (.iadd, 1) := dk_96 (dk_at dksX11_speaks_7 21 rfl rfl)
theorem dX11_speaks_188 : decode cX11_speaks 188 = .ok (.iaload, 1) := dk_46 (dk_at dksX11_speaks_7 22 rfl rfl)
theorem dX11_speaks_189 : decode cX11_speaks 189 = .ok (.invokevirtual 314, 3) := dk_182 1 58 (dk_at dksX11_speaks_8 0 rfl rfl)
theorem dX11_speaks_192 : decode cX11_speaks 192 = .ok (.iinc 6 1, 3) := dk_132 6 1 (dk_at dksX11_speaks_8 3 rfl rfl)
theorem dX11_speaks_195 : decode cX11_speaks 195 = .ok (.goto (-47), 3) := dk_167 255 209 (dk_at dksX11_speaks_8 6 rfl rfl)
theorem dX11_speaks_198 : decode cX11_speaks 198 = .ok (.iload 5, 2) := dk_21 5 (dk_at dksX11_speaks_8 9 rfl rfl)
theorem dX11_speaks_200 : decode cX11_speaks 200 = .ok (.istore 6, 2) := dk_54 6 (dk_at dksX11_speaks_8 11 rfl rfl)
theorem dX11_speaks_202 : decode cX11_speaks 202 = .ok (.iload 6, 2) := dk_21 6 (dk_at dksX11_speaks_8 13 rfl rfl)
theorem dX11_speaks_204 : decode cX11_speaks 204 = .ok (.aload_n 0, 1) := dk_42 (dk_at dksX11_speaks_8 15 rfl rfl)
theorem dX11_speaks_205 : decode cX11_speaks 205 = .ok (.getfield 17, 3) := dk_180 0 17 (dk_at dksX11_speaks_8 16 rfl rfl)
theorem dX11_speaks_208 : decode cX11_speaks 208 = .ok (.bipush 9, 2) := dk_16 9 (dk_at dksX11_speaks_8 19 rfl rfl)
theorem dX11_speaks_210 : decode cX11_speaks 210 = .ok (.iload_n 2, 1) := dk_28 (dk_at dksX11_speaks_8 21 rfl rfl)
theorem dX11_speaks_211 : decode cX11_speaks 211 = .ok (.imul, 1) := dk_104 (dk_at dksX11_speaks_8 22 rfl rfl)
theorem dX11_speaks_212 : decode cX11_speaks 212 = .ok (.iaload, 1) := dk_46 (dk_at dksX11_speaks_8 23 rfl rfl)
theorem dX11_speaks_213 : decode cX11_speaks 213 = .ok (.if_icmp .ge 27, 3) := dk_162 0 27 (dk_at dksX11_speaks_9 0 rfl rfl)
theorem dX11_speaks_216 : decode cX11_speaks 216 = .ok (.aload_n 0, 1) := dk_42 (dk_at dksX11_speaks_9 3 rfl rfl)
theorem dX11_speaks_217 : decode cX11_speaks 217 = .ok (.aload_n 0, 1) := dk_42 (dk_at dksX11_speaks_9 4 rfl rfl)
theorem dX11_speaks_218 : decode cX11_speaks 218 = .ok (.getfield 17, 3) := dk_180 0 17 (dk_at dksX11_speaks_9 5 rfl rfl)
theorem dX11_speaks_221 : decode cX11_speaks 221 = .ok (.bipush 9, 2) := dk_16 9 (dk_at dksX11_speaks_9 8 rfl rfl)
theorem dX11_speaks_223 : decode cX11_speaks 223 = .ok (.iload_n 2, 1) := dk_28 (dk_at dksX11_speaks_9 10 rfl rfl)
theorem dX11_speaks_224 : decode cX11_speaks 224 = .ok (.imul, 1) := dk_104 (dk_at dksX11_speaks_9 11 rfl rfl)
theorem dX11_speaks_225 : decode cX11_speaks 225 = .ok (.iconst 1, 1) := dk_4 (dk_at dksX11_speaks_9 12 rfl rfl)
theorem dX11_speaks_226 : decode cX11_speaks 226 = .ok (.iadd, 1) := dk_96 (dk_at dksX11_speaks_9 13 rfl rfl)
theorem dX11_speaks_227 : decode cX11_speaks 227 = .ok (.iload 6, 2) := dk_21 6 (dk_at dksX11_speaks_9 14 rfl rfl)
theorem dX11_speaks_229 : decode cX11_speaks 229 = .ok (.iadd, 1) := dk_96 (dk_at dksX11_speaks_9 16 rfl rfl)
theorem dX11_speaks_230 : decode cX11_speaks 230 = .ok (.iaload, 1) := dk_46 (dk_at dksX11_speaks_9 17 rfl rfl)
theorem dX11_speaks_231 : decode cX11_speaks 231 = .ok (.invokevirtual 314, 3) := dk_182 1 58 (dk_at dksX11_speaks_9 18 rfl rfl)
theorem dX11_speaks_234 : decode cX11_speaks 234 = .ok (.iinc 6 1, 3) := dk_132 6 1 (dk_at dksX11_speaks_9 21 rfl rfl)
theorem dX11_speaks_237 : decode cX11_speaks 237 = .ok (.goto (-35), 3) := dk_167 255 221 (dk_at dksX11_speaks_10 0 rfl rfl)
theorem dX11_speaks_240 : decode cX11_speaks 240 = .ok (.return_, 1) := dk_177 (dk_at dksX11_speaks_10 3 rfl rfl)
abbrev cX11_ends : ByteArray := prog_19_method_37_code
def yX11_ends : MethodName := ⟨RX11, "ends", "(II)Z"⟩
def dkwX11_ends_3 : List UInt8 := [159, 0, 5, 3, 172, 132, 5, 1, 167, 255, 209, 4, 172]
abbrev dktX11_ends_3 : List UInt8 := dkwX11_ends_3 ++ []
def dkwX11_ends_2 : List UInt8 := [21, 4, 96, 29, 100, 21, 5, 96, 46, 42, 180, 0, 20, 16, 27, 28, 104, 4, 96, 21, 5, 96, 46]
abbrev dktX11_ends_2 : List UInt8 := dkwX11_ends_2 ++ dktX11_ends_3
def dkwX11_ends_1 : List UInt8 := [164, 0, 5, 3, 172, 3, 54, 5, 21, 5, 29, 162, 0, 47, 42, 180, 0, 13, 16, 9, 27, 104, 4, 96]
abbrev dktX11_ends_1 : List UInt8 := dkwX11_ends_1 ++ dktX11_ends_2
def dkwX11_ends_0 : List UInt8 := [42, 180, 0, 20, 16, 27, 28, 104, 46, 62, 42, 180, 0, 13, 16, 9, 27, 104, 46, 54, 4, 29, 21, 4]
abbrev dktX11_ends_0 : List UInt8 := dkwX11_ends_0 ++ dktX11_ends_1
theorem dksX11_ends_0 : cX11_ends.data.toList.drop 0 = dktX11_ends_0 := by decide +kernel
theorem dksX11_ends_1 : cX11_ends.data.toList.drop 24 = dktX11_ends_1 := dk_seg dksX11_ends_0 24 rfl rfl
theorem dksX11_ends_2 : cX11_ends.data.toList.drop 48 = dktX11_ends_2 := dk_seg dksX11_ends_1 24 rfl rfl
theorem dksX11_ends_3 : cX11_ends.data.toList.drop 71 = dktX11_ends_3 := dk_seg dksX11_ends_2 23 rfl rfl
theorem dX11_ends_0 : decode cX11_ends 0 = .ok (.aload_n 0, 1) := dk_42 (dk_at dksX11_ends_0 0 rfl rfl)
theorem dX11_ends_1 : decode cX11_ends 1 = .ok (.getfield 20, 3) := dk_180 0 20 (dk_at dksX11_ends_0 1 rfl rfl)
theorem dX11_ends_4 : decode cX11_ends 4 = .ok (.bipush 27, 2) := dk_16 27 (dk_at dksX11_ends_0 4 rfl rfl)
theorem dX11_ends_6 : decode cX11_ends 6 = .ok (.iload_n 2, 1) := dk_28 (dk_at dksX11_ends_0 6 rfl rfl)
theorem dX11_ends_7 : decode cX11_ends 7 = .ok (.imul, 1) := dk_104 (dk_at dksX11_ends_0 7 rfl rfl)
theorem dX11_ends_8 : decode cX11_ends 8 = .ok (.iaload, 1) := dk_46 (dk_at dksX11_ends_0 8 rfl rfl)
theorem dX11_ends_9 : decode cX11_ends 9 = .ok (.istore_n 3, 1) := dk_62 (dk_at dksX11_ends_0 9 rfl rfl)
theorem dX11_ends_10 : decode cX11_ends 10 = .ok (.aload_n 0, 1) := dk_42 (dk_at dksX11_ends_0 10 rfl rfl)
theorem dX11_ends_11 : decode cX11_ends 11 = .ok (.getfield 13, 3) := dk_180 0 13 (dk_at dksX11_ends_0 11 rfl rfl)
theorem dX11_ends_14 : decode cX11_ends 14 = .ok (.bipush 9, 2) := dk_16 9 (dk_at dksX11_ends_0 14 rfl rfl)
theorem dX11_ends_16 : decode cX11_ends 16 = .ok (.iload_n 1, 1) := dk_27 (dk_at dksX11_ends_0 16 rfl rfl)
theorem dX11_ends_17 : decode cX11_ends 17 = .ok (.imul, 1) := dk_104 (dk_at dksX11_ends_0 17 rfl rfl)
theorem dX11_ends_18 : decode cX11_ends 18 = .ok (.iaload, 1) := dk_46 (dk_at dksX11_ends_0 18 rfl rfl)
theorem dX11_ends_19 : decode cX11_ends 19 = .ok (.istore 4, 2) := dk_54 4 (dk_at dksX11_ends_0 19 rfl rfl)
theorem dX11_ends_21 : decode cX11_ends 21 = .ok (.iload_n 3, 1) := dk_29 (dk_at dksX11_ends_0 21 rfl rfl)
theorem dX11_ends_22 : decode cX11_ends 22 = .ok (.iload 4, 2) := dk_21 4 (dk_at dksX11_ends_0 22 rfl rfl)
theorem dX11_ends_24 : decode cX11_ends 24 = .ok (.if_icmp .le 5, 3) := dk_164 0 5 (dk_at dksX11_ends_1 0 rfl rfl)
theorem dX11_ends_27 : decode cX11_ends 27 = .ok (.iconst 0, 1) := dk_3 (dk_at dksX11_ends_1 3 rfl rfl)
theorem dX11_ends_28 : decode cX11_ends 28 = .ok (.ireturn, 1) := dk_172 (dk_at dksX11_ends_1 4 rfl rfl)
theorem dX11_ends_29 : decode cX11_ends 29 = .ok (.iconst 0, 1) := dk_3 (dk_at dksX11_ends_1 5 rfl rfl)
theorem dX11_ends_30 : decode cX11_ends 30 = .ok (.istore 5, 2) := dk_54 5 (dk_at dksX11_ends_1 6 rfl rfl)
theorem dX11_ends_32 : decode cX11_ends 32 = .ok (.iload 5, 2) := dk_21 5 (dk_at dksX11_ends_1 8 rfl rfl)
theorem dX11_ends_34 : decode cX11_ends 34 = .ok (.iload_n 3, 1) := dk_29 (dk_at dksX11_ends_1 10 rfl rfl)
theorem dX11_ends_35 : decode cX11_ends 35 = .ok (.if_icmp .ge 47, 3) := dk_162 0 47 (dk_at dksX11_ends_1 11 rfl rfl)
theorem dX11_ends_38 : decode cX11_ends 38 = .ok (.aload_n 0, 1) := dk_42 (dk_at dksX11_ends_1 14 rfl rfl)
theorem dX11_ends_39 : decode cX11_ends 39 = .ok (.getfield 13, 3) := dk_180 0 13 (dk_at dksX11_ends_1 15 rfl rfl)
theorem dX11_ends_42 : decode cX11_ends 42 = .ok (.bipush 9, 2) := dk_16 9 (dk_at dksX11_ends_1 18 rfl rfl)
theorem dX11_ends_44 : decode cX11_ends 44 = .ok (.iload_n 1, 1) := dk_27 (dk_at dksX11_ends_1 20 rfl rfl)
theorem dX11_ends_45 : decode cX11_ends 45 = .ok (.imul, 1) := dk_104 (dk_at dksX11_ends_1 21 rfl rfl)
theorem dX11_ends_46 : decode cX11_ends 46 = .ok (.iconst 1, 1) := dk_4 (dk_at dksX11_ends_1 22 rfl rfl)
theorem dX11_ends_47 : decode cX11_ends 47 = .ok (.iadd, 1) := dk_96 (dk_at dksX11_ends_1 23 rfl rfl)
theorem dX11_ends_48 : decode cX11_ends 48 = .ok (.iload 4, 2) := dk_21 4 (dk_at dksX11_ends_2 0 rfl rfl)
theorem dX11_ends_50 : decode cX11_ends 50 = .ok (.iadd, 1) := dk_96 (dk_at dksX11_ends_2 2 rfl rfl)
theorem dX11_ends_51 : decode cX11_ends 51 = .ok (.iload_n 3, 1) := dk_29 (dk_at dksX11_ends_2 3 rfl rfl)
theorem dX11_ends_52 : decode cX11_ends 52 = .ok (.isub, 1) := dk_100 (dk_at dksX11_ends_2 4 rfl rfl)
theorem dX11_ends_53 : decode cX11_ends 53 = .ok (.iload 5, 2) := dk_21 5 (dk_at dksX11_ends_2 5 rfl rfl)
theorem dX11_ends_55 : decode cX11_ends 55 = .ok (.iadd, 1) := dk_96 (dk_at dksX11_ends_2 7 rfl rfl)
theorem dX11_ends_56 : decode cX11_ends 56 = .ok (.iaload, 1) := dk_46 (dk_at dksX11_ends_2 8 rfl rfl)
theorem dX11_ends_57 : decode cX11_ends 57 = .ok (.aload_n 0, 1) := dk_42 (dk_at dksX11_ends_2 9 rfl rfl)
theorem dX11_ends_58 : decode cX11_ends 58 = .ok (.getfield 20, 3) := dk_180 0 20 (dk_at dksX11_ends_2 10 rfl rfl)
theorem dX11_ends_61 : decode cX11_ends 61 = .ok (.bipush 27, 2) := dk_16 27 (dk_at dksX11_ends_2 13 rfl rfl)
theorem dX11_ends_63 : decode cX11_ends 63 = .ok (.iload_n 2, 1) := dk_28 (dk_at dksX11_ends_2 15 rfl rfl)
theorem dX11_ends_64 : decode cX11_ends 64 = .ok (.imul, 1) := dk_104 (dk_at dksX11_ends_2 16 rfl rfl)
theorem dX11_ends_65 : decode cX11_ends 65 = .ok (.iconst 1, 1) := dk_4 (dk_at dksX11_ends_2 17 rfl rfl)
theorem dX11_ends_66 : decode cX11_ends 66 = .ok (.iadd, 1) := dk_96 (dk_at dksX11_ends_2 18 rfl rfl)
theorem dX11_ends_67 : decode cX11_ends 67 = .ok (.iload 5, 2) := dk_21 5 (dk_at dksX11_ends_2 19 rfl rfl)
theorem dX11_ends_69 : decode cX11_ends 69 = .ok (.iadd, 1) := dk_96 (dk_at dksX11_ends_2 21 rfl rfl)
theorem dX11_ends_70 : decode cX11_ends 70 = .ok (.iaload, 1) := dk_46 (dk_at dksX11_ends_2 22 rfl rfl)
theorem dX11_ends_71 : decode cX11_ends 71 = .ok (.if_icmp .eq 5, 3) := dk_159 0 5 (dk_at dksX11_ends_3 0 rfl rfl)
theorem dX11_ends_74 : decode cX11_ends 74 = .ok (.iconst 0, 1) := dk_3 (dk_at dksX11_ends_3 3 rfl rfl)
theorem dX11_ends_75 : decode cX11_ends 75 = .ok (.ireturn, 1) := dk_172 (dk_at dksX11_ends_3 4 rfl rfl)
theorem dX11_ends_76 : decode cX11_ends 76 = .ok (.iinc 5 1, 3) := dk_132 5 1 (dk_at dksX11_ends_3 5 rfl rfl)
theorem dX11_ends_79 : decode cX11_ends 79 = .ok (.goto (-47), 3) := dk_167 255 209 (dk_at dksX11_ends_3 8 rfl rfl)
theorem dX11_ends_82 : decode cX11_ends 82 = .ok (.iconst 1, 1) := dk_4 (dk_at dksX11_ends_3 11 rfl rfl)
theorem dX11_ends_83 : decode cX11_ends 83 = .ok (.ireturn, 1) := dk_172 (dk_at dksX11_ends_3 12 rfl rfl)
abbrev cX11_begins : ByteArray := prog_19_method_38_code
def yX11_begins : MethodName := ⟨RX11, "begins", "(II)Z"⟩
def dkwX11_begins_3 : List UInt8 := [132, 4, 1, 167, 255, 213, 4, 172]
abbrev dktX11_begins_3 : List UInt8 := dkwX11_begins_3 ++ []
def dkwX11_begins_2 : List UInt8 := [21, 4, 96, 46, 42, 180, 0, 20, 16, 27, 28, 104, 16, 10, 96, 21, 4, 96, 46, 159, 0, 5, 3, 172]
abbrev dktX11_begins_2 : List UInt8 := dkwX11_begins_2 ++ dktX11_begins_3
def dkwX11_begins_1 : List UInt8 := [164, 0, 5, 3, 172, 3, 54, 4, 21, 4, 29, 162, 0, 43, 42, 180, 0, 17, 16, 9, 27, 104, 4, 96]
abbrev dktX11_begins_1 : List UInt8 := dkwX11_begins_1 ++ dktX11_begins_2
def dkwX11_begins_0 : List UInt8 := [42, 180, 0, 20, 16, 27, 28, 104, 16, 9, 96, 46, 62, 29, 42, 180, 0, 17, 16, 9, 27, 104, 46]
abbrev dktX11_begins_0 : List UInt8 := dkwX11_begins_0 ++ dktX11_begins_1
theorem dksX11_begins_0 : cX11_begins.data.toList.drop 0 = dktX11_begins_0 := by decide +kernel
theorem dksX11_begins_1 : cX11_begins.data.toList.drop 23 = dktX11_begins_1 := dk_seg dksX11_begins_0 23 rfl rfl
theorem dksX11_begins_2 : cX11_begins.data.toList.drop 47 = dktX11_begins_2 := dk_seg dksX11_begins_1 24 rfl rfl
theorem dksX11_begins_3 : cX11_begins.data.toList.drop 71 = dktX11_begins_3 := dk_seg dksX11_begins_2 24 rfl rfl
theorem dX11_begins_0 : decode cX11_begins 0 = .ok (.aload_n 0, 1) := dk_42 (dk_at dksX11_begins_0 0 rfl rfl)
theorem dX11_begins_1 : decode cX11_begins 1 = .ok (.getfield 20, 3) := dk_180 0 20 (dk_at dksX11_begins_0 1 rfl rfl)
theorem dX11_begins_4 : decode cX11_begins 4 = .ok (.bipush 27, 2) := dk_16 27 (dk_at dksX11_begins_0 4 rfl rfl)
theorem dX11_begins_6 : decode cX11_begins 6 = .ok (.iload_n 2, 1) := dk_28 (dk_at dksX11_begins_0 6 rfl rfl)
theorem dX11_begins_7 : decode cX11_begins 7 = .ok (.imul, 1) := dk_104 (dk_at dksX11_begins_0 7 rfl rfl)
theorem dX11_begins_8 : decode cX11_begins 8 = .ok (.bipush 9, 2) := dk_16 9 (dk_at dksX11_begins_0 8 rfl rfl)
theorem dX11_begins_10 : decode cX11_begins 10 = .ok (.iadd, 1) := dk_96 (dk_at dksX11_begins_0 10 rfl rfl)
theorem dX11_begins_11 : decode cX11_begins 11 = .ok (.iaload, 1) := dk_46 (dk_at dksX11_begins_0 11 rfl rfl)
theorem dX11_begins_12 : decode cX11_begins 12 = .ok (.istore_n 3, 1) := dk_62 (dk_at dksX11_begins_0 12 rfl rfl)
theorem dX11_begins_13 : decode cX11_begins 13 = .ok (.iload_n 3, 1) := dk_29 (dk_at dksX11_begins_0 13 rfl rfl)
theorem dX11_begins_14 : decode cX11_begins 14 = .ok (.aload_n 0, 1) := dk_42 (dk_at dksX11_begins_0 14 rfl rfl)
theorem dX11_begins_15 : decode cX11_begins 15 = .ok (.getfield 17, 3) := dk_180 0 17 (dk_at dksX11_begins_0 15 rfl rfl)
theorem dX11_begins_18 : decode cX11_begins 18 = .ok (.bipush 9, 2) := dk_16 9 (dk_at dksX11_begins_0 18 rfl rfl)
theorem dX11_begins_20 : decode cX11_begins 20 = .ok (.iload_n 1, 1) := dk_27 (dk_at dksX11_begins_0 20 rfl rfl)
theorem dX11_begins_21 : decode cX11_begins 21 = .ok (.imul, 1) := dk_104 (dk_at dksX11_begins_0 21 rfl rfl)
theorem dX11_begins_22 : decode cX11_begins 22 = .ok (.iaload, 1) := dk_46 (dk_at dksX11_begins_0 22 rfl rfl)
theorem dX11_begins_23 : decode cX11_begins 23 = .ok (.if_icmp .le 5, 3) := dk_164 0 5 (dk_at dksX11_begins_1 0 rfl rfl)
theorem dX11_begins_26 : decode cX11_begins 26 = .ok (.iconst 0, 1) := dk_3 (dk_at dksX11_begins_1 3 rfl rfl)
theorem dX11_begins_27 : decode cX11_begins 27 = .ok (.ireturn, 1) := dk_172 (dk_at dksX11_begins_1 4 rfl rfl)
theorem dX11_begins_28 : decode cX11_begins 28 = .ok (.iconst 0, 1) := dk_3 (dk_at dksX11_begins_1 5 rfl rfl)
theorem dX11_begins_29 : decode cX11_begins 29 = .ok (.istore 4, 2) := dk_54 4 (dk_at dksX11_begins_1 6 rfl rfl)
theorem dX11_begins_31 : decode cX11_begins 31 = .ok (.iload 4, 2) := dk_21 4 (dk_at dksX11_begins_1 8 rfl rfl)
theorem dX11_begins_33 : decode cX11_begins 33 = .ok (.iload_n 3, 1) := dk_29 (dk_at dksX11_begins_1 10 rfl rfl)
theorem dX11_begins_34 : decode cX11_begins 34 = .ok (.if_icmp .ge 43, 3) := dk_162 0 43 (dk_at dksX11_begins_1 11 rfl rfl)
theorem dX11_begins_37 : decode cX11_begins 37 = .ok (.aload_n 0, 1) := dk_42 (dk_at dksX11_begins_1 14 rfl rfl)
theorem dX11_begins_38 : decode cX11_begins 38 = .ok (.getfield 17, 3) := dk_180 0 17 (dk_at dksX11_begins_1 15 rfl rfl)
theorem dX11_begins_41 : decode cX11_begins 41 = .ok (.bipush 9, 2) := dk_16 9 (dk_at dksX11_begins_1 18 rfl rfl)
theorem dX11_begins_43 : decode cX11_begins 43 = .ok (.iload_n 1, 1) := dk_27 (dk_at dksX11_begins_1 20 rfl rfl)
theorem dX11_begins_44 : decode cX11_begins 44 = .ok (.imul, 1) := dk_104 (dk_at dksX11_begins_1 21 rfl rfl)
theorem dX11_begins_45 : decode cX11_begins 45 = .ok (.iconst 1, 1) := dk_4 (dk_at dksX11_begins_1 22 rfl rfl)
theorem dX11_begins_46 : decode cX11_begins 46 = .ok (.iadd, 1) := dk_96 (dk_at dksX11_begins_1 23 rfl rfl)
theorem dX11_begins_47 : decode cX11_begins 47 = .ok (.iload 4, 2) := dk_21 4 (dk_at dksX11_begins_2 0 rfl rfl)
theorem dX11_begins_49 : decode cX11_begins 49 = .ok (.iadd, 1) := dk_96 (dk_at dksX11_begins_2 2 rfl rfl)
theorem dX11_begins_50 : decode cX11_begins 50 = .ok (.iaload, 1) := dk_46 (dk_at dksX11_begins_2 3 rfl rfl)
theorem dX11_begins_51 : decode cX11_begins 51 = .ok (.aload_n 0, 1) := dk_42 (dk_at dksX11_begins_2 4 rfl rfl)
theorem dX11_begins_52 : decode cX11_begins 52 = .ok (.getfield 20, 3) := dk_180 0 20 (dk_at dksX11_begins_2 5 rfl rfl)
theorem dX11_begins_55 : decode cX11_begins 55 = .ok (.bipush 27, 2) := dk_16 27 (dk_at dksX11_begins_2 8 rfl rfl)
theorem dX11_begins_57 : decode cX11_begins 57 = .ok (.iload_n 2, 1) := dk_28 (dk_at dksX11_begins_2 10 rfl rfl)
theorem dX11_begins_58 : decode cX11_begins 58 = .ok (.imul, 1) := dk_104 (dk_at dksX11_begins_2 11 rfl rfl)
theorem dX11_begins_59 : decode cX11_begins 59 = .ok (.bipush 10, 2) := dk_16 10 (dk_at dksX11_begins_2 12 rfl rfl)
theorem dX11_begins_61 : decode cX11_begins 61 = .ok (.iadd, 1) := dk_96 (dk_at dksX11_begins_2 14 rfl rfl)
theorem dX11_begins_62 : decode cX11_begins 62 = .ok (.iload 4, 2) := dk_21 4 (dk_at dksX11_begins_2 15 rfl rfl)
theorem dX11_begins_64 : decode cX11_begins 64 = .ok (.iadd, 1) := dk_96 (dk_at dksX11_begins_2 17 rfl rfl)
theorem dX11_begins_65 : decode cX11_begins 65 = .ok (.iaload, 1) := dk_46 (dk_at dksX11_begins_2 18 rfl rfl)
theorem dX11_begins_66 : decode cX11_begins 66 = .ok (.if_icmp .eq 5, 3) := dk_159 0 5 (dk_at dksX11_begins_2 19 rfl rfl)
theorem dX11_begins_69 : decode cX11_begins 69 = .ok (.iconst 0, 1) := dk_3 (dk_at dksX11_begins_2 22 rfl rfl)
theorem dX11_begins_70 : decode cX11_begins 70 = .ok (.ireturn, 1) := dk_172 (dk_at dksX11_begins_2 23 rfl rfl)
theorem dX11_begins_71 : decode cX11_begins 71 = .ok (.iinc 4 1, 3) := dk_132 4 1 (dk_at dksX11_begins_3 0 rfl rfl)
theorem dX11_begins_74 : decode cX11_begins 74 = .ok (.goto (-43), 3) := dk_167 255 213 (dk_at dksX11_begins_3 3 rfl rfl)
theorem dX11_begins_77 : decode cX11_begins 77 = .ok (.iconst 1, 1) := dk_4 (dk_at dksX11_begins_3 6 rfl rfl)
theorem dX11_begins_78 : decode cX11_begins 78 = .ok (.ireturn, 1) := dk_172 (dk_at dksX11_begins_3 7 rfl rfl)
abbrev cX11_adds : ByteArray := prog_19_method_39_code
def yX11_adds : MethodName := ⟨RX11, "adds", "(I)V"⟩
def dkwX11_adds_0 : List UInt8 := [42, 180, 0, 77, 42, 180, 1, 49, 27, 79, 42, 89, 180, 1, 49, 4, 96, 181, 1, 49, 177]
abbrev dktX11_adds_0 : List UInt8 := dkwX11_adds_0 ++ []
theorem dksX11_adds_0 : cX11_adds.data.toList.drop 0 = dktX11_adds_0 := by decide +kernel
theorem dX11_adds_0 : decode cX11_adds 0 = .ok (.aload_n 0, 1) := dk_42 (dk_at dksX11_adds_0 0 rfl rfl)
theorem dX11_adds_1 : decode cX11_adds 1 = .ok (.getfield 77, 3) := dk_180 0 77 (dk_at dksX11_adds_0 1 rfl rfl)
theorem dX11_adds_4 : decode cX11_adds 4 = .ok (.aload_n 0, 1) := dk_42 (dk_at dksX11_adds_0 4 rfl rfl)
theorem dX11_adds_5 : decode cX11_adds 5 = .ok (.getfield 305, 3) := dk_180 1 49 (dk_at dksX11_adds_0 5 rfl rfl)
theorem dX11_adds_8 : decode cX11_adds 8 = .ok (.iload_n 1, 1) := dk_27 (dk_at dksX11_adds_0 8 rfl rfl)
theorem dX11_adds_9 : decode cX11_adds 9 = .ok (.iastore, 1) := dk_79 (dk_at dksX11_adds_0 9 rfl rfl)
theorem dX11_adds_10 : decode cX11_adds 10 = .ok (.aload_n 0, 1) := dk_42 (dk_at dksX11_adds_0 10 rfl rfl)
theorem dX11_adds_11 : decode cX11_adds 11 = .ok (.dup, 1) := dk_89 (dk_at dksX11_adds_0 11 rfl rfl)
theorem dX11_adds_12 : decode cX11_adds 12 = .ok (.getfield 305, 3) := dk_180 1 49 (dk_at dksX11_adds_0 12 rfl rfl)
theorem dX11_adds_15 : decode cX11_adds 15 = .ok (.iconst 1, 1) := dk_4 (dk_at dksX11_adds_0 15 rfl rfl)
theorem dX11_adds_16 : decode cX11_adds 16 = .ok (.iadd, 1) := dk_96 (dk_at dksX11_adds_0 16 rfl rfl)
theorem dX11_adds_17 : decode cX11_adds 17 = .ok (.putfield 305, 3) := dk_181 1 49 (dk_at dksX11_adds_0 17 rfl rfl)
theorem dX11_adds_20 : decode cX11_adds 20 = .ok (.return_, 1) := dk_177 (dk_at dksX11_adds_0 20 rfl rfl)
abbrev cX11_apart : ByteArray := prog_19_method_43_code
def yX11_apart : MethodName := ⟨RX11, "apart", "(I)I"⟩
def dkwX11_apart_1 : List UInt8 := [182, 0, 250, 154, 0, 5, 3, 172, 42, 3, 181, 0, 125, 42, 3, 27, 182, 1, 68, 42, 180, 1, 65, 172]
abbrev dktX11_apart_1 : List UInt8 := dkwX11_apart_1 ++ []
def dkwX11_apart_0 : List UInt8 := [42, 3, 181, 0, 122, 42, 27, 155, 0, 15, 27, 42, 180, 0, 125, 163, 0, 7, 4, 167, 0, 4, 3, 4]
abbrev dktX11_apart_0 : List UInt8 := dkwX11_apart_0 ++ dktX11_apart_1
theorem dksX11_apart_0 : cX11_apart.data.toList.drop 0 = dktX11_apart_0 := by decide +kernel
theorem dksX11_apart_1 : cX11_apart.data.toList.drop 24 = dktX11_apart_1 := dk_seg dksX11_apart_0 24 rfl rfl
theorem dX11_apart_0 : decode cX11_apart 0 = .ok (.aload_n 0, 1) := dk_42 (dk_at dksX11_apart_0 0 rfl rfl)
theorem dX11_apart_1 : decode cX11_apart 1 = .ok (.iconst 0, 1) := dk_3 (dk_at dksX11_apart_0 1 rfl rfl)
theorem dX11_apart_2 : decode cX11_apart 2 = .ok (.putfield 122, 3) := dk_181 0 122 (dk_at dksX11_apart_0 2 rfl rfl)
theorem dX11_apart_5 : decode cX11_apart 5 = .ok (.aload_n 0, 1) := dk_42 (dk_at dksX11_apart_0 5 rfl rfl)
theorem dX11_apart_6 : decode cX11_apart 6 = .ok (.iload_n 1, 1) := dk_27 (dk_at dksX11_apart_0 6 rfl rfl)
theorem dX11_apart_7 : decode cX11_apart 7 = .ok (.ifCond .lt 15, 3) := dk_155 0 15 (dk_at dksX11_apart_0 7 rfl rfl)
theorem dX11_apart_10 : decode cX11_apart 10 = .ok (.iload_n 1, 1) := dk_27 (dk_at dksX11_apart_0 10 rfl rfl)
theorem dX11_apart_11 : decode cX11_apart 11 = .ok (.aload_n 0, 1) := dk_42 (dk_at dksX11_apart_0 11 rfl rfl)
theorem dX11_apart_12 : decode cX11_apart 12 = .ok (.getfield 125, 3) := dk_180 0 125 (dk_at dksX11_apart_0 12 rfl rfl)
theorem dX11_apart_15 : decode cX11_apart 15 = .ok (.if_icmp .gt 7, 3) := dk_163 0 7 (dk_at dksX11_apart_0 15 rfl rfl)
theorem dX11_apart_18 : decode cX11_apart 18 = .ok (.iconst 1, 1) := dk_4 (dk_at dksX11_apart_0 18 rfl rfl)
theorem dX11_apart_19 : decode cX11_apart 19 = .ok (.goto 4, 3) := dk_167 0 4 (dk_at dksX11_apart_0 19 rfl rfl)
theorem dX11_apart_22 : decode cX11_apart 22 = .ok (.iconst 0, 1) := dk_3 (dk_at dksX11_apart_0 22 rfl rfl)
theorem dX11_apart_23 : decode cX11_apart 23 = .ok (.iconst 1, 1) := dk_4 (dk_at dksX11_apart_0 23 rfl rfl)
theorem dX11_apart_24 : decode cX11_apart 24 = .ok (.invokevirtual 250, 3) := dk_182 0 250 (dk_at dksX11_apart_1 0 rfl rfl)
theorem dX11_apart_27 : decode cX11_apart 27 = .ok (.ifCond .ne 5, 3) := dk_154 0 5 (dk_at dksX11_apart_1 3 rfl rfl)
theorem dX11_apart_30 : decode cX11_apart 30 = .ok (.iconst 0, 1) := dk_3 (dk_at dksX11_apart_1 6 rfl rfl)
theorem dX11_apart_31 : decode cX11_apart 31 = .ok (.ireturn, 1) := dk_172 (dk_at dksX11_apart_1 7 rfl rfl)
theorem dX11_apart_32 : decode cX11_apart 32 = .ok (.aload_n 0, 1) := dk_42 (dk_at dksX11_apart_1 8 rfl rfl)
theorem dX11_apart_33 : decode cX11_apart 33 = .ok (.iconst 0, 1) := dk_3 (dk_at dksX11_apart_1 9 rfl rfl)
theorem dX11_apart_34 : decode cX11_apart 34 = .ok (.putfield 125, 3) := dk_181 0 125 (dk_at dksX11_apart_1 10 rfl rfl)
theorem dX11_apart_37 : decode cX11_apart 37 = .ok (.aload_n 0, 1) := dk_42 (dk_at dksX11_apart_1 13 rfl rfl)
theorem dX11_apart_38 : decode cX11_apart 38 = .ok (.iconst 0, 1) := dk_3 (dk_at dksX11_apart_1 14 rfl rfl)
theorem dX11_apart_39 : decode cX11_apart 39 = .ok (.iload_n 1, 1) := dk_27 (dk_at dksX11_apart_1 15 rfl rfl)
theorem dX11_apart_40 : decode cX11_apart 40 = .ok (.invokevirtual 324, 3) := dk_182 1 68 (dk_at dksX11_apart_1 16 rfl rfl)
theorem dX11_apart_43 : decode cX11_apart 43 = .ok (.aload_n 0, 1) := dk_42 (dk_at dksX11_apart_1 19 rfl rfl)
theorem dX11_apart_44 : decode cX11_apart 44 = .ok (.getfield 321, 3) := dk_180 1 65 (dk_at dksX11_apart_1 20 rfl rfl)
theorem dX11_apart_47 : decode cX11_apart 47 = .ok (.ireturn, 1) := dk_172 (dk_at dksX11_apart_1 23 rfl rfl)
abbrev cX11_finds : ByteArray := prog_19_method_42_code
def yX11_finds : MethodName := ⟨RX11, "finds", "(II)V"⟩
def dkwX11_finds_5 : List UInt8 := [29, 79, 42, 89, 180, 1, 65, 4, 96, 181, 1, 65, 132, 3, 1, 167, 255, 129, 177]
abbrev dktX11_finds_5 : List UInt8 := dkwX11_finds_5 ++ []
def dkwX11_finds_4 : List UInt8 := [54, 4, 132, 5, 1, 167, 255, 213, 21, 4, 154, 0, 6, 167, 0, 23, 42, 180, 0, 80, 42, 180, 1, 65]
abbrev dktX11_finds_4 : List UInt8 := dkwX11_finds_4 ++ dktX11_finds_5
def dkwX11_finds_3 : List UInt8 := [180, 0, 77, 21, 5, 46, 42, 180, 0, 41, 27, 21, 5, 96, 46, 160, 0, 7, 4, 167, 0, 4, 3]
abbrev dktX11_finds_3 : List UInt8 := dkwX11_finds_3 ++ dktX11_finds_4
def dkwX11_finds_2 : List UInt8 := [167, 0, 4, 3, 54, 4, 3, 54, 5, 21, 4, 153, 0, 44, 21, 5, 42, 180, 1, 49, 162, 0, 35, 42]
abbrev dktX11_finds_2 : List UInt8 := dkwX11_finds_2 ++ dktX11_finds_3
def dkwX11_finds_1 : List UInt8 := [16, 15, 112, 182, 1, 61, 42, 180, 1, 49, 158, 0, 17, 42, 180, 1, 49, 28, 27, 100, 160, 0, 7, 4]
abbrev dktX11_finds_1 : List UInt8 := dkwX11_finds_1 ++ dktX11_finds_2
def dkwX11_finds_0 : List UInt8 := [42, 3, 181, 1, 65, 3, 62, 29, 16, 15, 42, 180, 1, 4, 104, 162, 0, 122, 42, 29, 16, 15, 108, 29]
abbrev dktX11_finds_0 : List UInt8 := dkwX11_finds_0 ++ dktX11_finds_1
theorem dksX11_finds_0 : cX11_finds.data.toList.drop 0 = dktX11_finds_0 := by decide +kernel
theorem dksX11_finds_1 : cX11_finds.data.toList.drop 24 = dktX11_finds_1 := dk_seg dksX11_finds_0 24 rfl rfl
theorem dksX11_finds_2 : cX11_finds.data.toList.drop 48 = dktX11_finds_2 := dk_seg dksX11_finds_1 24 rfl rfl
theorem dksX11_finds_3 : cX11_finds.data.toList.drop 72 = dktX11_finds_3 := dk_seg dksX11_finds_2 24 rfl rfl
theorem dksX11_finds_4 : cX11_finds.data.toList.drop 95 = dktX11_finds_4 := dk_seg dksX11_finds_3 23 rfl rfl
theorem dksX11_finds_5 : cX11_finds.data.toList.drop 119 = dktX11_finds_5 := dk_seg dksX11_finds_4 24 rfl rfl
theorem dX11_finds_0 : decode cX11_finds 0 = .ok (.aload_n 0, 1) := dk_42 (dk_at dksX11_finds_0 0 rfl rfl)
theorem dX11_finds_1 : decode cX11_finds 1 = .ok (.iconst 0, 1) := dk_3 (dk_at dksX11_finds_0 1 rfl rfl)
theorem dX11_finds_2 : decode cX11_finds 2 = .ok (.putfield 321, 3) := dk_181 1 65 (dk_at dksX11_finds_0 2 rfl rfl)
theorem dX11_finds_5 : decode cX11_finds 5 = .ok (.iconst 0, 1) := dk_3 (dk_at dksX11_finds_0 5 rfl rfl)
theorem dX11_finds_6 : decode cX11_finds 6 = .ok (.istore_n 3, 1) := dk_62 (dk_at dksX11_finds_0 6 rfl rfl)
theorem dX11_finds_7 : decode cX11_finds 7 = .ok (.iload_n 3, 1) := dk_29 (dk_at dksX11_finds_0 7 rfl rfl)
theorem dX11_finds_8 : decode cX11_finds 8 = .ok (.bipush 15, 2) := dk_16 15 (dk_at dksX11_finds_0 8 rfl rfl)
theorem dX11_finds_10 : decode cX11_finds 10 = .ok (.aload_n 0, 1) := dk_42 (dk_at dksX11_finds_0 10 rfl rfl)
theorem dX11_finds_11 : decode cX11_finds 11 = .ok (.getfield 260, 3) := dk_180 1 4 (dk_at dksX11_finds_0 11 rfl rfl)
theorem dX11_finds_14 : decode cX11_finds 14 = .ok (.imul, 1) := dk_104 (dk_at dksX11_finds_0 14 rfl rfl)
theorem dX11_finds_15 : decode cX11_finds 15 = .ok (.if_icmp .ge 122, 3) := dk_162 0 122 (dk_at dksX11_finds_0 15 rfl rfl)
theorem dX11_finds_18 : decode cX11_finds 18 = .ok (.aload_n 0, 1) := dk_42 (dk_at dksX11_finds_0 18 rfl rfl)
theorem dX11_finds_19 : decode cX11_finds 19 = .ok (.iload_n 3, 1) := dk_29 (dk_at dksX11_finds_0 19 rfl rfl)
theorem dX11_finds_20 : decode cX11_finds 20 = .ok (.bipush 15, 2) := dk_16 15 (dk_at dksX11_finds_0 20 rfl rfl)
theorem dX11_finds_22 : decode cX11_finds 22 = .ok (.idiv, 1) := dk_108 (dk_at dksX11_finds_0 22 rfl rfl)
theorem dX11_finds_23 : decode cX11_finds 23 = .ok (.iload_n 3, 1) := dk_29 (dk_at dksX11_finds_0 23 rfl rfl)
theorem dX11_finds_24 : decode cX11_finds 24 = .ok (.bipush 15, 2) := dk_16 15 (dk_at dksX11_finds_1 0 rfl rfl)
theorem dX11_finds_26 : decode cX11_finds 26 = .ok (.irem, 1) := dk_112 (dk_at dksX11_finds_1 2 rfl rfl)
theorem dX11_finds_27 : decode cX11_finds 27 = .ok (.invokevirtual 317, 3) := dk_182 1 61 (dk_at dksX11_finds_1 3 rfl rfl)
theorem dX11_finds_30 : decode cX11_finds 30 = .ok (.aload_n 0, 1) := dk_42 (dk_at dksX11_finds_1 6 rfl rfl)
theorem dX11_finds_31 : decode cX11_finds 31 = .ok (.getfield 305, 3) := dk_180 1 49 (dk_at dksX11_finds_1 7 rfl rfl)
theorem dX11_finds_34 : decode cX11_finds 34 = .ok (.ifCond .le 17, 3) := dk_158 0 17 (dk_at dksX11_finds_1 10 rfl rfl)
theorem dX11_finds_37 : decode cX11_finds 37 = .ok (.aload_n 0, 1) := dk_42 (dk_at dksX11_finds_1 13 rfl rfl)
theorem dX11_finds_38 : decode cX11_finds 38 = .ok (.getfield 305, 3) := dk_180 1 49 (dk_at dksX11_finds_1 14 rfl rfl)
theorem dX11_finds_41 : decode cX11_finds 41 = .ok (.iload_n 2, 1) := dk_28 (dk_at dksX11_finds_1 17 rfl rfl)
theorem dX11_finds_42 : decode cX11_finds 42 = .ok (.iload_n 1, 1) := dk_27 (dk_at dksX11_finds_1 18 rfl rfl)
theorem dX11_finds_43 : decode cX11_finds 43 = .ok (.isub, 1) := dk_100 (dk_at dksX11_finds_1 19 rfl rfl)
theorem dX11_finds_44 : decode cX11_finds 44 = .ok (.if_icmp .ne 7, 3) := dk_160 0 7 (dk_at dksX11_finds_1 20 rfl rfl)
theorem dX11_finds_47 : decode cX11_finds 47 = .ok (.iconst 1, 1) := dk_4 (dk_at dksX11_finds_1 23 rfl rfl)
theorem dX11_finds_48 : decode cX11_finds 48 = .ok (.goto 4, 3) := dk_167 0 4 (dk_at dksX11_finds_2 0 rfl rfl)
theorem dX11_finds_51 : decode cX11_finds 51 = .ok (.iconst 0, 1) := dk_3 (dk_at dksX11_finds_2 3 rfl rfl)
theorem dX11_finds_52 : decode cX11_finds 52 = .ok (.istore 4, 2) := dk_54 4 (dk_at dksX11_finds_2 4 rfl rfl)
theorem dX11_finds_54 : decode cX11_finds 54 = .ok (.iconst 0, 1) := dk_3 (dk_at dksX11_finds_2 6 rfl rfl)
theorem dX11_finds_55 : decode cX11_finds 55 = .ok (.istore 5, 2) := dk_54 5 (dk_at dksX11_finds_2 7 rfl rfl)
theorem dX11_finds_57 : decode cX11_finds 57 = .ok (.iload 4, 2) := dk_21 4 (dk_at dksX11_finds_2 9 rfl rfl)
theorem dX11_finds_59 : decode cX11_finds 59 = .ok (.ifCond .eq 44, 3) := dk_153 0 44 (dk_at dksX11_finds_2 11 rfl rfl)
theorem dX11_finds_62 : decode cX11_finds 62 = .ok (.iload 5, 2) := dk_21 5 (dk_at dksX11_finds_2 14 rfl rfl)
theorem dX11_finds_64 : decode cX11_finds 64 = .ok (.aload_n 0, 1) := dk_42 (dk_at dksX11_finds_2 16 rfl rfl)
theorem dX11_finds_65 : decode cX11_finds 65 = .ok (.getfield 305, 3) := dk_180 1 49 (dk_at dksX11_finds_2 17 rfl rfl)
theorem dX11_finds_68 : decode cX11_finds 68 = .ok (.if_icmp .ge 35, 3) := dk_162 0 35 (dk_at dksX11_finds_2 20 rfl rfl)
theorem dX11_finds_71 : decode cX11_finds 71 = .ok (.aload_n 0, 1) := dk_42 (dk_at dksX11_finds_2 23 rfl rfl)
theorem dX11_finds_72 : decode cX11_finds 72 = .ok (.getfield 77, 3) := dk_180 0 77 (dk_at dksX11_finds_3 0 rfl rfl)
theorem dX11_finds_75 : decode cX11_finds 75 = .ok (.iload 5, 2) := dk_21 5 (dk_at dksX11_finds_3 3 rfl rfl)
theorem dX11_finds_77 : decode cX11_finds 77 = .ok (.iaload, 1) := dk_46 (dk_at dksX11_finds_3 5 rfl rfl)
theorem dX11_finds_78 : decode cX11_finds 78 = .ok (.aload_n 0, 1) := dk_42 (dk_at dksX11_finds_3 6 rfl rfl)
theorem dX11_finds_79 : decode cX11_finds 79 = .ok (.getfield 41, 3) := dk_180 0 41 (dk_at dksX11_finds_3 7 rfl rfl)
theorem dX11_finds_82 : decode cX11_finds 82 = .ok (.iload_n 1, 1) := dk_27 (dk_at dksX11_finds_3 10 rfl rfl)
theorem dX11_finds_83 : decode cX11_finds 83 = .ok (.iload 5, 2) := dk_21 5 (dk_at dksX11_finds_3 11 rfl rfl)
theorem dX11_finds_85 : decode cX11_finds 85 = .ok (.iadd, 1) := dk_96 (dk_at dksX11_finds_3 13 rfl rfl)
theorem dX11_finds_86 : decode cX11_finds 86 = .ok (.iaload, 1) := dk_46 (dk_at dksX11_finds_3 14 rfl rfl)
theorem dX11_finds_87 : decode cX11_finds 87 = .ok (.if_icmp .ne 7, 3) := dk_160 0 7 (dk_at dksX11_finds_3 15 rfl rfl)
theorem dX11_finds_90 : decode cX11_finds 90 = .ok (.iconst 1, 1) := dk_4 (dk_at dksX11_finds_3 18 rfl rfl)
theorem dX11_finds_91 : decode cX11_finds 91 = .ok (.goto 4, 3) := dk_167 0 4 (dk_at dksX11_finds_3 19 rfl rfl)
theorem dX11_finds_94 : decode cX11_finds 94 = .ok (.iconst 0, 1) := dk_3 (dk_at dksX11_finds_3 22 rfl rfl)
theorem dX11_finds_95 : decode cX11_finds 95 = .ok (.istore 4, 2) := dk_54 4 (dk_at dksX11_finds_4 0 rfl rfl)
theorem dX11_finds_97 : decode cX11_finds 97 = .ok (.iinc 5 1, 3) := dk_132 5 1 (dk_at dksX11_finds_4 2 rfl rfl)
theorem dX11_finds_100 : decode cX11_finds 100 = .ok (.goto (-43), 3) := dk_167 255 213 (dk_at dksX11_finds_4 5 rfl rfl)
theorem dX11_finds_103 : decode cX11_finds 103 = .ok (.iload 4, 2) := dk_21 4 (dk_at dksX11_finds_4 8 rfl rfl)
theorem dX11_finds_105 : decode cX11_finds 105 = .ok (.ifCond .ne 6, 3) := dk_154 0 6 (dk_at dksX11_finds_4 10 rfl rfl)
theorem dX11_finds_108 : decode cX11_finds 108 = .ok (.goto 23, 3) := dk_167 0 23 (dk_at dksX11_finds_4 13 rfl rfl)
theorem dX11_finds_111 : decode cX11_finds 111 = .ok (.aload_n 0, 1) := dk_42 (dk_at dksX11_finds_4 16 rfl rfl)
theorem dX11_finds_112 : decode cX11_finds 112 = .ok (.getfield 80, 3) := dk_180 0 80 (dk_at dksX11_finds_4 17 rfl rfl)
theorem dX11_finds_115 : decode cX11_finds 115 = .ok (.aload_n 0, 1) := dk_42 (dk_at dksX11_finds_4 20 rfl rfl)
theorem dX11_finds_116 : decode cX11_finds 116 = .ok (.getfield 321, 3) := dk_180 1 65 (dk_at dksX11_finds_4 21 rfl rfl)
theorem dX11_finds_119 : decode cX11_finds 119 = .ok (.iload_n 3, 1) := dk_29 (dk_at dksX11_finds_5 0 rfl rfl)
theorem dX11_finds_120 : decode cX11_finds 120 = .ok (.iastore, 1) := dk_79 (dk_at dksX11_finds_5 1 rfl rfl)
theorem dX11_finds_121 : decode cX11_finds 121 = .ok (.aload_n 0, 1) := dk_42 (dk_at dksX11_finds_5 2 rfl rfl)
theorem dX11_finds_122 : decode cX11_finds 122 = .ok (.dup, 1) := dk_89 (dk_at dksX11_finds_5 3 rfl rfl)
theorem dX11_finds_123 : decode cX11_finds 123 = .ok (.getfield 321, 3) := dk_180 1 65 (dk_at dksX11_finds_5 4 rfl rfl)
theorem dX11_finds_126 : decode cX11_finds 126 = .ok (.iconst 1, 1) := dk_4 (dk_at dksX11_finds_5 7 rfl rfl)
theorem dX11_finds_127 : decode cX11_finds 127 = .ok (.iadd, 1) := dk_96 (dk_at dksX11_finds_5 8 rfl rfl)
theorem dX11_finds_128 : decode cX11_finds 128 = .ok (.putfield 321, 3) := dk_181 1 65 (dk_at dksX11_finds_5 9 rfl rfl)
theorem dX11_finds_131 : decode cX11_finds 131 = .ok (.iinc 3 1, 3) := dk_132 3 1 (dk_at dksX11_finds_5 12 rfl rfl)
theorem dX11_finds_134 : decode cX11_finds 134 = .ok (.goto (-127), 3) := dk_167 255 129 (dk_at dksX11_finds_5 15 rfl rfl)
theorem dX11_finds_137 : decode cX11_finds 137 = .ok (.return_, 1) := dk_177 (dk_at dksX11_finds_5 18 rfl rfl)
abbrev cX11_way : ByteArray := prog_19_method_44_code
def yX11_way : MethodName := ⟨RX11, "way", "(I)I"⟩
def dkwX11_way_1 : List UInt8 := [182, 0, 250, 153, 0, 12, 42, 180, 0, 80, 27, 46, 167, 0, 4, 3, 172]
abbrev dktX11_way_1 : List UInt8 := dkwX11_way_1 ++ []
def dkwX11_way_0 : List UInt8 := [42, 3, 181, 0, 122, 42, 27, 155, 0, 15, 27, 42, 180, 1, 65, 162, 0, 7, 4, 167, 0, 4, 3, 4]
abbrev dktX11_way_0 : List UInt8 := dkwX11_way_0 ++ dktX11_way_1
theorem dksX11_way_0 : cX11_way.data.toList.drop 0 = dktX11_way_0 := by decide +kernel
theorem dksX11_way_1 : cX11_way.data.toList.drop 24 = dktX11_way_1 := dk_seg dksX11_way_0 24 rfl rfl
theorem dX11_way_0 : decode cX11_way 0 = .ok (.aload_n 0, 1) := dk_42 (dk_at dksX11_way_0 0 rfl rfl)
theorem dX11_way_1 : decode cX11_way 1 = .ok (.iconst 0, 1) := dk_3 (dk_at dksX11_way_0 1 rfl rfl)
theorem dX11_way_2 : decode cX11_way 2 = .ok (.putfield 122, 3) := dk_181 0 122 (dk_at dksX11_way_0 2 rfl rfl)
theorem dX11_way_5 : decode cX11_way 5 = .ok (.aload_n 0, 1) := dk_42 (dk_at dksX11_way_0 5 rfl rfl)
theorem dX11_way_6 : decode cX11_way 6 = .ok (.iload_n 1, 1) := dk_27 (dk_at dksX11_way_0 6 rfl rfl)
theorem dX11_way_7 : decode cX11_way 7 = .ok (.ifCond .lt 15, 3) := dk_155 0 15 (dk_at dksX11_way_0 7 rfl rfl)
theorem dX11_way_10 : decode cX11_way 10 = .ok (.iload_n 1, 1) := dk_27 (dk_at dksX11_way_0 10 rfl rfl)
theorem dX11_way_11 : decode cX11_way 11 = .ok (.aload_n 0, 1) := dk_42 (dk_at dksX11_way_0 11 rfl rfl)
theorem dX11_way_12 : decode cX11_way 12 = .ok (.getfield 321, 3) := dk_180 1 65 (dk_at dksX11_way_0 12 rfl rfl)
theorem dX11_way_15 : decode cX11_way 15 = .ok (.if_icmp .ge 7, 3) := dk_162 0 7 (dk_at dksX11_way_0 15 rfl rfl)
theorem dX11_way_18 : decode cX11_way 18 = .ok (.iconst 1, 1) := dk_4 (dk_at dksX11_way_0 18 rfl rfl)
theorem dX11_way_19 : decode cX11_way 19 = .ok (.goto 4, 3) := dk_167 0 4 (dk_at dksX11_way_0 19 rfl rfl)
theorem dX11_way_22 : decode cX11_way 22 = .ok (.iconst 0, 1) := dk_3 (dk_at dksX11_way_0 22 rfl rfl)
theorem dX11_way_23 : decode cX11_way 23 = .ok (.iconst 1, 1) := dk_4 (dk_at dksX11_way_0 23 rfl rfl)
theorem dX11_way_24 : decode cX11_way 24 = .ok (.invokevirtual 250, 3) := dk_182 0 250 (dk_at dksX11_way_1 0 rfl rfl)
theorem dX11_way_27 : decode cX11_way 27 = .ok (.ifCond .eq 12, 3) := dk_153 0 12 (dk_at dksX11_way_1 3 rfl rfl)
theorem dX11_way_30 : decode cX11_way 30 = .ok (.aload_n 0, 1) := dk_42 (dk_at dksX11_way_1 6 rfl rfl)
theorem dX11_way_31 : decode cX11_way 31 = .ok (.getfield 80, 3) := dk_180 0 80 (dk_at dksX11_way_1 7 rfl rfl)
theorem dX11_way_34 : decode cX11_way 34 = .ok (.iload_n 1, 1) := dk_27 (dk_at dksX11_way_1 10 rfl rfl)
theorem dX11_way_35 : decode cX11_way 35 = .ok (.iaload, 1) := dk_46 (dk_at dksX11_way_1 11 rfl rfl)
theorem dX11_way_36 : decode cX11_way 36 = .ok (.goto 4, 3) := dk_167 0 4 (dk_at dksX11_way_1 12 rfl rfl)
theorem dX11_way_39 : decode cX11_way 39 = .ok (.iconst 0, 1) := dk_3 (dk_at dksX11_way_1 15 rfl rfl)
theorem dX11_way_40 : decode cX11_way 40 = .ok (.ireturn, 1) := dk_172 (dk_at dksX11_way_1 16 rfl rfl)
abbrev cX11_say : ByteArray := prog_19_method_48_code
def yX11_say : MethodName := ⟨RX11, "say", "(IIIIZ)I"⟩
def dkwX11_say_2 : List UInt8 := [172, 42, 27, 28, 29, 21, 4, 21, 5, 153, 0, 7, 4, 167, 0, 4, 3, 182, 1, 74, 172]
abbrev dktX11_say_2 : List UInt8 := dkwX11_say_2 ++ []
def dkwX11_say_1 : List UInt8 := [42, 180, 1, 23, 16, 20, 159, 0, 13, 21, 4, 3, 7, 184, 1, 35, 154, 0, 9, 42, 4, 182, 1, 71]
abbrev dktX11_say_1 : List UInt8 := dkwX11_say_1 ++ dktX11_say_2
def dkwX11_say_0 : List UInt8 := [42, 3, 181, 0, 122, 42, 27, 28, 182, 1, 42, 153, 0, 11, 42, 29, 182, 1, 46, 154, 0, 5, 3, 172]
abbrev dktX11_say_0 : List UInt8 := dkwX11_say_0 ++ dktX11_say_1
theorem dksX11_say_0 : cX11_say.data.toList.drop 0 = dktX11_say_0 := by decide +kernel
theorem dksX11_say_1 : cX11_say.data.toList.drop 24 = dktX11_say_1 := dk_seg dksX11_say_0 24 rfl rfl
theorem dksX11_say_2 : cX11_say.data.toList.drop 48 = dktX11_say_2 := dk_seg dksX11_say_1 24 rfl rfl
theorem dX11_say_0 : decode cX11_say 0 = .ok (.aload_n 0, 1) := dk_42 (dk_at dksX11_say_0 0 rfl rfl)
theorem dX11_say_1 : decode cX11_say 1 = .ok (.iconst 0, 1) := dk_3 (dk_at dksX11_say_0 1 rfl rfl)
theorem dX11_say_2 : decode cX11_say 2 = .ok (.putfield 122, 3) := dk_181 0 122 (dk_at dksX11_say_0 2 rfl rfl)
theorem dX11_say_5 : decode cX11_say 5 = .ok (.aload_n 0, 1) := dk_42 (dk_at dksX11_say_0 5 rfl rfl)
theorem dX11_say_6 : decode cX11_say 6 = .ok (.iload_n 1, 1) := dk_27 (dk_at dksX11_say_0 6 rfl rfl)
theorem dX11_say_7 : decode cX11_say 7 = .ok (.iload_n 2, 1) := dk_28 (dk_at dksX11_say_0 7 rfl rfl)
theorem dX11_say_8 : decode cX11_say 8 = .ok (.invokevirtual 298, 3) := dk_182 1 42 (dk_at dksX11_say_0 8 rfl rfl)
theorem dX11_say_11 : decode cX11_say 11 = .ok (.ifCond .eq 11, 3) := dk_153 0 11 (dk_at dksX11_say_0 11 rfl rfl)
theorem dX11_say_14 : decode cX11_say 14 = .ok (.aload_n 0, 1) := dk_42 (dk_at dksX11_say_0 14 rfl rfl)
theorem dX11_say_15 : decode cX11_say 15 = .ok (.iload_n 3, 1) := dk_29 (dk_at dksX11_say_0 15 rfl rfl)
theorem dX11_say_16 : decode cX11_say 16 = .ok (.invokevirtual 302, 3) := dk_182 1 46 (dk_at dksX11_say_0 16 rfl rfl)
theorem dX11_say_19 : decode cX11_say 19 = .ok (.ifCond .ne 5, 3) := dk_154 0 5 (dk_at dksX11_say_0 19 rfl rfl)
theorem dX11_say_22 : decode cX11_say 22 = .ok (.iconst 0, 1) := dk_3 (dk_at dksX11_say_0 22 rfl rfl)
theorem dX11_say_23 : decode cX11_say 23 = .ok (.ireturn, 1) := dk_172 (dk_at dksX11_say_0 23 rfl rfl)
theorem dX11_say_24 : decode cX11_say 24 = .ok (.aload_n 0, 1) := dk_42 (dk_at dksX11_say_1 0 rfl rfl)
theorem dX11_say_25 : decode cX11_say 25 = .ok (.getfield 279, 3) := dk_180 1 23 (dk_at dksX11_say_1 1 rfl rfl)
theorem dX11_say_28 : decode cX11_say 28 = .ok (.bipush 20, 2) := dk_16 20 (dk_at dksX11_say_1 4 rfl rfl)
theorem dX11_say_30 : decode cX11_say 30 = .ok (.if_icmp .eq 13, 3) := dk_159 0 13 (dk_at dksX11_say_1 6 rfl rfl)
theorem dX11_say_33 : decode cX11_say 33 = .ok (.iload 4, 2) := dk_21 4 (dk_at dksX11_say_1 9 rfl rfl)
theorem dX11_say_35 : decode cX11_say 35 = .ok (.iconst 0, 1) := dk_3 (dk_at dksX11_say_1 11 rfl rfl)
theorem dX11_say_36 : decode cX11_say 36 = .ok (.iconst 4, 1) := dk_7 (dk_at dksX11_say_1 12 rfl rfl)
theorem dX11_say_37 : decode cX11_say 37 = .ok (.invokestatic 291, 3) := dk_184 1 35 (dk_at dksX11_say_1 13 rfl rfl)
theorem dX11_say_40 : decode cX11_say 40 = .ok (.ifCond .ne 9, 3) := dk_154 0 9 (dk_at dksX11_say_1 16 rfl rfl)
theorem dX11_say_43 : decode cX11_say 43 = .ok (.aload_n 0, 1) := dk_42 (dk_at dksX11_say_1 19 rfl rfl)
theorem dX11_say_44 : decode cX11_say 44 = .ok (.iconst 1, 1) := dk_4 (dk_at dksX11_say_1 20 rfl rfl)
theorem dX11_say_45 : decode cX11_say 45 = .ok (.invokevirtual 327, 3) := dk_182 1 71 (dk_at dksX11_say_1 21 rfl rfl)
theorem dX11_say_48 : decode cX11_say 48 = .ok (.ireturn, 1) := dk_172 (dk_at dksX11_say_2 0 rfl rfl)
theorem dX11_say_49 : decode cX11_say 49 = .ok (.aload_n 0, 1) := dk_42 (dk_at dksX11_say_2 1 rfl rfl)
theorem dX11_say_50 : decode cX11_say 50 = .ok (.iload_n 1, 1) := dk_27 (dk_at dksX11_say_2 2 rfl rfl)
theorem dX11_say_51 : decode cX11_say 51 = .ok (.iload_n 2, 1) := dk_28 (dk_at dksX11_say_2 3 rfl rfl)
theorem dX11_say_52 : decode cX11_say 52 = .ok (.iload_n 3, 1) := dk_29 (dk_at dksX11_say_2 4 rfl rfl)
theorem dX11_say_53 : decode cX11_say 53 = .ok (.iload 4, 2) := dk_21 4 (dk_at dksX11_say_2 5 rfl rfl)
theorem dX11_say_55 : decode cX11_say 55 = .ok (.iload 5, 2) := dk_21 5 (dk_at dksX11_say_2 7 rfl rfl)
theorem dX11_say_57 : decode cX11_say 57 = .ok (.ifCond .eq 7, 3) := dk_153 0 7 (dk_at dksX11_say_2 9 rfl rfl)
theorem dX11_say_60 : decode cX11_say 60 = .ok (.iconst 1, 1) := dk_4 (dk_at dksX11_say_2 12 rfl rfl)
theorem dX11_say_61 : decode cX11_say 61 = .ok (.goto 4, 3) := dk_167 0 4 (dk_at dksX11_say_2 13 rfl rfl)
theorem dX11_say_64 : decode cX11_say 64 = .ok (.iconst 0, 1) := dk_3 (dk_at dksX11_say_2 16 rfl rfl)
theorem dX11_say_65 : decode cX11_say 65 = .ok (.invokevirtual 330, 3) := dk_182 1 74 (dk_at dksX11_say_2 17 rfl rfl)
theorem dX11_say_68 : decode cX11_say 68 = .ok (.ireturn, 1) := dk_172 (dk_at dksX11_say_2 20 rfl rfl)
abbrev cX11_refuses : ByteArray := prog_19_method_47_code
def yX11_refuses : MethodName := ⟨RX11, "refuses", "(I)I"⟩
def dkwX11_refuses_0 : List UInt8 := [42, 180, 0, 47, 27, 92, 46, 4, 96, 79, 2, 172]
abbrev dktX11_refuses_0 : List UInt8 := dkwX11_refuses_0 ++ []
theorem dksX11_refuses_0 : cX11_refuses.data.toList.drop 0 = dktX11_refuses_0 := by decide +kernel
theorem dX11_refuses_0 : decode cX11_refuses 0 = .ok (.aload_n 0, 1) := dk_42 (dk_at dksX11_refuses_0 0 rfl rfl)
theorem dX11_refuses_1 : decode cX11_refuses 1 = .ok (.getfield 47, 3) := dk_180 0 47 (dk_at dksX11_refuses_0 1 rfl rfl)
theorem dX11_refuses_4 : decode cX11_refuses 4 = .ok (.iload_n 1, 1) := dk_27 (dk_at dksX11_refuses_0 4 rfl rfl)
theorem dX11_refuses_5 : decode cX11_refuses 5 = .ok (.dup2, 1) := dk_92 (dk_at dksX11_refuses_0 5 rfl rfl)
theorem dX11_refuses_6 : decode cX11_refuses 6 = .ok (.iaload, 1) := dk_46 (dk_at dksX11_refuses_0 6 rfl rfl)
theorem dX11_refuses_7 : decode cX11_refuses 7 = .ok (.iconst 1, 1) := dk_4 (dk_at dksX11_refuses_0 7 rfl rfl)
theorem dX11_refuses_8 : decode cX11_refuses 8 = .ok (.iadd, 1) := dk_96 (dk_at dksX11_refuses_0 8 rfl rfl)
theorem dX11_refuses_9 : decode cX11_refuses 9 = .ok (.iastore, 1) := dk_79 (dk_at dksX11_refuses_0 9 rfl rfl)
theorem dX11_refuses_10 : decode cX11_refuses 10 = .ok (.iconst (-1), 1) := dk_2 (dk_at dksX11_refuses_0 10 rfl rfl)
theorem dX11_refuses_11 : decode cX11_refuses 11 = .ok (.ireturn, 1) := dk_172 (dk_at dksX11_refuses_0 11 rfl rfl)
abbrev cX11_adds5 : ByteArray := prog_19_method_46_code
def yX11_adds5 : MethodName := ⟨RX11, "adds5", "(IIIII)I"⟩
def dkwX11_adds5_3 : List UInt8 := [172]
abbrev dktX11_adds5_3 : List UInt8 := dkwX11_adds5_3 ++ []
def dkwX11_adds5_2 : List UInt8 := [180, 0, 83, 21, 6, 7, 96, 21, 5, 79, 42, 89, 180, 1, 23, 4, 96, 181, 1, 23, 42, 180, 1, 23]
abbrev dktX11_adds5_2 : List UInt8 := dkwX11_adds5_2 ++ dktX11_adds5_3
def dkwX11_adds5_1 : List UInt8 := [28, 79, 42, 180, 0, 83, 21, 6, 5, 96, 29, 79, 42, 180, 0, 83, 21, 6, 6, 96, 21, 4, 79, 42]
abbrev dktX11_adds5_1 : List UInt8 := dkwX11_adds5_1 ++ dktX11_adds5_2
def dkwX11_adds5_0 : List UInt8 := [8, 42, 180, 1, 23, 104, 54, 6, 42, 180, 0, 83, 21, 6, 27, 79, 42, 180, 0, 83, 21, 6, 4, 96]
abbrev dktX11_adds5_0 : List UInt8 := dkwX11_adds5_0 ++ dktX11_adds5_1
theorem dksX11_adds5_0 : cX11_adds5.data.toList.drop 0 = dktX11_adds5_0 := by decide +kernel
theorem dksX11_adds5_1 : cX11_adds5.data.toList.drop 24 = dktX11_adds5_1 := dk_seg dksX11_adds5_0 24 rfl rfl
theorem dksX11_adds5_2 : cX11_adds5.data.toList.drop 48 = dktX11_adds5_2 := dk_seg dksX11_adds5_1 24 rfl rfl
theorem dksX11_adds5_3 : cX11_adds5.data.toList.drop 72 = dktX11_adds5_3 := dk_seg dksX11_adds5_2 24 rfl rfl
theorem dX11_adds5_0 : decode cX11_adds5 0 = .ok (.iconst 5, 1) := dk_8 (dk_at dksX11_adds5_0 0 rfl rfl)
theorem dX11_adds5_1 : decode cX11_adds5 1 = .ok (.aload_n 0, 1) := dk_42 (dk_at dksX11_adds5_0 1 rfl rfl)
theorem dX11_adds5_2 : decode cX11_adds5 2 = .ok (.getfield 279, 3) := dk_180 1 23 (dk_at dksX11_adds5_0 2 rfl rfl)
theorem dX11_adds5_5 : decode cX11_adds5 5 = .ok (.imul, 1) := dk_104 (dk_at dksX11_adds5_0 5 rfl rfl)
theorem dX11_adds5_6 : decode cX11_adds5 6 = .ok (.istore 6, 2) := dk_54 6 (dk_at dksX11_adds5_0 6 rfl rfl)
theorem dX11_adds5_8 : decode cX11_adds5 8 = .ok (.aload_n 0, 1) := dk_42 (dk_at dksX11_adds5_0 8 rfl rfl)
theorem dX11_adds5_9 : decode cX11_adds5 9 = .ok (.getfield 83, 3) := dk_180 0 83 (dk_at dksX11_adds5_0 9 rfl rfl)
theorem dX11_adds5_12 : decode cX11_adds5 12 = .ok (.iload 6, 2) := dk_21 6 (dk_at dksX11_adds5_0 12 rfl rfl)
theorem dX11_adds5_14 : decode cX11_adds5 14 = .ok (.iload_n 1, 1) := dk_27 (dk_at dksX11_adds5_0 14 rfl rfl)
theorem dX11_adds5_15 : decode cX11_adds5 15 = .ok (.iastore, 1) := dk_79 (dk_at dksX11_adds5_0 15 rfl rfl)
theorem dX11_adds5_16 : decode cX11_adds5 16 = .ok (.aload_n 0, 1) := dk_42 (dk_at dksX11_adds5_0 16 rfl rfl)
theorem dX11_adds5_17 : decode cX11_adds5 17 = .ok (.getfield 83, 3) := dk_180 0 83 (dk_at dksX11_adds5_0 17 rfl rfl)
theorem dX11_adds5_20 : decode cX11_adds5 20 = .ok (.iload 6, 2) := dk_21 6 (dk_at dksX11_adds5_0 20 rfl rfl)
theorem dX11_adds5_22 : decode cX11_adds5 22 = .ok (.iconst 1, 1) := dk_4 (dk_at dksX11_adds5_0 22 rfl rfl)
theorem dX11_adds5_23 : decode cX11_adds5 23 = .ok (.iadd, 1) := dk_96 (dk_at dksX11_adds5_0 23 rfl rfl)
theorem dX11_adds5_24 : decode cX11_adds5 24 = .ok (.iload_n 2, 1) := dk_28 (dk_at dksX11_adds5_1 0 rfl rfl)
theorem dX11_adds5_25 : decode cX11_adds5 25 = .ok (.iastore, 1) := dk_79 (dk_at dksX11_adds5_1 1 rfl rfl)
theorem dX11_adds5_26 : decode cX11_adds5 26 = .ok (.aload_n 0, 1) := dk_42 (dk_at dksX11_adds5_1 2 rfl rfl)
theorem dX11_adds5_27 : decode cX11_adds5 27 = .ok (.getfield 83, 3) := dk_180 0 83 (dk_at dksX11_adds5_1 3 rfl rfl)
theorem dX11_adds5_30 : decode cX11_adds5 30 = .ok (.iload 6, 2) := dk_21 6 (dk_at dksX11_adds5_1 6 rfl rfl)
theorem dX11_adds5_32 : decode cX11_adds5 32 = .ok (.iconst 2, 1) := dk_5 (dk_at dksX11_adds5_1 8 rfl rfl)
theorem dX11_adds5_33 : decode cX11_adds5 33 = .ok (.iadd, 1) := dk_96 (dk_at dksX11_adds5_1 9 rfl rfl)
theorem dX11_adds5_34 : decode cX11_adds5 34 = .ok (.iload_n 3, 1) := dk_29 (dk_at dksX11_adds5_1 10 rfl rfl)
theorem dX11_adds5_35 : decode cX11_adds5 35 = .ok (.iastore, 1) := dk_79 (dk_at dksX11_adds5_1 11 rfl rfl)
theorem dX11_adds5_36 : decode cX11_adds5 36 = .ok (.aload_n 0, 1) := dk_42 (dk_at dksX11_adds5_1 12 rfl rfl)
theorem dX11_adds5_37 : decode cX11_adds5 37 = .ok (.getfield 83, 3) := dk_180 0 83 (dk_at dksX11_adds5_1 13 rfl rfl)
theorem dX11_adds5_40 : decode cX11_adds5 40 = .ok (.iload 6, 2) := dk_21 6 (dk_at dksX11_adds5_1 16 rfl rfl)
theorem dX11_adds5_42 : decode cX11_adds5 42 = .ok (.iconst 3, 1) := dk_6 (dk_at dksX11_adds5_1 18 rfl rfl)
theorem dX11_adds5_43 : decode cX11_adds5 43 = .ok (.iadd, 1) := dk_96 (dk_at dksX11_adds5_1 19 rfl rfl)
theorem dX11_adds5_44 : decode cX11_adds5 44 = .ok (.iload 4, 2) := dk_21 4 (dk_at dksX11_adds5_1 20 rfl rfl)
theorem dX11_adds5_46 : decode cX11_adds5 46 = .ok (.iastore, 1) := dk_79 (dk_at dksX11_adds5_1 22 rfl rfl)
theorem dX11_adds5_47 : decode cX11_adds5 47 = .ok (.aload_n 0, 1) := dk_42 (dk_at dksX11_adds5_1 23 rfl rfl)
theorem dX11_adds5_48 : decode cX11_adds5 48 = .ok (.getfield 83, 3) := dk_180 0 83 (dk_at dksX11_adds5_2 0 rfl rfl)
theorem dX11_adds5_51 : decode cX11_adds5 51 = .ok (.iload 6, 2) := dk_21 6 (dk_at dksX11_adds5_2 3 rfl rfl)
theorem dX11_adds5_53 : decode cX11_adds5 53 = .ok (.iconst 4, 1) := dk_7 (dk_at dksX11_adds5_2 5 rfl rfl)
theorem dX11_adds5_54 : decode cX11_adds5 54 = .ok (.iadd, 1) := dk_96 (dk_at dksX11_adds5_2 6 rfl rfl)
theorem dX11_adds5_55 : decode cX11_adds5 55 = .ok (.iload 5, 2) := dk_21 5 (dk_at dksX11_adds5_2 7 rfl rfl)
theorem dX11_adds5_57 : decode cX11_adds5 57 = .ok (.iastore, 1) := dk_79 (dk_at dksX11_adds5_2 9 rfl rfl)
theorem dX11_adds5_58 : decode cX11_adds5 58 = .ok (.aload_n 0, 1) := dk_42 (dk_at dksX11_adds5_2 10 rfl rfl)
theorem dX11_adds5_59 : decode cX11_adds5 59 = .ok (.dup, 1) := dk_89 (dk_at dksX11_adds5_2 11 rfl rfl)
theorem dX11_adds5_60 : decode cX11_adds5 60 = .ok (.getfield 279, 3) := dk_180 1 23 (dk_at dksX11_adds5_2 12 rfl rfl)
theorem dX11_adds5_63 : decode cX11_adds5 63 = .ok (.iconst 1, 1) := dk_4 (dk_at dksX11_adds5_2 15 rfl rfl)
theorem dX11_adds5_64 : decode cX11_adds5 64 = .ok (.iadd, 1) := dk_96 (dk_at dksX11_adds5_2 16 rfl rfl)
theorem dX11_adds5_65 : decode cX11_adds5 65 = .ok (.putfield 279, 3) := dk_181 1 23 (dk_at dksX11_adds5_2 17 rfl rfl)
theorem dX11_adds5_68 : decode cX11_adds5 68 = .ok (.aload_n 0, 1) := dk_42 (dk_at dksX11_adds5_2 20 rfl rfl)
theorem dX11_adds5_69 : decode cX11_adds5 69 = .ok (.getfield 279, 3) := dk_180 1 23 (dk_at dksX11_adds5_2 21 rfl rfl)
theorem dX11_adds5_72 : decode cX11_adds5 72 = .ok (.ireturn, 1) := dk_172 (dk_at dksX11_adds5_3 0 rfl rfl)
abbrev cX11_utter : ByteArray := prog_19_method_52_code
def yX11_utter : MethodName := ⟨RX11, "utter", "(III)I"⟩
def dkwX11_utter_13 : List UInt8 := [132, 12, 1, 167, 255, 204, 42, 4, 182, 1, 71, 172]
abbrev dktX11_utter_13 : List UInt8 := dkwX11_utter_13 ++ []
def dkwX11_utter_12 : List UInt8 := [27, 28, 21, 12, 21, 11, 8, 112, 21, 8, 153, 0, 7, 4, 167, 0, 4, 3, 182, 1, 74, 172]
abbrev dktX11_utter_12 : List UInt8 := dkwX11_utter_12 ++ dktX11_utter_13
def dkwX11_utter_11 : List UInt8 := [180, 1, 13, 162, 0, 49, 42, 180, 0, 26, 8, 21, 12, 104, 46, 21, 11, 16, 15, 108, 160, 0, 26, 42]
abbrev dktX11_utter_11 : List UInt8 := dkwX11_utter_11 ++ dktX11_utter_12
def dkwX11_utter_10 : List UInt8 := [21, 11, 8, 108, 6, 112, 5, 159, 0, 9, 42, 4, 182, 1, 71, 172, 3, 54, 12, 21, 12, 42]
abbrev dktX11_utter_10 : List UInt8 := dkwX11_utter_10 ++ dktX11_utter_11
def dkwX11_utter_9 : List UInt8 := [21, 9, 181, 1, 65, 42, 42, 180, 0, 86, 42, 180, 0, 80, 182, 1, 19, 21, 10, 4, 160, 0, 13]
abbrev dktX11_utter_9 : List UInt8 := dkwX11_utter_9 ++ dktX11_utter_10
def dkwX11_utter_8 : List UInt8 := [167, 0, 5, 21, 5, 182, 1, 68, 42, 180, 1, 65, 54, 10, 42, 180, 0, 80, 3, 46, 54, 11, 42]
abbrev dktX11_utter_8 : List UInt8 := dkwX11_utter_8 ++ dktX11_utter_9
def dkwX11_utter_7 : List UInt8 := [182, 1, 19, 42, 21, 8, 153, 0, 8, 21, 6, 167, 0, 5, 21, 4, 21, 8, 153, 0, 8, 21, 7]
abbrev dktX11_utter_7 : List UInt8 := dkwX11_utter_7 ++ dktX11_utter_8
def dkwX11_utter_6 : List UInt8 := [154, 0, 9, 42, 4, 182, 1, 71, 172, 42, 180, 1, 65, 54, 9, 42, 42, 180, 0, 80, 42, 180, 0, 86]
abbrev dktX11_utter_6 : List UInt8 := dkwX11_utter_6 ++ dktX11_utter_7
def dkwX11_utter_5 : List UInt8 := [21, 7, 29, 182, 1, 78, 29, 161, 0, 19, 21, 8, 153, 0, 20, 42, 21, 4, 21, 5, 182, 1, 84]
abbrev dktX11_utter_5 : List UInt8 := dkwX11_utter_5 ++ dktX11_utter_6
def dkwX11_utter_4 : List UInt8 := [54, 7, 21, 7, 21, 6, 164, 0, 7, 4, 167, 0, 4, 3, 54, 8, 21, 5, 21, 4, 159, 0, 30, 42]
abbrev dktX11_utter_4 : List UInt8 := dkwX11_utter_4 ++ dktX11_utter_5
def dkwX11_utter_3 : List UInt8 := [21, 4, 29, 182, 1, 81, 54, 5, 42, 21, 5, 29, 182, 1, 78, 54, 6, 42, 21, 6, 29, 182, 1, 81]
abbrev dktX11_utter_3 : List UInt8 := dkwX11_utter_3 ++ dktX11_utter_4
def dkwX11_utter_2 : List UInt8 := [180, 1, 23, 16, 20, 160, 0, 9, 42, 4, 182, 1, 71, 172, 42, 3, 29, 182, 1, 78, 54, 4, 42]
abbrev dktX11_utter_2 : List UInt8 := dkwX11_utter_2 ++ dktX11_utter_3
def dkwX11_utter_1 : List UInt8 := [163, 0, 7, 4, 167, 0, 4, 3, 5, 182, 0, 250, 154, 0, 5, 3, 172, 42, 3, 181, 0, 125, 42]
abbrev dktX11_utter_1 : List UInt8 := dkwX11_utter_1 ++ dktX11_utter_2
def dkwX11_utter_0 : List UInt8 := [42, 3, 181, 0, 122, 42, 27, 28, 182, 1, 42, 153, 0, 28, 42, 29, 155, 0, 15, 29, 42, 180, 0, 125]
abbrev dktX11_utter_0 : List UInt8 := dkwX11_utter_0 ++ dktX11_utter_1
theorem dksX11_utter_0 : cX11_utter.data.toList.drop 0 = dktX11_utter_0 := by decide +kernel
theorem dksX11_utter_1 : cX11_utter.data.toList.drop 24 = dktX11_utter_1 := dk_seg dksX11_utter_0 24 rfl rfl
theorem dksX11_utter_2 : cX11_utter.data.toList.drop 47 = dktX11_utter_2 := dk_seg dksX11_utter_1 23 rfl rfl
theorem dksX11_utter_3 : cX11_utter.data.toList.drop 70 = dktX11_utter_3 := dk_seg dksX11_utter_2 23 rfl rfl
theorem dksX11_utter_4 : cX11_utter.data.toList.drop 94 = dktX11_utter_4 := dk_seg dksX11_utter_3 24 rfl rfl
theorem dksX11_utter_5 : cX11_utter.data.toList.drop 118 = dktX11_utter_5 := dk_seg dksX11_utter_4 24 rfl rfl
theorem dksX11_utter_6 : cX11_utter.data.toList.drop 141 = dktX11_utter_6 := dk_seg dksX11_utter_5 23 rfl rfl
theorem dksX11_utter_7 : cX11_utter.data.toList.drop 165 = dktX11_utter_7 := dk_seg dksX11_utter_6 24 rfl rfl
theorem dksX11_utter_8 : cX11_utter.data.toList.drop 188 = dktX11_utter_8 := dk_seg dksX11_utter_7 23 rfl rfl
theorem dksX11_utter_9 : cX11_utter.data.toList.drop 211 = dktX11_utter_9 := dk_seg dksX11_utter_8 23 rfl rfl
theorem dksX11_utter_10 : cX11_utter.data.toList.drop 234 = dktX11_utter_10 := dk_seg dksX11_utter_9 23 rfl rfl
theorem dksX11_utter_11 : cX11_utter.data.toList.drop 256 = dktX11_utter_11 := dk_seg dksX11_utter_10 22 rfl rfl
theorem dksX11_utter_12 : cX11_utter.data.toList.drop 280 = dktX11_utter_12 := dk_seg dksX11_utter_11 24 rfl rfl
theorem dksX11_utter_13 : cX11_utter.data.toList.drop 302 = dktX11_utter_13 := dk_seg dksX11_utter_12 22 rfl rfl
theorem dX11_utter_0 : decode cX11_utter 0 = .ok (.aload_n 0, 1) := dk_42 (dk_at dksX11_utter_0 0 rfl rfl)
theorem dX11_utter_1 : decode cX11_utter 1 = .ok (.iconst 0, 1) := dk_3 (dk_at dksX11_utter_0 1 rfl rfl)
theorem dX11_utter_2 : decode cX11_utter 2 = .ok (.putfield 122, 3) := dk_181 0 122 (dk_at dksX11_utter_0 2 rfl rfl)
theorem dX11_utter_5 : decode cX11_utter 5 = .ok (.aload_n 0, 1) := dk_42 (dk_at dksX11_utter_0 5 rfl rfl)
theorem dX11_utter_6 : decode cX11_utter 6 = .ok (.iload_n 1, 1) := dk_27 (dk_at dksX11_utter_0 6 rfl rfl)
theorem dX11_utter_7 : decode cX11_utter 7 = .ok (.iload_n 2, 1) := dk_28 (dk_at dksX11_utter_0 7 rfl rfl)
theorem dX11_utter_8 : decode cX11_utter 8 = .ok (.invokevirtual 298, 3) := dk_182 1 42 (dk_at dksX11_utter_0 8 rfl rfl)
theorem dX11_utter_11 : decode cX11_utter 11 = .ok (.ifCond .eq 28, 3) := dk_153 0 28 (dk_at dksX11_utter_0 11 rfl rfl)
theorem dX11_utter_14 : decode cX11_utter 14 = .ok (.aload_n 0, 1) := dk_42 (dk_at dksX11_utter_0 14 rfl rfl)
theorem dX11_utter_15 : decode cX11_utter 15 = .ok (.iload_n 3, 1) := dk_29 (dk_at dksX11_utter_0 15 rfl rfl)
theorem dX11_utter_16 : decode cX11_utter 16 = .ok (.ifCond .lt 15, 3) := dk_155 0 15 (dk_at dksX11_utter_0 16 rfl rfl)
theorem dX11_utter_19 : decode cX11_utter 19 = .ok (.iload_n 3, 1) := dk_29 (dk_at dksX11_utter_0 19 rfl rfl)
theorem dX11_utter_20 : decode cX11_utter 20 = .ok (.aload_n 0, 1) := dk_42 (dk_at dksX11_utter_0 20 rfl rfl)
theorem dX11_utter_21 : decode cX11_utter 21 = .ok (.getfield 125, 3) := dk_180 0 125 (dk_at dksX11_utter_0 21 rfl rfl)
theorem dX11_utter_24 : decode cX11_utter 24 = .ok (.if_icmp .gt 7, 3) := dk_163 0 7 (dk_at dksX11_utter_1 0 rfl rfl)
theorem dX11_utter_27 : decode cX11_utter 27 = .ok (.iconst 1, 1) := dk_4 (dk_at dksX11_utter_1 3 rfl rfl)
theorem dX11_utter_28 : decode cX11_utter 28 = .ok (.goto 4, 3) := dk_167 0 4 (dk_at dksX11_utter_1 4 rfl rfl)
theorem dX11_utter_31 : decode cX11_utter 31 = .ok (.iconst 0, 1) := dk_3 (dk_at dksX11_utter_1 7 rfl rfl)
theorem dX11_utter_32 : decode cX11_utter 32 = .ok (.iconst 2, 1) := dk_5 (dk_at dksX11_utter_1 8 rfl rfl)
theorem dX11_utter_33 : decode cX11_utter 33 = .ok (.invokevirtual 250, 3) := dk_182 0 250 (dk_at dksX11_utter_1 9 rfl rfl)
theorem dX11_utter_36 : decode cX11_utter 36 = .ok (.ifCond .ne 5, 3) := dk_154 0 5 (dk_at dksX11_utter_1 12 rfl rfl)
theorem dX11_utter_39 : decode cX11_utter 39 = .ok (.iconst 0, 1) := dk_3 (dk_at dksX11_utter_1 15 rfl rfl)
theorem dX11_utter_40 : decode cX11_utter 40 = .ok (.ireturn, 1) := dk_172 (dk_at dksX11_utter_1 16 rfl rfl)
theorem dX11_utter_41 : decode cX11_utter 41 = .ok (.aload_n 0, 1) := dk_42 (dk_at dksX11_utter_1 17 rfl rfl)
theorem dX11_utter_42 : decode cX11_utter 42 = .ok (.iconst 0, 1) := dk_3 (dk_at dksX11_utter_1 18 rfl rfl)
theorem dX11_utter_43 : decode cX11_utter 43 = .ok (.putfield 125, 3) := dk_181 0 125 (dk_at dksX11_utter_1 19 rfl rfl)
theorem dX11_utter_46 : decode cX11_utter 46 = .ok (.aload_n 0, 1) := dk_42 (dk_at dksX11_utter_1 22 rfl rfl)
theorem dX11_utter_47 : decode cX11_utter 47 = .ok (.getfield 279, 3) := dk_180 1 23 (dk_at dksX11_utter_2 0 rfl rfl)
theorem dX11_utter_50 : decode cX11_utter 50 = .ok (.bipush 20, 2) := dk_16 20 (dk_at dksX11_utter_2 3 rfl rfl)
theorem dX11_utter_52 : decode cX11_utter 52 = .ok (.if_icmp .ne 9, 3) := dk_160 0 9 (dk_at dksX11_utter_2 5 rfl rfl)
theorem dX11_utter_55 : decode cX11_utter 55 = .ok (.aload_n 0, 1) := dk_42 (dk_at dksX11_utter_2 8 rfl rfl)
theorem dX11_utter_56 : decode cX11_utter 56 = .ok (.iconst 1, 1) := dk_4 (dk_at dksX11_utter_2 9 rfl rfl)
theorem dX11_utter_57 : decode cX11_utter 57 = .ok (.invokevirtual 327, 3) := dk_182 1 71 (dk_at dksX11_utter_2 10 rfl rfl)
theorem dX11_utter_60 : decode cX11_utter 60 = .ok (.ireturn, 1) := dk_172 (dk_at dksX11_utter_2 13 rfl rfl)
theorem dX11_utter_61 : decode cX11_utter 61 = .ok (.aload_n 0, 1) := dk_42 (dk_at dksX11_utter_2 14 rfl rfl)
theorem dX11_utter_62 : decode cX11_utter 62 = .ok (.iconst 0, 1) := dk_3 (dk_at dksX11_utter_2 15 rfl rfl)
theorem dX11_utter_63 : decode cX11_utter 63 = .ok (.iload_n 3, 1) := dk_29 (dk_at dksX11_utter_2 16 rfl rfl)
theorem dX11_utter_64 : decode cX11_utter 64 = .ok (.invokevirtual 334, 3) := dk_182 1 78 (dk_at dksX11_utter_2 17 rfl rfl)
theorem dX11_utter_67 : decode cX11_utter 67 = .ok (.istore 4, 2) := dk_54 4 (dk_at dksX11_utter_2 20 rfl rfl)
theorem dX11_utter_69 : decode cX11_utter 69 = .ok (.aload_n 0, 1) := dk_42 (dk_at dksX11_utter_2 22 rfl rfl)
theorem dX11_utter_70 : decode cX11_utter 70 = .ok (.iload 4, 2) := dk_21 4 (dk_at dksX11_utter_3 0 rfl rfl)
theorem dX11_utter_72 : decode cX11_utter 72 = .ok (.iload_n 3, 1) := dk_29 (dk_at dksX11_utter_3 2 rfl rfl)
theorem dX11_utter_73 : decode cX11_utter 73 = .ok (.invokevirtual 337, 3) := dk_182 1 81 (dk_at dksX11_utter_3 3 rfl rfl)
theorem dX11_utter_76 : decode cX11_utter 76 = .ok (.istore 5, 2) := dk_54 5 (dk_at dksX11_utter_3 6 rfl rfl)
theorem dX11_utter_78 : decode cX11_utter 78 = .ok (.aload_n 0, 1) := dk_42 (dk_at dksX11_utter_3 8 rfl rfl)
theorem dX11_utter_79 : decode cX11_utter 79 = .ok (.iload 5, 2) := dk_21 5 (dk_at dksX11_utter_3 9 rfl rfl)
theorem dX11_utter_81 : decode cX11_utter 81 = .ok (.iload_n 3, 1) := dk_29 (dk_at dksX11_utter_3 11 rfl rfl)
theorem dX11_utter_82 : decode cX11_utter 82 = .ok (.invokevirtual 334, 3) := dk_182 1 78 (dk_at dksX11_utter_3 12 rfl rfl)
theorem dX11_utter_85 : decode cX11_utter 85 = .ok (.istore 6, 2) := dk_54 6 (dk_at dksX11_utter_3 15 rfl rfl)
theorem dX11_utter_87 : decode cX11_utter 87 = .ok (.aload_n 0, 1) := dk_42 (dk_at dksX11_utter_3 17 rfl rfl)
theorem dX11_utter_88 : decode cX11_utter 88 = .ok (.iload 6, 2) := dk_21 6 (dk_at dksX11_utter_3 18 rfl rfl)
theorem dX11_utter_90 : decode cX11_utter 90 = .ok (.iload_n 3, 1) := dk_29 (dk_at dksX11_utter_3 20 rfl rfl)
theorem dX11_utter_91 : decode cX11_utter 91 = .ok (.invokevirtual 337, 3) := dk_182 1 81 (dk_at dksX11_utter_3 21 rfl rfl)
theorem dX11_utter_94 : decode cX11_utter 94 = .ok (.istore 7, 2) := dk_54 7 (dk_at dksX11_utter_4 0 rfl rfl)
theorem dX11_utter_96 : decode cX11_utter 96 = .ok (.iload 7, 2) := dk_21 7 (dk_at dksX11_utter_4 2 rfl rfl)
theorem dX11_utter_98 : decode cX11_utter 98 = .ok (.iload 6, 2) := dk_21 6 (dk_at dksX11_utter_4 4 rfl rfl)
theorem dX11_utter_100 : decode cX11_utter 100 = .ok (.if_icmp .le 7, 3) := dk_164 0 7 (dk_at dksX11_utter_4 6 rfl rfl)
theorem dX11_utter_103 : decode cX11_utter 103 = .ok (.iconst 1, 1) := dk_4 (dk_at dksX11_utter_4 9 rfl rfl)
theorem dX11_utter_104 : decode cX11_utter 104 = .ok (.goto 4, 3) := dk_167 0 4 (dk_at dksX11_utter_4 10 rfl rfl)
theorem dX11_utter_107 : decode cX11_utter 107 = .ok (.iconst 0, 1) := dk_3 (dk_at dksX11_utter_4 13 rfl rfl)
theorem dX11_utter_108 : decode cX11_utter 108 = .ok (.istore 8, 2) := dk_54 8 (dk_at dksX11_utter_4 14 rfl rfl)
theorem dX11_utter_110 : decode cX11_utter 110 = .ok (.iload 5, 2) := dk_21 5 (dk_at dksX11_utter_4 16 rfl rfl)
theorem dX11_utter_112 : decode cX11_utter 112 = .ok (.iload 4, 2) := dk_21 4 (dk_at dksX11_utter_4 18 rfl rfl)
theorem dX11_utter_114 : decode cX11_utter 114 = .ok (.if_icmp .eq 30, 3) := dk_159 0 30 (dk_at dksX11_utter_4 20 rfl rfl)
theorem dX11_utter_117 : decode cX11_utter 117 = .ok (.aload_n 0, 1) := dk_42 (dk_at dksX11_utter_4 23 rfl rfl)
theorem dX11_utter_118 : decode cX11_utter 118 = .ok (.iload 7, 2) := dk_21 7 (dk_at dksX11_utter_5 0 rfl rfl)
theorem dX11_utter_120 : decode cX11_utter 120 = .ok (.iload_n 3, 1) := dk_29 (dk_at dksX11_utter_5 2 rfl rfl)
theorem dX11_utter_121 : decode cX11_utter 121 = .ok (.invokevirtual 334, 3) := dk_182 1 78 (dk_at dksX11_utter_5 3 rfl rfl)
theorem dX11_utter_124 : decode cX11_utter 124 = .ok (.iload_n 3, 1) := dk_29 (dk_at dksX11_utter_5 6 rfl rfl)
theorem dX11_utter_125 : decode cX11_utter 125 = .ok (.if_icmp .lt 19, 3) := dk_161 0 19 (dk_at dksX11_utter_5 7 rfl rfl)
theorem dX11_utter_128 : decode cX11_utter 128 = .ok (.iload 8, 2) := dk_21 8 (dk_at dksX11_utter_5 10 rfl rfl)
theorem dX11_utter_130 : decode cX11_utter 130 = .ok (.ifCond .eq 20, 3) := dk_153 0 20 (dk_at dksX11_utter_5 12 rfl rfl)
theorem dX11_utter_133 : decode cX11_utter 133 = .ok (.aload_n 0, 1) := dk_42 (dk_at dksX11_utter_5 15 rfl rfl)
theorem dX11_utter_134 : decode cX11_utter 134 = .ok (.iload 4, 2) := dk_21 4 (dk_at dksX11_utter_5 16 rfl rfl)
theorem dX11_utter_136 : decode cX11_utter 136 = .ok (.iload 5, 2) := dk_21 5 (dk_at dksX11_utter_5 18 rfl rfl)
theorem dX11_utter_138 : decode cX11_utter 138 = .ok (.invokevirtual 340, 3) := dk_182 1 84 (dk_at dksX11_utter_5 20 rfl rfl)
theorem dX11_utter_141 : decode cX11_utter 141 = .ok (.ifCond .ne 9, 3) := dk_154 0 9 (dk_at dksX11_utter_6 0 rfl rfl)
theorem dX11_utter_144 : decode cX11_utter 144 = .ok (.aload_n 0, 1) := dk_42 (dk_at dksX11_utter_6 3 rfl rfl)
theorem dX11_utter_145 : decode cX11_utter 145 = .ok (.iconst 1, 1) := dk_4 (dk_at dksX11_utter_6 4 rfl rfl)
theorem dX11_utter_146 : decode cX11_utter 146 = .ok (.invokevirtual 327, 3) := dk_182 1 71 (dk_at dksX11_utter_6 5 rfl rfl)
theorem dX11_utter_149 : decode cX11_utter 149 = .ok (.ireturn, 1) := dk_172 (dk_at dksX11_utter_6 8 rfl rfl)
theorem dX11_utter_150 : decode cX11_utter 150 = .ok (.aload_n 0, 1) := dk_42 (dk_at dksX11_utter_6 9 rfl rfl)
theorem dX11_utter_151 : decode cX11_utter 151 = .ok (.getfield 321, 3) := dk_180 1 65 (dk_at dksX11_utter_6 10 rfl rfl)
theorem dX11_utter_154 : decode cX11_utter 154 = .ok (.istore 9, 2) := dk_54 9 (dk_at dksX11_utter_6 13 rfl rfl)
theorem dX11_utter_156 : decode cX11_utter 156 = .ok (.aload_n 0, 1) := dk_42 (dk_at dksX11_utter_6 15 rfl rfl)
theorem dX11_utter_157 : decode cX11_utter 157 = .ok (.aload_n 0, 1) := dk_42 (dk_at dksX11_utter_6 16 rfl rfl)
theorem dX11_utter_158 : decode cX11_utter 158 = .ok (.getfield 80, 3) := dk_180 0 80 (dk_at dksX11_utter_6 17 rfl rfl)
theorem dX11_utter_161 : decode cX11_utter 161 = .ok (.aload_n 0, 1) := dk_42 (dk_at dksX11_utter_6 20 rfl rfl)
theorem dX11_utter_162 : decode cX11_utter 162 = .ok (.getfield 86, 3) := dk_180 0 86 (dk_at dksX11_utter_6 21 rfl rfl)
theorem dX11_utter_165 : decode cX11_utter 165 = .ok (.invokevirtual 275, 3) := dk_182 1 19 (dk_at dksX11_utter_7 0 rfl rfl)
theorem dX11_utter_168 : decode cX11_utter 168 = .ok (.aload_n 0, 1) := dk_42 (dk_at dksX11_utter_7 3 rfl rfl)
theorem dX11_utter_169 : decode cX11_utter 169 = .ok (.iload 8, 2) := dk_21 8 (dk_at dksX11_utter_7 4 rfl rfl)
theorem dX11_utter_171 : decode cX11_utter 171 = .ok (.ifCond .eq 8, 3) := dk_153 0 8 (dk_at dksX11_utter_7 6 rfl rfl)
theorem dX11_utter_174 : decode cX11_utter 174 = .ok (.iload 6, 2) := dk_21 6 (dk_at dksX11_utter_7 9 rfl rfl)
theorem dX11_utter_176 : decode cX11_utter 176 = .ok (.goto 5, 3) := dk_167 0 5 (dk_at dksX11_utter_7 11 rfl rfl)
theorem dX11_utter_179 : decode cX11_utter 179 = .ok (.iload 4, 2) := dk_21 4 (dk_at dksX11_utter_7 14 rfl rfl)
theorem dX11_utter_181 : decode cX11_utter 181 = .ok (.iload 8, 2) := dk_21 8 (dk_at dksX11_utter_7 16 rfl rfl)
theorem dX11_utter_183 : decode cX11_utter 183 = .ok (.ifCond .eq 8, 3) := dk_153 0 8 (dk_at dksX11_utter_7 18 rfl rfl)
theorem dX11_utter_186 : decode cX11_utter 186 = .ok (.iload 7, 2) := dk_21 7 (dk_at dksX11_utter_7 21 rfl rfl)
theorem dX11_utter_188 : decode cX11_utter 188 = .ok (.goto 5, 3) := dk_167 0 5 (dk_at dksX11_utter_8 0 rfl rfl)
theorem dX11_utter_191 : decode cX11_utter 191 = .ok (.iload 5, 2) := dk_21 5 (dk_at dksX11_utter_8 3 rfl rfl)
theorem dX11_utter_193 : decode cX11_utter 193 = .ok (.invokevirtual 324, 3) := dk_182 1 68 (dk_at dksX11_utter_8 5 rfl rfl)
theorem dX11_utter_196 : decode cX11_utter 196 = .ok (.aload_n 0, 1) := dk_42 (dk_at dksX11_utter_8 8 rfl rfl)
theorem dX11_utter_197 : decode cX11_utter 197 = .ok (.getfield 321, 3) := dk_180 1 65 (dk_at dksX11_utter_8 9 rfl rfl)
theorem dX11_utter_200 : decode cX11_utter 200 = .ok (.istore 10, 2) := dk_54 10 (dk_at dksX11_utter_8 12 rfl rfl)
theorem dX11_utter_202 : decode cX11_utter 202 = .ok (.aload_n 0, 1) := dk_42 (dk_at dksX11_utter_8 14 rfl rfl)
theorem dX11_utter_203 : decode cX11_utter 203 = .ok (.getfield 80, 3) := dk_180 0 80 (dk_at dksX11_utter_8 15 rfl rfl)
theorem dX11_utter_206 : decode cX11_utter 206 = .ok (.iconst 0, 1) := dk_3 (dk_at dksX11_utter_8 18 rfl rfl)
theorem dX11_utter_207 : decode cX11_utter 207 = .ok (.iaload, 1) := dk_46 (dk_at dksX11_utter_8 19 rfl rfl)
theorem dX11_utter_208 : decode cX11_utter 208 = .ok (.istore 11, 2) := dk_54 11 (dk_at dksX11_utter_8 20 rfl rfl)
theorem dX11_utter_210 : decode cX11_utter 210 = .ok (.aload_n 0, 1) := dk_42 (dk_at dksX11_utter_8 22 rfl rfl)
theorem dX11_utter_211 : decode cX11_utter 211 = .ok (.iload 9, 2) := dk_21 9 (dk_at dksX11_utter_9 0 rfl rfl)
theorem dX11_utter_213 : decode cX11_utter 213 = .ok (.putfield 321, 3) := dk_181 1 65 (dk_at dksX11_utter_9 2 rfl rfl)
theorem dX11_utter_216 : decode cX11_utter 216 = .ok (.aload_n 0, 1) := dk_42 (dk_at dksX11_utter_9 5 rfl rfl)
theorem dX11_utter_217 : decode cX11_utter 217 = .ok (.aload_n 0, 1) := dk_42 (dk_at dksX11_utter_9 6 rfl rfl)
theorem dX11_utter_218 : decode cX11_utter 218 = .ok (.getfield 86, 3) := dk_180 0 86 (dk_at dksX11_utter_9 7 rfl rfl)
theorem dX11_utter_221 : decode cX11_utter 221 = .ok (.aload_n 0, 1) := dk_42 (dk_at dksX11_utter_9 10 rfl rfl)
theorem dX11_utter_222 : decode cX11_utter 222 = .ok (.getfield 80, 3) := dk_180 0 80 (dk_at dksX11_utter_9 11 rfl rfl)
theorem dX11_utter_225 : decode cX11_utter 225 = .ok (.invokevirtual 275, 3) := dk_182 1 19 (dk_at dksX11_utter_9 14 rfl rfl)
theorem dX11_utter_228 : decode cX11_utter 228 = .ok (.iload 10, 2) := dk_21 10 (dk_at dksX11_utter_9 17 rfl rfl)
theorem dX11_utter_230 : decode cX11_utter 230 = .ok (.iconst 1, 1) := dk_4 (dk_at dksX11_utter_9 19 rfl rfl)
theorem dX11_utter_231 : decode cX11_utter 231 = .ok (.if_icmp .ne 13, 3) := dk_160 0 13 (dk_at dksX11_utter_9 20 rfl rfl)
theorem dX11_utter_234 : decode cX11_utter 234 = .ok (.iload 11, 2) := dk_21 11 (dk_at dksX11_utter_10 0 rfl rfl)
theorem dX11_utter_236 : decode cX11_utter 236 = .ok (.iconst 5, 1) := dk_8 (dk_at dksX11_utter_10 2 rfl rfl)
theorem dX11_utter_237 : decode cX11_utter 237 = .ok (.idiv, 1) := dk_108 (dk_at dksX11_utter_10 3 rfl rfl)
theorem dX11_utter_238 : decode cX11_utter 238 = .ok (.iconst 3, 1) := dk_6 (dk_at dksX11_utter_10 4 rfl rfl)
theorem dX11_utter_239 : decode cX11_utter 239 = .ok (.irem, 1) := dk_112 (dk_at dksX11_utter_10 5 rfl rfl)
theorem dX11_utter_240 : decode cX11_utter 240 = .ok (.iconst 2, 1) := dk_5 (dk_at dksX11_utter_10 6 rfl rfl)
theorem dX11_utter_241 : decode cX11_utter 241 = .ok (.if_icmp .eq 9, 3) := dk_159 0 9 (dk_at dksX11_utter_10 7 rfl rfl)
theorem dX11_utter_244 : decode cX11_utter 244 = .ok (.aload_n 0, 1) := dk_42 (dk_at dksX11_utter_10 10 rfl rfl)
theorem dX11_utter_245 : decode cX11_utter 245 = .ok (.iconst 1, 1) := dk_4 (dk_at dksX11_utter_10 11 rfl rfl)
theorem dX11_utter_246 : decode cX11_utter 246 = .ok (.invokevirtual 327, 3) := dk_182 1 71 (dk_at dksX11_utter_10 12 rfl rfl)
theorem dX11_utter_249 : decode cX11_utter 249 = .ok (.ireturn, 1) := dk_172 (dk_at dksX11_utter_10 15 rfl rfl)
theorem dX11_utter_250 : decode cX11_utter 250 = .ok (.iconst 0, 1) := dk_3 (dk_at dksX11_utter_10 16 rfl rfl)
theorem dX11_utter_251 : decode cX11_utter 251 = .ok (.istore 12, 2) := dk_54 12 (dk_at dksX11_utter_10 17 rfl rfl)
theorem dX11_utter_253 : decode cX11_utter 253 = .ok (.iload 12, 2) := dk_21 12 (dk_at dksX11_utter_10 19 rfl rfl)
theorem dX11_utter_255 : decode cX11_utter 255 = .ok (.aload_n 0, 1) := dk_42 (dk_at dksX11_utter_10 21 rfl rfl)
theorem dX11_utter_256 : decode cX11_utter 256 = .ok (.getfield 269, 3) := dk_180 1 13 (dk_at dksX11_utter_11 0 rfl rfl)
theorem dX11_utter_259 : decode cX11_utter 259 = .ok (.if_icmp .ge 49, 3) := dk_162 0 49 (dk_at dksX11_utter_11 3 rfl rfl)
theorem dX11_utter_262 : decode cX11_utter 262 = .ok (.aload_n 0, 1) := dk_42 (dk_at dksX11_utter_11 6 rfl rfl)
theorem dX11_utter_263 : decode cX11_utter 263 = .ok (.getfield 26, 3) := dk_180 0 26 (dk_at dksX11_utter_11 7 rfl rfl)
theorem dX11_utter_266 : decode cX11_utter 266 = .ok (.iconst 5, 1) := dk_8 (dk_at dksX11_utter_11 10 rfl rfl)
theorem dX11_utter_267 : decode cX11_utter 267 = .ok (.iload 12, 2) := dk_21 12 (dk_at dksX11_utter_11 11 rfl rfl)
theorem dX11_utter_269 : decode cX11_utter 269 = .ok (.imul, 1) := dk_104 (dk_at dksX11_utter_11 13 rfl rfl)
theorem dX11_utter_270 : decode cX11_utter 270 = .ok (.iaload, 1) := dk_46 (dk_at dksX11_utter_11 14 rfl rfl)
theorem dX11_utter_271 : decode cX11_utter 271 = .ok (.iload 11, 2) := dk_21 11 (dk_at dksX11_utter_11 15 rfl rfl)
theorem dX11_utter_273 : decode cX11_utter 273 = .ok (.bipush 15, 2) := dk_16 15 (dk_at dksX11_utter_11 17 rfl rfl)
theorem dX11_utter_275 : decode cX11_utter 275 = .ok (.idiv, 1) := dk_108 (dk_at dksX11_utter_11 19 rfl rfl)
theorem dX11_utter_276 : decode cX11_utter 276 = .ok (.if_icmp .ne 26, 3) := dk_160 0 26 (dk_at dksX11_utter_11 20 rfl rfl)
theorem dX11_utter_279 : decode cX11_utter 279 = .ok (.aload_n 0, 1) := dk_42 (dk_at dksX11_utter_11 23 rfl rfl)
theorem dX11_utter_280 : decode cX11_utter 280 = .ok (.iload_n 1, 1) := dk_27 (dk_at dksX11_utter_12 0 rfl rfl)
theorem dX11_utter_281 : decode cX11_utter 281 = .ok (.iload_n 2, 1) := dk_28 (dk_at dksX11_utter_12 1 rfl rfl)
theorem dX11_utter_282 : decode cX11_utter 282 = .ok (.iload 12, 2) := dk_21 12 (dk_at dksX11_utter_12 2 rfl rfl)
theorem dX11_utter_284 : decode cX11_utter 284 = .ok (.iload 11, 2) := dk_21 11 (dk_at dksX11_utter_12 4 rfl rfl)
theorem dX11_utter_286 : decode cX11_utter 286 = .ok (.iconst 5, 1) := dk_8 (dk_at dksX11_utter_12 6 rfl rfl)
theorem dX11_utter_287 : decode cX11_utter 287 = .ok (.irem, 1) := dk_112 (dk_at dksX11_utter_12 7 rfl rfl)
theorem dX11_utter_288 : decode cX11_utter 288 = .ok (.iload 8, 2) := dk_21 8 (dk_at dksX11_utter_12 8 rfl rfl)
theorem dX11_utter_290 : decode cX11_utter 290 = .ok (.ifCond .eq 7, 3) := dk_153 0 7 (dk_at dksX11_utter_12 10 rfl rfl)
theorem dX11_utter_293 : decode cX11_utter 293 = .ok (.iconst 1, 1) := dk_4 (dk_at dksX11_utter_12 13 rfl rfl)
theorem dX11_utter_294 : decode cX11_utter 294 = .ok (.goto 4, 3) := dk_167 0 4 (dk_at dksX11_utter_12 14 rfl rfl)
theorem dX11_utter_297 : decode cX11_utter 297 = .ok (.iconst 0, 1) := dk_3 (dk_at dksX11_utter_12 17 rfl rfl)
theorem dX11_utter_298 : decode cX11_utter 298 = .ok (.invokevirtual 330, 3) := dk_182 1 74 (dk_at dksX11_utter_12 18 rfl rfl)
theorem dX11_utter_301 : decode cX11_utter 301 = .ok (.ireturn, 1) := dk_172 (dk_at dksX11_utter_12 21 rfl rfl)
theorem dX11_utter_302 : decode cX11_utter 302 = .ok (.iinc 12 1, 3) := dk_132 12 1 (dk_at dksX11_utter_13 0 rfl rfl)
theorem dX11_utter_305 : decode cX11_utter 305 = .ok (.goto (-52), 3) := dk_167 255 204 (dk_at dksX11_utter_13 3 rfl rfl)
theorem dX11_utter_308 : decode cX11_utter 308 = .ok (.aload_n 0, 1) := dk_42 (dk_at dksX11_utter_13 6 rfl rfl)
theorem dX11_utter_309 : decode cX11_utter 309 = .ok (.iconst 1, 1) := dk_4 (dk_at dksX11_utter_13 7 rfl rfl)
theorem dX11_utter_310 : decode cX11_utter 310 = .ok (.invokevirtual 327, 3) := dk_182 1 71 (dk_at dksX11_utter_13 8 rfl rfl)
theorem dX11_utter_313 : decode cX11_utter 313 = .ok (.ireturn, 1) := dk_172 (dk_at dksX11_utter_13 11 rfl rfl)
abbrev cX11_blanks : ByteArray := prog_19_method_49_code
def yX11_blanks : MethodName := ⟨RX11, "blanks", "(II)I"⟩
def dkwX11_blanks_1 : List UInt8 := [16, 10, 160, 0, 9, 132, 3, 1, 167, 255, 226, 29, 172]
abbrev dktX11_blanks_1 : List UInt8 := dkwX11_blanks_1 ++ []
def dkwX11_blanks_0 : List UInt8 := [27, 62, 29, 28, 162, 0, 31, 42, 180, 0, 41, 29, 46, 16, 32, 159, 0, 14, 42, 180, 0, 41, 29, 46]
abbrev dktX11_blanks_0 : List UInt8 := dkwX11_blanks_0 ++ dktX11_blanks_1
theorem dksX11_blanks_0 : cX11_blanks.data.toList.drop 0 = dktX11_blanks_0 := by decide +kernel
theorem dksX11_blanks_1 : cX11_blanks.data.toList.drop 24 = dktX11_blanks_1 := dk_seg dksX11_blanks_0 24 rfl rfl
theorem dX11_blanks_0 : decode cX11_blanks 0 = .ok (.iload_n 1, 1) := dk_27 (dk_at dksX11_blanks_0 0 rfl rfl)
theorem dX11_blanks_1 : decode cX11_blanks 1 = .ok (.istore_n 3, 1) := dk_62 (dk_at dksX11_blanks_0 1 rfl rfl)
theorem dX11_blanks_2 : decode cX11_blanks 2 = .ok (.iload_n 3, 1) := dk_29 (dk_at dksX11_blanks_0 2 rfl rfl)
theorem dX11_blanks_3 : decode cX11_blanks 3 = .ok (.iload_n 2, 1) := dk_28 (dk_at dksX11_blanks_0 3 rfl rfl)
theorem dX11_blanks_4 : decode cX11_blanks 4 = .ok (.if_icmp .ge 31, 3) := dk_162 0 31 (dk_at dksX11_blanks_0 4 rfl rfl)
theorem dX11_blanks_7 : decode cX11_blanks 7 = .ok (.aload_n 0, 1) := dk_42 (dk_at dksX11_blanks_0 7 rfl rfl)
theorem dX11_blanks_8 : decode cX11_blanks 8 = .ok (.getfield 41, 3) := dk_180 0 41 (dk_at dksX11_blanks_0 8 rfl rfl)
theorem dX11_blanks_11 : decode cX11_blanks 11 = .ok (.iload_n 3, 1) := dk_29 (dk_at dksX11_blanks_0 11 rfl rfl)
theorem dX11_blanks_12 : decode cX11_blanks 12 = .ok (.iaload, 1) := dk_46 (dk_at dksX11_blanks_0 12 rfl rfl)
theorem dX11_blanks_13 : decode cX11_blanks 13 = .ok (.bipush 32, 2) := dk_16 32 (dk_at dksX11_blanks_0 13 rfl rfl)
theorem dX11_blanks_15 : decode cX11_blanks 15 = .ok (.if_icmp .eq 14, 3) := dk_159 0 14 (dk_at dksX11_blanks_0 15 rfl rfl)
theorem dX11_blanks_18 : decode cX11_blanks 18 = .ok (.aload_n 0, 1) := dk_42 (dk_at dksX11_blanks_0 18 rfl rfl)
theorem dX11_blanks_19 : decode cX11_blanks 19 = .ok (.getfield 41, 3) := dk_180 0 41 (dk_at dksX11_blanks_0 19 rfl rfl)
theorem dX11_blanks_22 : decode cX11_blanks 22 = .ok (.iload_n 3, 1) := dk_29 (dk_at dksX11_blanks_0 22 rfl rfl)
theorem dX11_blanks_23 : decode cX11_blanks 23 = .ok (.iaload, 1) := dk_46 (dk_at dksX11_blanks_0 23 rfl rfl)
theorem dX11_blanks_24 : decode cX11_blanks 24 = .ok (.bipush 10, 2) := dk_16 10 (dk_at dksX11_blanks_1 0 rfl rfl)
theorem dX11_blanks_26 : decode cX11_blanks 26 = .ok (.if_icmp .ne 9, 3) := dk_160 0 9 (dk_at dksX11_blanks_1 2 rfl rfl)
theorem dX11_blanks_29 : decode cX11_blanks 29 = .ok (.iinc 3 1, 3) := dk_132 3 1 (dk_at dksX11_blanks_1 5 rfl rfl)
theorem dX11_blanks_32 : decode cX11_blanks 32 = .ok (.goto (-30), 3) := dk_167 255 226 (dk_at dksX11_blanks_1 8 rfl rfl)
theorem dX11_blanks_35 : decode cX11_blanks 35 = .ok (.iload_n 3, 1) := dk_29 (dk_at dksX11_blanks_1 11 rfl rfl)
theorem dX11_blanks_36 : decode cX11_blanks 36 = .ok (.ireturn, 1) := dk_172 (dk_at dksX11_blanks_1 12 rfl rfl)
abbrev cX11_lettersTo : ByteArray := prog_19_method_50_code
def yX11_lettersTo : MethodName := ⟨RX11, "lettersTo", "(II)I"⟩
def dkwX11_lettersTo_1 : List UInt8 := [167, 255, 236, 29, 172]
abbrev dktX11_lettersTo_1 : List UInt8 := dkwX11_lettersTo_1 ++ []
def dkwX11_lettersTo_0 : List UInt8 := [27, 62, 29, 28, 162, 0, 21, 42, 180, 0, 41, 29, 46, 184, 0, 155, 153, 0, 9, 132, 3, 1]
abbrev dktX11_lettersTo_0 : List UInt8 := dkwX11_lettersTo_0 ++ dktX11_lettersTo_1
theorem dksX11_lettersTo_0 : cX11_lettersTo.data.toList.drop 0 = dktX11_lettersTo_0 := by decide +kernel
theorem dksX11_lettersTo_1 : cX11_lettersTo.data.toList.drop 22 = dktX11_lettersTo_1 := dk_seg dksX11_lettersTo_0 22 rfl rfl
theorem dX11_lettersTo_0 : decode cX11_lettersTo 0 = .ok (.iload_n 1, 1) := dk_27 (dk_at dksX11_lettersTo_0 0 rfl rfl)
theorem dX11_lettersTo_1 : decode cX11_lettersTo 1 = .ok (.istore_n 3, 1) := dk_62 (dk_at dksX11_lettersTo_0 1 rfl rfl)
theorem dX11_lettersTo_2 : decode cX11_lettersTo 2 = .ok (.iload_n 3, 1) := dk_29 (dk_at dksX11_lettersTo_0 2 rfl rfl)
theorem dX11_lettersTo_3 : decode cX11_lettersTo 3 = .ok (.iload_n 2, 1) := dk_28 (dk_at dksX11_lettersTo_0 3 rfl rfl)
theorem dX11_lettersTo_4 : decode cX11_lettersTo 4 = .ok (.if_icmp .ge 21, 3) := dk_162 0 21 (dk_at dksX11_lettersTo_0 4 rfl rfl)
theorem dX11_lettersTo_7 : decode cX11_lettersTo 7 = .ok (.aload_n 0, 1) := dk_42 (dk_at dksX11_lettersTo_0 7 rfl rfl)
theorem dX11_lettersTo_8 : decode cX11_lettersTo 8 = .ok (.getfield 41, 3) := dk_180 0 41 (dk_at dksX11_lettersTo_0 8 rfl rfl)
theorem dX11_lettersTo_11 : decode cX11_lettersTo 11 = .ok (.iload_n 3, 1) := dk_29 (dk_at dksX11_lettersTo_0 11 rfl rfl)
theorem dX11_lettersTo_12 : decode cX11_lettersTo 12 = .ok (.iaload, 1) := dk_46 (dk_at dksX11_lettersTo_0 12 rfl rfl)
theorem dX11_lettersTo_13 : decode cX11_lettersTo 13 = .ok (.invokestatic 155, 3) := dk_184 0 155 (dk_at dksX11_lettersTo_0 13 rfl rfl)
theorem dX11_lettersTo_16 : decode cX11_lettersTo 16 = .ok (.ifCond .eq 9, 3) := dk_153 0 9 (dk_at dksX11_lettersTo_0 16 rfl rfl)
theorem dX11_lettersTo_19 : decode cX11_lettersTo 19 = .ok (.iinc 3 1, 3) := dk_132 3 1 (dk_at dksX11_lettersTo_0 19 rfl rfl)
theorem dX11_lettersTo_22 : decode cX11_lettersTo 22 = .ok (.goto (-20), 3) := dk_167 255 236 (dk_at dksX11_lettersTo_1 0 rfl rfl)
theorem dX11_lettersTo_25 : decode cX11_lettersTo 25 = .ok (.iload_n 3, 1) := dk_29 (dk_at dksX11_lettersTo_1 3 rfl rfl)
theorem dX11_lettersTo_26 : decode cX11_lettersTo 26 = .ok (.ireturn, 1) := dk_172 (dk_at dksX11_lettersTo_1 4 rfl rfl)
abbrev cX11_isNot : ByteArray := prog_19_method_51_code
def yX11_isNot : MethodName := ⟨RX11, "isNot", "(II)Z"⟩
def dkwX11_isNot_2 : List UInt8 := [29, 96, 46, 159, 0, 5, 3, 172, 132, 3, 1, 167, 255, 222, 4, 172]
abbrev dktX11_isNot_2 : List UInt8 := dkwX11_isNot_2 ++ []
def dkwX11_isNot_1 : List UInt8 := [62, 29, 42, 180, 0, 23, 3, 46, 162, 0, 30, 42, 180, 0, 41, 27, 29, 96, 46, 42, 180, 0, 23, 4]
abbrev dktX11_isNot_1 : List UInt8 := dkwX11_isNot_1 ++ dktX11_isNot_2
def dkwX11_isNot_0 : List UInt8 := [42, 180, 0, 23, 3, 46, 153, 0, 15, 28, 27, 100, 42, 180, 0, 23, 3, 46, 159, 0, 5, 3, 172, 3]
abbrev dktX11_isNot_0 : List UInt8 := dkwX11_isNot_0 ++ dktX11_isNot_1
theorem dksX11_isNot_0 : cX11_isNot.data.toList.drop 0 = dktX11_isNot_0 := by decide +kernel
theorem dksX11_isNot_1 : cX11_isNot.data.toList.drop 24 = dktX11_isNot_1 := dk_seg dksX11_isNot_0 24 rfl rfl
theorem dksX11_isNot_2 : cX11_isNot.data.toList.drop 48 = dktX11_isNot_2 := dk_seg dksX11_isNot_1 24 rfl rfl
theorem dX11_isNot_0 : decode cX11_isNot 0 = .ok (.aload_n 0, 1) := dk_42 (dk_at dksX11_isNot_0 0 rfl rfl)
theorem dX11_isNot_1 : decode cX11_isNot 1 = .ok (.getfield 23, 3) := dk_180 0 23 (dk_at dksX11_isNot_0 1 rfl rfl)
theorem dX11_isNot_4 : decode cX11_isNot 4 = .ok (.iconst 0, 1) := dk_3 (dk_at dksX11_isNot_0 4 rfl rfl)
theorem dX11_isNot_5 : decode cX11_isNot 5 = .ok (.iaload, 1) := dk_46 (dk_at dksX11_isNot_0 5 rfl rfl)
theorem dX11_isNot_6 : decode cX11_isNot 6 = .ok (.ifCond .eq 15, 3) := dk_153 0 15 (dk_at dksX11_isNot_0 6 rfl rfl)
theorem dX11_isNot_9 : decode cX11_isNot 9 = .ok (.iload_n 2, 1) := dk_28 (dk_at dksX11_isNot_0 9 rfl rfl)
theorem dX11_isNot_10 : decode cX11_isNot 10 = .ok (.iload_n 1, 1) := dk_27 (dk_at dksX11_isNot_0 10 rfl rfl)
theorem dX11_isNot_11 : decode cX11_isNot 11 = .ok (.isub, 1) := dk_100 (dk_at dksX11_isNot_0 11 rfl rfl)
theorem dX11_isNot_12 : decode cX11_isNot 12 = .ok (.aload_n 0, 1) := dk_42 (dk_at dksX11_isNot_0 12 rfl rfl)
theorem dX11_isNot_13 : decode cX11_isNot 13 = .ok (.getfield 23, 3) := dk_180 0 23 (dk_at dksX11_isNot_0 13 rfl rfl)
theorem dX11_isNot_16 : decode cX11_isNot 16 = .ok (.iconst 0, 1) := dk_3 (dk_at dksX11_isNot_0 16 rfl rfl)
theorem dX11_isNot_17 : decode cX11_isNot 17 = .ok (.iaload, 1) := dk_46 (dk_at dksX11_isNot_0 17 rfl rfl)
theorem dX11_isNot_18 : decode cX11_isNot 18 = .ok (.if_icmp .eq 5, 3) := dk_159 0 5 (dk_at dksX11_isNot_0 18 rfl rfl)
theorem dX11_isNot_21 : decode cX11_isNot 21 = .ok (.iconst 0, 1) := dk_3 (dk_at dksX11_isNot_0 21 rfl rfl)
theorem dX11_isNot_22 : decode cX11_isNot 22 = .ok (.ireturn, 1) := dk_172 (dk_at dksX11_isNot_0 22 rfl rfl)
theorem dX11_isNot_23 : decode cX11_isNot 23 = .ok (.iconst 0, 1) := dk_3 (dk_at dksX11_isNot_0 23 rfl rfl)
theorem dX11_isNot_24 : decode cX11_isNot 24 = .ok (.istore_n 3, 1) := dk_62 (dk_at dksX11_isNot_1 0 rfl rfl)
theorem dX11_isNot_25 : decode cX11_isNot 25 = .ok (.iload_n 3, 1) := dk_29 (dk_at dksX11_isNot_1 1 rfl rfl)
theorem dX11_isNot_26 : decode cX11_isNot 26 = .ok (.aload_n 0, 1) := dk_42 (dk_at dksX11_isNot_1 2 rfl rfl)
theorem dX11_isNot_27 : decode cX11_isNot 27 = .ok (.getfield 23, 3) := dk_180 0 23 (dk_at dksX11_isNot_1 3 rfl rfl)
theorem dX11_isNot_30 : decode cX11_isNot 30 = .ok (.iconst 0, 1) := dk_3 (dk_at dksX11_isNot_1 6 rfl rfl)
theorem dX11_isNot_31 : decode cX11_isNot 31 = .ok (.iaload, 1) := dk_46 (dk_at dksX11_isNot_1 7 rfl rfl)
theorem dX11_isNot_32 : decode cX11_isNot 32 = .ok (.if_icmp .ge 30, 3) := dk_162 0 30 (dk_at dksX11_isNot_1 8 rfl rfl)
theorem dX11_isNot_35 : decode cX11_isNot 35 = .ok (.aload_n 0, 1) := dk_42 (dk_at dksX11_isNot_1 11 rfl rfl)
theorem dX11_isNot_36 : decode cX11_isNot 36 = .ok (.getfield 41, 3) := dk_180 0 41 (dk_at dksX11_isNot_1 12 rfl rfl)
theorem dX11_isNot_39 : decode cX11_isNot 39 = .ok (.iload_n 1, 1) := dk_27 (dk_at dksX11_isNot_1 15 rfl rfl)
theorem dX11_isNot_40 : decode cX11_isNot 40 = .ok (.iload_n 3, 1) := dk_29 (dk_at dksX11_isNot_1 16 rfl rfl)
theorem dX11_isNot_41 : decode cX11_isNot 41 = .ok (.iadd, 1) := dk_96 (dk_at dksX11_isNot_1 17 rfl rfl)
theorem dX11_isNot_42 : decode cX11_isNot 42 = .ok (.iaload, 1) := dk_46 (dk_at dksX11_isNot_1 18 rfl rfl)
theorem dX11_isNot_43 : decode cX11_isNot 43 = .ok (.aload_n 0, 1) := dk_42 (dk_at dksX11_isNot_1 19 rfl rfl)
theorem dX11_isNot_44 : decode cX11_isNot 44 = .ok (.getfield 23, 3) := dk_180 0 23 (dk_at dksX11_isNot_1 20 rfl rfl)
theorem dX11_isNot_47 : decode cX11_isNot 47 = .ok (.iconst 1, 1) := dk_4 (dk_at dksX11_isNot_1 23 rfl rfl)
theorem dX11_isNot_48 : decode cX11_isNot 48 = .ok (.iload_n 3, 1) := dk_29 (dk_at dksX11_isNot_2 0 rfl rfl)
theorem dX11_isNot_49 : decode cX11_isNot 49 = .ok (.iadd, 1) := dk_96 (dk_at dksX11_isNot_2 1 rfl rfl)
theorem dX11_isNot_50 : decode cX11_isNot 50 = .ok (.iaload, 1) := dk_46 (dk_at dksX11_isNot_2 2 rfl rfl)
theorem dX11_isNot_51 : decode cX11_isNot 51 = .ok (.if_icmp .eq 5, 3) := dk_159 0 5 (dk_at dksX11_isNot_2 3 rfl rfl)
theorem dX11_isNot_54 : decode cX11_isNot 54 = .ok (.iconst 0, 1) := dk_3 (dk_at dksX11_isNot_2 6 rfl rfl)
theorem dX11_isNot_55 : decode cX11_isNot 55 = .ok (.ireturn, 1) := dk_172 (dk_at dksX11_isNot_2 7 rfl rfl)
theorem dX11_isNot_56 : decode cX11_isNot 56 = .ok (.iinc 3 1, 3) := dk_132 3 1 (dk_at dksX11_isNot_2 8 rfl rfl)
theorem dX11_isNot_59 : decode cX11_isNot 59 = .ok (.goto (-34), 3) := dk_167 255 222 (dk_at dksX11_isNot_2 11 rfl rfl)
theorem dX11_isNot_62 : decode cX11_isNot 62 = .ok (.iconst 1, 1) := dk_4 (dk_at dksX11_isNot_2 14 rfl rfl)
theorem dX11_isNot_63 : decode cX11_isNot 63 = .ok (.ireturn, 1) := dk_172 (dk_at dksX11_isNot_2 15 rfl rfl)
abbrev cX11_unsay : ByteArray := prog_19_method_53_code
def yX11_unsay : MethodName := ⟨RX11, "unsay", "()I"⟩
def dkwX11_unsay_1 : List UInt8 := [42, 180, 1, 23, 172]
abbrev dktX11_unsay_1 : List UInt8 := dkwX11_unsay_1 ++ []
def dkwX11_unsay_0 : List UInt8 := [42, 3, 181, 0, 122, 42, 180, 1, 23, 154, 0, 5, 2, 172, 42, 89, 180, 1, 23, 4, 100, 181, 1, 23]
abbrev dktX11_unsay_0 : List UInt8 := dkwX11_unsay_0 ++ dktX11_unsay_1
theorem dksX11_unsay_0 : cX11_unsay.data.toList.drop 0 = dktX11_unsay_0 := by decide +kernel
theorem dksX11_unsay_1 : cX11_unsay.data.toList.drop 24 = dktX11_unsay_1 := dk_seg dksX11_unsay_0 24 rfl rfl
theorem dX11_unsay_0 : decode cX11_unsay 0 = .ok (.aload_n 0, 1) := dk_42 (dk_at dksX11_unsay_0 0 rfl rfl)
theorem dX11_unsay_1 : decode cX11_unsay 1 = .ok (.iconst 0, 1) := dk_3 (dk_at dksX11_unsay_0 1 rfl rfl)
theorem dX11_unsay_2 : decode cX11_unsay 2 = .ok (.putfield 122, 3) := dk_181 0 122 (dk_at dksX11_unsay_0 2 rfl rfl)
theorem dX11_unsay_5 : decode cX11_unsay 5 = .ok (.aload_n 0, 1) := dk_42 (dk_at dksX11_unsay_0 5 rfl rfl)
theorem dX11_unsay_6 : decode cX11_unsay 6 = .ok (.getfield 279, 3) := dk_180 1 23 (dk_at dksX11_unsay_0 6 rfl rfl)
theorem dX11_unsay_9 : decode cX11_unsay 9 = .ok (.ifCond .ne 5, 3) := dk_154 0 5 (dk_at dksX11_unsay_0 9 rfl rfl)
theorem dX11_unsay_12 : decode cX11_unsay 12 = .ok (.iconst (-1), 1) := dk_2 (dk_at dksX11_unsay_0 12 rfl rfl)
theorem dX11_unsay_13 : decode cX11_unsay 13 = .ok (.ireturn, 1) := dk_172 (dk_at dksX11_unsay_0 13 rfl rfl)
theorem dX11_unsay_14 : decode cX11_unsay 14 = .ok (.aload_n 0, 1) := dk_42 (dk_at dksX11_unsay_0 14 rfl rfl)
theorem dX11_unsay_15 : decode cX11_unsay 15 = .ok (.dup, 1) := dk_89 (dk_at dksX11_unsay_0 15 rfl rfl)
theorem dX11_unsay_16 : decode cX11_unsay 16 = .ok (.getfield 279, 3) := dk_180 1 23 (dk_at dksX11_unsay_0 16 rfl rfl)
theorem dX11_unsay_19 : decode cX11_unsay 19 = .ok (.iconst 1, 1) := dk_4 (dk_at dksX11_unsay_0 19 rfl rfl)
theorem dX11_unsay_20 : decode cX11_unsay 20 = .ok (.isub, 1) := dk_100 (dk_at dksX11_unsay_0 20 rfl rfl)
theorem dX11_unsay_21 : decode cX11_unsay 21 = .ok (.putfield 279, 3) := dk_181 1 23 (dk_at dksX11_unsay_0 21 rfl rfl)
theorem dX11_unsay_24 : decode cX11_unsay 24 = .ok (.aload_n 0, 1) := dk_42 (dk_at dksX11_unsay_1 0 rfl rfl)
theorem dX11_unsay_25 : decode cX11_unsay 25 = .ok (.getfield 279, 3) := dk_180 1 23 (dk_at dksX11_unsay_1 1 rfl rfl)
theorem dX11_unsay_28 : decode cX11_unsay 28 = .ok (.ireturn, 1) := dk_172 (dk_at dksX11_unsay_1 4 rfl rfl)
abbrev cX11_saying : ByteArray := prog_19_method_68_code
def yX11_saying : MethodName := ⟨RX11, "saying", "(II)I"⟩
def dkwX11_saying_5 : List UInt8 := [180, 0, 89, 27, 46, 167, 0, 4, 3, 172, 42, 182, 1, 145, 42, 180, 0, 107, 27, 46, 172]
abbrev dktX11_saying_5 : List UInt8 := dkwX11_saying_5 ++ []
def dkwX11_saying_4 : List UInt8 := [162, 0, 7, 4, 167, 0, 29, 3, 167, 0, 25, 42, 180, 0, 89, 27, 46, 17, 3, 232, 162, 0, 12, 42]
abbrev dktX11_saying_4 : List UInt8 := dkwX11_saying_4 ++ dktX11_saying_5
def dkwX11_saying_3 : List UInt8 := [182, 1, 142, 28, 16, 7, 162, 0, 51, 28, 8, 160, 0, 23, 42, 180, 0, 89, 27, 46, 17, 3, 232]
abbrev dktX11_saying_3 : List UInt8 := dkwX11_saying_3 ++ dktX11_saying_4
def dkwX11_saying_2 : List UInt8 := [162, 0, 10, 42, 27, 28, 182, 1, 90, 172, 42, 2, 3, 182, 1, 135, 42, 42, 182, 1, 138, 3]
abbrev dktX11_saying_2 : List UInt8 := dkwX11_saying_2 ++ dktX11_saying_3
def dkwX11_saying_1 : List UInt8 := [184, 1, 35, 153, 0, 7, 4, 167, 0, 4, 3, 4, 182, 0, 250, 154, 0, 5, 3, 172, 28, 8]
abbrev dktX11_saying_1 : List UInt8 := dkwX11_saying_1 ++ dktX11_saying_2
def dkwX11_saying_0 : List UInt8 := [42, 3, 181, 0, 122, 42, 27, 155, 0, 25, 27, 42, 180, 1, 23, 162, 0, 17, 28, 3, 16, 7]
abbrev dktX11_saying_0 : List UInt8 := dkwX11_saying_0 ++ dktX11_saying_1
theorem dksX11_saying_0 : cX11_saying.data.toList.drop 0 = dktX11_saying_0 := by decide +kernel
theorem dksX11_saying_1 : cX11_saying.data.toList.drop 22 = dktX11_saying_1 := dk_seg dksX11_saying_0 22 rfl rfl
theorem dksX11_saying_2 : cX11_saying.data.toList.drop 44 = dktX11_saying_2 := dk_seg dksX11_saying_1 22 rfl rfl
theorem dksX11_saying_3 : cX11_saying.data.toList.drop 66 = dktX11_saying_3 := dk_seg dksX11_saying_2 22 rfl rfl
theorem dksX11_saying_4 : cX11_saying.data.toList.drop 89 = dktX11_saying_4 := dk_seg dksX11_saying_3 23 rfl rfl
theorem dksX11_saying_5 : cX11_saying.data.toList.drop 113 = dktX11_saying_5 := dk_seg dksX11_saying_4 24 rfl rfl
theorem dX11_saying_0 : decode cX11_saying 0 = .ok (.aload_n 0, 1) := dk_42 (dk_at dksX11_saying_0 0 rfl rfl)
theorem dX11_saying_1 : decode cX11_saying 1 = .ok (.iconst 0, 1) := dk_3 (dk_at dksX11_saying_0 1 rfl rfl)
theorem dX11_saying_2 : decode cX11_saying 2 = .ok (.putfield 122, 3) := dk_181 0 122 (dk_at dksX11_saying_0 2 rfl rfl)
theorem dX11_saying_5 : decode cX11_saying 5 = .ok (.aload_n 0, 1) := dk_42 (dk_at dksX11_saying_0 5 rfl rfl)
theorem dX11_saying_6 : decode cX11_saying 6 = .ok (.iload_n 1, 1) := dk_27 (dk_at dksX11_saying_0 6 rfl rfl)
theorem dX11_saying_7 : decode cX11_saying 7 = .ok (.ifCond .lt 25, 3) := dk_155 0 25 (dk_at dksX11_saying_0 7 rfl rfl)
theorem dX11_saying_10 : decode cX11_saying 10 = .ok (.iload_n 1, 1) := dk_27 (dk_at dksX11_saying_0 10 rfl rfl)
theorem dX11_saying_11 : decode cX11_saying 11 = .ok (.aload_n 0, 1) := dk_42 (dk_at dksX11_saying_0 11 rfl rfl)
theorem dX11_saying_12 : decode cX11_saying 12 = .ok (.getfield 279, 3) := dk_180 1 23 (dk_at dksX11_saying_0 12 rfl rfl)
theorem dX11_saying_15 : decode cX11_saying 15 = .ok (.if_icmp .ge 17, 3) := dk_162 0 17 (dk_at dksX11_saying_0 15 rfl rfl)
theorem dX11_saying_18 : decode cX11_saying 18 = .ok (.iload_n 2, 1) := dk_28 (dk_at dksX11_saying_0 18 rfl rfl)
theorem dX11_saying_19 : decode cX11_saying 19 = .ok (.iconst 0, 1) := dk_3 (dk_at dksX11_saying_0 19 rfl rfl)
theorem dX11_saying_20 : decode cX11_saying 20 = .ok (.bipush 7, 2) := dk_16 7 (dk_at dksX11_saying_0 20 rfl rfl)
theorem dX11_saying_22 : decode cX11_saying 22 = .ok (.invokestatic 291, 3) := dk_184 1 35 (dk_at dksX11_saying_1 0 rfl rfl)
theorem dX11_saying_25 : decode cX11_saying 25 = .ok (.ifCond .eq 7, 3) := dk_153 0 7 (dk_at dksX11_saying_1 3 rfl rfl)
theorem dX11_saying_28 : decode cX11_saying 28 = .ok (.iconst 1, 1) := dk_4 (dk_at dksX11_saying_1 6 rfl rfl)
theorem dX11_saying_29 : decode cX11_saying 29 = .ok (.goto 4, 3) := dk_167 0 4 (dk_at dksX11_saying_1 7 rfl rfl)
theorem dX11_saying_32 : decode cX11_saying 32 = .ok (.iconst 0, 1) := dk_3 (dk_at dksX11_saying_1 10 rfl rfl)
theorem dX11_saying_33 : decode cX11_saying 33 = .ok (.iconst 1, 1) := dk_4 (dk_at dksX11_saying_1 11 rfl rfl)
theorem dX11_saying_34 : decode cX11_saying 34 = .ok (.invokevirtual 250, 3) := dk_182 0 250 (dk_at dksX11_saying_1 12 rfl rfl)
theorem dX11_saying_37 : decode cX11_saying 37 = .ok (.ifCond .ne 5, 3) := dk_154 0 5 (dk_at dksX11_saying_1 15 rfl rfl)
theorem dX11_saying_40 : decode cX11_saying 40 = .ok (.iconst 0, 1) := dk_3 (dk_at dksX11_saying_1 18 rfl rfl)
theorem dX11_saying_41 : decode cX11_saying 41 = .ok (.ireturn, 1) := dk_172 (dk_at dksX11_saying_1 19 rfl rfl)
theorem dX11_saying_42 : decode cX11_saying 42 = .ok (.iload_n 2, 1) := dk_28 (dk_at dksX11_saying_1 20 rfl rfl)
theorem dX11_saying_43 : decode cX11_saying 43 = .ok (.iconst 5, 1) := dk_8 (dk_at dksX11_saying_1 21 rfl rfl)
theorem dX11_saying_44 : decode cX11_saying 44 = .ok (.if_icmp .ge 10, 3) := dk_162 0 10 (dk_at dksX11_saying_2 0 rfl rfl)
theorem dX11_saying_47 : decode cX11_saying 47 = .ok (.aload_n 0, 1) := dk_42 (dk_at dksX11_saying_2 3 rfl rfl)
theorem dX11_saying_48 : decode cX11_saying 48 = .ok (.iload_n 1, 1) := dk_27 (dk_at dksX11_saying_2 4 rfl rfl)
theorem dX11_saying_49 : decode cX11_saying 49 = .ok (.iload_n 2, 1) := dk_28 (dk_at dksX11_saying_2 5 rfl rfl)
theorem dX11_saying_50 : decode cX11_saying 50 = .ok (.invokevirtual 346, 3) := dk_182 1 90 (dk_at dksX11_saying_2 6 rfl rfl)
theorem dX11_saying_53 : decode cX11_saying 53 = .ok (.ireturn, 1) := dk_172 (dk_at dksX11_saying_2 9 rfl rfl)
theorem dX11_saying_54 : decode cX11_saying 54 = .ok (.aload_n 0, 1) := dk_42 (dk_at dksX11_saying_2 10 rfl rfl)
theorem dX11_saying_55 : decode cX11_saying 55 = .ok (.iconst (-1), 1) := dk_2 (dk_at dksX11_saying_2 11 rfl rfl)
theorem dX11_saying_56 : decode cX11_saying 56 = .ok (.iconst 0, 1) := dk_3 (dk_at dksX11_saying_2 12 rfl rfl)
theorem dX11_saying_57 : decode cX11_saying 57 = .ok (.invokevirtual 391, 3) := dk_182 1 135 (dk_at dksX11_saying_2 13 rfl rfl)
theorem dX11_saying_60 : decode cX11_saying 60 = .ok (.aload_n 0, 1) := dk_42 (dk_at dksX11_saying_2 16 rfl rfl)
theorem dX11_saying_61 : decode cX11_saying 61 = .ok (.aload_n 0, 1) := dk_42 (dk_at dksX11_saying_2 17 rfl rfl)
theorem dX11_saying_62 : decode cX11_saying 62 = .ok (.invokevirtual 394, 3) := dk_182 1 138 (dk_at dksX11_saying_2 18 rfl rfl)
theorem dX11_saying_65 : decode cX11_saying 65 = .ok (.iconst 0, 1) := dk_3 (dk_at dksX11_saying_2 21 rfl rfl)
theorem dX11_saying_66 : decode cX11_saying 66 = .ok (.invokevirtual 398, 3) := dk_182 1 142 (dk_at dksX11_saying_3 0 rfl rfl)
theorem dX11_saying_69 : decode cX11_saying 69 = .ok (.iload_n 2, 1) := dk_28 (dk_at dksX11_saying_3 3 rfl rfl)
theorem dX11_saying_70 : decode cX11_saying 70 = .ok (.bipush 7, 2) := dk_16 7 (dk_at dksX11_saying_3 4 rfl rfl)
theorem dX11_saying_72 : decode cX11_saying 72 = .ok (.if_icmp .ge 51, 3) := dk_162 0 51 (dk_at dksX11_saying_3 6 rfl rfl)
theorem dX11_saying_75 : decode cX11_saying 75 = .ok (.iload_n 2, 1) := dk_28 (dk_at dksX11_saying_3 9 rfl rfl)
theorem dX11_saying_76 : decode cX11_saying 76 = .ok (.iconst 5, 1) := dk_8 (dk_at dksX11_saying_3 10 rfl rfl)
theorem dX11_saying_77 : decode cX11_saying 77 = .ok (.if_icmp .ne 23, 3) := dk_160 0 23 (dk_at dksX11_saying_3 11 rfl rfl)
theorem dX11_saying_80 : decode cX11_saying 80 = .ok (.aload_n 0, 1) := dk_42 (dk_at dksX11_saying_3 14 rfl rfl)
theorem dX11_saying_81 : decode cX11_saying 81 = .ok (.getfield 89, 3) := dk_180 0 89 (dk_at dksX11_saying_3 15 rfl rfl)
theorem dX11_saying_84 : decode cX11_saying 84 = .ok (.iload_n 1, 1) := dk_27 (dk_at dksX11_saying_3 18 rfl rfl)
theorem dX11_saying_85 : decode cX11_saying 85 = .ok (.iaload, 1) := dk_46 (dk_at dksX11_saying_3 19 rfl rfl)
theorem dX11_saying_86 : decode cX11_saying 86 = .ok (.sipush 1000, 3) := dk_17 3 232 (dk_at dksX11_saying_3 20 rfl rfl)
theorem dX11_saying_89 : decode cX11_saying 89 = .ok (.if_icmp .ge 7, 3) := dk_162 0 7 (dk_at dksX11_saying_4 0 rfl rfl)
theorem dX11_saying_92 : decode cX11_saying 92 = .ok (.iconst 1, 1) := dk_4 (dk_at dksX11_saying_4 3 rfl rfl)
theorem dX11_saying_93 : decode cX11_saying 93 = .ok (.goto 29, 3) := dk_167 0 29 (dk_at dksX11_saying_4 4 rfl rfl)
theorem dX11_saying_96 : decode cX11_saying 96 = .ok (.iconst 0, 1) := dk_3 (dk_at dksX11_saying_4 7 rfl rfl)
theorem dX11_saying_97 : decode cX11_saying 97 = .ok (.goto 25, 3) := dk_167 0 25 (dk_at dksX11_saying_4 8 rfl rfl)
theorem dX11_saying_100 : decode cX11_saying 100 = .ok (.aload_n 0, 1) := dk_42 (dk_at dksX11_saying_4 11 rfl rfl)
theorem dX11_saying_101 : decode cX11_saying 101 = .ok (.getfield 89, 3) := dk_180 0 89 (dk_at dksX11_saying_4 12 rfl rfl)
theorem dX11_saying_104 : decode cX11_saying 104 = .ok (.iload_n 1, 1) := dk_27 (dk_at dksX11_saying_4 15 rfl rfl)
theorem dX11_saying_105 : decode cX11_saying 105 = .ok (.iaload, 1) := dk_46 (dk_at dksX11_saying_4 16 rfl rfl)
theorem dX11_saying_106 : decode cX11_saying 106 = .ok (.sipush 1000, 3) := dk_17 3 232 (dk_at dksX11_saying_4 17 rfl rfl)
theorem dX11_saying_109 : decode cX11_saying 109 = .ok (.if_icmp .ge 12, 3) := dk_162 0 12 (dk_at dksX11_saying_4 20 rfl rfl)
theorem dX11_saying_112 : decode cX11_saying 112 = .ok (.aload_n 0, 1) := dk_42 (dk_at dksX11_saying_4 23 rfl rfl)
theorem dX11_saying_113 : decode cX11_saying 113 = .ok (.getfield 89, 3) := dk_180 0 89 (dk_at dksX11_saying_5 0 rfl rfl)
theorem dX11_saying_116 : decode cX11_saying 116 = .ok (.iload_n 1, 1) := dk_27 (dk_at dksX11_saying_5 3 rfl rfl)
theorem dX11_saying_117 : decode cX11_saying 117 = .ok (.iaload, 1) := dk_46 (dk_at dksX11_saying_5 4 rfl rfl)
theorem dX11_saying_118 : decode cX11_saying 118 = .ok (.goto 4, 3) := dk_167 0 4 (dk_at dksX11_saying_5 5 rfl rfl)
theorem dX11_saying_121 : decode cX11_saying 121 = .ok (.iconst 0, 1) := dk_3 (dk_at dksX11_saying_5 8 rfl rfl)
theorem dX11_saying_122 : decode cX11_saying 122 = .ok (.ireturn, 1) := dk_172 (dk_at dksX11_saying_5 9 rfl rfl)
theorem dX11_saying_123 : decode cX11_saying 123 = .ok (.aload_n 0, 1) := dk_42 (dk_at dksX11_saying_5 10 rfl rfl)
theorem dX11_saying_124 : decode cX11_saying 124 = .ok (.invokevirtual 401, 3) := dk_182 1 145 (dk_at dksX11_saying_5 11 rfl rfl)
theorem dX11_saying_127 : decode cX11_saying 127 = .ok (.aload_n 0, 1) := dk_42 (dk_at dksX11_saying_5 14 rfl rfl)
theorem dX11_saying_128 : decode cX11_saying 128 = .ok (.getfield 107, 3) := dk_180 0 107 (dk_at dksX11_saying_5 15 rfl rfl)
theorem dX11_saying_131 : decode cX11_saying 131 = .ok (.iload_n 1, 1) := dk_27 (dk_at dksX11_saying_5 18 rfl rfl)
theorem dX11_saying_132 : decode cX11_saying 132 = .ok (.iaload, 1) := dk_46 (dk_at dksX11_saying_5 19 rfl rfl)
theorem dX11_saying_133 : decode cX11_saying 133 = .ok (.ireturn, 1) := dk_172 (dk_at dksX11_saying_5 20 rfl rfl)
abbrev cX11_of : ByteArray := prog_19_method_45_code
def yX11_of : MethodName := ⟨RX11, "of", "(II)I"⟩
def dkwX11_of_0 : List UInt8 := [42, 180, 0, 83, 8, 27, 104, 28, 96, 46, 172]
abbrev dktX11_of_0 : List UInt8 := dkwX11_of_0 ++ []
theorem dksX11_of_0 : cX11_of.data.toList.drop 0 = dktX11_of_0 := by decide +kernel
theorem dX11_of_0 : decode cX11_of 0 = .ok (.aload_n 0, 1) := dk_42 (dk_at dksX11_of_0 0 rfl rfl)
theorem dX11_of_1 : decode cX11_of 1 = .ok (.getfield 83, 3) := dk_180 0 83 (dk_at dksX11_of_0 1 rfl rfl)
theorem dX11_of_4 : decode cX11_of 4 = .ok (.iconst 5, 1) := dk_8 (dk_at dksX11_of_0 4 rfl rfl)
theorem dX11_of_5 : decode cX11_of 5 = .ok (.iload_n 1, 1) := dk_27 (dk_at dksX11_of_0 5 rfl rfl)
theorem dX11_of_6 : decode cX11_of 6 = .ok (.imul, 1) := dk_104 (dk_at dksX11_of_0 6 rfl rfl)
theorem dX11_of_7 : decode cX11_of 7 = .ok (.iload_n 2, 1) := dk_28 (dk_at dksX11_of_0 7 rfl rfl)
theorem dX11_of_8 : decode cX11_of 8 = .ok (.iadd, 1) := dk_96 (dk_at dksX11_of_0 8 rfl rfl)
theorem dX11_of_9 : decode cX11_of 9 = .ok (.iaload, 1) := dk_46 (dk_at dksX11_of_0 9 rfl rfl)
theorem dX11_of_10 : decode cX11_of 10 = .ok (.ireturn, 1) := dk_172 (dk_at dksX11_of_0 10 rfl rfl)
abbrev cX11_asks : ByteArray := prog_19_method_54_code
def yX11_asks : MethodName := ⟨RX11, "asks", "(II)V"⟩
def dkwX11_asks_2 : List UInt8 := [42, 27, 28, 182, 1, 93, 87, 177]
abbrev dktX11_asks_2 : List UInt8 := dkwX11_asks_2 ++ []
def dkwX11_asks_1 : List UInt8 := [182, 1, 90, 42, 29, 4, 182, 1, 90, 182, 1, 93, 79, 132, 3, 1, 167, 255, 223, 27, 2, 159, 0, 10]
abbrev dktX11_asks_1 : List UInt8 := dkwX11_asks_1 ++ dktX11_asks_2
def dkwX11_asks_0 : List UInt8 := [42, 3, 181, 1, 87, 3, 62, 29, 42, 180, 1, 23, 162, 0, 31, 42, 180, 0, 101, 29, 42, 42, 29, 3]
abbrev dktX11_asks_0 : List UInt8 := dkwX11_asks_0 ++ dktX11_asks_1
theorem dksX11_asks_0 : cX11_asks.data.toList.drop 0 = dktX11_asks_0 := by decide +kernel
theorem dksX11_asks_1 : cX11_asks.data.toList.drop 24 = dktX11_asks_1 := dk_seg dksX11_asks_0 24 rfl rfl
theorem dksX11_asks_2 : cX11_asks.data.toList.drop 48 = dktX11_asks_2 := dk_seg dksX11_asks_1 24 rfl rfl
theorem dX11_asks_0 : decode cX11_asks 0 = .ok (.aload_n 0, 1) := dk_42 (dk_at dksX11_asks_0 0 rfl rfl)
theorem dX11_asks_1 : decode cX11_asks 1 = .ok (.iconst 0, 1) := dk_3 (dk_at dksX11_asks_0 1 rfl rfl)
theorem dX11_asks_2 : decode cX11_asks 2 = .ok (.putfield 343, 3) := dk_181 1 87 (dk_at dksX11_asks_0 2 rfl rfl)
theorem dX11_asks_5 : decode cX11_asks 5 = .ok (.iconst 0, 1) := dk_3 (dk_at dksX11_asks_0 5 rfl rfl)
theorem dX11_asks_6 : decode cX11_asks 6 = .ok (.istore_n 3, 1) := dk_62 (dk_at dksX11_asks_0 6 rfl rfl)
theorem dX11_asks_7 : decode cX11_asks 7 = .ok (.iload_n 3, 1) := dk_29 (dk_at dksX11_asks_0 7 rfl rfl)
theorem dX11_asks_8 : decode cX11_asks 8 = .ok (.aload_n 0, 1) := dk_42 (dk_at dksX11_asks_0 8 rfl rfl)
theorem dX11_asks_9 : decode cX11_asks 9 = .ok (.getfield 279, 3) := dk_180 1 23 (dk_at dksX11_asks_0 9 rfl rfl)
theorem dX11_asks_12 : decode cX11_asks 12 = .ok (.if_icmp .ge 31, 3) := dk_162 0 31 (dk_at dksX11_asks_0 12 rfl rfl)
theorem dX11_asks_15 : decode cX11_asks 15 = .ok (.aload_n 0, 1) := dk_42 (dk_at dksX11_asks_0 15 rfl rfl)
theorem dX11_asks_16 : decode cX11_asks 16 = .ok (.getfield 101, 3) := dk_180 0 101 (dk_at dksX11_asks_0 16 rfl rfl)
theorem dX11_asks_19 : decode cX11_asks 19 = .ok (.iload_n 3, 1) := dk_29 (dk_at dksX11_asks_0 19 rfl rfl)
theorem dX11_asks_20 : decode cX11_asks 20 = .ok (.aload_n 0, 1) := dk_42 (dk_at dksX11_asks_0 20 rfl rfl)
theorem dX11_asks_21 : decode cX11_asks 21 = .ok (.aload_n 0, 1) := dk_42 (dk_at dksX11_asks_0 21 rfl rfl)
theorem dX11_asks_22 : decode cX11_asks 22 = .ok (.iload_n 3, 1) := dk_29 (dk_at dksX11_asks_0 22 rfl rfl)
theorem dX11_asks_23 : decode cX11_asks 23 = .ok (.iconst 0, 1) := dk_3 (dk_at dksX11_asks_0 23 rfl rfl)
theorem dX11_asks_24 : decode cX11_asks 24 = .ok (.invokevirtual 346, 3) := dk_182 1 90 (dk_at dksX11_asks_1 0 rfl rfl)
theorem dX11_asks_27 : decode cX11_asks 27 = .ok (.aload_n 0, 1) := dk_42 (dk_at dksX11_asks_1 3 rfl rfl)
theorem dX11_asks_28 : decode cX11_asks 28 = .ok (.iload_n 3, 1) := dk_29 (dk_at dksX11_asks_1 4 rfl rfl)
theorem dX11_asks_29 : decode cX11_asks 29 = .ok (.iconst 1, 1) := dk_4 (dk_at dksX11_asks_1 5 rfl rfl)
theorem dX11_asks_30 : decode cX11_asks 30 = .ok (.invokevirtual 346, 3) := dk_182 1 90 (dk_at dksX11_asks_1 6 rfl rfl)
theorem dX11_asks_33 : decode cX11_asks 33 = .ok (.invokevirtual 349, 3) := dk_182 1 93 (dk_at dksX11_asks_1 9 rfl rfl)
theorem dX11_asks_36 : decode cX11_asks 36 = .ok (.iastore, 1) := dk_79 (dk_at dksX11_asks_1 12 rfl rfl)
theorem dX11_asks_37 : decode cX11_asks 37 = .ok (.iinc 3 1, 3) := dk_132 3 1 (dk_at dksX11_asks_1 13 rfl rfl)
theorem dX11_asks_40 : decode cX11_asks 40 = .ok (.goto (-33), 3) := dk_167 255 223 (dk_at dksX11_asks_1 16 rfl rfl)
theorem dX11_asks_43 : decode cX11_asks 43 = .ok (.iload_n 1, 1) := dk_27 (dk_at dksX11_asks_1 19 rfl rfl)
theorem dX11_asks_44 : decode cX11_asks 44 = .ok (.iconst (-1), 1) := dk_2 (dk_at dksX11_asks_1 20 rfl rfl)
theorem dX11_asks_45 : decode cX11_asks 45 = .ok (.if_icmp .eq 10, 3) := dk_159 0 10 (dk_at dksX11_asks_1 21 rfl rfl)
theorem dX11_asks_48 : decode cX11_asks 48 = .ok (.aload_n 0, 1) := dk_42 (dk_at dksX11_asks_2 0 rfl rfl)
theorem dX11_asks_49 : decode cX11_asks 49 = .ok (.iload_n 1, 1) := dk_27 (dk_at dksX11_asks_2 1 rfl rfl)
theorem dX11_asks_50 : decode cX11_asks 50 = .ok (.iload_n 2, 1) := dk_28 (dk_at dksX11_asks_2 2 rfl rfl)
theorem dX11_asks_51 : decode cX11_asks 51 = .ok (.invokevirtual 349, 3) := dk_182 1 93 (dk_at dksX11_asks_2 3 rfl rfl)
theorem dX11_asks_54 : decode cX11_asks 54 = .ok (.pop, 1) := dk_87 (dk_at dksX11_asks_2 6 rfl rfl)
theorem dX11_asks_55 : decode cX11_asks 55 = .ok (.return_, 1) := dk_177 (dk_at dksX11_asks_2 7 rfl rfl)
abbrev cX11_pairAt : ByteArray := prog_19_method_55_code
def yX11_pairAt : MethodName := ⟨RX11, "pairAt", "(II)I"⟩
def dkwX11_pairAt_3 : List UInt8 := [4, 100, 172]
abbrev dktX11_pairAt_3 : List UInt8 := dkwX11_pairAt_3 ++ []
def dkwX11_pairAt_2 : List UInt8 := [42, 180, 0, 98, 42, 180, 1, 87, 28, 79, 42, 89, 180, 1, 87, 4, 96, 181, 1, 87, 42, 180, 1, 87]
abbrev dktX11_pairAt_2 : List UInt8 := dkwX11_pairAt_2 ++ dktX11_pairAt_3
def dkwX11_pairAt_1 : List UInt8 := [29, 46, 28, 160, 0, 5, 29, 172, 132, 3, 1, 167, 255, 223, 42, 180, 0, 95, 42, 180, 1, 87, 27, 79]
abbrev dktX11_pairAt_1 : List UInt8 := dkwX11_pairAt_1 ++ dktX11_pairAt_2
def dkwX11_pairAt_0 : List UInt8 := [3, 62, 29, 42, 180, 1, 87, 162, 0, 31, 42, 180, 0, 95, 29, 46, 27, 160, 0, 15, 42, 180, 0, 98]
abbrev dktX11_pairAt_0 : List UInt8 := dkwX11_pairAt_0 ++ dktX11_pairAt_1
theorem dksX11_pairAt_0 : cX11_pairAt.data.toList.drop 0 = dktX11_pairAt_0 := by decide +kernel
theorem dksX11_pairAt_1 : cX11_pairAt.data.toList.drop 24 = dktX11_pairAt_1 := dk_seg dksX11_pairAt_0 24 rfl rfl
theorem dksX11_pairAt_2 : cX11_pairAt.data.toList.drop 48 = dktX11_pairAt_2 := dk_seg dksX11_pairAt_1 24 rfl rfl
theorem dksX11_pairAt_3 : cX11_pairAt.data.toList.drop 72 = dktX11_pairAt_3 := dk_seg dksX11_pairAt_2 24 rfl rfl
theorem dX11_pairAt_0 : decode cX11_pairAt 0 = .ok (.iconst 0, 1) := dk_3 (dk_at dksX11_pairAt_0 0 rfl rfl)
theorem dX11_pairAt_1 : decode cX11_pairAt 1 = .ok (.istore_n 3, 1) := dk_62 (dk_at dksX11_pairAt_0 1 rfl rfl)
theorem dX11_pairAt_2 : decode cX11_pairAt 2 = .ok (.iload_n 3, 1) := dk_29 (dk_at dksX11_pairAt_0 2 rfl rfl)
theorem dX11_pairAt_3 : decode cX11_pairAt 3 = .ok (.aload_n 0, 1) := dk_42 (dk_at dksX11_pairAt_0 3 rfl rfl)
theorem dX11_pairAt_4 : decode cX11_pairAt 4 = .ok (.getfield 343, 3) := dk_180 1 87 (dk_at dksX11_pairAt_0 4 rfl rfl)
theorem dX11_pairAt_7 : decode cX11_pairAt 7 = .ok (.if_icmp .ge 31, 3) := dk_162 0 31 (dk_at dksX11_pairAt_0 7 rfl rfl)
theorem dX11_pairAt_10 : decode cX11_pairAt 10 = .ok (.aload_n 0, 1) := dk_42 (dk_at dksX11_pairAt_0 10 rfl rfl)
theorem dX11_pairAt_11 : decode cX11_pairAt 11 = .ok (.getfield 95, 3) := dk_180 0 95 (dk_at dksX11_pairAt_0 11 rfl rfl)
theorem dX11_pairAt_14 : decode cX11_pairAt 14 = .ok (.iload_n 3, 1) := dk_29 (dk_at dksX11_pairAt_0 14 rfl rfl)
theorem dX11_pairAt_15 : decode cX11_pairAt 15 = .ok (.iaload, 1) := dk_46 (dk_at dksX11_pairAt_0 15 rfl rfl)
theorem dX11_pairAt_16 : decode cX11_pairAt 16 = .ok (.iload_n 1, 1) := dk_27 (dk_at dksX11_pairAt_0 16 rfl rfl)
theorem dX11_pairAt_17 : decode cX11_pairAt 17 = .ok (.if_icmp .ne 15, 3) := dk_160 0 15 (dk_at dksX11_pairAt_0 17 rfl rfl)
theorem dX11_pairAt_20 : decode cX11_pairAt 20 = .ok (.aload_n 0, 1) := dk_42 (dk_at dksX11_pairAt_0 20 rfl rfl)
theorem dX11_pairAt_21 : decode cX11_pairAt 21 = .ok (.getfield 98, 3) := dk_180 0 98 (dk_at dksX11_pairAt_0 21 rfl rfl)
theorem dX11_pairAt_24 : decode cX11_pairAt 24 = .ok (.iload_n 3, 1) := dk_29 (dk_at dksX11_pairAt_1 0 rfl rfl)
theorem dX11_pairAt_25 : decode cX11_pairAt 25 = .ok (.iaload, 1) := dk_46 (dk_at dksX11_pairAt_1 1 rfl rfl)
theorem dX11_pairAt_26 : decode cX11_pairAt 26 = .ok (.iload_n 2, 1) := dk_28 (dk_at dksX11_pairAt_1 2 rfl rfl)
theorem dX11_pairAt_27 : decode cX11_pairAt 27 = .ok (.if_icmp .ne 5, 3) := dk_160 0 5 (dk_at dksX11_pairAt_1 3 rfl rfl)
theorem dX11_pairAt_30 : decode cX11_pairAt 30 = .ok (.iload_n 3, 1) := dk_29 (dk_at dksX11_pairAt_1 6 rfl rfl)
theorem dX11_pairAt_31 : decode cX11_pairAt 31 = .ok (.ireturn, 1) := dk_172 (dk_at dksX11_pairAt_1 7 rfl rfl)
theorem dX11_pairAt_32 : decode cX11_pairAt 32 = .ok (.iinc 3 1, 3) := dk_132 3 1 (dk_at dksX11_pairAt_1 8 rfl rfl)
theorem dX11_pairAt_35 : decode cX11_pairAt 35 = .ok (.goto (-33), 3) := dk_167 255 223 (dk_at dksX11_pairAt_1 11 rfl rfl)
theorem dX11_pairAt_38 : decode cX11_pairAt 38 = .ok (.aload_n 0, 1) := dk_42 (dk_at dksX11_pairAt_1 14 rfl rfl)
theorem dX11_pairAt_39 : decode cX11_pairAt 39 = .ok (.getfield 95, 3) := dk_180 0 95 (dk_at dksX11_pairAt_1 15 rfl rfl)
theorem dX11_pairAt_42 : decode cX11_pairAt 42 = .ok (.aload_n 0, 1) := dk_42 (dk_at dksX11_pairAt_1 18 rfl rfl)
theorem dX11_pairAt_43 : decode cX11_pairAt 43 = .ok (.getfield 343, 3) := dk_180 1 87 (dk_at dksX11_pairAt_1 19 rfl rfl)
theorem dX11_pairAt_46 : decode cX11_pairAt 46 = .ok (.iload_n 1, 1) := dk_27 (dk_at dksX11_pairAt_1 22 rfl rfl)
theorem dX11_pairAt_47 : decode cX11_pairAt 47 = .ok (.iastore, 1) := dk_79 (dk_at dksX11_pairAt_1 23 rfl rfl)
theorem dX11_pairAt_48 : decode cX11_pairAt 48 = .ok (.aload_n 0, 1) := dk_42 (dk_at dksX11_pairAt_2 0 rfl rfl)
theorem dX11_pairAt_49 : decode cX11_pairAt 49 = .ok (.getfield 98, 3) := dk_180 0 98 (dk_at dksX11_pairAt_2 1 rfl rfl)
theorem dX11_pairAt_52 : decode cX11_pairAt 52 = .ok (.aload_n 0, 1) := dk_42 (dk_at dksX11_pairAt_2 4 rfl rfl)
theorem dX11_pairAt_53 : decode cX11_pairAt 53 = .ok (.getfield 343, 3) := dk_180 1 87 (dk_at dksX11_pairAt_2 5 rfl rfl)
theorem dX11_pairAt_56 : decode cX11_pairAt 56 = .ok (.iload_n 2, 1) := dk_28 (dk_at dksX11_pairAt_2 8 rfl rfl)
theorem dX11_pairAt_57 : decode cX11_pairAt 57 = .ok (.iastore, 1) := dk_79 (dk_at dksX11_pairAt_2 9 rfl rfl)
theorem dX11_pairAt_58 : decode cX11_pairAt 58 = .ok (.aload_n 0, 1) := dk_42 (dk_at dksX11_pairAt_2 10 rfl rfl)
theorem dX11_pairAt_59 : decode cX11_pairAt 59 = .ok (.dup, 1) := dk_89 (dk_at dksX11_pairAt_2 11 rfl rfl)
theorem dX11_pairAt_60 : decode cX11_pairAt 60 = .ok (.getfield 343, 3) := dk_180 1 87 (dk_at dksX11_pairAt_2 12 rfl rfl)
theorem dX11_pairAt_63 : decode cX11_pairAt 63 = .ok (.iconst 1, 1) := dk_4 (dk_at dksX11_pairAt_2 15 rfl rfl)
theorem dX11_pairAt_64 : decode cX11_pairAt 64 = .ok (.iadd, 1) := dk_96 (dk_at dksX11_pairAt_2 16 rfl rfl)
theorem dX11_pairAt_65 : decode cX11_pairAt 65 = .ok (.putfield 343, 3) := dk_181 1 87 (dk_at dksX11_pairAt_2 17 rfl rfl)
theorem dX11_pairAt_68 : decode cX11_pairAt 68 = .ok (.aload_n 0, 1) := dk_42 (dk_at dksX11_pairAt_2 20 rfl rfl)
theorem dX11_pairAt_69 : decode cX11_pairAt 69 = .ok (.getfield 343, 3) := dk_180 1 87 (dk_at dksX11_pairAt_2 21 rfl rfl)
theorem dX11_pairAt_72 : decode cX11_pairAt 72 = .ok (.iconst 1, 1) := dk_4 (dk_at dksX11_pairAt_3 0 rfl rfl)
theorem dX11_pairAt_73 : decode cX11_pairAt 73 = .ok (.isub, 1) := dk_100 (dk_at dksX11_pairAt_3 1 rfl rfl)
theorem dX11_pairAt_74 : decode cX11_pairAt 74 = .ok (.ireturn, 1) := dk_172 (dk_at dksX11_pairAt_3 2 rfl rfl)
abbrev cX11_all : ByteArray := prog_19_method_63_code
def yX11_all : MethodName := ⟨RX11, "all", "()I"⟩
def dkwX11_all_0 : List UInt8 := [4, 42, 180, 1, 23, 120, 4, 100, 172]
abbrev dktX11_all_0 : List UInt8 := dkwX11_all_0 ++ []
theorem dksX11_all_0 : cX11_all.data.toList.drop 0 = dktX11_all_0 := by decide +kernel
theorem dX11_all_0 : decode cX11_all 0 = .ok (.iconst 1, 1) := dk_4 (dk_at dksX11_all_0 0 rfl rfl)
theorem dX11_all_1 : decode cX11_all 1 = .ok (.aload_n 0, 1) := dk_42 (dk_at dksX11_all_0 1 rfl rfl)
theorem dX11_all_2 : decode cX11_all 2 = .ok (.getfield 279, 3) := dk_180 1 23 (dk_at dksX11_all_0 2 rfl rfl)
theorem dX11_all_5 : decode cX11_all 5 = .ok (.ishl, 1) := dk_120 (dk_at dksX11_all_0 5 rfl rfl)
theorem dX11_all_6 : decode cX11_all 6 = .ok (.iconst 1, 1) := dk_4 (dk_at dksX11_all_0 6 rfl rfl)
theorem dX11_all_7 : decode cX11_all 7 = .ok (.isub, 1) := dk_100 (dk_at dksX11_all_0 7 rfl rfl)
theorem dX11_all_8 : decode cX11_all 8 = .ok (.ireturn, 1) := dk_172 (dk_at dksX11_all_0 8 rfl rfl)
abbrev cX11_reckons : ByteArray := prog_19_method_62_code
def yX11_reckons : MethodName := ⟨RX11, "reckons", "(II)V"⟩
def dkwX11_reckons_16 : List UInt8 := [17, 3, 232, 162, 0, 14, 42, 180, 0, 92, 21, 4, 42, 180, 1, 119, 79, 132, 4, 1, 167, 255, 163, 177]
abbrev dktX11_reckons_16 : List UInt8 := dkwX11_reckons_16 ++ []
def dkwX11_reckons_15 : List UInt8 := [180, 0, 101, 21, 4, 46, 42, 21, 4, 5, 182, 1, 90, 42, 21, 4, 7, 182, 1, 90, 182, 1, 122]
abbrev dktX11_reckons_15 : List UInt8 := dkwX11_reckons_15 ++ dktX11_reckons_16
def dkwX11_reckons_14 : List UInt8 := [4, 126, 154, 0, 6, 167, 0, 58, 42, 180, 0, 92, 21, 4, 7, 79, 42, 7, 181, 1, 119, 42, 42]
abbrev dktX11_reckons_14 : List UInt8 := dkwX11_reckons_14 ++ dktX11_reckons_15
def dkwX11_reckons_13 : List UInt8 := [180, 1, 23, 162, 0, 90, 42, 180, 0, 92, 21, 4, 42, 21, 4, 6, 182, 1, 90, 79, 28, 21, 4, 122]
abbrev dktX11_reckons_13 : List UInt8 := dkwX11_reckons_13 ++ dktX11_reckons_14
def dkwX11_reckons_12 : List UInt8 := [21, 4, 21, 6, 79, 4, 62, 132, 4, 1, 167, 255, 117, 167, 255, 20, 3, 54, 4, 21, 4, 42]
abbrev dktX11_reckons_12 : List UInt8 := dkwX11_reckons_12 ++ dktX11_reckons_13
def dkwX11_reckons_11 : List UInt8 := [182, 1, 116, 54, 6, 21, 6, 42, 180, 0, 89, 21, 4, 46, 161, 0, 6, 167, 0, 14, 42, 180, 0, 89]
abbrev dktX11_reckons_11 : List UInt8 := dkwX11_reckons_11 ++ dktX11_reckons_12
def dkwX11_reckons_10 : List UInt8 := [21, 4, 46, 42, 21, 4, 5, 182, 1, 90, 42, 21, 4, 7, 182, 1, 90, 42, 21, 4, 6, 182, 1, 90]
abbrev dktX11_reckons_10 : List UInt8 := dkwX11_reckons_10 ++ dktX11_reckons_11
def dkwX11_reckons_9 : List UInt8 := [21, 4, 5, 182, 1, 90, 42, 21, 4, 7, 182, 1, 90, 182, 1, 122, 167, 0, 35, 42, 42, 180, 0, 101]
abbrev dktX11_reckons_9 : List UInt8 := dkwX11_reckons_9 ++ dktX11_reckons_10
def dkwX11_reckons_8 : List UInt8 := [160, 0, 7, 4, 167, 0, 4, 3, 54, 5, 21, 5, 153, 0, 31, 42, 42, 180, 0, 101, 21, 4, 46, 42]
abbrev dktX11_reckons_8 : List UInt8 := dkwX11_reckons_8 ++ dktX11_reckons_9
def dkwX11_reckons_7 : List UInt8 := [27, 21, 4, 122, 4, 126, 154, 0, 6, 167, 0, 118, 42, 7, 181, 1, 119, 28, 21, 4, 122, 4, 126, 4]
abbrev dktX11_reckons_7 : List UInt8 := dkwX11_reckons_7 ++ dktX11_reckons_8
def dkwX11_reckons_6 : List UInt8 := [132, 5, 1, 167, 255, 195, 132, 4, 1, 167, 255, 177, 3, 54, 4, 21, 4, 42, 180, 1, 23, 162, 0, 136]
abbrev dktX11_reckons_6 : List UInt8 := dkwX11_reckons_6 ++ dktX11_reckons_7
def dkwX11_reckons_5 : List UInt8 := [46, 161, 0, 6, 167, 0, 20, 42, 180, 0, 104, 16, 8, 21, 4, 104, 21, 5, 96, 21, 6, 79, 4, 62]
abbrev dktX11_reckons_5 : List UInt8 := dkwX11_reckons_5 ++ dktX11_reckons_6
def dkwX11_reckons_4 : List UInt8 := [21, 4, 21, 5, 3, 182, 1, 122, 54, 6, 21, 6, 42, 180, 0, 104, 16, 8, 21, 4, 104, 21, 5, 96]
abbrev dktX11_reckons_4 : List UInt8 := dkwX11_reckons_4 ++ dktX11_reckons_5
def dkwX11_reckons_3 : List UInt8 := [54, 4, 21, 4, 42, 180, 1, 87, 162, 0, 76, 3, 54, 5, 21, 5, 42, 180, 1, 13, 162, 0, 58, 42]
abbrev dktX11_reckons_3 : List UInt8 := dkwX11_reckons_3 ++ dktX11_reckons_4
def dkwX11_reckons_2 : List UInt8 := [42, 180, 0, 104, 29, 17, 3, 232, 79, 132, 3, 1, 167, 255, 233, 4, 62, 29, 153, 0, 238, 3, 62, 3]
abbrev dktX11_reckons_2 : List UInt8 := dkwX11_reckons_2 ++ dktX11_reckons_3
def dkwX11_reckons_1 : List UInt8 := [29, 17, 3, 232, 79, 132, 3, 1, 167, 255, 236, 3, 62, 29, 16, 8, 42, 180, 1, 87, 104, 162, 0, 18]
abbrev dktX11_reckons_1 : List UInt8 := dkwX11_reckons_1 ++ dktX11_reckons_2
def dkwX11_reckons_0 : List UInt8 := [42, 27, 181, 1, 96, 42, 28, 181, 1, 99, 3, 62, 29, 42, 180, 1, 23, 162, 0, 18, 42, 180, 0, 89]
abbrev dktX11_reckons_0 : List UInt8 := dkwX11_reckons_0 ++ dktX11_reckons_1
theorem dksX11_reckons_0 : cX11_reckons.data.toList.drop 0 = dktX11_reckons_0 := by decide +kernel
theorem dksX11_reckons_1 : cX11_reckons.data.toList.drop 24 = dktX11_reckons_1 := dk_seg dksX11_reckons_0 24 rfl rfl
theorem dksX11_reckons_2 : cX11_reckons.data.toList.drop 48 = dktX11_reckons_2 := dk_seg dksX11_reckons_1 24 rfl rfl
theorem dksX11_reckons_3 : cX11_reckons.data.toList.drop 72 = dktX11_reckons_3 := dk_seg dksX11_reckons_2 24 rfl rfl
theorem dksX11_reckons_4 : cX11_reckons.data.toList.drop 96 = dktX11_reckons_4 := dk_seg dksX11_reckons_3 24 rfl rfl
theorem dksX11_reckons_5 : cX11_reckons.data.toList.drop 120 = dktX11_reckons_5 := dk_seg dksX11_reckons_4 24 rfl rfl
theorem dksX11_reckons_6 : cX11_reckons.data.toList.drop 144 = dktX11_reckons_6 := dk_seg dksX11_reckons_5 24 rfl rfl
theorem dksX11_reckons_7 : cX11_reckons.data.toList.drop 168 = dktX11_reckons_7 := dk_seg dksX11_reckons_6 24 rfl rfl
theorem dksX11_reckons_8 : cX11_reckons.data.toList.drop 192 = dktX11_reckons_8 := dk_seg dksX11_reckons_7 24 rfl rfl
theorem dksX11_reckons_9 : cX11_reckons.data.toList.drop 216 = dktX11_reckons_9 := dk_seg dksX11_reckons_8 24 rfl rfl
theorem dksX11_reckons_10 : cX11_reckons.data.toList.drop 240 = dktX11_reckons_10 := dk_seg dksX11_reckons_9 24 rfl rfl
theorem dksX11_reckons_11 : cX11_reckons.data.toList.drop 264 = dktX11_reckons_11 := dk_seg dksX11_reckons_10 24 rfl rfl
theorem dksX11_reckons_12 : cX11_reckons.data.toList.drop 288 = dktX11_reckons_12 := dk_seg dksX11_reckons_11 24 rfl rfl
theorem dksX11_reckons_13 : cX11_reckons.data.toList.drop 310 = dktX11_reckons_13 := dk_seg dksX11_reckons_12 22 rfl rfl
theorem dksX11_reckons_14 : cX11_reckons.data.toList.drop 334 = dktX11_reckons_14 := dk_seg dksX11_reckons_13 24 rfl rfl
theorem dksX11_reckons_15 : cX11_reckons.data.toList.drop 357 = dktX11_reckons_15 := dk_seg dksX11_reckons_14 23 rfl rfl
theorem dksX11_reckons_16 : cX11_reckons.data.toList.drop 380 = dktX11_reckons_16 := dk_seg dksX11_reckons_15 23 rfl rfl
theorem dX11_reckons_0 : decode cX11_reckons 0 = .ok (.aload_n 0, 1) := dk_42 (dk_at dksX11_reckons_0 0 rfl rfl)
theorem dX11_reckons_1 : decode cX11_reckons 1 = .ok (.iload_n 1, 1) := dk_27 (dk_at dksX11_reckons_0 1 rfl rfl)
theorem dX11_reckons_2 : decode cX11_reckons 2 = .ok (.putfield 352, 3) := dk_181 1 96 (dk_at dksX11_reckons_0 2 rfl rfl)
theorem dX11_reckons_5 : decode cX11_reckons 5 = .ok (.aload_n 0, 1) := dk_42 (dk_at dksX11_reckons_0 5 rfl rfl)
theorem dX11_reckons_6 : decode cX11_reckons 6 = .ok (.iload_n 2, 1) := dk_28 (dk_at dksX11_reckons_0 6 rfl rfl)
theorem dX11_reckons_7 : decode cX11_reckons 7 = .ok (.putfield 355, 3) := dk_181 1 99 (dk_at dksX11_reckons_0 7 rfl rfl)
theorem dX11_reckons_10 : decode cX11_reckons 10 = .ok (.iconst 0, 1) := dk_3 (dk_at dksX11_reckons_0 10 rfl rfl)
theorem dX11_reckons_11 : decode cX11_reckons 11 = .ok (.istore_n 3, 1) := dk_62 (dk_at dksX11_reckons_0 11 rfl rfl)
theorem dX11_reckons_12 : decode cX11_reckons 12 = .ok (.iload_n 3, 1) := dk_29 (dk_at dksX11_reckons_0 12 rfl rfl)
theorem dX11_reckons_13 : decode cX11_reckons 13 = .ok (.aload_n 0, 1) := dk_42 (dk_at dksX11_reckons_0 13 rfl rfl)
theorem dX11_reckons_14 : decode cX11_reckons 14 = .ok (.getfield 279, 3) := dk_180 1 23 (dk_at dksX11_reckons_0 14 rfl rfl)
theorem dX11_reckons_17 : decode cX11_reckons 17 = .ok (.if_icmp .ge 18, 3) := dk_162 0 18 (dk_at dksX11_reckons_0 17 rfl rfl)
theorem dX11_reckons_20 : decode cX11_reckons 20 = .ok (.aload_n 0, 1) := dk_42 (dk_at dksX11_reckons_0 20 rfl rfl)
theorem dX11_reckons_21 : decode cX11_reckons 21 = .ok (.getfield 89, 3) := dk_180 0 89 (dk_at dksX11_reckons_0 21 rfl rfl)
theorem dX11_reckons_24 : decode cX11_reckons 24 = .ok (.iload_n 3, 1) := dk_29 (dk_at dksX11_reckons_1 0 rfl rfl)
theorem dX11_reckons_25 : decode cX11_reckons 25 = .ok (.sipush 1000, 3) := dk_17 3 232 (dk_at dksX11_reckons_1 1 rfl rfl)
theorem dX11_reckons_28 : decode cX11_reckons 28 = .ok (.iastore, 1) := dk_79 (dk_at dksX11_reckons_1 4 rfl rfl)
theorem dX11_reckons_29 : decode cX11_reckons 29 = .ok (.iinc 3 1, 3) := dk_132 3 1 (dk_at dksX11_reckons_1 5 rfl rfl)
theorem dX11_reckons_32 : decode cX11_reckons 32 = .ok (.goto (-20), 3) := dk_167 255 236 (dk_at dksX11_reckons_1 8 rfl rfl)
theorem dX11_reckons_35 : decode cX11_reckons 35 = .ok (.iconst 0, 1) := dk_3 (dk_at dksX11_reckons_1 11 rfl rfl)
theorem dX11_reckons_36 : decode cX11_reckons 36 = .ok (.istore_n 3, 1) := dk_62 (dk_at dksX11_reckons_1 12 rfl rfl)
theorem dX11_reckons_37 : decode cX11_reckons 37 = .ok (.iload_n 3, 1) := dk_29 (dk_at dksX11_reckons_1 13 rfl rfl)
theorem dX11_reckons_38 : decode cX11_reckons 38 = .ok (.bipush 8, 2) := dk_16 8 (dk_at dksX11_reckons_1 14 rfl rfl)
theorem dX11_reckons_40 : decode cX11_reckons 40 = .ok (.aload_n 0, 1) := dk_42 (dk_at dksX11_reckons_1 16 rfl rfl)
theorem dX11_reckons_41 : decode cX11_reckons 41 = .ok (.getfield 343, 3) := dk_180 1 87 (dk_at dksX11_reckons_1 17 rfl rfl)
theorem dX11_reckons_44 : decode cX11_reckons 44 = .ok (.imul, 1) := dk_104 (dk_at dksX11_reckons_1 20 rfl rfl)
theorem dX11_reckons_45 : decode cX11_reckons 45 = .ok (.if_icmp .ge 18, 3) := dk_162 0 18 (dk_at dksX11_reckons_1 21 rfl rfl)
theorem dX11_reckons_48 : decode cX11_reckons 48 = .ok (.aload_n 0, 1) := dk_42 (dk_at dksX11_reckons_2 0 rfl rfl)
theorem dX11_reckons_49 : decode cX11_reckons 49 = .ok (.getfield 104, 3) := dk_180 0 104 (dk_at dksX11_reckons_2 1 rfl rfl)
theorem dX11_reckons_52 : decode cX11_reckons 52 = .ok (.iload_n 3, 1) := dk_29 (dk_at dksX11_reckons_2 4 rfl rfl)
theorem dX11_reckons_53 : decode cX11_reckons 53 = .ok (.sipush 1000, 3) := dk_17 3 232 (dk_at dksX11_reckons_2 5 rfl rfl)
theorem dX11_reckons_56 : decode cX11_reckons 56 = .ok (.iastore, 1) := dk_79 (dk_at dksX11_reckons_2 8 rfl rfl)
theorem dX11_reckons_57 : decode cX11_reckons 57 = .ok (.iinc 3 1, 3) := dk_132 3 1 (dk_at dksX11_reckons_2 9 rfl rfl)
theorem dX11_reckons_60 : decode cX11_reckons 60 = .ok (.goto (-23), 3) := dk_167 255 233 (dk_at dksX11_reckons_2 12 rfl rfl)
theorem dX11_reckons_63 : decode cX11_reckons 63 = .ok (.iconst 1, 1) := dk_4 (dk_at dksX11_reckons_2 15 rfl rfl)
theorem dX11_reckons_64 : decode cX11_reckons 64 = .ok (.istore_n 3, 1) := dk_62 (dk_at dksX11_reckons_2 16 rfl rfl)
theorem dX11_reckons_65 : decode cX11_reckons 65 = .ok (.iload_n 3, 1) := dk_29 (dk_at dksX11_reckons_2 17 rfl rfl)
theorem dX11_reckons_66 : decode cX11_reckons 66 = .ok (.ifCond .eq 238, 3) := dk_153 0 238 (dk_at dksX11_reckons_2 18 rfl rfl)
theorem dX11_reckons_69 : decode cX11_reckons 69 = .ok (.iconst 0, 1) := dk_3 (dk_at dksX11_reckons_2 21 rfl rfl)
theorem dX11_reckons_70 : decode cX11_reckons 70 = .ok (.istore_n 3, 1) := dk_62 (dk_at dksX11_reckons_2 22 rfl rfl)
theorem dX11_reckons_71 : decode cX11_reckons 71 = .ok (.iconst 0, 1) := dk_3 (dk_at dksX11_reckons_2 23 rfl rfl)
theorem dX11_reckons_72 : decode cX11_reckons 72 = .ok (.istore 4, 2) := dk_54 4 (dk_at dksX11_reckons_3 0 rfl rfl)
theorem dX11_reckons_74 : decode cX11_reckons 74 = .ok (.iload 4, 2) := dk_21 4 (dk_at dksX11_reckons_3 2 rfl rfl)
theorem dX11_reckons_76 : decode cX11_reckons 76 = .ok (.aload_n 0, 1) := dk_42 (dk_at dksX11_reckons_3 4 rfl rfl)
theorem dX11_reckons_77 : decode cX11_reckons 77 = .ok (.getfield 343, 3) := dk_180 1 87 (dk_at dksX11_reckons_3 5 rfl rfl)
theorem dX11_reckons_80 : decode cX11_reckons 80 = .ok (.if_icmp .ge 76, 3) := dk_162 0 76 (dk_at dksX11_reckons_3 8 rfl rfl)
theorem dX11_reckons_83 : decode cX11_reckons 83 = .ok (.iconst 0, 1) := dk_3 (dk_at dksX11_reckons_3 11 rfl rfl)
theorem dX11_reckons_84 : decode cX11_reckons 84 = .ok (.istore 5, 2) := dk_54 5 (dk_at dksX11_reckons_3 12 rfl rfl)
theorem dX11_reckons_86 : decode cX11_reckons 86 = .ok (.iload 5, 2) := dk_21 5 (dk_at dksX11_reckons_3 14 rfl rfl)
theorem dX11_reckons_88 : decode cX11_reckons 88 = .ok (.aload_n 0, 1) := dk_42 (dk_at dksX11_reckons_3 16 rfl rfl)
theorem dX11_reckons_89 : decode cX11_reckons 89 = .ok (.getfield 269, 3) := dk_180 1 13 (dk_at dksX11_reckons_3 17 rfl rfl)
theorem dX11_reckons_92 : decode cX11_reckons 92 = .ok (.if_icmp .ge 58, 3) := dk_162 0 58 (dk_at dksX11_reckons_3 20 rfl rfl)
theorem dX11_reckons_95 : decode cX11_reckons 95 = .ok (.aload_n 0, 1) := dk_42 (dk_at dksX11_reckons_3 23 rfl rfl)
theorem dX11_reckons_96 : decode cX11_reckons 96 = .ok (.iload 4, 2) := dk_21 4 (dk_at dksX11_reckons_4 0 rfl rfl)
theorem dX11_reckons_98 : decode cX11_reckons 98 = .ok (.iload 5, 2) := dk_21 5 (dk_at dksX11_reckons_4 2 rfl rfl)
theorem dX11_reckons_100 : decode cX11_reckons 100 = .ok (.iconst 0, 1) := dk_3 (dk_at dksX11_reckons_4 4 rfl rfl)
theorem dX11_reckons_101 : decode cX11_reckons 101 = .ok (.invokevirtual 378, 3) := dk_182 1 122 (dk_at dksX11_reckons_4 5 rfl rfl)
theorem dX11_reckons_104 : decode cX11_reckons 104 = .ok (.istore 6, 2) := dk_54 6 (dk_at dksX11_reckons_4 8 rfl rfl)
theorem dX11_reckons_106 : decode cX11_reckons 106 = .ok (.iload 6, 2) := dk_21 6 (dk_at dksX11_reckons_4 10 rfl rfl)
theorem dX11_reckons_108 : decode cX11_reckons 108 = .ok (.aload_n 0, 1) := dk_42 (dk_at dksX11_reckons_4 12 rfl rfl)
theorem dX11_reckons_109 : decode cX11_reckons 109 = .ok (.getfield 104, 3) := dk_180 0 104 (dk_at dksX11_reckons_4 13 rfl rfl)
theorem dX11_reckons_112 : decode cX11_reckons 112 = .ok (.bipush 8, 2) := dk_16 8 (dk_at dksX11_reckons_4 16 rfl rfl)
theorem dX11_reckons_114 : decode cX11_reckons 114 = .ok (.iload 4, 2) := dk_21 4 (dk_at dksX11_reckons_4 18 rfl rfl)
theorem dX11_reckons_116 : decode cX11_reckons 116 = .ok (.imul, 1) := dk_104 (dk_at dksX11_reckons_4 20 rfl rfl)
theorem dX11_reckons_117 : decode cX11_reckons 117 = .ok (.iload 5, 2) := dk_21 5 (dk_at dksX11_reckons_4 21 rfl rfl)
theorem dX11_reckons_119 : decode cX11_reckons 119 = .ok (.iadd, 1) := dk_96 (dk_at dksX11_reckons_4 23 rfl rfl)
theorem dX11_reckons_120 : decode cX11_reckons 120 = .ok (.iaload, 1) := dk_46 (dk_at dksX11_reckons_5 0 rfl rfl)
theorem dX11_reckons_121 : decode cX11_reckons 121 = .ok (.if_icmp .lt 6, 3) := dk_161 0 6 (dk_at dksX11_reckons_5 1 rfl rfl)
theorem dX11_reckons_124 : decode cX11_reckons 124 = .ok (.goto 20, 3) := dk_167 0 20 (dk_at dksX11_reckons_5 4 rfl rfl)
theorem dX11_reckons_127 : decode cX11_reckons 127 = .ok (.aload_n 0, 1) := dk_42 (dk_at dksX11_reckons_5 7 rfl rfl)
theorem dX11_reckons_128 : decode cX11_reckons 128 = .ok (.getfield 104, 3) := dk_180 0 104 (dk_at dksX11_reckons_5 8 rfl rfl)
theorem dX11_reckons_131 : decode cX11_reckons 131 = .ok (.bipush 8, 2) := dk_16 8 (dk_at dksX11_reckons_5 11 rfl rfl)
theorem dX11_reckons_133 : decode cX11_reckons 133 = .ok (.iload 4, 2) := dk_21 4 (dk_at dksX11_reckons_5 13 rfl rfl)
theorem dX11_reckons_135 : decode cX11_reckons 135 = .ok (.imul, 1) := dk_104 (dk_at dksX11_reckons_5 15 rfl rfl)
theorem dX11_reckons_136 : decode cX11_reckons 136 = .ok (.iload 5, 2) := dk_21 5 (dk_at dksX11_reckons_5 16 rfl rfl)
theorem dX11_reckons_138 : decode cX11_reckons 138 = .ok (.iadd, 1) := dk_96 (dk_at dksX11_reckons_5 18 rfl rfl)
theorem dX11_reckons_139 : decode cX11_reckons 139 = .ok (.iload 6, 2) := dk_21 6 (dk_at dksX11_reckons_5 19 rfl rfl)
theorem dX11_reckons_141 : decode cX11_reckons 141 = .ok (.iastore, 1) := dk_79 (dk_at dksX11_reckons_5 21 rfl rfl)
theorem dX11_reckons_142 : decode cX11_reckons 142 = .ok (.iconst 1, 1) := dk_4 (dk_at dksX11_reckons_5 22 rfl rfl)
theorem dX11_reckons_143 : decode cX11_reckons 143 = .ok (.istore_n 3, 1) := dk_62 (dk_at dksX11_reckons_5 23 rfl rfl)
theorem dX11_reckons_144 : decode cX11_reckons 144 = .ok (.iinc 5 1, 3) := dk_132 5 1 (dk_at dksX11_reckons_6 0 rfl rfl)
theorem dX11_reckons_147 : decode cX11_reckons 147 = .ok (.goto (-61), 3) := dk_167 255 195 (dk_at dksX11_reckons_6 3 rfl rfl)
theorem dX11_reckons_150 : decode cX11_reckons 150 = .ok (.iinc 4 1, 3) := dk_132 4 1 (dk_at dksX11_reckons_6 6 rfl rfl)
theorem dX11_reckons_153 : decode cX11_reckons 153 = .ok (.goto (-79), 3) := dk_167 255 177 (dk_at dksX11_reckons_6 9 rfl rfl)
theorem dX11_reckons_156 : decode cX11_reckons 156 = .ok (.iconst 0, 1) := dk_3 (dk_at dksX11_reckons_6 12 rfl rfl)
theorem dX11_reckons_157 : decode cX11_reckons 157 = .ok (.istore 4, 2) := dk_54 4 (dk_at dksX11_reckons_6 13 rfl rfl)
theorem dX11_reckons_159 : decode cX11_reckons 159 = .ok (.iload 4, 2) := dk_21 4 (dk_at dksX11_reckons_6 15 rfl rfl)
theorem dX11_reckons_161 : decode cX11_reckons 161 = .ok (.aload_n 0, 1) := dk_42 (dk_at dksX11_reckons_6 17 rfl rfl)
theorem dX11_reckons_162 : decode cX11_reckons 162 = .ok (.getfield 279, 3) := dk_180 1 23 (dk_at dksX11_reckons_6 18 rfl rfl)
theorem dX11_reckons_165 : decode cX11_reckons 165 = .ok (.if_icmp .ge 136, 3) := dk_162 0 136 (dk_at dksX11_reckons_6 21 rfl rfl)
theorem dX11_reckons_168 : decode cX11_reckons 168 = .ok (.iload_n 1, 1) := dk_27 (dk_at dksX11_reckons_7 0 rfl rfl)
theorem dX11_reckons_169 : decode cX11_reckons 169 = .ok (.iload 4, 2) := dk_21 4 (dk_at dksX11_reckons_7 1 rfl rfl)
theorem dX11_reckons_171 : decode cX11_reckons 171 = .ok (.ishr, 1) := dk_122 (dk_at dksX11_reckons_7 3 rfl rfl)
theorem dX11_reckons_172 : decode cX11_reckons 172 = .ok (.iconst 1, 1) := dk_4 (dk_at dksX11_reckons_7 4 rfl rfl)
theorem dX11_reckons_173 : decode cX11_reckons 173 = .ok (.iand, 1) := dk_126 (dk_at dksX11_reckons_7 5 rfl rfl)
theorem dX11_reckons_174 : decode cX11_reckons 174 = .ok (.ifCond .ne 6, 3) := dk_154 0 6 (dk_at dksX11_reckons_7 6 rfl rfl)
theorem dX11_reckons_177 : decode cX11_reckons 177 = .ok (.goto 118, 3) := dk_167 0 118 (dk_at dksX11_reckons_7 9 rfl rfl)
theorem dX11_reckons_180 : decode cX11_reckons 180 = .ok (.aload_n 0, 1) := dk_42 (dk_at dksX11_reckons_7 12 rfl rfl)
theorem dX11_reckons_181 : decode cX11_reckons 181 = .ok (.iconst 4, 1) := dk_7 (dk_at dksX11_reckons_7 13 rfl rfl)
theorem dX11_reckons_182 : decode cX11_reckons 182 = .ok (.putfield 375, 3) := dk_181 1 119 (dk_at dksX11_reckons_7 14 rfl rfl)
theorem dX11_reckons_185 : decode cX11_reckons 185 = .ok (.iload_n 2, 1) := dk_28 (dk_at dksX11_reckons_7 17 rfl rfl)
theorem dX11_reckons_186 : decode cX11_reckons 186 = .ok (.iload 4, 2) := dk_21 4 (dk_at dksX11_reckons_7 18 rfl rfl)
theorem dX11_reckons_188 : decode cX11_reckons 188 = .ok (.ishr, 1) := dk_122 (dk_at dksX11_reckons_7 20 rfl rfl)
theorem dX11_reckons_189 : decode cX11_reckons 189 = .ok (.iconst 1, 1) := dk_4 (dk_at dksX11_reckons_7 21 rfl rfl)
theorem dX11_reckons_190 : decode cX11_reckons 190 = .ok (.iand, 1) := dk_126 (dk_at dksX11_reckons_7 22 rfl rfl)
theorem dX11_reckons_191 : decode cX11_reckons 191 = .ok (.iconst 1, 1) := dk_4 (dk_at dksX11_reckons_7 23 rfl rfl)
theorem dX11_reckons_192 : decode cX11_reckons 192 = .ok (.if_icmp .ne 7, 3) := dk_160 0 7 (dk_at dksX11_reckons_8 0 rfl rfl)
theorem dX11_reckons_195 : decode cX11_reckons 195 = .ok (.iconst 1, 1) := dk_4 (dk_at dksX11_reckons_8 3 rfl rfl)
theorem dX11_reckons_196 : decode cX11_reckons 196 = .ok (.goto 4, 3) := dk_167 0 4 (dk_at dksX11_reckons_8 4 rfl rfl)
theorem dX11_reckons_199 : decode cX11_reckons 199 = .ok (.iconst 0, 1) := dk_3 (dk_at dksX11_reckons_8 7 rfl rfl)
theorem dX11_reckons_200 : decode cX11_reckons 200 = .ok (.istore 5, 2) := dk_54 5 (dk_at dksX11_reckons_8 8 rfl rfl)
theorem dX11_reckons_202 : decode cX11_reckons 202 = .ok (.iload 5, 2) := dk_21 5 (dk_at dksX11_reckons_8 10 rfl rfl)
theorem dX11_reckons_204 : decode cX11_reckons 204 = .ok (.ifCond .eq 31, 3) := dk_153 0 31 (dk_at dksX11_reckons_8 12 rfl rfl)
theorem dX11_reckons_207 : decode cX11_reckons 207 = .ok (.aload_n 0, 1) := dk_42 (dk_at dksX11_reckons_8 15 rfl rfl)
theorem dX11_reckons_208 : decode cX11_reckons 208 = .ok (.aload_n 0, 1) := dk_42 (dk_at dksX11_reckons_8 16 rfl rfl)
theorem dX11_reckons_209 : decode cX11_reckons 209 = .ok (.getfield 101, 3) := dk_180 0 101 (dk_at dksX11_reckons_8 17 rfl rfl)
theorem dX11_reckons_212 : decode cX11_reckons 212 = .ok (.iload 4, 2) := dk_21 4 (dk_at dksX11_reckons_8 20 rfl rfl)
theorem dX11_reckons_214 : decode cX11_reckons 214 = .ok (.iaload, 1) := dk_46 (dk_at dksX11_reckons_8 22 rfl rfl)
theorem dX11_reckons_215 : decode cX11_reckons 215 = .ok (.aload_n 0, 1) := dk_42 (dk_at dksX11_reckons_8 23 rfl rfl)
theorem dX11_reckons_216 : decode cX11_reckons 216 = .ok (.iload 4, 2) := dk_21 4 (dk_at dksX11_reckons_9 0 rfl rfl)
theorem dX11_reckons_218 : decode cX11_reckons 218 = .ok (.iconst 2, 1) := dk_5 (dk_at dksX11_reckons_9 2 rfl rfl)
theorem dX11_reckons_219 : decode cX11_reckons 219 = .ok (.invokevirtual 346, 3) := dk_182 1 90 (dk_at dksX11_reckons_9 3 rfl rfl)
theorem dX11_reckons_222 : decode cX11_reckons 222 = .ok (.aload_n 0, 1) := dk_42 (dk_at dksX11_reckons_9 6 rfl rfl)
theorem dX11_reckons_223 : decode cX11_reckons 223 = .ok (.iload 4, 2) := dk_21 4 (dk_at dksX11_reckons_9 7 rfl rfl)
theorem dX11_reckons_225 : decode cX11_reckons 225 = .ok (.iconst 4, 1) := dk_7 (dk_at dksX11_reckons_9 9 rfl rfl)
theorem dX11_reckons_226 : decode cX11_reckons 226 = .ok (.invokevirtual 346, 3) := dk_182 1 90 (dk_at dksX11_reckons_9 10 rfl rfl)
theorem dX11_reckons_229 : decode cX11_reckons 229 = .ok (.invokevirtual 378, 3) := dk_182 1 122 (dk_at dksX11_reckons_9 13 rfl rfl)
theorem dX11_reckons_232 : decode cX11_reckons 232 = .ok (.goto 35, 3) := dk_167 0 35 (dk_at dksX11_reckons_9 16 rfl rfl)
theorem dX11_reckons_235 : decode cX11_reckons 235 = .ok (.aload_n 0, 1) := dk_42 (dk_at dksX11_reckons_9 19 rfl rfl)
theorem dX11_reckons_236 : decode cX11_reckons 236 = .ok (.aload_n 0, 1) := dk_42 (dk_at dksX11_reckons_9 20 rfl rfl)
theorem dX11_reckons_237 : decode cX11_reckons 237 = .ok (.getfield 101, 3) := dk_180 0 101 (dk_at dksX11_reckons_9 21 rfl rfl)
theorem dX11_reckons_240 : decode cX11_reckons 240 = .ok (.iload 4, 2) := dk_21 4 (dk_at dksX11_reckons_10 0 rfl rfl)
theorem dX11_reckons_242 : decode cX11_reckons 242 = .ok (.iaload, 1) := dk_46 (dk_at dksX11_reckons_10 2 rfl rfl)
theorem dX11_reckons_243 : decode cX11_reckons 243 = .ok (.aload_n 0, 1) := dk_42 (dk_at dksX11_reckons_10 3 rfl rfl)
theorem dX11_reckons_244 : decode cX11_reckons 244 = .ok (.iload 4, 2) := dk_21 4 (dk_at dksX11_reckons_10 4 rfl rfl)
theorem dX11_reckons_246 : decode cX11_reckons 246 = .ok (.iconst 2, 1) := dk_5 (dk_at dksX11_reckons_10 6 rfl rfl)
theorem dX11_reckons_247 : decode cX11_reckons 247 = .ok (.invokevirtual 346, 3) := dk_182 1 90 (dk_at dksX11_reckons_10 7 rfl rfl)
theorem dX11_reckons_250 : decode cX11_reckons 250 = .ok (.aload_n 0, 1) := dk_42 (dk_at dksX11_reckons_10 10 rfl rfl)
theorem dX11_reckons_251 : decode cX11_reckons 251 = .ok (.iload 4, 2) := dk_21 4 (dk_at dksX11_reckons_10 11 rfl rfl)
theorem dX11_reckons_253 : decode cX11_reckons 253 = .ok (.iconst 4, 1) := dk_7 (dk_at dksX11_reckons_10 13 rfl rfl)
theorem dX11_reckons_254 : decode cX11_reckons 254 = .ok (.invokevirtual 346, 3) := dk_182 1 90 (dk_at dksX11_reckons_10 14 rfl rfl)
theorem dX11_reckons_257 : decode cX11_reckons 257 = .ok (.aload_n 0, 1) := dk_42 (dk_at dksX11_reckons_10 17 rfl rfl)
theorem dX11_reckons_258 : decode cX11_reckons 258 = .ok (.iload 4, 2) := dk_21 4 (dk_at dksX11_reckons_10 18 rfl rfl)
theorem dX11_reckons_260 : decode cX11_reckons 260 = .ok (.iconst 3, 1) := dk_6 (dk_at dksX11_reckons_10 20 rfl rfl)
theorem dX11_reckons_261 : decode cX11_reckons 261 = .ok (.invokevirtual 346, 3) := dk_182 1 90 (dk_at dksX11_reckons_10 21 rfl rfl)
theorem dX11_reckons_264 : decode cX11_reckons 264 = .ok (.invokevirtual 372, 3) := dk_182 1 116 (dk_at dksX11_reckons_11 0 rfl rfl)
theorem dX11_reckons_267 : decode cX11_reckons 267 = .ok (.istore 6, 2) := dk_54 6 (dk_at dksX11_reckons_11 3 rfl rfl)
theorem dX11_reckons_269 : decode cX11_reckons 269 = .ok (.iload 6, 2) := dk_21 6 (dk_at dksX11_reckons_11 5 rfl rfl)
theorem dX11_reckons_271 : decode cX11_reckons 271 = .ok (.aload_n 0, 1) := dk_42 (dk_at dksX11_reckons_11 7 rfl rfl)
theorem dX11_reckons_272 : decode cX11_reckons 272 = .ok (.getfield 89, 3) := dk_180 0 89 (dk_at dksX11_reckons_11 8 rfl rfl)
theorem dX11_reckons_275 : decode cX11_reckons 275 = .ok (.iload 4, 2) := dk_21 4 (dk_at dksX11_reckons_11 11 rfl rfl)
theorem dX11_reckons_277 : decode cX11_reckons 277 = .ok (.iaload, 1) := dk_46 (dk_at dksX11_reckons_11 13 rfl rfl)
theorem dX11_reckons_278 : decode cX11_reckons 278 = .ok (.if_icmp .lt 6, 3) := dk_161 0 6 (dk_at dksX11_reckons_11 14 rfl rfl)
theorem dX11_reckons_281 : decode cX11_reckons 281 = .ok (.goto 14, 3) := dk_167 0 14 (dk_at dksX11_reckons_11 17 rfl rfl)
theorem dX11_reckons_284 : decode cX11_reckons 284 = .ok (.aload_n 0, 1) := dk_42 (dk_at dksX11_reckons_11 20 rfl rfl)
theorem dX11_reckons_285 : decode cX11_reckons 285 = .ok (.getfield 89, 3) := dk_180 0 89 (dk_at dksX11_reckons_11 21 rfl rfl)
theorem dX11_reckons_288 : decode cX11_reckons 288 = .ok (.iload 4, 2) := dk_21 4 (dk_at dksX11_reckons_12 0 rfl rfl)
theorem dX11_reckons_290 : decode cX11_reckons 290 = .ok (.iload 6, 2) := dk_21 6 (dk_at dksX11_reckons_12 2 rfl rfl)
theorem dX11_reckons_292 : decode cX11_reckons 292 = .ok (.iastore, 1) := dk_79 (dk_at dksX11_reckons_12 4 rfl rfl)
theorem dX11_reckons_293 : decode cX11_reckons 293 = .ok (.iconst 1, 1) := dk_4 (dk_at dksX11_reckons_12 5 rfl rfl)
theorem dX11_reckons_294 : decode cX11_reckons 294 = .ok (.istore_n 3, 1) := dk_62 (dk_at dksX11_reckons_12 6 rfl rfl)
theorem dX11_reckons_295 : decode cX11_reckons 295 = .ok (.iinc 4 1, 3) := dk_132 4 1 (dk_at dksX11_reckons_12 7 rfl rfl)
theorem dX11_reckons_298 : decode cX11_reckons 298 = .ok (.goto (-139), 3) := dk_167 255 117 (dk_at dksX11_reckons_12 10 rfl rfl)
theorem dX11_reckons_301 : decode cX11_reckons 301 = .ok (.goto (-236), 3) := dk_167 255 20 (dk_at dksX11_reckons_12 13 rfl rfl)
theorem dX11_reckons_304 : decode cX11_reckons 304 = .ok (.iconst 0, 1) := dk_3 (dk_at dksX11_reckons_12 16 rfl rfl)
theorem dX11_reckons_305 : decode cX11_reckons 305 = .ok (.istore 4, 2) := dk_54 4 (dk_at dksX11_reckons_12 17 rfl rfl)
theorem dX11_reckons_307 : decode cX11_reckons 307 = .ok (.iload 4, 2) := dk_21 4 (dk_at dksX11_reckons_12 19 rfl rfl)
theorem dX11_reckons_309 : decode cX11_reckons 309 = .ok (.aload_n 0, 1) := dk_42 (dk_at dksX11_reckons_12 21 rfl rfl)
theorem dX11_reckons_310 : decode cX11_reckons 310 = .ok (.getfield 279, 3) := dk_180 1 23 (dk_at dksX11_reckons_13 0 rfl rfl)
theorem dX11_reckons_313 : decode cX11_reckons 313 = .ok (.if_icmp .ge 90, 3) := dk_162 0 90 (dk_at dksX11_reckons_13 3 rfl rfl)
theorem dX11_reckons_316 : decode cX11_reckons 316 = .ok (.aload_n 0, 1) := dk_42 (dk_at dksX11_reckons_13 6 rfl rfl)
theorem dX11_reckons_317 : decode cX11_reckons 317 = .ok (.getfield 92, 3) := dk_180 0 92 (dk_at dksX11_reckons_13 7 rfl rfl)
theorem dX11_reckons_320 : decode cX11_reckons 320 = .ok (.iload 4, 2) := dk_21 4 (dk_at dksX11_reckons_13 10 rfl rfl)
theorem dX11_reckons_322 : decode cX11_reckons 322 = .ok (.aload_n 0, 1) := dk_42 (dk_at dksX11_reckons_13 12 rfl rfl)
theorem dX11_reckons_323 : decode cX11_reckons 323 = .ok (.iload 4, 2) := dk_21 4 (dk_at dksX11_reckons_13 13 rfl rfl)
theorem dX11_reckons_325 : decode cX11_reckons 325 = .ok (.iconst 3, 1) := dk_6 (dk_at dksX11_reckons_13 15 rfl rfl)
theorem dX11_reckons_326 : decode cX11_reckons 326 = .ok (.invokevirtual 346, 3) := dk_182 1 90 (dk_at dksX11_reckons_13 16 rfl rfl)
theorem dX11_reckons_329 : decode cX11_reckons 329 = .ok (.iastore, 1) := dk_79 (dk_at dksX11_reckons_13 19 rfl rfl)
theorem dX11_reckons_330 : decode cX11_reckons 330 = .ok (.iload_n 2, 1) := dk_28 (dk_at dksX11_reckons_13 20 rfl rfl)
theorem dX11_reckons_331 : decode cX11_reckons 331 = .ok (.iload 4, 2) := dk_21 4 (dk_at dksX11_reckons_13 21 rfl rfl)
theorem dX11_reckons_333 : decode cX11_reckons 333 = .ok (.ishr, 1) := dk_122 (dk_at dksX11_reckons_13 23 rfl rfl)
theorem dX11_reckons_334 : decode cX11_reckons 334 = .ok (.iconst 1, 1) := dk_4 (dk_at dksX11_reckons_14 0 rfl rfl)
theorem dX11_reckons_335 : decode cX11_reckons 335 = .ok (.iand, 1) := dk_126 (dk_at dksX11_reckons_14 1 rfl rfl)
theorem dX11_reckons_336 : decode cX11_reckons 336 = .ok (.ifCond .ne 6, 3) := dk_154 0 6 (dk_at dksX11_reckons_14 2 rfl rfl)
theorem dX11_reckons_339 : decode cX11_reckons 339 = .ok (.goto 58, 3) := dk_167 0 58 (dk_at dksX11_reckons_14 5 rfl rfl)
theorem dX11_reckons_342 : decode cX11_reckons 342 = .ok (.aload_n 0, 1) := dk_42 (dk_at dksX11_reckons_14 8 rfl rfl)
theorem dX11_reckons_343 : decode cX11_reckons 343 = .ok (.getfield 92, 3) := dk_180 0 92 (dk_at dksX11_reckons_14 9 rfl rfl)
theorem dX11_reckons_346 : decode cX11_reckons 346 = .ok (.iload 4, 2) := dk_21 4 (dk_at dksX11_reckons_14 12 rfl rfl)
theorem dX11_reckons_348 : decode cX11_reckons 348 = .ok (.iconst 4, 1) := dk_7 (dk_at dksX11_reckons_14 14 rfl rfl)
theorem dX11_reckons_349 : decode cX11_reckons 349 = .ok (.iastore, 1) := dk_79 (dk_at dksX11_reckons_14 15 rfl rfl)
theorem dX11_reckons_350 : decode cX11_reckons 350 = .ok (.aload_n 0, 1) := dk_42 (dk_at dksX11_reckons_14 16 rfl rfl)
theorem dX11_reckons_351 : decode cX11_reckons 351 = .ok (.iconst 4, 1) := dk_7 (dk_at dksX11_reckons_14 17 rfl rfl)
theorem dX11_reckons_352 : decode cX11_reckons 352 = .ok (.putfield 375, 3) := dk_181 1 119 (dk_at dksX11_reckons_14 18 rfl rfl)
theorem dX11_reckons_355 : decode cX11_reckons 355 = .ok (.aload_n 0, 1) := dk_42 (dk_at dksX11_reckons_14 21 rfl rfl)
theorem dX11_reckons_356 : decode cX11_reckons 356 = .ok (.aload_n 0, 1) := dk_42 (dk_at dksX11_reckons_14 22 rfl rfl)
theorem dX11_reckons_357 : decode cX11_reckons 357 = .ok (.getfield 101, 3) := dk_180 0 101 (dk_at dksX11_reckons_15 0 rfl rfl)
theorem dX11_reckons_360 : decode cX11_reckons 360 = .ok (.iload 4, 2) := dk_21 4 (dk_at dksX11_reckons_15 3 rfl rfl)
theorem dX11_reckons_362 : decode cX11_reckons 362 = .ok (.iaload, 1) := dk_46 (dk_at dksX11_reckons_15 5 rfl rfl)
theorem dX11_reckons_363 : decode cX11_reckons 363 = .ok (.aload_n 0, 1) := dk_42 (dk_at dksX11_reckons_15 6 rfl rfl)
theorem dX11_reckons_364 : decode cX11_reckons 364 = .ok (.iload 4, 2) := dk_21 4 (dk_at dksX11_reckons_15 7 rfl rfl)
theorem dX11_reckons_366 : decode cX11_reckons 366 = .ok (.iconst 2, 1) := dk_5 (dk_at dksX11_reckons_15 9 rfl rfl)
theorem dX11_reckons_367 : decode cX11_reckons 367 = .ok (.invokevirtual 346, 3) := dk_182 1 90 (dk_at dksX11_reckons_15 10 rfl rfl)
theorem dX11_reckons_370 : decode cX11_reckons 370 = .ok (.aload_n 0, 1) := dk_42 (dk_at dksX11_reckons_15 13 rfl rfl)
theorem dX11_reckons_371 : decode cX11_reckons 371 = .ok (.iload 4, 2) := dk_21 4 (dk_at dksX11_reckons_15 14 rfl rfl)
theorem dX11_reckons_373 : decode cX11_reckons 373 = .ok (.iconst 4, 1) := dk_7 (dk_at dksX11_reckons_15 16 rfl rfl)
theorem dX11_reckons_374 : decode cX11_reckons 374 = .ok (.invokevirtual 346, 3) := dk_182 1 90 (dk_at dksX11_reckons_15 17 rfl rfl)
theorem dX11_reckons_377 : decode cX11_reckons 377 = .ok (.invokevirtual 378, 3) := dk_182 1 122 (dk_at dksX11_reckons_15 20 rfl rfl)
theorem dX11_reckons_380 : decode cX11_reckons 380 = .ok (.sipush 1000, 3) := dk_17 3 232 (dk_at dksX11_reckons_16 0 rfl rfl)
theorem dX11_reckons_383 : decode cX11_reckons 383 = .ok (.if_icmp .ge 14, 3) := dk_162 0 14 (dk_at dksX11_reckons_16 3 rfl rfl)
theorem dX11_reckons_386 : decode cX11_reckons 386 = .ok (.aload_n 0, 1) := dk_42 (dk_at dksX11_reckons_16 6 rfl rfl)
theorem dX11_reckons_387 : decode cX11_reckons 387 = .ok (.getfield 92, 3) := dk_180 0 92 (dk_at dksX11_reckons_16 7 rfl rfl)
theorem dX11_reckons_390 : decode cX11_reckons 390 = .ok (.iload 4, 2) := dk_21 4 (dk_at dksX11_reckons_16 10 rfl rfl)
theorem dX11_reckons_392 : decode cX11_reckons 392 = .ok (.aload_n 0, 1) := dk_42 (dk_at dksX11_reckons_16 12 rfl rfl)
theorem dX11_reckons_393 : decode cX11_reckons 393 = .ok (.getfield 375, 3) := dk_180 1 119 (dk_at dksX11_reckons_16 13 rfl rfl)
theorem dX11_reckons_396 : decode cX11_reckons 396 = .ok (.iastore, 1) := dk_79 (dk_at dksX11_reckons_16 16 rfl rfl)
theorem dX11_reckons_397 : decode cX11_reckons 397 = .ok (.iinc 4 1, 3) := dk_132 4 1 (dk_at dksX11_reckons_16 17 rfl rfl)
theorem dX11_reckons_400 : decode cX11_reckons 400 = .ok (.goto (-93), 3) := dk_167 255 163 (dk_at dksX11_reckons_16 20 rfl rfl)
theorem dX11_reckons_403 : decode cX11_reckons 403 = .ok (.return_, 1) := dk_177 (dk_at dksX11_reckons_16 23 rfl rfl)
abbrev cX11_least : ByteArray := prog_19_method_61_code
def yX11_least : MethodName := ⟨RX11, "least", "(III)I"⟩
def dkwX11_least_2 : List UInt8 := [132, 5, 1, 167, 255, 216, 21, 4, 172]
abbrev dktX11_least_2 : List UInt8 := dkwX11_least_2 ++ []
def dkwX11_least_1 : List UInt8 := [54, 6, 21, 6, 21, 4, 161, 0, 6, 167, 0, 13, 21, 6, 54, 4, 42, 21, 5, 181, 1, 119]
abbrev dktX11_least_1 : List UInt8 := dkwX11_least_1 ++ dktX11_least_2
def dkwX11_least_0 : List UInt8 := [17, 3, 232, 54, 4, 3, 54, 5, 21, 5, 7, 162, 0, 40, 42, 27, 28, 29, 21, 5, 182, 1, 116]
abbrev dktX11_least_0 : List UInt8 := dkwX11_least_0 ++ dktX11_least_1
theorem dksX11_least_0 : cX11_least.data.toList.drop 0 = dktX11_least_0 := by decide +kernel
theorem dksX11_least_1 : cX11_least.data.toList.drop 23 = dktX11_least_1 := dk_seg dksX11_least_0 23 rfl rfl
theorem dksX11_least_2 : cX11_least.data.toList.drop 45 = dktX11_least_2 := dk_seg dksX11_least_1 22 rfl rfl
theorem dX11_least_0 : decode cX11_least 0 = .ok (.sipush 1000, 3) := dk_17 3 232 (dk_at dksX11_least_0 0 rfl rfl)
theorem dX11_least_3 : decode cX11_least 3 = .ok (.istore 4, 2) := dk_54 4 (dk_at dksX11_least_0 3 rfl rfl)
theorem dX11_least_5 : decode cX11_least 5 = .ok (.iconst 0, 1) := dk_3 (dk_at dksX11_least_0 5 rfl rfl)
theorem dX11_least_6 : decode cX11_least 6 = .ok (.istore 5, 2) := dk_54 5 (dk_at dksX11_least_0 6 rfl rfl)
theorem dX11_least_8 : decode cX11_least 8 = .ok (.iload 5, 2) := dk_21 5 (dk_at dksX11_least_0 8 rfl rfl)
theorem dX11_least_10 : decode cX11_least 10 = .ok (.iconst 4, 1) := dk_7 (dk_at dksX11_least_0 10 rfl rfl)
theorem dX11_least_11 : decode cX11_least 11 = .ok (.if_icmp .ge 40, 3) := dk_162 0 40 (dk_at dksX11_least_0 11 rfl rfl)
theorem dX11_least_14 : decode cX11_least 14 = .ok (.aload_n 0, 1) := dk_42 (dk_at dksX11_least_0 14 rfl rfl)
theorem dX11_least_15 : decode cX11_least 15 = .ok (.iload_n 1, 1) := dk_27 (dk_at dksX11_least_0 15 rfl rfl)
theorem dX11_least_16 : decode cX11_least 16 = .ok (.iload_n 2, 1) := dk_28 (dk_at dksX11_least_0 16 rfl rfl)
theorem dX11_least_17 : decode cX11_least 17 = .ok (.iload_n 3, 1) := dk_29 (dk_at dksX11_least_0 17 rfl rfl)
theorem dX11_least_18 : decode cX11_least 18 = .ok (.iload 5, 2) := dk_21 5 (dk_at dksX11_least_0 18 rfl rfl)
theorem dX11_least_20 : decode cX11_least 20 = .ok (.invokevirtual 372, 3) := dk_182 1 116 (dk_at dksX11_least_0 20 rfl rfl)
theorem dX11_least_23 : decode cX11_least 23 = .ok (.istore 6, 2) := dk_54 6 (dk_at dksX11_least_1 0 rfl rfl)
theorem dX11_least_25 : decode cX11_least 25 = .ok (.iload 6, 2) := dk_21 6 (dk_at dksX11_least_1 2 rfl rfl)
theorem dX11_least_27 : decode cX11_least 27 = .ok (.iload 4, 2) := dk_21 4 (dk_at dksX11_least_1 4 rfl rfl)
theorem dX11_least_29 : decode cX11_least 29 = .ok (.if_icmp .lt 6, 3) := dk_161 0 6 (dk_at dksX11_least_1 6 rfl rfl)
theorem dX11_least_32 : decode cX11_least 32 = .ok (.goto 13, 3) := dk_167 0 13 (dk_at dksX11_least_1 9 rfl rfl)
theorem dX11_least_35 : decode cX11_least 35 = .ok (.iload 6, 2) := dk_21 6 (dk_at dksX11_least_1 12 rfl rfl)
theorem dX11_least_37 : decode cX11_least 37 = .ok (.istore 4, 2) := dk_54 4 (dk_at dksX11_least_1 14 rfl rfl)
theorem dX11_least_39 : decode cX11_least 39 = .ok (.aload_n 0, 1) := dk_42 (dk_at dksX11_least_1 16 rfl rfl)
theorem dX11_least_40 : decode cX11_least 40 = .ok (.iload 5, 2) := dk_21 5 (dk_at dksX11_least_1 17 rfl rfl)
theorem dX11_least_42 : decode cX11_least 42 = .ok (.putfield 375, 3) := dk_181 1 119 (dk_at dksX11_least_1 19 rfl rfl)
theorem dX11_least_45 : decode cX11_least 45 = .ok (.iinc 5 1, 3) := dk_132 5 1 (dk_at dksX11_least_2 0 rfl rfl)
theorem dX11_least_48 : decode cX11_least 48 = .ok (.goto (-40), 3) := dk_167 255 216 (dk_at dksX11_least_2 3 rfl rfl)
theorem dX11_least_51 : decode cX11_least 51 = .ok (.iload 4, 2) := dk_21 4 (dk_at dksX11_least_2 6 rfl rfl)
theorem dX11_least_53 : decode cX11_least 53 = .ok (.ireturn, 1) := dk_172 (dk_at dksX11_least_2 8 rfl rfl)
abbrev cX11_byHow : ByteArray := prog_19_method_60_code
def yX11_byHow : MethodName := ⟨RX11, "byHow", "(IIII)I"⟩
def dkwX11_byHow_3 : List UInt8 := [21, 4, 182, 1, 113, 153, 0, 7, 4, 167, 0, 6, 17, 3, 232, 172]
abbrev dktX11_byHow_3 : List UInt8 := dkwX11_byHow_3 ++ []
def dkwX11_byHow_2 : List UInt8 := [4, 160, 0, 9, 17, 3, 232, 167, 0, 9, 42, 27, 28, 182, 1, 110, 172, 42, 21, 5, 21, 6, 28, 29]
abbrev dktX11_byHow_2 : List UInt8 := dkwX11_byHow_2 ++ dktX11_byHow_3
def dkwX11_byHow_1 : List UInt8 := [21, 4, 5, 160, 0, 14, 42, 21, 5, 21, 6, 28, 29, 182, 1, 106, 172, 21, 4, 6, 160, 0, 21, 29]
abbrev dktX11_byHow_1 : List UInt8 := dkwX11_byHow_1 ++ dktX11_byHow_2
def dkwX11_byHow_0 : List UInt8 := [42, 180, 0, 95, 27, 46, 54, 5, 42, 180, 0, 98, 27, 46, 54, 6, 21, 4, 7, 160, 0, 5, 4, 172]
abbrev dktX11_byHow_0 : List UInt8 := dkwX11_byHow_0 ++ dktX11_byHow_1
theorem dksX11_byHow_0 : cX11_byHow.data.toList.drop 0 = dktX11_byHow_0 := by decide +kernel
theorem dksX11_byHow_1 : cX11_byHow.data.toList.drop 24 = dktX11_byHow_1 := dk_seg dksX11_byHow_0 24 rfl rfl
theorem dksX11_byHow_2 : cX11_byHow.data.toList.drop 48 = dktX11_byHow_2 := dk_seg dksX11_byHow_1 24 rfl rfl
theorem dksX11_byHow_3 : cX11_byHow.data.toList.drop 72 = dktX11_byHow_3 := dk_seg dksX11_byHow_2 24 rfl rfl
theorem dX11_byHow_0 : decode cX11_byHow 0 = .ok (.aload_n 0, 1) := dk_42 (dk_at dksX11_byHow_0 0 rfl rfl)
theorem dX11_byHow_1 : decode cX11_byHow 1 = .ok (.getfield 95, 3) := dk_180 0 95 (dk_at dksX11_byHow_0 1 rfl rfl)
theorem dX11_byHow_4 : decode cX11_byHow 4 = .ok (.iload_n 1, 1) := dk_27 (dk_at dksX11_byHow_0 4 rfl rfl)
theorem dX11_byHow_5 : decode cX11_byHow 5 = .ok (.iaload, 1) := dk_46 (dk_at dksX11_byHow_0 5 rfl rfl)
theorem dX11_byHow_6 : decode cX11_byHow 6 = .ok (.istore 5, 2) := dk_54 5 (dk_at dksX11_byHow_0 6 rfl rfl)
theorem dX11_byHow_8 : decode cX11_byHow 8 = .ok (.aload_n 0, 1) := dk_42 (dk_at dksX11_byHow_0 8 rfl rfl)
theorem dX11_byHow_9 : decode cX11_byHow 9 = .ok (.getfield 98, 3) := dk_180 0 98 (dk_at dksX11_byHow_0 9 rfl rfl)
theorem dX11_byHow_12 : decode cX11_byHow 12 = .ok (.iload_n 1, 1) := dk_27 (dk_at dksX11_byHow_0 12 rfl rfl)
theorem dX11_byHow_13 : decode cX11_byHow 13 = .ok (.iaload, 1) := dk_46 (dk_at dksX11_byHow_0 13 rfl rfl)
theorem dX11_byHow_14 : decode cX11_byHow 14 = .ok (.istore 6, 2) := dk_54 6 (dk_at dksX11_byHow_0 14 rfl rfl)
theorem dX11_byHow_16 : decode cX11_byHow 16 = .ok (.iload 4, 2) := dk_21 4 (dk_at dksX11_byHow_0 16 rfl rfl)
theorem dX11_byHow_18 : decode cX11_byHow 18 = .ok (.iconst 4, 1) := dk_7 (dk_at dksX11_byHow_0 18 rfl rfl)
theorem dX11_byHow_19 : decode cX11_byHow 19 = .ok (.if_icmp .ne 5, 3) := dk_160 0 5 (dk_at dksX11_byHow_0 19 rfl rfl)
theorem dX11_byHow_22 : decode cX11_byHow 22 = .ok (.iconst 1, 1) := dk_4 (dk_at dksX11_byHow_0 22 rfl rfl)
theorem dX11_byHow_23 : decode cX11_byHow 23 = .ok (.ireturn, 1) := dk_172 (dk_at dksX11_byHow_0 23 rfl rfl)
theorem dX11_byHow_24 : decode cX11_byHow 24 = .ok (.iload 4, 2) := dk_21 4 (dk_at dksX11_byHow_1 0 rfl rfl)
theorem dX11_byHow_26 : decode cX11_byHow 26 = .ok (.iconst 2, 1) := dk_5 (dk_at dksX11_byHow_1 2 rfl rfl)
theorem dX11_byHow_27 : decode cX11_byHow 27 = .ok (.if_icmp .ne 14, 3) := dk_160 0 14 (dk_at dksX11_byHow_1 3 rfl rfl)
theorem dX11_byHow_30 : decode cX11_byHow 30 = .ok (.aload_n 0, 1) := dk_42 (dk_at dksX11_byHow_1 6 rfl rfl)
theorem dX11_byHow_31 : decode cX11_byHow 31 = .ok (.iload 5, 2) := dk_21 5 (dk_at dksX11_byHow_1 7 rfl rfl)
theorem dX11_byHow_33 : decode cX11_byHow 33 = .ok (.iload 6, 2) := dk_21 6 (dk_at dksX11_byHow_1 9 rfl rfl)
theorem dX11_byHow_35 : decode cX11_byHow 35 = .ok (.iload_n 2, 1) := dk_28 (dk_at dksX11_byHow_1 11 rfl rfl)
theorem dX11_byHow_36 : decode cX11_byHow 36 = .ok (.iload_n 3, 1) := dk_29 (dk_at dksX11_byHow_1 12 rfl rfl)
theorem dX11_byHow_37 : decode cX11_byHow 37 = .ok (.invokevirtual 362, 3) := dk_182 1 106 (dk_at dksX11_byHow_1 13 rfl rfl)
theorem dX11_byHow_40 : decode cX11_byHow 40 = .ok (.ireturn, 1) := dk_172 (dk_at dksX11_byHow_1 16 rfl rfl)
theorem dX11_byHow_41 : decode cX11_byHow 41 = .ok (.iload 4, 2) := dk_21 4 (dk_at dksX11_byHow_1 17 rfl rfl)
theorem dX11_byHow_43 : decode cX11_byHow 43 = .ok (.iconst 3, 1) := dk_6 (dk_at dksX11_byHow_1 19 rfl rfl)
theorem dX11_byHow_44 : decode cX11_byHow 44 = .ok (.if_icmp .ne 21, 3) := dk_160 0 21 (dk_at dksX11_byHow_1 20 rfl rfl)
theorem dX11_byHow_47 : decode cX11_byHow 47 = .ok (.iload_n 3, 1) := dk_29 (dk_at dksX11_byHow_1 23 rfl rfl)
theorem dX11_byHow_48 : decode cX11_byHow 48 = .ok (.iconst 1, 1) := dk_4 (dk_at dksX11_byHow_2 0 rfl rfl)
theorem dX11_byHow_49 : decode cX11_byHow 49 = .ok (.if_icmp .ne 9, 3) := dk_160 0 9 (dk_at dksX11_byHow_2 1 rfl rfl)
theorem dX11_byHow_52 : decode cX11_byHow 52 = .ok (.sipush 1000, 3) := dk_17 3 232 (dk_at dksX11_byHow_2 4 rfl rfl)
theorem dX11_byHow_55 : decode cX11_byHow 55 = .ok (.goto 9, 3) := dk_167 0 9 (dk_at dksX11_byHow_2 7 rfl rfl)
theorem dX11_byHow_58 : decode cX11_byHow 58 = .ok (.aload_n 0, 1) := dk_42 (dk_at dksX11_byHow_2 10 rfl rfl)
theorem dX11_byHow_59 : decode cX11_byHow 59 = .ok (.iload_n 1, 1) := dk_27 (dk_at dksX11_byHow_2 11 rfl rfl)
theorem dX11_byHow_60 : decode cX11_byHow 60 = .ok (.iload_n 2, 1) := dk_28 (dk_at dksX11_byHow_2 12 rfl rfl)
theorem dX11_byHow_61 : decode cX11_byHow 61 = .ok (.invokevirtual 366, 3) := dk_182 1 110 (dk_at dksX11_byHow_2 13 rfl rfl)
theorem dX11_byHow_64 : decode cX11_byHow 64 = .ok (.ireturn, 1) := dk_172 (dk_at dksX11_byHow_2 16 rfl rfl)
theorem dX11_byHow_65 : decode cX11_byHow 65 = .ok (.aload_n 0, 1) := dk_42 (dk_at dksX11_byHow_2 17 rfl rfl)
theorem dX11_byHow_66 : decode cX11_byHow 66 = .ok (.iload 5, 2) := dk_21 5 (dk_at dksX11_byHow_2 18 rfl rfl)
theorem dX11_byHow_68 : decode cX11_byHow 68 = .ok (.iload 6, 2) := dk_21 6 (dk_at dksX11_byHow_2 20 rfl rfl)
theorem dX11_byHow_70 : decode cX11_byHow 70 = .ok (.iload_n 2, 1) := dk_28 (dk_at dksX11_byHow_2 22 rfl rfl)
theorem dX11_byHow_71 : decode cX11_byHow 71 = .ok (.iload_n 3, 1) := dk_29 (dk_at dksX11_byHow_2 23 rfl rfl)
theorem dX11_byHow_72 : decode cX11_byHow 72 = .ok (.iload 4, 2) := dk_21 4 (dk_at dksX11_byHow_3 0 rfl rfl)
theorem dX11_byHow_74 : decode cX11_byHow 74 = .ok (.invokevirtual 369, 3) := dk_182 1 113 (dk_at dksX11_byHow_3 2 rfl rfl)
theorem dX11_byHow_77 : decode cX11_byHow 77 = .ok (.ifCond .eq 7, 3) := dk_153 0 7 (dk_at dksX11_byHow_3 5 rfl rfl)
theorem dX11_byHow_80 : decode cX11_byHow 80 = .ok (.iconst 1, 1) := dk_4 (dk_at dksX11_byHow_3 8 rfl rfl)
theorem dX11_byHow_81 : decode cX11_byHow 81 = .ok (.goto 6, 3) := dk_167 0 6 (dk_at dksX11_byHow_3 9 rfl rfl)
theorem dX11_byHow_84 : decode cX11_byHow 84 = .ok (.sipush 1000, 3) := dk_17 3 232 (dk_at dksX11_byHow_3 12 rfl rfl)
theorem dX11_byHow_87 : decode cX11_byHow 87 = .ok (.ireturn, 1) := dk_172 (dk_at dksX11_byHow_3 15 rfl rfl)
abbrev cX11_byTold : ByteArray := prog_19_method_58_code
def yX11_byTold : MethodName := ⟨RX11, "byTold", "(IIII)I"⟩
def dkwX11_byTold_2 : List UInt8 := [180, 0, 89, 21, 6, 46, 4, 96, 54, 5, 132, 6, 1, 167, 255, 205, 21, 5, 172]
abbrev dktX11_byTold_2 : List UInt8 := dkwX11_byTold_2 ++ []
def dkwX11_byTold_1 : List UInt8 := [4, 96, 21, 5, 162, 0, 28, 42, 21, 6, 27, 28, 29, 21, 4, 182, 1, 102, 153, 0, 14, 42]
abbrev dktX11_byTold_1 : List UInt8 := dkwX11_byTold_1 ++ dktX11_byTold_2
def dkwX11_byTold_0 : List UInt8 := [17, 3, 232, 54, 5, 3, 54, 6, 21, 6, 42, 180, 1, 23, 162, 0, 48, 42, 180, 0, 89, 21, 6, 46]
abbrev dktX11_byTold_0 : List UInt8 := dkwX11_byTold_0 ++ dktX11_byTold_1
theorem dksX11_byTold_0 : cX11_byTold.data.toList.drop 0 = dktX11_byTold_0 := by decide +kernel
theorem dksX11_byTold_1 : cX11_byTold.data.toList.drop 24 = dktX11_byTold_1 := dk_seg dksX11_byTold_0 24 rfl rfl
theorem dksX11_byTold_2 : cX11_byTold.data.toList.drop 46 = dktX11_byTold_2 := dk_seg dksX11_byTold_1 22 rfl rfl
theorem dX11_byTold_0 : decode cX11_byTold 0 = .ok (.sipush 1000, 3) := dk_17 3 232 (dk_at dksX11_byTold_0 0 rfl rfl)
theorem dX11_byTold_3 : decode cX11_byTold 3 = .ok (.istore 5, 2) := dk_54 5 (dk_at dksX11_byTold_0 3 rfl rfl)
theorem dX11_byTold_5 : decode cX11_byTold 5 = .ok (.iconst 0, 1) := dk_3 (dk_at dksX11_byTold_0 5 rfl rfl)
theorem dX11_byTold_6 : decode cX11_byTold 6 = .ok (.istore 6, 2) := dk_54 6 (dk_at dksX11_byTold_0 6 rfl rfl)
theorem dX11_byTold_8 : decode cX11_byTold 8 = .ok (.iload 6, 2) := dk_21 6 (dk_at dksX11_byTold_0 8 rfl rfl)
theorem dX11_byTold_10 : decode cX11_byTold 10 = .ok (.aload_n 0, 1) := dk_42 (dk_at dksX11_byTold_0 10 rfl rfl)
theorem dX11_byTold_11 : decode cX11_byTold 11 = .ok (.getfield 279, 3) := dk_180 1 23 (dk_at dksX11_byTold_0 11 rfl rfl)
theorem dX11_byTold_14 : decode cX11_byTold 14 = .ok (.if_icmp .ge 48, 3) := dk_162 0 48 (dk_at dksX11_byTold_0 14 rfl rfl)
theorem dX11_byTold_17 : decode cX11_byTold 17 = .ok (.aload_n 0, 1) := dk_42 (dk_at dksX11_byTold_0 17 rfl rfl)
theorem dX11_byTold_18 : decode cX11_byTold 18 = .ok (.getfield 89, 3) := dk_180 0 89 (dk_at dksX11_byTold_0 18 rfl rfl)
theorem dX11_byTold_21 : decode cX11_byTold 21 = .ok (.iload 6, 2) := dk_21 6 (dk_at dksX11_byTold_0 21 rfl rfl)
theorem dX11_byTold_23 : decode cX11_byTold 23 = .ok (.iaload, 1) := dk_46 (dk_at dksX11_byTold_0 23 rfl rfl)
theorem dX11_byTold_24 : decode cX11_byTold 24 = .ok (.iconst 1, 1) := dk_4 (dk_at dksX11_byTold_1 0 rfl rfl)
theorem dX11_byTold_25 : decode cX11_byTold 25 = .ok (.iadd, 1) := dk_96 (dk_at dksX11_byTold_1 1 rfl rfl)
theorem dX11_byTold_26 : decode cX11_byTold 26 = .ok (.iload 5, 2) := dk_21 5 (dk_at dksX11_byTold_1 2 rfl rfl)
theorem dX11_byTold_28 : decode cX11_byTold 28 = .ok (.if_icmp .ge 28, 3) := dk_162 0 28 (dk_at dksX11_byTold_1 4 rfl rfl)
theorem dX11_byTold_31 : decode cX11_byTold 31 = .ok (.aload_n 0, 1) := dk_42 (dk_at dksX11_byTold_1 7 rfl rfl)
theorem dX11_byTold_32 : decode cX11_byTold 32 = .ok (.iload 6, 2) := dk_21 6 (dk_at dksX11_byTold_1 8 rfl rfl)
theorem dX11_byTold_34 : decode cX11_byTold 34 = .ok (.iload_n 1, 1) := dk_27 (dk_at dksX11_byTold_1 10 rfl rfl)
theorem dX11_byTold_35 : decode cX11_byTold 35 = .ok (.iload_n 2, 1) := dk_28 (dk_at dksX11_byTold_1 11 rfl rfl)
theorem dX11_byTold_36 : decode cX11_byTold 36 = .ok (.iload_n 3, 1) := dk_29 (dk_at dksX11_byTold_1 12 rfl rfl)
theorem dX11_byTold_37 : decode cX11_byTold 37 = .ok (.iload 4, 2) := dk_21 4 (dk_at dksX11_byTold_1 13 rfl rfl)
theorem dX11_byTold_39 : decode cX11_byTold 39 = .ok (.invokevirtual 358, 3) := dk_182 1 102 (dk_at dksX11_byTold_1 15 rfl rfl)
theorem dX11_byTold_42 : decode cX11_byTold 42 = .ok (.ifCond .eq 14, 3) := dk_153 0 14 (dk_at dksX11_byTold_1 18 rfl rfl)
theorem dX11_byTold_45 : decode cX11_byTold 45 = .ok (.aload_n 0, 1) := dk_42 (dk_at dksX11_byTold_1 21 rfl rfl)
theorem dX11_byTold_46 : decode cX11_byTold 46 = .ok (.getfield 89, 3) := dk_180 0 89 (dk_at dksX11_byTold_2 0 rfl rfl)
theorem dX11_byTold_49 : decode cX11_byTold 49 = .ok (.iload 6, 2) := dk_21 6 (dk_at dksX11_byTold_2 3 rfl rfl)
theorem dX11_byTold_51 : decode cX11_byTold 51 = .ok (.iaload, 1) := dk_46 (dk_at dksX11_byTold_2 5 rfl rfl)
theorem dX11_byTold_52 : decode cX11_byTold 52 = .ok (.iconst 1, 1) := dk_4 (dk_at dksX11_byTold_2 6 rfl rfl)
theorem dX11_byTold_53 : decode cX11_byTold 53 = .ok (.iadd, 1) := dk_96 (dk_at dksX11_byTold_2 7 rfl rfl)
theorem dX11_byTold_54 : decode cX11_byTold 54 = .ok (.istore 5, 2) := dk_54 5 (dk_at dksX11_byTold_2 8 rfl rfl)
theorem dX11_byTold_56 : decode cX11_byTold 56 = .ok (.iinc 6 1, 3) := dk_132 6 1 (dk_at dksX11_byTold_2 10 rfl rfl)
theorem dX11_byTold_59 : decode cX11_byTold 59 = .ok (.goto (-51), 3) := dk_167 255 205 (dk_at dksX11_byTold_2 13 rfl rfl)
theorem dX11_byTold_62 : decode cX11_byTold 62 = .ok (.iload 5, 2) := dk_21 5 (dk_at dksX11_byTold_2 16 rfl rfl)
theorem dX11_byTold_64 : decode cX11_byTold 64 = .ok (.ireturn, 1) := dk_172 (dk_at dksX11_byTold_2 18 rfl rfl)
abbrev cX11_isTold : ByteArray := prog_19_method_57_code
def yX11_isTold : MethodName := ⟨RX11, "isTold", "(IIIII)Z"⟩
def dkwX11_isTold_5 : List UInt8 := [159, 0, 7, 4, 167, 0, 4, 3, 172]
abbrev dktX11_isTold_5 : List UInt8 := dkwX11_isTold_5 ++ []
def dkwX11_isTold_4 : List UInt8 := [159, 0, 5, 3, 172, 42, 180, 1, 99, 27, 122, 4, 126, 4, 159, 0, 13, 42, 27, 6, 182, 1, 90, 7]
abbrev dktX11_isTold_4 : List UInt8 := dkwX11_isTold_4 ++ dktX11_isTold_5
def dkwX11_isTold_3 : List UInt8 := [46, 42, 180, 0, 35, 16, 24, 42, 27, 3, 182, 1, 90, 104, 42, 27, 4, 182, 1, 90, 96, 46]
abbrev dktX11_isTold_3 : List UInt8 := dkwX11_isTold_3 ++ dktX11_isTold_4
def dkwX11_isTold_2 : List UInt8 := [182, 1, 90, 29, 164, 0, 5, 3, 172, 42, 180, 0, 35, 16, 24, 28, 104, 42, 27, 4, 182, 1, 90, 96]
abbrev dktX11_isTold_2 : List UInt8 := dkwX11_isTold_2 ++ dktX11_isTold_3
def dkwX11_isTold_1 : List UInt8 := [182, 1, 90, 21, 4, 160, 0, 24, 42, 27, 7, 182, 1, 90, 21, 5, 160, 0, 13, 42, 27, 4]
abbrev dktX11_isTold_1 : List UInt8 := dkwX11_isTold_1 ++ dktX11_isTold_2
def dkwX11_isTold_0 : List UInt8 := [42, 180, 1, 96, 27, 122, 4, 126, 153, 0, 45, 42, 27, 3, 182, 1, 90, 28, 159, 0, 35, 42, 27, 5]
abbrev dktX11_isTold_0 : List UInt8 := dkwX11_isTold_0 ++ dktX11_isTold_1
theorem dksX11_isTold_0 : cX11_isTold.data.toList.drop 0 = dktX11_isTold_0 := by decide +kernel
theorem dksX11_isTold_1 : cX11_isTold.data.toList.drop 24 = dktX11_isTold_1 := dk_seg dksX11_isTold_0 24 rfl rfl
theorem dksX11_isTold_2 : cX11_isTold.data.toList.drop 46 = dktX11_isTold_2 := dk_seg dksX11_isTold_1 22 rfl rfl
theorem dksX11_isTold_3 : cX11_isTold.data.toList.drop 70 = dktX11_isTold_3 := dk_seg dksX11_isTold_2 24 rfl rfl
theorem dksX11_isTold_4 : cX11_isTold.data.toList.drop 92 = dktX11_isTold_4 := dk_seg dksX11_isTold_3 22 rfl rfl
theorem dksX11_isTold_5 : cX11_isTold.data.toList.drop 116 = dktX11_isTold_5 := dk_seg dksX11_isTold_4 24 rfl rfl
theorem dX11_isTold_0 : decode cX11_isTold 0 = .ok (.aload_n 0, 1) := dk_42 (dk_at dksX11_isTold_0 0 rfl rfl)
theorem dX11_isTold_1 : decode cX11_isTold 1 = .ok (.getfield 352, 3) := dk_180 1 96 (dk_at dksX11_isTold_0 1 rfl rfl)
theorem dX11_isTold_4 : decode cX11_isTold 4 = .ok (.iload_n 1, 1) := dk_27 (dk_at dksX11_isTold_0 4 rfl rfl)
theorem dX11_isTold_5 : decode cX11_isTold 5 = .ok (.ishr, 1) := dk_122 (dk_at dksX11_isTold_0 5 rfl rfl)
theorem dX11_isTold_6 : decode cX11_isTold 6 = .ok (.iconst 1, 1) := dk_4 (dk_at dksX11_isTold_0 6 rfl rfl)
theorem dX11_isTold_7 : decode cX11_isTold 7 = .ok (.iand, 1) := dk_126 (dk_at dksX11_isTold_0 7 rfl rfl)
theorem dX11_isTold_8 : decode cX11_isTold 8 = .ok (.ifCond .eq 45, 3) := dk_153 0 45 (dk_at dksX11_isTold_0 8 rfl rfl)
theorem dX11_isTold_11 : decode cX11_isTold 11 = .ok (.aload_n 0, 1) := dk_42 (dk_at dksX11_isTold_0 11 rfl rfl)
theorem dX11_isTold_12 : decode cX11_isTold 12 = .ok (.iload_n 1, 1) := dk_27 (dk_at dksX11_isTold_0 12 rfl rfl)
theorem dX11_isTold_13 : decode cX11_isTold 13 = .ok (.iconst 0, 1) := dk_3 (dk_at dksX11_isTold_0 13 rfl rfl)
theorem dX11_isTold_14 : decode cX11_isTold 14 = .ok (.invokevirtual 346, 3) := dk_182 1 90 (dk_at dksX11_isTold_0 14 rfl rfl)
theorem dX11_isTold_17 : decode cX11_isTold 17 = .ok (.iload_n 2, 1) := dk_28 (dk_at dksX11_isTold_0 17 rfl rfl)
theorem dX11_isTold_18 : decode cX11_isTold 18 = .ok (.if_icmp .eq 35, 3) := dk_159 0 35 (dk_at dksX11_isTold_0 18 rfl rfl)
theorem dX11_isTold_21 : decode cX11_isTold 21 = .ok (.aload_n 0, 1) := dk_42 (dk_at dksX11_isTold_0 21 rfl rfl)
theorem dX11_isTold_22 : decode cX11_isTold 22 = .ok (.iload_n 1, 1) := dk_27 (dk_at dksX11_isTold_0 22 rfl rfl)
theorem dX11_isTold_23 : decode cX11_isTold 23 = .ok (.iconst 2, 1) := dk_5 (dk_at dksX11_isTold_0 23 rfl rfl)
theorem dX11_isTold_24 : decode cX11_isTold 24 = .ok (.invokevirtual 346, 3) := dk_182 1 90 (dk_at dksX11_isTold_1 0 rfl rfl)
theorem dX11_isTold_27 : decode cX11_isTold 27 = .ok (.iload 4, 2) := dk_21 4 (dk_at dksX11_isTold_1 3 rfl rfl)
theorem dX11_isTold_29 : decode cX11_isTold 29 = .ok (.if_icmp .ne 24, 3) := dk_160 0 24 (dk_at dksX11_isTold_1 5 rfl rfl)
theorem dX11_isTold_32 : decode cX11_isTold 32 = .ok (.aload_n 0, 1) := dk_42 (dk_at dksX11_isTold_1 8 rfl rfl)
theorem dX11_isTold_33 : decode cX11_isTold 33 = .ok (.iload_n 1, 1) := dk_27 (dk_at dksX11_isTold_1 9 rfl rfl)
theorem dX11_isTold_34 : decode cX11_isTold 34 = .ok (.iconst 4, 1) := dk_7 (dk_at dksX11_isTold_1 10 rfl rfl)
theorem dX11_isTold_35 : decode cX11_isTold 35 = .ok (.invokevirtual 346, 3) := dk_182 1 90 (dk_at dksX11_isTold_1 11 rfl rfl)
theorem dX11_isTold_38 : decode cX11_isTold 38 = .ok (.iload 5, 2) := dk_21 5 (dk_at dksX11_isTold_1 14 rfl rfl)
theorem dX11_isTold_40 : decode cX11_isTold 40 = .ok (.if_icmp .ne 13, 3) := dk_160 0 13 (dk_at dksX11_isTold_1 16 rfl rfl)
theorem dX11_isTold_43 : decode cX11_isTold 43 = .ok (.aload_n 0, 1) := dk_42 (dk_at dksX11_isTold_1 19 rfl rfl)
theorem dX11_isTold_44 : decode cX11_isTold 44 = .ok (.iload_n 1, 1) := dk_27 (dk_at dksX11_isTold_1 20 rfl rfl)
theorem dX11_isTold_45 : decode cX11_isTold 45 = .ok (.iconst 1, 1) := dk_4 (dk_at dksX11_isTold_1 21 rfl rfl)
theorem dX11_isTold_46 : decode cX11_isTold 46 = .ok (.invokevirtual 346, 3) := dk_182 1 90 (dk_at dksX11_isTold_2 0 rfl rfl)
theorem dX11_isTold_49 : decode cX11_isTold 49 = .ok (.iload_n 3, 1) := dk_29 (dk_at dksX11_isTold_2 3 rfl rfl)
theorem dX11_isTold_50 : decode cX11_isTold 50 = .ok (.if_icmp .le 5, 3) := dk_164 0 5 (dk_at dksX11_isTold_2 4 rfl rfl)
theorem dX11_isTold_53 : decode cX11_isTold 53 = .ok (.iconst 0, 1) := dk_3 (dk_at dksX11_isTold_2 7 rfl rfl)
theorem dX11_isTold_54 : decode cX11_isTold 54 = .ok (.ireturn, 1) := dk_172 (dk_at dksX11_isTold_2 8 rfl rfl)
theorem dX11_isTold_55 : decode cX11_isTold 55 = .ok (.aload_n 0, 1) := dk_42 (dk_at dksX11_isTold_2 9 rfl rfl)
theorem dX11_isTold_56 : decode cX11_isTold 56 = .ok (.getfield 35, 3) := dk_180 0 35 (dk_at dksX11_isTold_2 10 rfl rfl)
theorem dX11_isTold_59 : decode cX11_isTold 59 = .ok (.bipush 24, 2) := dk_16 24 (dk_at dksX11_isTold_2 13 rfl rfl)
theorem dX11_isTold_61 : decode cX11_isTold 61 = .ok (.iload_n 2, 1) := dk_28 (dk_at dksX11_isTold_2 15 rfl rfl)
theorem dX11_isTold_62 : decode cX11_isTold 62 = .ok (.imul, 1) := dk_104 (dk_at dksX11_isTold_2 16 rfl rfl)
theorem dX11_isTold_63 : decode cX11_isTold 63 = .ok (.aload_n 0, 1) := dk_42 (dk_at dksX11_isTold_2 17 rfl rfl)
theorem dX11_isTold_64 : decode cX11_isTold 64 = .ok (.iload_n 1, 1) := dk_27 (dk_at dksX11_isTold_2 18 rfl rfl)
theorem dX11_isTold_65 : decode cX11_isTold 65 = .ok (.iconst 1, 1) := dk_4 (dk_at dksX11_isTold_2 19 rfl rfl)
theorem dX11_isTold_66 : decode cX11_isTold 66 = .ok (.invokevirtual 346, 3) := dk_182 1 90 (dk_at dksX11_isTold_2 20 rfl rfl)
theorem dX11_isTold_69 : decode cX11_isTold 69 = .ok (.iadd, 1) := dk_96 (dk_at dksX11_isTold_2 23 rfl rfl)
theorem dX11_isTold_70 : decode cX11_isTold 70 = .ok (.iaload, 1) := dk_46 (dk_at dksX11_isTold_3 0 rfl rfl)
theorem dX11_isTold_71 : decode cX11_isTold 71 = .ok (.aload_n 0, 1) := dk_42 (dk_at dksX11_isTold_3 1 rfl rfl)
theorem dX11_isTold_72 : decode cX11_isTold 72 = .ok (.getfield 35, 3) := dk_180 0 35 (dk_at dksX11_isTold_3 2 rfl rfl)
theorem dX11_isTold_75 : decode cX11_isTold 75 = .ok (.bipush 24, 2) := dk_16 24 (dk_at dksX11_isTold_3 5 rfl rfl)
theorem dX11_isTold_77 : decode cX11_isTold 77 = .ok (.aload_n 0, 1) := dk_42 (dk_at dksX11_isTold_3 7 rfl rfl)
theorem dX11_isTold_78 : decode cX11_isTold 78 = .ok (.iload_n 1, 1) := dk_27 (dk_at dksX11_isTold_3 8 rfl rfl)
theorem dX11_isTold_79 : decode cX11_isTold 79 = .ok (.iconst 0, 1) := dk_3 (dk_at dksX11_isTold_3 9 rfl rfl)
theorem dX11_isTold_80 : decode cX11_isTold 80 = .ok (.invokevirtual 346, 3) := dk_182 1 90 (dk_at dksX11_isTold_3 10 rfl rfl)
theorem dX11_isTold_83 : decode cX11_isTold 83 = .ok (.imul, 1) := dk_104 (dk_at dksX11_isTold_3 13 rfl rfl)
theorem dX11_isTold_84 : decode cX11_isTold 84 = .ok (.aload_n 0, 1) := dk_42 (dk_at dksX11_isTold_3 14 rfl rfl)
theorem dX11_isTold_85 : decode cX11_isTold 85 = .ok (.iload_n 1, 1) := dk_27 (dk_at dksX11_isTold_3 15 rfl rfl)
theorem dX11_isTold_86 : decode cX11_isTold 86 = .ok (.iconst 1, 1) := dk_4 (dk_at dksX11_isTold_3 16 rfl rfl)
theorem dX11_isTold_87 : decode cX11_isTold 87 = .ok (.invokevirtual 346, 3) := dk_182 1 90 (dk_at dksX11_isTold_3 17 rfl rfl)
theorem dX11_isTold_90 : decode cX11_isTold 90 = .ok (.iadd, 1) := dk_96 (dk_at dksX11_isTold_3 20 rfl rfl)
theorem dX11_isTold_91 : decode cX11_isTold 91 = .ok (.iaload, 1) := dk_46 (dk_at dksX11_isTold_3 21 rfl rfl)
theorem dX11_isTold_92 : decode cX11_isTold 92 = .ok (.if_icmp .eq 5, 3) := dk_159 0 5 (dk_at dksX11_isTold_4 0 rfl rfl)
theorem dX11_isTold_95 : decode cX11_isTold 95 = .ok (.iconst 0, 1) := dk_3 (dk_at dksX11_isTold_4 3 rfl rfl)
theorem dX11_isTold_96 : decode cX11_isTold 96 = .ok (.ireturn, 1) := dk_172 (dk_at dksX11_isTold_4 4 rfl rfl)
theorem dX11_isTold_97 : decode cX11_isTold 97 = .ok (.aload_n 0, 1) := dk_42 (dk_at dksX11_isTold_4 5 rfl rfl)
theorem dX11_isTold_98 : decode cX11_isTold 98 = .ok (.getfield 355, 3) := dk_180 1 99 (dk_at dksX11_isTold_4 6 rfl rfl)
theorem dX11_isTold_101 : decode cX11_isTold 101 = .ok (.iload_n 1, 1) := dk_27 (dk_at dksX11_isTold_4 9 rfl rfl)
theorem dX11_isTold_102 : decode cX11_isTold 102 = .ok (.ishr, 1) := dk_122 (dk_at dksX11_isTold_4 10 rfl rfl)
theorem dX11_isTold_103 : decode cX11_isTold 103 = .ok (.iconst 1, 1) := dk_4 (dk_at dksX11_isTold_4 11 rfl rfl)
theorem dX11_isTold_104 : decode cX11_isTold 104 = .ok (.iand, 1) := dk_126 (dk_at dksX11_isTold_4 12 rfl rfl)
theorem dX11_isTold_105 : decode cX11_isTold 105 = .ok (.iconst 1, 1) := dk_4 (dk_at dksX11_isTold_4 13 rfl rfl)
theorem dX11_isTold_106 : decode cX11_isTold 106 = .ok (.if_icmp .eq 13, 3) := dk_159 0 13 (dk_at dksX11_isTold_4 14 rfl rfl)
theorem dX11_isTold_109 : decode cX11_isTold 109 = .ok (.aload_n 0, 1) := dk_42 (dk_at dksX11_isTold_4 17 rfl rfl)
theorem dX11_isTold_110 : decode cX11_isTold 110 = .ok (.iload_n 1, 1) := dk_27 (dk_at dksX11_isTold_4 18 rfl rfl)
theorem dX11_isTold_111 : decode cX11_isTold 111 = .ok (.iconst 3, 1) := dk_6 (dk_at dksX11_isTold_4 19 rfl rfl)
theorem dX11_isTold_112 : decode cX11_isTold 112 = .ok (.invokevirtual 346, 3) := dk_182 1 90 (dk_at dksX11_isTold_4 20 rfl rfl)
theorem dX11_isTold_115 : decode cX11_isTold 115 = .ok (.iconst 4, 1) := dk_7 (dk_at dksX11_isTold_4 23 rfl rfl)
theorem dX11_isTold_116 : decode cX11_isTold 116 = .ok (.if_icmp .eq 7, 3) := dk_159 0 7 (dk_at dksX11_isTold_5 0 rfl rfl)
theorem dX11_isTold_119 : decode cX11_isTold 119 = .ok (.iconst 1, 1) := dk_4 (dk_at dksX11_isTold_5 3 rfl rfl)
theorem dX11_isTold_120 : decode cX11_isTold 120 = .ok (.goto 4, 3) := dk_167 0 4 (dk_at dksX11_isTold_5 4 rfl rfl)
theorem dX11_isTold_123 : decode cX11_isTold 123 = .ok (.iconst 0, 1) := dk_3 (dk_at dksX11_isTold_5 7 rfl rfl)
theorem dX11_isTold_124 : decode cX11_isTold 124 = .ok (.ireturn, 1) := dk_172 (dk_at dksX11_isTold_5 8 rfl rfl)
abbrev cX11_byRules : ByteArray := prog_19_method_59_code
def yX11_byRules : MethodName := ⟨RX11, "byRules", "(II)I"⟩
def dkwX11_byRules_5 : List UInt8 := [62, 132, 4, 1, 167, 255, 141, 29, 172]
abbrev dktX11_byRules_5 : List UInt8 := dkwX11_byRules_5 ++ []
def dkwX11_byRules_4 : List UInt8 := [54, 5, 132, 6, 1, 167, 255, 197, 21, 5, 4, 96, 29, 162, 0, 10, 21, 5, 4, 96, 167, 0, 4, 29]
abbrev dktX11_byRules_4 : List UInt8 := dkwX11_byRules_4 ++ dktX11_byRules_5
def dkwX11_byRules_3 : List UInt8 := [96, 21, 6, 96, 46, 96, 46, 54, 7, 21, 7, 21, 5, 164, 0, 8, 21, 7, 167, 0, 5, 21, 5]
abbrev dktX11_byRules_3 : List UInt8 := dkwX11_byRules_3 ++ dktX11_byRules_4
def dkwX11_byRules_2 : List UInt8 := [21, 4, 104, 46, 162, 0, 51, 42, 180, 0, 104, 16, 8, 27, 104, 42, 180, 0, 29, 8, 21, 4, 104, 4]
abbrev dktX11_byRules_2 : List UInt8 := dkwX11_byRules_2 ++ dktX11_byRules_3
def dkwX11_byRules_1 : List UInt8 := [4, 96, 46, 28, 159, 0, 6, 167, 0, 88, 3, 54, 5, 4, 54, 6, 21, 6, 42, 180, 0, 29, 8]
abbrev dktX11_byRules_1 : List UInt8 := dkwX11_byRules_1 ++ dktX11_byRules_2
def dkwX11_byRules_0 : List UInt8 := [17, 3, 232, 62, 3, 54, 4, 21, 4, 42, 180, 1, 16, 162, 0, 112, 42, 180, 0, 29, 8, 21, 4, 104]
abbrev dktX11_byRules_0 : List UInt8 := dkwX11_byRules_0 ++ dktX11_byRules_1
theorem dksX11_byRules_0 : cX11_byRules.data.toList.drop 0 = dktX11_byRules_0 := by decide +kernel
theorem dksX11_byRules_1 : cX11_byRules.data.toList.drop 24 = dktX11_byRules_1 := dk_seg dksX11_byRules_0 24 rfl rfl
theorem dksX11_byRules_2 : cX11_byRules.data.toList.drop 47 = dktX11_byRules_2 := dk_seg dksX11_byRules_1 23 rfl rfl
theorem dksX11_byRules_3 : cX11_byRules.data.toList.drop 71 = dktX11_byRules_3 := dk_seg dksX11_byRules_2 24 rfl rfl
theorem dksX11_byRules_4 : cX11_byRules.data.toList.drop 94 = dktX11_byRules_4 := dk_seg dksX11_byRules_3 23 rfl rfl
theorem dksX11_byRules_5 : cX11_byRules.data.toList.drop 118 = dktX11_byRules_5 := dk_seg dksX11_byRules_4 24 rfl rfl
theorem dX11_byRules_0 : decode cX11_byRules 0 = .ok (.sipush 1000, 3) := dk_17 3 232 (dk_at dksX11_byRules_0 0 rfl rfl)
theorem dX11_byRules_3 : decode cX11_byRules 3 = .ok (.istore_n 3, 1) := dk_62 (dk_at dksX11_byRules_0 3 rfl rfl)
theorem dX11_byRules_4 : decode cX11_byRules 4 = .ok (.iconst 0, 1) := dk_3 (dk_at dksX11_byRules_0 4 rfl rfl)
theorem dX11_byRules_5 : decode cX11_byRules 5 = .ok (.istore 4, 2) := dk_54 4 (dk_at dksX11_byRules_0 5 rfl rfl)
theorem dX11_byRules_7 : decode cX11_byRules 7 = .ok (.iload 4, 2) := dk_21 4 (dk_at dksX11_byRules_0 7 rfl rfl)
theorem dX11_byRules_9 : decode cX11_byRules 9 = .ok (.aload_n 0, 1) := dk_42 (dk_at dksX11_byRules_0 9 rfl rfl)
theorem dX11_byRules_10 : decode cX11_byRules 10 = .ok (.getfield 272, 3) := dk_180 1 16 (dk_at dksX11_byRules_0 10 rfl rfl)
theorem dX11_byRules_13 : decode cX11_byRules 13 = .ok (.if_icmp .ge 112, 3) := dk_162 0 112 (dk_at dksX11_byRules_0 13 rfl rfl)
theorem dX11_byRules_16 : decode cX11_byRules 16 = .ok (.aload_n 0, 1) := dk_42 (dk_at dksX11_byRules_0 16 rfl rfl)
theorem dX11_byRules_17 : decode cX11_byRules 17 = .ok (.getfield 29, 3) := dk_180 0 29 (dk_at dksX11_byRules_0 17 rfl rfl)
theorem dX11_byRules_20 : decode cX11_byRules 20 = .ok (.iconst 5, 1) := dk_8 (dk_at dksX11_byRules_0 20 rfl rfl)
theorem dX11_byRules_21 : decode cX11_byRules 21 = .ok (.iload 4, 2) := dk_21 4 (dk_at dksX11_byRules_0 21 rfl rfl)
theorem dX11_byRules_23 : decode cX11_byRules 23 = .ok (.imul, 1) := dk_104 (dk_at dksX11_byRules_0 23 rfl rfl)
theorem dX11_byRules_24 : decode cX11_byRules 24 = .ok (.iconst 1, 1) := dk_4 (dk_at dksX11_byRules_1 0 rfl rfl)
theorem dX11_byRules_25 : decode cX11_byRules 25 = .ok (.iadd, 1) := dk_96 (dk_at dksX11_byRules_1 1 rfl rfl)
theorem dX11_byRules_26 : decode cX11_byRules 26 = .ok (.iaload, 1) := dk_46 (dk_at dksX11_byRules_1 2 rfl rfl)
theorem dX11_byRules_27 : decode cX11_byRules 27 = .ok (.iload_n 2, 1) := dk_28 (dk_at dksX11_byRules_1 3 rfl rfl)
theorem dX11_byRules_28 : decode cX11_byRules 28 = .ok (.if_icmp .eq 6, 3) := dk_159 0 6 (dk_at dksX11_byRules_1 4 rfl rfl)
theorem dX11_byRules_31 : decode cX11_byRules 31 = .ok (.goto 88, 3) := dk_167 0 88 (dk_at dksX11_byRules_1 7 rfl rfl)
theorem dX11_byRules_34 : decode cX11_byRules 34 = .ok (.iconst 0, 1) := dk_3 (dk_at dksX11_byRules_1 10 rfl rfl)
theorem dX11_byRules_35 : decode cX11_byRules 35 = .ok (.istore 5, 2) := dk_54 5 (dk_at dksX11_byRules_1 11 rfl rfl)
theorem dX11_byRules_37 : decode cX11_byRules 37 = .ok (.iconst 1, 1) := dk_4 (dk_at dksX11_byRules_1 13 rfl rfl)
theorem dX11_byRules_38 : decode cX11_byRules 38 = .ok (.istore 6, 2) := dk_54 6 (dk_at dksX11_byRules_1 14 rfl rfl)
theorem dX11_byRules_40 : decode cX11_byRules 40 = .ok (.iload 6, 2) := dk_21 6 (dk_at dksX11_byRules_1 16 rfl rfl)
theorem dX11_byRules_42 : decode cX11_byRules 42 = .ok (.aload_n 0, 1) := dk_42 (dk_at dksX11_byRules_1 18 rfl rfl)
theorem dX11_byRules_43 : decode cX11_byRules 43 = .ok (.getfield 29, 3) := dk_180 0 29 (dk_at dksX11_byRules_1 19 rfl rfl)
theorem dX11_byRules_46 : decode cX11_byRules 46 = .ok (.iconst 5, 1) := dk_8 (dk_at dksX11_byRules_1 22 rfl rfl)
theorem dX11_byRules_47 : decode cX11_byRules 47 = .ok (.iload 4, 2) := dk_21 4 (dk_at dksX11_byRules_2 0 rfl rfl)
theorem dX11_byRules_49 : decode cX11_byRules 49 = .ok (.imul, 1) := dk_104 (dk_at dksX11_byRules_2 2 rfl rfl)
theorem dX11_byRules_50 : decode cX11_byRules 50 = .ok (.iaload, 1) := dk_46 (dk_at dksX11_byRules_2 3 rfl rfl)
theorem dX11_byRules_51 : decode cX11_byRules 51 = .ok (.if_icmp .ge 51, 3) := dk_162 0 51 (dk_at dksX11_byRules_2 4 rfl rfl)
theorem dX11_byRules_54 : decode cX11_byRules 54 = .ok (.aload_n 0, 1) := dk_42 (dk_at dksX11_byRules_2 7 rfl rfl)
theorem dX11_byRules_55 : decode cX11_byRules 55 = .ok (.getfield 104, 3) := dk_180 0 104 (dk_at dksX11_byRules_2 8 rfl rfl)
theorem dX11_byRules_58 : decode cX11_byRules 58 = .ok (.bipush 8, 2) := dk_16 8 (dk_at dksX11_byRules_2 11 rfl rfl)
theorem dX11_byRules_60 : decode cX11_byRules 60 = .ok (.iload_n 1, 1) := dk_27 (dk_at dksX11_byRules_2 13 rfl rfl)
theorem dX11_byRules_61 : decode cX11_byRules 61 = .ok (.imul, 1) := dk_104 (dk_at dksX11_byRules_2 14 rfl rfl)
theorem dX11_byRules_62 : decode cX11_byRules 62 = .ok (.aload_n 0, 1) := dk_42 (dk_at dksX11_byRules_2 15 rfl rfl)
theorem dX11_byRules_63 : decode cX11_byRules 63 = .ok (.getfield 29, 3) := dk_180 0 29 (dk_at dksX11_byRules_2 16 rfl rfl)
theorem dX11_byRules_66 : decode cX11_byRules 66 = .ok (.iconst 5, 1) := dk_8 (dk_at dksX11_byRules_2 19 rfl rfl)
theorem dX11_byRules_67 : decode cX11_byRules 67 = .ok (.iload 4, 2) := dk_21 4 (dk_at dksX11_byRules_2 20 rfl rfl)
theorem dX11_byRules_69 : decode cX11_byRules 69 = .ok (.imul, 1) := dk_104 (dk_at dksX11_byRules_2 22 rfl rfl)
theorem dX11_byRules_70 : decode cX11_byRules 70 = .ok (.iconst 1, 1) := dk_4 (dk_at dksX11_byRules_2 23 rfl rfl)
theorem dX11_byRules_71 : decode cX11_byRules 71 = .ok (.iadd, 1) := dk_96 (dk_at dksX11_byRules_3 0 rfl rfl)
theorem dX11_byRules_72 : decode cX11_byRules 72 = .ok (.iload 6, 2) := dk_21 6 (dk_at dksX11_byRules_3 1 rfl rfl)
theorem dX11_byRules_74 : decode cX11_byRules 74 = .ok (.iadd, 1) := dk_96 (dk_at dksX11_byRules_3 3 rfl rfl)
theorem dX11_byRules_75 : decode cX11_byRules 75 = .ok (.iaload, 1) := dk_46 (dk_at dksX11_byRules_3 4 rfl rfl)
theorem dX11_byRules_76 : decode cX11_byRules 76 = .ok (.iadd, 1) := dk_96 (dk_at dksX11_byRules_3 5 rfl rfl)
theorem dX11_byRules_77 : decode cX11_byRules 77 = .ok (.iaload, 1) := dk_46 (dk_at dksX11_byRules_3 6 rfl rfl)
theorem dX11_byRules_78 : decode cX11_byRules 78 = .ok (.istore 7, 2) := dk_54 7 (dk_at dksX11_byRules_3 7 rfl rfl)
theorem dX11_byRules_80 : decode cX11_byRules 80 = .ok (.iload 7, 2) := dk_21 7 (dk_at dksX11_byRules_3 9 rfl rfl)
theorem dX11_byRules_82 : decode cX11_byRules 82 = .ok (.iload 5, 2) := dk_21 5 (dk_at dksX11_byRules_3 11 rfl rfl)
theorem dX11_byRules_84 : decode cX11_byRules 84 = .ok (.if_icmp .le 8, 3) := dk_164 0 8 (dk_at dksX11_byRules_3 13 rfl rfl)
theorem dX11_byRules_87 : decode cX11_byRules 87 = .ok (.iload 7, 2) := dk_21 7 (dk_at dksX11_byRules_3 16 rfl rfl)
theorem dX11_byRules_89 : decode cX11_byRules 89 = .ok (.goto 5, 3) := dk_167 0 5 (dk_at dksX11_byRules_3 18 rfl rfl)
theorem dX11_byRules_92 : decode cX11_byRules 92 = .ok (.iload 5, 2) := dk_21 5 (dk_at dksX11_byRules_3 21 rfl rfl)
theorem dX11_byRules_94 : decode cX11_byRules 94 = .ok (.istore 5, 2) := dk_54 5 (dk_at dksX11_byRules_4 0 rfl rfl)
theorem dX11_byRules_96 : decode cX11_byRules 96 = .ok (.iinc 6 1, 3) := dk_132 6 1 (dk_at dksX11_byRules_4 2 rfl rfl)
theorem dX11_byRules_99 : decode cX11_byRules 99 = .ok (.goto (-59), 3) := dk_167 255 197 (dk_at dksX11_byRules_4 5 rfl rfl)
theorem dX11_byRules_102 : decode cX11_byRules 102 = .ok (.iload 5, 2) := dk_21 5 (dk_at dksX11_byRules_4 8 rfl rfl)
theorem dX11_byRules_104 : decode cX11_byRules 104 = .ok (.iconst 1, 1) := dk_4 (dk_at dksX11_byRules_4 10 rfl rfl)
theorem dX11_byRules_105 : decode cX11_byRules 105 = .ok (.iadd, 1) := dk_96 (dk_at dksX11_byRules_4 11 rfl rfl)
theorem dX11_byRules_106 : decode cX11_byRules 106 = .ok (.iload_n 3, 1) := dk_29 (dk_at dksX11_byRules_4 12 rfl rfl)
theorem dX11_byRules_107 : decode cX11_byRules 107 = .ok (.if_icmp .ge 10, 3) := dk_162 0 10 (dk_at dksX11_byRules_4 13 rfl rfl)
theorem dX11_byRules_110 : decode cX11_byRules 110 = .ok (.iload 5, 2) := dk_21 5 (dk_at dksX11_byRules_4 16 rfl rfl)
theorem dX11_byRules_112 : decode cX11_byRules 112 = .ok (.iconst 1, 1) := dk_4 (dk_at dksX11_byRules_4 18 rfl rfl)
theorem dX11_byRules_113 : decode cX11_byRules 113 = .ok (.iadd, 1) := dk_96 (dk_at dksX11_byRules_4 19 rfl rfl)
theorem dX11_byRules_114 : decode cX11_byRules 114 = .ok (.goto 4, 3) := dk_167 0 4 (dk_at dksX11_byRules_4 20 rfl rfl)
theorem dX11_byRules_117 : decode cX11_byRules 117 = .ok (.iload_n 3, 1) := dk_29 (dk_at dksX11_byRules_4 23 rfl rfl)
theorem dX11_byRules_118 : decode cX11_byRules 118 = .ok (.istore_n 3, 1) := dk_62 (dk_at dksX11_byRules_5 0 rfl rfl)
theorem dX11_byRules_119 : decode cX11_byRules 119 = .ok (.iinc 4 1, 3) := dk_132 4 1 (dk_at dksX11_byRules_5 1 rfl rfl)
theorem dX11_byRules_122 : decode cX11_byRules 122 = .ok (.goto (-115), 3) := dk_167 255 141 (dk_at dksX11_byRules_5 4 rfl rfl)
theorem dX11_byRules_125 : decode cX11_byRules 125 = .ok (.iload_n 3, 1) := dk_29 (dk_at dksX11_byRules_5 7 rfl rfl)
theorem dX11_byRules_126 : decode cX11_byRules 126 = .ok (.ireturn, 1) := dk_172 (dk_at dksX11_byRules_5 8 rfl rfl)
abbrev cX11_isBy : ByteArray := prog_19_method_56_code
def yX11_isBy : MethodName := ⟨RX11, "isBy", "(IIIII)Z"⟩
def dkwX11_isBy_5 : List UInt8 := [42, 180, 0, 26, 8, 29, 104, 4, 96, 46, 122, 4, 126, 4, 160, 0, 7, 4, 167, 0, 4, 3, 172]
abbrev dktX11_isBy_5 : List UInt8 := dkwX11_isBy_5 ++ []
def dkwX11_isBy_4 : List UInt8 := [4, 160, 0, 44, 42, 180, 0, 26, 8, 29, 104, 7, 96, 46, 154, 0, 31, 42, 180, 0, 32, 21, 6, 46]
abbrev dktX11_isBy_4 : List UInt8 := dkwX11_isBy_4 ++ dktX11_isBy_5
def dkwX11_isBy_3 : List UInt8 := [160, 0, 7, 4, 167, 0, 4, 3, 172, 21, 4, 154, 0, 58, 42, 180, 0, 26, 8, 29, 104, 6, 96, 46]
abbrev dktX11_isBy_3 : List UInt8 := dkwX11_isBy_3 ++ dktX11_isBy_4
def dkwX11_isBy_2 : List UInt8 := [180, 0, 26, 8, 29, 104, 4, 96, 46, 160, 0, 22, 42, 180, 0, 26, 8, 29, 104, 7, 96, 46, 21, 4]
abbrev dktX11_isBy_2 : List UInt8 := dkwX11_isBy_2 ++ dktX11_isBy_3
def dkwX11_isBy_1 : List UInt8 := [180, 0, 26, 8, 29, 104, 5, 96, 46, 28, 164, 0, 5, 3, 172, 21, 5, 154, 0, 39, 21, 6, 42]
abbrev dktX11_isBy_1 : List UInt8 := dkwX11_isBy_1 ++ dktX11_isBy_2
def dkwX11_isBy_0 : List UInt8 := [42, 180, 0, 35, 16, 24, 27, 104, 42, 180, 0, 26, 8, 29, 104, 5, 96, 46, 96, 46, 54, 6, 42]
abbrev dktX11_isBy_0 : List UInt8 := dkwX11_isBy_0 ++ dktX11_isBy_1
theorem dksX11_isBy_0 : cX11_isBy.data.toList.drop 0 = dktX11_isBy_0 := by decide +kernel
theorem dksX11_isBy_1 : cX11_isBy.data.toList.drop 23 = dktX11_isBy_1 := dk_seg dksX11_isBy_0 23 rfl rfl
theorem dksX11_isBy_2 : cX11_isBy.data.toList.drop 46 = dktX11_isBy_2 := dk_seg dksX11_isBy_1 23 rfl rfl
theorem dksX11_isBy_3 : cX11_isBy.data.toList.drop 70 = dktX11_isBy_3 := dk_seg dksX11_isBy_2 24 rfl rfl
theorem dksX11_isBy_4 : cX11_isBy.data.toList.drop 94 = dktX11_isBy_4 := dk_seg dksX11_isBy_3 24 rfl rfl
theorem dksX11_isBy_5 : cX11_isBy.data.toList.drop 118 = dktX11_isBy_5 := dk_seg dksX11_isBy_4 24 rfl rfl
theorem dX11_isBy_0 : decode cX11_isBy 0 = .ok (.aload_n 0, 1) := dk_42 (dk_at dksX11_isBy_0 0 rfl rfl)
theorem dX11_isBy_1 : decode cX11_isBy 1 = .ok (.getfield 35, 3) := dk_180 0 35 (dk_at dksX11_isBy_0 1 rfl rfl)
theorem dX11_isBy_4 : decode cX11_isBy 4 = .ok (.bipush 24, 2) := dk_16 24 (dk_at dksX11_isBy_0 4 rfl rfl)
theorem dX11_isBy_6 : decode cX11_isBy 6 = .ok (.iload_n 1, 1) := dk_27 (dk_at dksX11_isBy_0 6 rfl rfl)
theorem dX11_isBy_7 : decode cX11_isBy 7 = .ok (.imul, 1) := dk_104 (dk_at dksX11_isBy_0 7 rfl rfl)
theorem dX11_isBy_8 : decode cX11_isBy 8 = .ok (.aload_n 0, 1) := dk_42 (dk_at dksX11_isBy_0 8 rfl rfl)
theorem dX11_isBy_9 : decode cX11_isBy 9 = .ok (.getfield 26, 3) := dk_180 0 26 (dk_at dksX11_isBy_0 9 rfl rfl)
theorem dX11_isBy_12 : decode cX11_isBy 12 = .ok (.iconst 5, 1) := dk_8 (dk_at dksX11_isBy_0 12 rfl rfl)
theorem dX11_isBy_13 : decode cX11_isBy 13 = .ok (.iload_n 3, 1) := dk_29 (dk_at dksX11_isBy_0 13 rfl rfl)
theorem dX11_isBy_14 : decode cX11_isBy 14 = .ok (.imul, 1) := dk_104 (dk_at dksX11_isBy_0 14 rfl rfl)
theorem dX11_isBy_15 : decode cX11_isBy 15 = .ok (.iconst 2, 1) := dk_5 (dk_at dksX11_isBy_0 15 rfl rfl)
theorem dX11_isBy_16 : decode cX11_isBy 16 = .ok (.iadd, 1) := dk_96 (dk_at dksX11_isBy_0 16 rfl rfl)
theorem dX11_isBy_17 : decode cX11_isBy 17 = .ok (.iaload, 1) := dk_46 (dk_at dksX11_isBy_0 17 rfl rfl)
theorem dX11_isBy_18 : decode cX11_isBy 18 = .ok (.iadd, 1) := dk_96 (dk_at dksX11_isBy_0 18 rfl rfl)
theorem dX11_isBy_19 : decode cX11_isBy 19 = .ok (.iaload, 1) := dk_46 (dk_at dksX11_isBy_0 19 rfl rfl)
theorem dX11_isBy_20 : decode cX11_isBy 20 = .ok (.istore 6, 2) := dk_54 6 (dk_at dksX11_isBy_0 20 rfl rfl)
theorem dX11_isBy_22 : decode cX11_isBy 22 = .ok (.aload_n 0, 1) := dk_42 (dk_at dksX11_isBy_0 22 rfl rfl)
theorem dX11_isBy_23 : decode cX11_isBy 23 = .ok (.getfield 26, 3) := dk_180 0 26 (dk_at dksX11_isBy_1 0 rfl rfl)
theorem dX11_isBy_26 : decode cX11_isBy 26 = .ok (.iconst 5, 1) := dk_8 (dk_at dksX11_isBy_1 3 rfl rfl)
theorem dX11_isBy_27 : decode cX11_isBy 27 = .ok (.iload_n 3, 1) := dk_29 (dk_at dksX11_isBy_1 4 rfl rfl)
theorem dX11_isBy_28 : decode cX11_isBy 28 = .ok (.imul, 1) := dk_104 (dk_at dksX11_isBy_1 5 rfl rfl)
theorem dX11_isBy_29 : decode cX11_isBy 29 = .ok (.iconst 2, 1) := dk_5 (dk_at dksX11_isBy_1 6 rfl rfl)
theorem dX11_isBy_30 : decode cX11_isBy 30 = .ok (.iadd, 1) := dk_96 (dk_at dksX11_isBy_1 7 rfl rfl)
theorem dX11_isBy_31 : decode cX11_isBy 31 = .ok (.iaload, 1) := dk_46 (dk_at dksX11_isBy_1 8 rfl rfl)
theorem dX11_isBy_32 : decode cX11_isBy 32 = .ok (.iload_n 2, 1) := dk_28 (dk_at dksX11_isBy_1 9 rfl rfl)
theorem dX11_isBy_33 : decode cX11_isBy 33 = .ok (.if_icmp .le 5, 3) := dk_164 0 5 (dk_at dksX11_isBy_1 10 rfl rfl)
theorem dX11_isBy_36 : decode cX11_isBy 36 = .ok (.iconst 0, 1) := dk_3 (dk_at dksX11_isBy_1 13 rfl rfl)
theorem dX11_isBy_37 : decode cX11_isBy 37 = .ok (.ireturn, 1) := dk_172 (dk_at dksX11_isBy_1 14 rfl rfl)
theorem dX11_isBy_38 : decode cX11_isBy 38 = .ok (.iload 5, 2) := dk_21 5 (dk_at dksX11_isBy_1 15 rfl rfl)
theorem dX11_isBy_40 : decode cX11_isBy 40 = .ok (.ifCond .ne 39, 3) := dk_154 0 39 (dk_at dksX11_isBy_1 17 rfl rfl)
theorem dX11_isBy_43 : decode cX11_isBy 43 = .ok (.iload 6, 2) := dk_21 6 (dk_at dksX11_isBy_1 20 rfl rfl)
theorem dX11_isBy_45 : decode cX11_isBy 45 = .ok (.aload_n 0, 1) := dk_42 (dk_at dksX11_isBy_1 22 rfl rfl)
theorem dX11_isBy_46 : decode cX11_isBy 46 = .ok (.getfield 26, 3) := dk_180 0 26 (dk_at dksX11_isBy_2 0 rfl rfl)
theorem dX11_isBy_49 : decode cX11_isBy 49 = .ok (.iconst 5, 1) := dk_8 (dk_at dksX11_isBy_2 3 rfl rfl)
theorem dX11_isBy_50 : decode cX11_isBy 50 = .ok (.iload_n 3, 1) := dk_29 (dk_at dksX11_isBy_2 4 rfl rfl)
theorem dX11_isBy_51 : decode cX11_isBy 51 = .ok (.imul, 1) := dk_104 (dk_at dksX11_isBy_2 5 rfl rfl)
theorem dX11_isBy_52 : decode cX11_isBy 52 = .ok (.iconst 1, 1) := dk_4 (dk_at dksX11_isBy_2 6 rfl rfl)
theorem dX11_isBy_53 : decode cX11_isBy 53 = .ok (.iadd, 1) := dk_96 (dk_at dksX11_isBy_2 7 rfl rfl)
theorem dX11_isBy_54 : decode cX11_isBy 54 = .ok (.iaload, 1) := dk_46 (dk_at dksX11_isBy_2 8 rfl rfl)
theorem dX11_isBy_55 : decode cX11_isBy 55 = .ok (.if_icmp .ne 22, 3) := dk_160 0 22 (dk_at dksX11_isBy_2 9 rfl rfl)
theorem dX11_isBy_58 : decode cX11_isBy 58 = .ok (.aload_n 0, 1) := dk_42 (dk_at dksX11_isBy_2 12 rfl rfl)
theorem dX11_isBy_59 : decode cX11_isBy 59 = .ok (.getfield 26, 3) := dk_180 0 26 (dk_at dksX11_isBy_2 13 rfl rfl)
theorem dX11_isBy_62 : decode cX11_isBy 62 = .ok (.iconst 5, 1) := dk_8 (dk_at dksX11_isBy_2 16 rfl rfl)
theorem dX11_isBy_63 : decode cX11_isBy 63 = .ok (.iload_n 3, 1) := dk_29 (dk_at dksX11_isBy_2 17 rfl rfl)
theorem dX11_isBy_64 : decode cX11_isBy 64 = .ok (.imul, 1) := dk_104 (dk_at dksX11_isBy_2 18 rfl rfl)
theorem dX11_isBy_65 : decode cX11_isBy 65 = .ok (.iconst 4, 1) := dk_7 (dk_at dksX11_isBy_2 19 rfl rfl)
theorem dX11_isBy_66 : decode cX11_isBy 66 = .ok (.iadd, 1) := dk_96 (dk_at dksX11_isBy_2 20 rfl rfl)
theorem dX11_isBy_67 : decode cX11_isBy 67 = .ok (.iaload, 1) := dk_46 (dk_at dksX11_isBy_2 21 rfl rfl)
theorem dX11_isBy_68 : decode cX11_isBy 68 = .ok (.iload 4, 2) := dk_21 4 (dk_at dksX11_isBy_2 22 rfl rfl)
theorem dX11_isBy_70 : decode cX11_isBy 70 = .ok (.if_icmp .ne 7, 3) := dk_160 0 7 (dk_at dksX11_isBy_3 0 rfl rfl)
theorem dX11_isBy_73 : decode cX11_isBy 73 = .ok (.iconst 1, 1) := dk_4 (dk_at dksX11_isBy_3 3 rfl rfl)
theorem dX11_isBy_74 : decode cX11_isBy 74 = .ok (.goto 4, 3) := dk_167 0 4 (dk_at dksX11_isBy_3 4 rfl rfl)
theorem dX11_isBy_77 : decode cX11_isBy 77 = .ok (.iconst 0, 1) := dk_3 (dk_at dksX11_isBy_3 7 rfl rfl)
theorem dX11_isBy_78 : decode cX11_isBy 78 = .ok (.ireturn, 1) := dk_172 (dk_at dksX11_isBy_3 8 rfl rfl)
theorem dX11_isBy_79 : decode cX11_isBy 79 = .ok (.iload 4, 2) := dk_21 4 (dk_at dksX11_isBy_3 9 rfl rfl)
theorem dX11_isBy_81 : decode cX11_isBy 81 = .ok (.ifCond .ne 58, 3) := dk_154 0 58 (dk_at dksX11_isBy_3 11 rfl rfl)
theorem dX11_isBy_84 : decode cX11_isBy 84 = .ok (.aload_n 0, 1) := dk_42 (dk_at dksX11_isBy_3 14 rfl rfl)
theorem dX11_isBy_85 : decode cX11_isBy 85 = .ok (.getfield 26, 3) := dk_180 0 26 (dk_at dksX11_isBy_3 15 rfl rfl)
theorem dX11_isBy_88 : decode cX11_isBy 88 = .ok (.iconst 5, 1) := dk_8 (dk_at dksX11_isBy_3 18 rfl rfl)
theorem dX11_isBy_89 : decode cX11_isBy 89 = .ok (.iload_n 3, 1) := dk_29 (dk_at dksX11_isBy_3 19 rfl rfl)
theorem dX11_isBy_90 : decode cX11_isBy 90 = .ok (.imul, 1) := dk_104 (dk_at dksX11_isBy_3 20 rfl rfl)
theorem dX11_isBy_91 : decode cX11_isBy 91 = .ok (.iconst 3, 1) := dk_6 (dk_at dksX11_isBy_3 21 rfl rfl)
theorem dX11_isBy_92 : decode cX11_isBy 92 = .ok (.iadd, 1) := dk_96 (dk_at dksX11_isBy_3 22 rfl rfl)
theorem dX11_isBy_93 : decode cX11_isBy 93 = .ok (.iaload, 1) := dk_46 (dk_at dksX11_isBy_3 23 rfl rfl)
theorem dX11_isBy_94 : decode cX11_isBy 94 = .ok (.iconst 1, 1) := dk_4 (dk_at dksX11_isBy_4 0 rfl rfl)
theorem dX11_isBy_95 : decode cX11_isBy 95 = .ok (.if_icmp .ne 44, 3) := dk_160 0 44 (dk_at dksX11_isBy_4 1 rfl rfl)
theorem dX11_isBy_98 : decode cX11_isBy 98 = .ok (.aload_n 0, 1) := dk_42 (dk_at dksX11_isBy_4 4 rfl rfl)
theorem dX11_isBy_99 : decode cX11_isBy 99 = .ok (.getfield 26, 3) := dk_180 0 26 (dk_at dksX11_isBy_4 5 rfl rfl)
theorem dX11_isBy_102 : decode cX11_isBy 102 = .ok (.iconst 5, 1) := dk_8 (dk_at dksX11_isBy_4 8 rfl rfl)
theorem dX11_isBy_103 : decode cX11_isBy 103 = .ok (.iload_n 3, 1) := dk_29 (dk_at dksX11_isBy_4 9 rfl rfl)
theorem dX11_isBy_104 : decode cX11_isBy 104 = .ok (.imul, 1) := dk_104 (dk_at dksX11_isBy_4 10 rfl rfl)
theorem dX11_isBy_105 : decode cX11_isBy 105 = .ok (.iconst 4, 1) := dk_7 (dk_at dksX11_isBy_4 11 rfl rfl)
theorem dX11_isBy_106 : decode cX11_isBy 106 = .ok (.iadd, 1) := dk_96 (dk_at dksX11_isBy_4 12 rfl rfl)
theorem dX11_isBy_107 : decode cX11_isBy 107 = .ok (.iaload, 1) := dk_46 (dk_at dksX11_isBy_4 13 rfl rfl)
theorem dX11_isBy_108 : decode cX11_isBy 108 = .ok (.ifCond .ne 31, 3) := dk_154 0 31 (dk_at dksX11_isBy_4 14 rfl rfl)
theorem dX11_isBy_111 : decode cX11_isBy 111 = .ok (.aload_n 0, 1) := dk_42 (dk_at dksX11_isBy_4 17 rfl rfl)
theorem dX11_isBy_112 : decode cX11_isBy 112 = .ok (.getfield 32, 3) := dk_180 0 32 (dk_at dksX11_isBy_4 18 rfl rfl)
theorem dX11_isBy_115 : decode cX11_isBy 115 = .ok (.iload 6, 2) := dk_21 6 (dk_at dksX11_isBy_4 21 rfl rfl)
theorem dX11_isBy_117 : decode cX11_isBy 117 = .ok (.iaload, 1) := dk_46 (dk_at dksX11_isBy_4 23 rfl rfl)
theorem dX11_isBy_118 : decode cX11_isBy 118 = .ok (.aload_n 0, 1) := dk_42 (dk_at dksX11_isBy_5 0 rfl rfl)
theorem dX11_isBy_119 : decode cX11_isBy 119 = .ok (.getfield 26, 3) := dk_180 0 26 (dk_at dksX11_isBy_5 1 rfl rfl)
theorem dX11_isBy_122 : decode cX11_isBy 122 = .ok (.iconst 5, 1) := dk_8 (dk_at dksX11_isBy_5 4 rfl rfl)
theorem dX11_isBy_123 : decode cX11_isBy 123 = .ok (.iload_n 3, 1) := dk_29 (dk_at dksX11_isBy_5 5 rfl rfl)
theorem dX11_isBy_124 : decode cX11_isBy 124 = .ok (.imul, 1) := dk_104 (dk_at dksX11_isBy_5 6 rfl rfl)
theorem dX11_isBy_125 : decode cX11_isBy 125 = .ok (.iconst 1, 1) := dk_4 (dk_at dksX11_isBy_5 7 rfl rfl)
theorem dX11_isBy_126 : decode cX11_isBy 126 = .ok (.iadd, 1) := dk_96 (dk_at dksX11_isBy_5 8 rfl rfl)
theorem dX11_isBy_127 : decode cX11_isBy 127 = .ok (.iaload, 1) := dk_46 (dk_at dksX11_isBy_5 9 rfl rfl)
theorem dX11_isBy_128 : decode cX11_isBy 128 = .ok (.ishr, 1) := dk_122 (dk_at dksX11_isBy_5 10 rfl rfl)
theorem dX11_isBy_129 : decode cX11_isBy 129 = .ok (.iconst 1, 1) := dk_4 (dk_at dksX11_isBy_5 11 rfl rfl)
theorem dX11_isBy_130 : decode cX11_isBy 130 = .ok (.iand, 1) := dk_126 (dk_at dksX11_isBy_5 12 rfl rfl)
theorem dX11_isBy_131 : decode cX11_isBy 131 = .ok (.iconst 1, 1) := dk_4 (dk_at dksX11_isBy_5 13 rfl rfl)
theorem dX11_isBy_132 : decode cX11_isBy 132 = .ok (.if_icmp .ne 7, 3) := dk_160 0 7 (dk_at dksX11_isBy_5 14 rfl rfl)
theorem dX11_isBy_135 : decode cX11_isBy 135 = .ok (.iconst 1, 1) := dk_4 (dk_at dksX11_isBy_5 17 rfl rfl)
theorem dX11_isBy_136 : decode cX11_isBy 136 = .ok (.goto 4, 3) := dk_167 0 4 (dk_at dksX11_isBy_5 18 rfl rfl)
theorem dX11_isBy_139 : decode cX11_isBy 139 = .ok (.iconst 0, 1) := dk_3 (dk_at dksX11_isBy_5 21 rfl rfl)
theorem dX11_isBy_140 : decode cX11_isBy 140 = .ok (.ireturn, 1) := dk_172 (dk_at dksX11_isBy_5 22 rfl rfl)
abbrev cX11_looks : ByteArray := prog_19_method_67_code
def yX11_looks : MethodName := ⟨RX11, "looks", "()V"⟩
def dkwX11_looks_11 : List UInt8 := [29, 79, 132, 2, 1, 167, 255, 167, 167, 255, 43, 177]
abbrev dktX11_looks_11 : List UInt8 := dkwX11_looks_11 ++ []
def dkwX11_looks_10 : List UInt8 := [154, 0, 13, 29, 42, 180, 0, 107, 28, 46, 159, 0, 7, 4, 167, 0, 4, 3, 60, 42, 180, 0, 107, 28]
abbrev dktX11_looks_10 : List UInt8 := dkwX11_looks_10 ++ dktX11_looks_11
def dkwX11_looks_9 : List UInt8 := [5, 182, 1, 90, 42, 28, 7, 182, 1, 90, 42, 28, 6, 182, 1, 90, 182, 1, 132, 128, 62, 27]
abbrev dktX11_looks_9 : List UInt8 := dkwX11_looks_9 ++ dktX11_looks_10
def dkwX11_looks_8 : List UInt8 := [17, 3, 232, 160, 0, 6, 167, 0, 66, 42, 180, 0, 107, 28, 46, 42, 42, 180, 0, 101, 28, 46, 42, 28]
abbrev dktX11_looks_8 : List UInt8 := dkwX11_looks_8 ++ dktX11_looks_9
def dkwX11_looks_7 : List UInt8 := [132, 2, 1, 167, 255, 148, 3, 61, 28, 42, 180, 1, 23, 162, 0, 87, 42, 180, 0, 89, 28, 46]
abbrev dktX11_looks_7 : List UInt8 := dkwX11_looks_7 ++ dktX11_looks_8
def dkwX11_looks_6 : List UInt8 := [167, 0, 4, 3, 60, 42, 180, 0, 110, 16, 8, 28, 104, 29, 96, 21, 4, 79, 132, 3, 1, 167, 255, 164]
abbrev dktX11_looks_6 : List UInt8 := dkwX11_looks_6 ++ dktX11_looks_7
def dkwX11_looks_5 : List UInt8 := [167, 255, 233, 27, 154, 0, 19, 21, 4, 42, 180, 0, 110, 16, 8, 28, 104, 29, 96, 46, 159, 0, 7, 4]
abbrev dktX11_looks_5 : List UInt8 := dkwX11_looks_5 ++ dktX11_looks_6
def dkwX11_looks_4 : List UInt8 := [21, 5, 7, 162, 0, 23, 21, 4, 42, 28, 29, 3, 21, 5, 182, 1, 132, 128, 54, 4, 132, 5, 1]
abbrev dktX11_looks_4 : List UInt8 := dkwX11_looks_4 ++ dktX11_looks_5
def dkwX11_looks_3 : List UInt8 := [42, 180, 1, 13, 162, 0, 90, 42, 180, 0, 110, 16, 8, 28, 104, 29, 96, 46, 54, 4, 3, 54, 5]
abbrev dktX11_looks_3 : List UInt8 := dkwX11_looks_3 ++ dktX11_looks_4
def dkwX11_looks_2 : List UInt8 := [167, 255, 235, 4, 60, 27, 153, 0, 215, 3, 60, 3, 61, 28, 42, 180, 1, 87, 162, 0, 106, 3, 62, 29]
abbrev dktX11_looks_2 : List UInt8 := dkwX11_looks_2 ++ dktX11_looks_3
def dkwX11_looks_1 : List UInt8 := [60, 27, 16, 8, 42, 180, 1, 87, 104, 162, 0, 16, 42, 180, 0, 110, 27, 3, 79, 132, 1, 1]
abbrev dktX11_looks_1 : List UInt8 := dkwX11_looks_1 ++ dktX11_looks_2
def dkwX11_looks_0 : List UInt8 := [3, 60, 27, 42, 180, 1, 23, 162, 0, 16, 42, 180, 0, 107, 27, 3, 79, 132, 1, 1, 167, 255, 238, 3]
abbrev dktX11_looks_0 : List UInt8 := dkwX11_looks_0 ++ dktX11_looks_1
theorem dksX11_looks_0 : cX11_looks.data.toList.drop 0 = dktX11_looks_0 := by decide +kernel
theorem dksX11_looks_1 : cX11_looks.data.toList.drop 24 = dktX11_looks_1 := dk_seg dksX11_looks_0 24 rfl rfl
theorem dksX11_looks_2 : cX11_looks.data.toList.drop 46 = dktX11_looks_2 := dk_seg dksX11_looks_1 22 rfl rfl
theorem dksX11_looks_3 : cX11_looks.data.toList.drop 70 = dktX11_looks_3 := dk_seg dksX11_looks_2 24 rfl rfl
theorem dksX11_looks_4 : cX11_looks.data.toList.drop 93 = dktX11_looks_4 := dk_seg dksX11_looks_3 23 rfl rfl
theorem dksX11_looks_5 : cX11_looks.data.toList.drop 116 = dktX11_looks_5 := dk_seg dksX11_looks_4 23 rfl rfl
theorem dksX11_looks_6 : cX11_looks.data.toList.drop 140 = dktX11_looks_6 := dk_seg dksX11_looks_5 24 rfl rfl
theorem dksX11_looks_7 : cX11_looks.data.toList.drop 164 = dktX11_looks_7 := dk_seg dksX11_looks_6 24 rfl rfl
theorem dksX11_looks_8 : cX11_looks.data.toList.drop 186 = dktX11_looks_8 := dk_seg dksX11_looks_7 22 rfl rfl
theorem dksX11_looks_9 : cX11_looks.data.toList.drop 210 = dktX11_looks_9 := dk_seg dksX11_looks_8 24 rfl rfl
theorem dksX11_looks_10 : cX11_looks.data.toList.drop 232 = dktX11_looks_10 := dk_seg dksX11_looks_9 22 rfl rfl
theorem dksX11_looks_11 : cX11_looks.data.toList.drop 256 = dktX11_looks_11 := dk_seg dksX11_looks_10 24 rfl rfl
theorem dX11_looks_0 : decode cX11_looks 0 = .ok (.iconst 0, 1) := dk_3 (dk_at dksX11_looks_0 0 rfl rfl)
theorem dX11_looks_1 : decode cX11_looks 1 = .ok (.istore_n 1, 1) := dk_60 (dk_at dksX11_looks_0 1 rfl rfl)
theorem dX11_looks_2 : decode cX11_looks 2 = .ok (.iload_n 1, 1) := dk_27 (dk_at dksX11_looks_0 2 rfl rfl)
theorem dX11_looks_3 : decode cX11_looks 3 = .ok (.aload_n 0, 1) := dk_42 (dk_at dksX11_looks_0 3 rfl rfl)
theorem dX11_looks_4 : decode cX11_looks 4 = .ok (.getfield 279, 3) := dk_180 1 23 (dk_at dksX11_looks_0 4 rfl rfl)
theorem dX11_looks_7 : decode cX11_looks 7 = .ok (.if_icmp .ge 16, 3) := dk_162 0 16 (dk_at dksX11_looks_0 7 rfl rfl)
theorem dX11_looks_10 : decode cX11_looks 10 = .ok (.aload_n 0, 1) := dk_42 (dk_at dksX11_looks_0 10 rfl rfl)
theorem dX11_looks_11 : decode cX11_looks 11 = .ok (.getfield 107, 3) := dk_180 0 107 (dk_at dksX11_looks_0 11 rfl rfl)
theorem dX11_looks_14 : decode cX11_looks 14 = .ok (.iload_n 1, 1) := dk_27 (dk_at dksX11_looks_0 14 rfl rfl)
theorem dX11_looks_15 : decode cX11_looks 15 = .ok (.iconst 0, 1) := dk_3 (dk_at dksX11_looks_0 15 rfl rfl)
theorem dX11_looks_16 : decode cX11_looks 16 = .ok (.iastore, 1) := dk_79 (dk_at dksX11_looks_0 16 rfl rfl)
theorem dX11_looks_17 : decode cX11_looks 17 = .ok (.iinc 1 1, 3) := dk_132 1 1 (dk_at dksX11_looks_0 17 rfl rfl)
theorem dX11_looks_20 : decode cX11_looks 20 = .ok (.goto (-18), 3) := dk_167 255 238 (dk_at dksX11_looks_0 20 rfl rfl)
theorem dX11_looks_23 : decode cX11_looks 23 = .ok (.iconst 0, 1) := dk_3 (dk_at dksX11_looks_0 23 rfl rfl)
theorem dX11_looks_24 : decode cX11_looks 24 = .ok (.istore_n 1, 1) := dk_60 (dk_at dksX11_looks_1 0 rfl rfl)
theorem dX11_looks_25 : decode cX11_looks 25 = .ok (.iload_n 1, 1) := dk_27 (dk_at dksX11_looks_1 1 rfl rfl)
theorem dX11_looks_26 : decode cX11_looks 26 = .ok (.bipush 8, 2) := dk_16 8 (dk_at dksX11_looks_1 2 rfl rfl)
theorem dX11_looks_28 : decode cX11_looks 28 = .ok (.aload_n 0, 1) := dk_42 (dk_at dksX11_looks_1 4 rfl rfl)
theorem dX11_looks_29 : decode cX11_looks 29 = .ok (.getfield 343, 3) := dk_180 1 87 (dk_at dksX11_looks_1 5 rfl rfl)
theorem dX11_looks_32 : decode cX11_looks 32 = .ok (.imul, 1) := dk_104 (dk_at dksX11_looks_1 8 rfl rfl)
theorem dX11_looks_33 : decode cX11_looks 33 = .ok (.if_icmp .ge 16, 3) := dk_162 0 16 (dk_at dksX11_looks_1 9 rfl rfl)
theorem dX11_looks_36 : decode cX11_looks 36 = .ok (.aload_n 0, 1) := dk_42 (dk_at dksX11_looks_1 12 rfl rfl)
theorem dX11_looks_37 : decode cX11_looks 37 = .ok (.getfield 110, 3) := dk_180 0 110 (dk_at dksX11_looks_1 13 rfl rfl)
theorem dX11_looks_40 : decode cX11_looks 40 = .ok (.iload_n 1, 1) := dk_27 (dk_at dksX11_looks_1 16 rfl rfl)
theorem dX11_looks_41 : decode cX11_looks 41 = .ok (.iconst 0, 1) := dk_3 (dk_at dksX11_looks_1 17 rfl rfl)
theorem dX11_looks_42 : decode cX11_looks 42 = .ok (.iastore, 1) := dk_79 (dk_at dksX11_looks_1 18 rfl rfl)
theorem dX11_looks_43 : decode cX11_looks 43 = .ok (.iinc 1 1, 3) := dk_132 1 1 (dk_at dksX11_looks_1 19 rfl rfl)
theorem dX11_looks_46 : decode cX11_looks 46 = .ok (.goto (-21), 3) := dk_167 255 235 (dk_at dksX11_looks_2 0 rfl rfl)
theorem dX11_looks_49 : decode cX11_looks 49 = .ok (.iconst 1, 1) := dk_4 (dk_at dksX11_looks_2 3 rfl rfl)
theorem dX11_looks_50 : decode cX11_looks 50 = .ok (.istore_n 1, 1) := dk_60 (dk_at dksX11_looks_2 4 rfl rfl)
theorem dX11_looks_51 : decode cX11_looks 51 = .ok (.iload_n 1, 1) := dk_27 (dk_at dksX11_looks_2 5 rfl rfl)
theorem dX11_looks_52 : decode cX11_looks 52 = .ok (.ifCond .eq 215, 3) := dk_153 0 215 (dk_at dksX11_looks_2 6 rfl rfl)
theorem dX11_looks_55 : decode cX11_looks 55 = .ok (.iconst 0, 1) := dk_3 (dk_at dksX11_looks_2 9 rfl rfl)
theorem dX11_looks_56 : decode cX11_looks 56 = .ok (.istore_n 1, 1) := dk_60 (dk_at dksX11_looks_2 10 rfl rfl)
theorem dX11_looks_57 : decode cX11_looks 57 = .ok (.iconst 0, 1) := dk_3 (dk_at dksX11_looks_2 11 rfl rfl)
theorem dX11_looks_58 : decode cX11_looks 58 = .ok (.istore_n 2, 1) := dk_61 (dk_at dksX11_looks_2 12 rfl rfl)
theorem dX11_looks_59 : decode cX11_looks 59 = .ok (.iload_n 2, 1) := dk_28 (dk_at dksX11_looks_2 13 rfl rfl)
theorem dX11_looks_60 : decode cX11_looks 60 = .ok (.aload_n 0, 1) := dk_42 (dk_at dksX11_looks_2 14 rfl rfl)
theorem dX11_looks_61 : decode cX11_looks 61 = .ok (.getfield 343, 3) := dk_180 1 87 (dk_at dksX11_looks_2 15 rfl rfl)
theorem dX11_looks_64 : decode cX11_looks 64 = .ok (.if_icmp .ge 106, 3) := dk_162 0 106 (dk_at dksX11_looks_2 18 rfl rfl)
theorem dX11_looks_67 : decode cX11_looks 67 = .ok (.iconst 0, 1) := dk_3 (dk_at dksX11_looks_2 21 rfl rfl)
theorem dX11_looks_68 : decode cX11_looks 68 = .ok (.istore_n 3, 1) := dk_62 (dk_at dksX11_looks_2 22 rfl rfl)
theorem dX11_looks_69 : decode cX11_looks 69 = .ok (.iload_n 3, 1) := dk_29 (dk_at dksX11_looks_2 23 rfl rfl)
theorem dX11_looks_70 : decode cX11_looks 70 = .ok (.aload_n 0, 1) := dk_42 (dk_at dksX11_looks_3 0 rfl rfl)
theorem dX11_looks_71 : decode cX11_looks 71 = .ok (.getfield 269, 3) := dk_180 1 13 (dk_at dksX11_looks_3 1 rfl rfl)
theorem dX11_looks_74 : decode cX11_looks 74 = .ok (.if_icmp .ge 90, 3) := dk_162 0 90 (dk_at dksX11_looks_3 4 rfl rfl)
theorem dX11_looks_77 : decode cX11_looks 77 = .ok (.aload_n 0, 1) := dk_42 (dk_at dksX11_looks_3 7 rfl rfl)
theorem dX11_looks_78 : decode cX11_looks 78 = .ok (.getfield 110, 3) := dk_180 0 110 (dk_at dksX11_looks_3 8 rfl rfl)
theorem dX11_looks_81 : decode cX11_looks 81 = .ok (.bipush 8, 2) := dk_16 8 (dk_at dksX11_looks_3 11 rfl rfl)
theorem dX11_looks_83 : decode cX11_looks 83 = .ok (.iload_n 2, 1) := dk_28 (dk_at dksX11_looks_3 13 rfl rfl)
theorem dX11_looks_84 : decode cX11_looks 84 = .ok (.imul, 1) := dk_104 (dk_at dksX11_looks_3 14 rfl rfl)
theorem dX11_looks_85 : decode cX11_looks 85 = .ok (.iload_n 3, 1) := dk_29 (dk_at dksX11_looks_3 15 rfl rfl)
theorem dX11_looks_86 : decode cX11_looks 86 = .ok (.iadd, 1) := dk_96 (dk_at dksX11_looks_3 16 rfl rfl)
theorem dX11_looks_87 : decode cX11_looks 87 = .ok (.iaload, 1) := dk_46 (dk_at dksX11_looks_3 17 rfl rfl)
theorem dX11_looks_88 : decode cX11_looks 88 = .ok (.istore 4, 2) := dk_54 4 (dk_at dksX11_looks_3 18 rfl rfl)
theorem dX11_looks_90 : decode cX11_looks 90 = .ok (.iconst 0, 1) := dk_3 (dk_at dksX11_looks_3 20 rfl rfl)
theorem dX11_looks_91 : decode cX11_looks 91 = .ok (.istore 5, 2) := dk_54 5 (dk_at dksX11_looks_3 21 rfl rfl)
theorem dX11_looks_93 : decode cX11_looks 93 = .ok (.iload 5, 2) := dk_21 5 (dk_at dksX11_looks_4 0 rfl rfl)
theorem dX11_looks_95 : decode cX11_looks 95 = .ok (.iconst 4, 1) := dk_7 (dk_at dksX11_looks_4 2 rfl rfl)
theorem dX11_looks_96 : decode cX11_looks 96 = .ok (.if_icmp .ge 23, 3) := dk_162 0 23 (dk_at dksX11_looks_4 3 rfl rfl)
theorem dX11_looks_99 : decode cX11_looks 99 = .ok (.iload 4, 2) := dk_21 4 (dk_at dksX11_looks_4 6 rfl rfl)
theorem dX11_looks_101 : decode cX11_looks 101 = .ok (.aload_n 0, 1) := dk_42 (dk_at dksX11_looks_4 8 rfl rfl)
theorem dX11_looks_102 : decode cX11_looks 102 = .ok (.iload_n 2, 1) := dk_28 (dk_at dksX11_looks_4 9 rfl rfl)
theorem dX11_looks_103 : decode cX11_looks 103 = .ok (.iload_n 3, 1) := dk_29 (dk_at dksX11_looks_4 10 rfl rfl)
theorem dX11_looks_104 : decode cX11_looks 104 = .ok (.iconst 0, 1) := dk_3 (dk_at dksX11_looks_4 11 rfl rfl)
theorem dX11_looks_105 : decode cX11_looks 105 = .ok (.iload 5, 2) := dk_21 5 (dk_at dksX11_looks_4 12 rfl rfl)
theorem dX11_looks_107 : decode cX11_looks 107 = .ok (.invokevirtual 388, 3) := dk_182 1 132 (dk_at dksX11_looks_4 14 rfl rfl)
theorem dX11_looks_110 : decode cX11_looks 110 = .ok (.ior, 1) := dk_128 (dk_at dksX11_looks_4 17 rfl rfl)
theorem dX11_looks_111 : decode cX11_looks 111 = .ok (.istore 4, 2) := dk_54 4 (dk_at dksX11_looks_4 18 rfl rfl)
theorem dX11_looks_113 : decode cX11_looks 113 = .ok (.iinc 5 1, 3) := dk_132 5 1 (dk_at dksX11_looks_4 20 rfl rfl)
theorem dX11_looks_116 : decode cX11_looks 116 = .ok (.goto (-23), 3) := dk_167 255 233 (dk_at dksX11_looks_5 0 rfl rfl)
theorem dX11_looks_119 : decode cX11_looks 119 = .ok (.iload_n 1, 1) := dk_27 (dk_at dksX11_looks_5 3 rfl rfl)
theorem dX11_looks_120 : decode cX11_looks 120 = .ok (.ifCond .ne 19, 3) := dk_154 0 19 (dk_at dksX11_looks_5 4 rfl rfl)
theorem dX11_looks_123 : decode cX11_looks 123 = .ok (.iload 4, 2) := dk_21 4 (dk_at dksX11_looks_5 7 rfl rfl)
theorem dX11_looks_125 : decode cX11_looks 125 = .ok (.aload_n 0, 1) := dk_42 (dk_at dksX11_looks_5 9 rfl rfl)
theorem dX11_looks_126 : decode cX11_looks 126 = .ok (.getfield 110, 3) := dk_180 0 110 (dk_at dksX11_looks_5 10 rfl rfl)
theorem dX11_looks_129 : decode cX11_looks 129 = .ok (.bipush 8, 2) := dk_16 8 (dk_at dksX11_looks_5 13 rfl rfl)
theorem dX11_looks_131 : decode cX11_looks 131 = .ok (.iload_n 2, 1) := dk_28 (dk_at dksX11_looks_5 15 rfl rfl)
theorem dX11_looks_132 : decode cX11_looks 132 = .ok (.imul, 1) := dk_104 (dk_at dksX11_looks_5 16 rfl rfl)
theorem dX11_looks_133 : decode cX11_looks 133 = .ok (.iload_n 3, 1) := dk_29 (dk_at dksX11_looks_5 17 rfl rfl)
theorem dX11_looks_134 : decode cX11_looks 134 = .ok (.iadd, 1) := dk_96 (dk_at dksX11_looks_5 18 rfl rfl)
theorem dX11_looks_135 : decode cX11_looks 135 = .ok (.iaload, 1) := dk_46 (dk_at dksX11_looks_5 19 rfl rfl)
theorem dX11_looks_136 : decode cX11_looks 136 = .ok (.if_icmp .eq 7, 3) := dk_159 0 7 (dk_at dksX11_looks_5 20 rfl rfl)
theorem dX11_looks_139 : decode cX11_looks 139 = .ok (.iconst 1, 1) := dk_4 (dk_at dksX11_looks_5 23 rfl rfl)
theorem dX11_looks_140 : decode cX11_looks 140 = .ok (.goto 4, 3) := dk_167 0 4 (dk_at dksX11_looks_6 0 rfl rfl)
theorem dX11_looks_143 : decode cX11_looks 143 = .ok (.iconst 0, 1) := dk_3 (dk_at dksX11_looks_6 3 rfl rfl)
theorem dX11_looks_144 : decode cX11_looks 144 = .ok (.istore_n 1, 1) := dk_60 (dk_at dksX11_looks_6 4 rfl rfl)
theorem dX11_looks_145 : decode cX11_looks 145 = .ok (.aload_n 0, 1) := dk_42 (dk_at dksX11_looks_6 5 rfl rfl)
theorem dX11_looks_146 : decode cX11_looks 146 = .ok (.getfield 110, 3) := dk_180 0 110 (dk_at dksX11_looks_6 6 rfl rfl)
theorem dX11_looks_149 : decode cX11_looks 149 = .ok (.bipush 8, 2) := dk_16 8 (dk_at dksX11_looks_6 9 rfl rfl)
theorem dX11_looks_151 : decode cX11_looks 151 = .ok (.iload_n 2, 1) := dk_28 (dk_at dksX11_looks_6 11 rfl rfl)
theorem dX11_looks_152 : decode cX11_looks 152 = .ok (.imul, 1) := dk_104 (dk_at dksX11_looks_6 12 rfl rfl)
theorem dX11_looks_153 : decode cX11_looks 153 = .ok (.iload_n 3, 1) := dk_29 (dk_at dksX11_looks_6 13 rfl rfl)
theorem dX11_looks_154 : decode cX11_looks 154 = .ok (.iadd, 1) := dk_96 (dk_at dksX11_looks_6 14 rfl rfl)
theorem dX11_looks_155 : decode cX11_looks 155 = .ok (.iload 4, 2) := dk_21 4 (dk_at dksX11_looks_6 15 rfl rfl)
theorem dX11_looks_157 : decode cX11_looks 157 = .ok (.iastore, 1) := dk_79 (dk_at dksX11_looks_6 17 rfl rfl)
theorem dX11_looks_158 : decode cX11_looks 158 = .ok (.iinc 3 1, 3) := dk_132 3 1 (dk_at dksX11_looks_6 18 rfl rfl)
theorem dX11_looks_161 : decode cX11_looks 161 = .ok (.goto (-92), 3) := dk_167 255 164 (dk_at dksX11_looks_6 21 rfl rfl)
theorem dX11_looks_164 : decode cX11_looks 164 = .ok (.iinc 2 1, 3) := dk_132 2 1 (dk_at dksX11_looks_7 0 rfl rfl)
theorem dX11_looks_167 : decode cX11_looks 167 = .ok (.goto (-108), 3) := dk_167 255 148 (dk_at dksX11_looks_7 3 rfl rfl)
theorem dX11_looks_170 : decode cX11_looks 170 = .ok (.iconst 0, 1) := dk_3 (dk_at dksX11_looks_7 6 rfl rfl)
theorem dX11_looks_171 : decode cX11_looks 171 = .ok (.istore_n 2, 1) := dk_61 (dk_at dksX11_looks_7 7 rfl rfl)
theorem dX11_looks_172 : decode cX11_looks 172 = .ok (.iload_n 2, 1) := dk_28 (dk_at dksX11_looks_7 8 rfl rfl)
theorem dX11_looks_173 : decode cX11_looks 173 = .ok (.aload_n 0, 1) := dk_42 (dk_at dksX11_looks_7 9 rfl rfl)
theorem dX11_looks_174 : decode cX11_looks 174 = .ok (.getfield 279, 3) := dk_180 1 23 (dk_at dksX11_looks_7 10 rfl rfl)
theorem dX11_looks_177 : decode cX11_looks 177 = .ok (.if_icmp .ge 87, 3) := dk_162 0 87 (dk_at dksX11_looks_7 13 rfl rfl)
theorem dX11_looks_180 : decode cX11_looks 180 = .ok (.aload_n 0, 1) := dk_42 (dk_at dksX11_looks_7 16 rfl rfl)
theorem dX11_looks_181 : decode cX11_looks 181 = .ok (.getfield 89, 3) := dk_180 0 89 (dk_at dksX11_looks_7 17 rfl rfl)
theorem dX11_looks_184 : decode cX11_looks 184 = .ok (.iload_n 2, 1) := dk_28 (dk_at dksX11_looks_7 20 rfl rfl)
theorem dX11_looks_185 : decode cX11_looks 185 = .ok (.iaload, 1) := dk_46 (dk_at dksX11_looks_7 21 rfl rfl)
theorem dX11_looks_186 : decode cX11_looks 186 = .ok (.sipush 1000, 3) := dk_17 3 232 (dk_at dksX11_looks_8 0 rfl rfl)
theorem dX11_looks_189 : decode cX11_looks 189 = .ok (.if_icmp .ne 6, 3) := dk_160 0 6 (dk_at dksX11_looks_8 3 rfl rfl)
theorem dX11_looks_192 : decode cX11_looks 192 = .ok (.goto 66, 3) := dk_167 0 66 (dk_at dksX11_looks_8 6 rfl rfl)
theorem dX11_looks_195 : decode cX11_looks 195 = .ok (.aload_n 0, 1) := dk_42 (dk_at dksX11_looks_8 9 rfl rfl)
theorem dX11_looks_196 : decode cX11_looks 196 = .ok (.getfield 107, 3) := dk_180 0 107 (dk_at dksX11_looks_8 10 rfl rfl)
theorem dX11_looks_199 : decode cX11_looks 199 = .ok (.iload_n 2, 1) := dk_28 (dk_at dksX11_looks_8 13 rfl rfl)
theorem dX11_looks_200 : decode cX11_looks 200 = .ok (.iaload, 1) := dk_46 (dk_at dksX11_looks_8 14 rfl rfl)
theorem dX11_looks_201 : decode cX11_looks 201 = .ok (.aload_n 0, 1) := dk_42 (dk_at dksX11_looks_8 15 rfl rfl)
theorem dX11_looks_202 : decode cX11_looks 202 = .ok (.aload_n 0, 1) := dk_42 (dk_at dksX11_looks_8 16 rfl rfl)
theorem dX11_looks_203 : decode cX11_looks 203 = .ok (.getfield 101, 3) := dk_180 0 101 (dk_at dksX11_looks_8 17 rfl rfl)
theorem dX11_looks_206 : decode cX11_looks 206 = .ok (.iload_n 2, 1) := dk_28 (dk_at dksX11_looks_8 20 rfl rfl)
theorem dX11_looks_207 : decode cX11_looks 207 = .ok (.iaload, 1) := dk_46 (dk_at dksX11_looks_8 21 rfl rfl)
theorem dX11_looks_208 : decode cX11_looks 208 = .ok (.aload_n 0, 1) := dk_42 (dk_at dksX11_looks_8 22 rfl rfl)
theorem dX11_looks_209 : decode cX11_looks 209 = .ok (.iload_n 2, 1) := dk_28 (dk_at dksX11_looks_8 23 rfl rfl)
theorem dX11_looks_210 : decode cX11_looks 210 = .ok (.iconst 2, 1) := dk_5 (dk_at dksX11_looks_9 0 rfl rfl)
theorem dX11_looks_211 : decode cX11_looks 211 = .ok (.invokevirtual 346, 3) := dk_182 1 90 (dk_at dksX11_looks_9 1 rfl rfl)
theorem dX11_looks_214 : decode cX11_looks 214 = .ok (.aload_n 0, 1) := dk_42 (dk_at dksX11_looks_9 4 rfl rfl)
theorem dX11_looks_215 : decode cX11_looks 215 = .ok (.iload_n 2, 1) := dk_28 (dk_at dksX11_looks_9 5 rfl rfl)
theorem dX11_looks_216 : decode cX11_looks 216 = .ok (.iconst 4, 1) := dk_7 (dk_at dksX11_looks_9 6 rfl rfl)
theorem dX11_looks_217 : decode cX11_looks 217 = .ok (.invokevirtual 346, 3) := dk_182 1 90 (dk_at dksX11_looks_9 7 rfl rfl)
theorem dX11_looks_220 : decode cX11_looks 220 = .ok (.aload_n 0, 1) := dk_42 (dk_at dksX11_looks_9 10 rfl rfl)
theorem dX11_looks_221 : decode cX11_looks 221 = .ok (.iload_n 2, 1) := dk_28 (dk_at dksX11_looks_9 11 rfl rfl)
theorem dX11_looks_222 : decode cX11_looks 222 = .ok (.iconst 3, 1) := dk_6 (dk_at dksX11_looks_9 12 rfl rfl)
theorem dX11_looks_223 : decode cX11_looks 223 = .ok (.invokevirtual 346, 3) := dk_182 1 90 (dk_at dksX11_looks_9 13 rfl rfl)
theorem dX11_looks_226 : decode cX11_looks 226 = .ok (.invokevirtual 388, 3) := dk_182 1 132 (dk_at dksX11_looks_9 16 rfl rfl)
theorem dX11_looks_229 : decode cX11_looks 229 = .ok (.ior, 1) := dk_128 (dk_at dksX11_looks_9 19 rfl rfl)
theorem dX11_looks_230 : decode cX11_looks 230 = .ok (.istore_n 3, 1) := dk_62 (dk_at dksX11_looks_9 20 rfl rfl)
theorem dX11_looks_231 : decode cX11_looks 231 = .ok (.iload_n 1, 1) := dk_27 (dk_at dksX11_looks_9 21 rfl rfl)
theorem dX11_looks_232 : decode cX11_looks 232 = .ok (.ifCond .ne 13, 3) := dk_154 0 13 (dk_at dksX11_looks_10 0 rfl rfl)
theorem dX11_looks_235 : decode cX11_looks 235 = .ok (.iload_n 3, 1) := dk_29 (dk_at dksX11_looks_10 3 rfl rfl)
theorem dX11_looks_236 : decode cX11_looks 236 = .ok (.aload_n 0, 1) := dk_42 (dk_at dksX11_looks_10 4 rfl rfl)
theorem dX11_looks_237 : decode cX11_looks 237 = .ok (.getfield 107, 3) := dk_180 0 107 (dk_at dksX11_looks_10 5 rfl rfl)
theorem dX11_looks_240 : decode cX11_looks 240 = .ok (.iload_n 2, 1) := dk_28 (dk_at dksX11_looks_10 8 rfl rfl)
theorem dX11_looks_241 : decode cX11_looks 241 = .ok (.iaload, 1) := dk_46 (dk_at dksX11_looks_10 9 rfl rfl)
theorem dX11_looks_242 : decode cX11_looks 242 = .ok (.if_icmp .eq 7, 3) := dk_159 0 7 (dk_at dksX11_looks_10 10 rfl rfl)
theorem dX11_looks_245 : decode cX11_looks 245 = .ok (.iconst 1, 1) := dk_4 (dk_at dksX11_looks_10 13 rfl rfl)
theorem dX11_looks_246 : decode cX11_looks 246 = .ok (.goto 4, 3) := dk_167 0 4 (dk_at dksX11_looks_10 14 rfl rfl)
theorem dX11_looks_249 : decode cX11_looks 249 = .ok (.iconst 0, 1) := dk_3 (dk_at dksX11_looks_10 17 rfl rfl)
theorem dX11_looks_250 : decode cX11_looks 250 = .ok (.istore_n 1, 1) := dk_60 (dk_at dksX11_looks_10 18 rfl rfl)
theorem dX11_looks_251 : decode cX11_looks 251 = .ok (.aload_n 0, 1) := dk_42 (dk_at dksX11_looks_10 19 rfl rfl)
theorem dX11_looks_252 : decode cX11_looks 252 = .ok (.getfield 107, 3) := dk_180 0 107 (dk_at dksX11_looks_10 20 rfl rfl)
theorem dX11_looks_255 : decode cX11_looks 255 = .ok (.iload_n 2, 1) := dk_28 (dk_at dksX11_looks_10 23 rfl rfl)
theorem dX11_looks_256 : decode cX11_looks 256 = .ok (.iload_n 3, 1) := dk_29 (dk_at dksX11_looks_11 0 rfl rfl)
theorem dX11_looks_257 : decode cX11_looks 257 = .ok (.iastore, 1) := dk_79 (dk_at dksX11_looks_11 1 rfl rfl)
theorem dX11_looks_258 : decode cX11_looks 258 = .ok (.iinc 2 1, 3) := dk_132 2 1 (dk_at dksX11_looks_11 2 rfl rfl)
theorem dX11_looks_261 : decode cX11_looks 261 = .ok (.goto (-89), 3) := dk_167 255 167 (dk_at dksX11_looks_11 5 rfl rfl)
theorem dX11_looks_264 : decode cX11_looks 264 = .ok (.goto (-213), 3) := dk_167 255 43 (dk_at dksX11_looks_11 8 rfl rfl)
theorem dX11_looks_267 : decode cX11_looks 267 = .ok (.return_, 1) := dk_177 (dk_at dksX11_looks_11 11 rfl rfl)
abbrev cX11_eyesBy : ByteArray := prog_19_method_66_code
def yX11_eyesBy : MethodName := ⟨RX11, "eyesBy", "(IIII)I"⟩
def dkwX11_eyesBy_3 : List UInt8 := [29, 21, 4, 182, 1, 113, 153, 0, 10, 4, 21, 5, 120, 167, 0, 4, 3, 172]
abbrev dktX11_eyesBy_3 : List UInt8 := dkwX11_eyesBy_3 ++ []
def dkwX11_eyesBy_2 : List UInt8 := [160, 0, 7, 3, 167, 0, 9, 42, 27, 28, 182, 1, 129, 172, 42, 21, 5, 42, 180, 0, 98, 27, 46, 28]
abbrev dktX11_eyesBy_2 : List UInt8 := dkwX11_eyesBy_2 ++ dktX11_eyesBy_3
def dkwX11_eyesBy_1 : List UInt8 := [21, 5, 42, 180, 0, 98, 27, 46, 28, 29, 182, 1, 126, 172, 21, 4, 6, 160, 0, 19, 29, 4]
abbrev dktX11_eyesBy_1 : List UInt8 := dkwX11_eyesBy_1 ++ dktX11_eyesBy_2
def dkwX11_eyesBy_0 : List UInt8 := [42, 180, 0, 95, 27, 46, 54, 5, 21, 4, 7, 160, 0, 5, 3, 172, 21, 4, 5, 160, 0, 18, 42]
abbrev dktX11_eyesBy_0 : List UInt8 := dkwX11_eyesBy_0 ++ dktX11_eyesBy_1
theorem dksX11_eyesBy_0 : cX11_eyesBy.data.toList.drop 0 = dktX11_eyesBy_0 := by decide +kernel
theorem dksX11_eyesBy_1 : cX11_eyesBy.data.toList.drop 23 = dktX11_eyesBy_1 := dk_seg dksX11_eyesBy_0 23 rfl rfl
theorem dksX11_eyesBy_2 : cX11_eyesBy.data.toList.drop 45 = dktX11_eyesBy_2 := dk_seg dksX11_eyesBy_1 22 rfl rfl
theorem dksX11_eyesBy_3 : cX11_eyesBy.data.toList.drop 69 = dktX11_eyesBy_3 := dk_seg dksX11_eyesBy_2 24 rfl rfl
theorem dX11_eyesBy_0 : decode cX11_eyesBy 0 = .ok (.aload_n 0, 1) := dk_42 (dk_at dksX11_eyesBy_0 0 rfl rfl)
theorem dX11_eyesBy_1 : decode cX11_eyesBy 1 = .ok (.getfield 95, 3) := dk_180 0 95 (dk_at dksX11_eyesBy_0 1 rfl rfl)
theorem dX11_eyesBy_4 : decode cX11_eyesBy 4 = .ok (.iload_n 1, 1) := dk_27 (dk_at dksX11_eyesBy_0 4 rfl rfl)
theorem dX11_eyesBy_5 : decode cX11_eyesBy 5 = .ok (.iaload, 1) := dk_46 (dk_at dksX11_eyesBy_0 5 rfl rfl)
theorem dX11_eyesBy_6 : decode cX11_eyesBy 6 = .ok (.istore 5, 2) := dk_54 5 (dk_at dksX11_eyesBy_0 6 rfl rfl)
theorem dX11_eyesBy_8 : decode cX11_eyesBy 8 = .ok (.iload 4, 2) := dk_21 4 (dk_at dksX11_eyesBy_0 8 rfl rfl)
theorem dX11_eyesBy_10 : decode cX11_eyesBy 10 = .ok (.iconst 4, 1) := dk_7 (dk_at dksX11_eyesBy_0 10 rfl rfl)
theorem dX11_eyesBy_11 : decode cX11_eyesBy 11 = .ok (.if_icmp .ne 5, 3) := dk_160 0 5 (dk_at dksX11_eyesBy_0 11 rfl rfl)
theorem dX11_eyesBy_14 : decode cX11_eyesBy 14 = .ok (.iconst 0, 1) := dk_3 (dk_at dksX11_eyesBy_0 14 rfl rfl)
theorem dX11_eyesBy_15 : decode cX11_eyesBy 15 = .ok (.ireturn, 1) := dk_172 (dk_at dksX11_eyesBy_0 15 rfl rfl)
theorem dX11_eyesBy_16 : decode cX11_eyesBy 16 = .ok (.iload 4, 2) := dk_21 4 (dk_at dksX11_eyesBy_0 16 rfl rfl)
theorem dX11_eyesBy_18 : decode cX11_eyesBy 18 = .ok (.iconst 2, 1) := dk_5 (dk_at dksX11_eyesBy_0 18 rfl rfl)
theorem dX11_eyesBy_19 : decode cX11_eyesBy 19 = .ok (.if_icmp .ne 18, 3) := dk_160 0 18 (dk_at dksX11_eyesBy_0 19 rfl rfl)
theorem dX11_eyesBy_22 : decode cX11_eyesBy 22 = .ok (.aload_n 0, 1) := dk_42 (dk_at dksX11_eyesBy_0 22 rfl rfl)
theorem dX11_eyesBy_23 : decode cX11_eyesBy 23 = .ok (.iload 5, 2) := dk_21 5 (dk_at dksX11_eyesBy_1 0 rfl rfl)
theorem dX11_eyesBy_25 : decode cX11_eyesBy 25 = .ok (.aload_n 0, 1) := dk_42 (dk_at dksX11_eyesBy_1 2 rfl rfl)
theorem dX11_eyesBy_26 : decode cX11_eyesBy 26 = .ok (.getfield 98, 3) := dk_180 0 98 (dk_at dksX11_eyesBy_1 3 rfl rfl)
theorem dX11_eyesBy_29 : decode cX11_eyesBy 29 = .ok (.iload_n 1, 1) := dk_27 (dk_at dksX11_eyesBy_1 6 rfl rfl)
theorem dX11_eyesBy_30 : decode cX11_eyesBy 30 = .ok (.iaload, 1) := dk_46 (dk_at dksX11_eyesBy_1 7 rfl rfl)
theorem dX11_eyesBy_31 : decode cX11_eyesBy 31 = .ok (.iload_n 2, 1) := dk_28 (dk_at dksX11_eyesBy_1 8 rfl rfl)
theorem dX11_eyesBy_32 : decode cX11_eyesBy 32 = .ok (.iload_n 3, 1) := dk_29 (dk_at dksX11_eyesBy_1 9 rfl rfl)
theorem dX11_eyesBy_33 : decode cX11_eyesBy 33 = .ok (.invokevirtual 382, 3) := dk_182 1 126 (dk_at dksX11_eyesBy_1 10 rfl rfl)
theorem dX11_eyesBy_36 : decode cX11_eyesBy 36 = .ok (.ireturn, 1) := dk_172 (dk_at dksX11_eyesBy_1 13 rfl rfl)
theorem dX11_eyesBy_37 : decode cX11_eyesBy 37 = .ok (.iload 4, 2) := dk_21 4 (dk_at dksX11_eyesBy_1 14 rfl rfl)
theorem dX11_eyesBy_39 : decode cX11_eyesBy 39 = .ok (.iconst 3, 1) := dk_6 (dk_at dksX11_eyesBy_1 16 rfl rfl)
theorem dX11_eyesBy_40 : decode cX11_eyesBy 40 = .ok (.if_icmp .ne 19, 3) := dk_160 0 19 (dk_at dksX11_eyesBy_1 17 rfl rfl)
theorem dX11_eyesBy_43 : decode cX11_eyesBy 43 = .ok (.iload_n 3, 1) := dk_29 (dk_at dksX11_eyesBy_1 20 rfl rfl)
theorem dX11_eyesBy_44 : decode cX11_eyesBy 44 = .ok (.iconst 1, 1) := dk_4 (dk_at dksX11_eyesBy_1 21 rfl rfl)
theorem dX11_eyesBy_45 : decode cX11_eyesBy 45 = .ok (.if_icmp .ne 7, 3) := dk_160 0 7 (dk_at dksX11_eyesBy_2 0 rfl rfl)
theorem dX11_eyesBy_48 : decode cX11_eyesBy 48 = .ok (.iconst 0, 1) := dk_3 (dk_at dksX11_eyesBy_2 3 rfl rfl)
theorem dX11_eyesBy_49 : decode cX11_eyesBy 49 = .ok (.goto 9, 3) := dk_167 0 9 (dk_at dksX11_eyesBy_2 4 rfl rfl)
theorem dX11_eyesBy_52 : decode cX11_eyesBy 52 = .ok (.aload_n 0, 1) := dk_42 (dk_at dksX11_eyesBy_2 7 rfl rfl)
theorem dX11_eyesBy_53 : decode cX11_eyesBy 53 = .ok (.iload_n 1, 1) := dk_27 (dk_at dksX11_eyesBy_2 8 rfl rfl)
theorem dX11_eyesBy_54 : decode cX11_eyesBy 54 = .ok (.iload_n 2, 1) := dk_28 (dk_at dksX11_eyesBy_2 9 rfl rfl)
theorem dX11_eyesBy_55 : decode cX11_eyesBy 55 = .ok (.invokevirtual 385, 3) := dk_182 1 129 (dk_at dksX11_eyesBy_2 10 rfl rfl)
theorem dX11_eyesBy_58 : decode cX11_eyesBy 58 = .ok (.ireturn, 1) := dk_172 (dk_at dksX11_eyesBy_2 13 rfl rfl)
theorem dX11_eyesBy_59 : decode cX11_eyesBy 59 = .ok (.aload_n 0, 1) := dk_42 (dk_at dksX11_eyesBy_2 14 rfl rfl)
theorem dX11_eyesBy_60 : decode cX11_eyesBy 60 = .ok (.iload 5, 2) := dk_21 5 (dk_at dksX11_eyesBy_2 15 rfl rfl)
theorem dX11_eyesBy_62 : decode cX11_eyesBy 62 = .ok (.aload_n 0, 1) := dk_42 (dk_at dksX11_eyesBy_2 17 rfl rfl)
theorem dX11_eyesBy_63 : decode cX11_eyesBy 63 = .ok (.getfield 98, 3) := dk_180 0 98 (dk_at dksX11_eyesBy_2 18 rfl rfl)
theorem dX11_eyesBy_66 : decode cX11_eyesBy 66 = .ok (.iload_n 1, 1) := dk_27 (dk_at dksX11_eyesBy_2 21 rfl rfl)
theorem dX11_eyesBy_67 : decode cX11_eyesBy 67 = .ok (.iaload, 1) := dk_46 (dk_at dksX11_eyesBy_2 22 rfl rfl)
theorem dX11_eyesBy_68 : decode cX11_eyesBy 68 = .ok (.iload_n 2, 1) := dk_28 (dk_at dksX11_eyesBy_2 23 rfl rfl)
theorem dX11_eyesBy_69 : decode cX11_eyesBy 69 = .ok (.iload_n 3, 1) := dk_29 (dk_at dksX11_eyesBy_3 0 rfl rfl)
theorem dX11_eyesBy_70 : decode cX11_eyesBy 70 = .ok (.iload 4, 2) := dk_21 4 (dk_at dksX11_eyesBy_3 1 rfl rfl)
theorem dX11_eyesBy_72 : decode cX11_eyesBy 72 = .ok (.invokevirtual 369, 3) := dk_182 1 113 (dk_at dksX11_eyesBy_3 3 rfl rfl)
theorem dX11_eyesBy_75 : decode cX11_eyesBy 75 = .ok (.ifCond .eq 10, 3) := dk_153 0 10 (dk_at dksX11_eyesBy_3 6 rfl rfl)
theorem dX11_eyesBy_78 : decode cX11_eyesBy 78 = .ok (.iconst 1, 1) := dk_4 (dk_at dksX11_eyesBy_3 9 rfl rfl)
theorem dX11_eyesBy_79 : decode cX11_eyesBy 79 = .ok (.iload 5, 2) := dk_21 5 (dk_at dksX11_eyesBy_3 10 rfl rfl)
theorem dX11_eyesBy_81 : decode cX11_eyesBy 81 = .ok (.ishl, 1) := dk_120 (dk_at dksX11_eyesBy_3 12 rfl rfl)
theorem dX11_eyesBy_82 : decode cX11_eyesBy 82 = .ok (.goto 4, 3) := dk_167 0 4 (dk_at dksX11_eyesBy_3 13 rfl rfl)
theorem dX11_eyesBy_85 : decode cX11_eyesBy 85 = .ok (.iconst 0, 1) := dk_3 (dk_at dksX11_eyesBy_3 16 rfl rfl)
theorem dX11_eyesBy_86 : decode cX11_eyesBy 86 = .ok (.ireturn, 1) := dk_172 (dk_at dksX11_eyesBy_3 17 rfl rfl)
abbrev cX11_toldEyes : ByteArray := prog_19_method_64_code
def yX11_toldEyes : MethodName := ⟨RX11, "toldEyes", "(IIII)I"⟩
def dkwX11_toldEyes_2 : List UInt8 := [180, 0, 107, 21, 6, 46, 128, 54, 5, 132, 6, 1, 167, 255, 205, 21, 5, 172]
abbrev dktX11_toldEyes_2 : List UInt8 := dkwX11_toldEyes_2 ++ []
def dkwX11_toldEyes_1 : List UInt8 := [17, 3, 232, 162, 0, 29, 42, 21, 6, 27, 28, 29, 21, 4, 182, 1, 102, 153, 0, 15, 21, 5, 42]
abbrev dktX11_toldEyes_1 : List UInt8 := dkwX11_toldEyes_1 ++ dktX11_toldEyes_2
def dkwX11_toldEyes_0 : List UInt8 := [3, 54, 5, 3, 54, 6, 21, 6, 42, 180, 1, 23, 162, 0, 48, 42, 180, 0, 89, 21, 6, 46]
abbrev dktX11_toldEyes_0 : List UInt8 := dkwX11_toldEyes_0 ++ dktX11_toldEyes_1
theorem dksX11_toldEyes_0 : cX11_toldEyes.data.toList.drop 0 = dktX11_toldEyes_0 := by decide +kernel
theorem dksX11_toldEyes_1 : cX11_toldEyes.data.toList.drop 22 = dktX11_toldEyes_1 := dk_seg dksX11_toldEyes_0 22 rfl rfl
theorem dksX11_toldEyes_2 : cX11_toldEyes.data.toList.drop 45 = dktX11_toldEyes_2 := dk_seg dksX11_toldEyes_1 23 rfl rfl
theorem dX11_toldEyes_0 : decode cX11_toldEyes 0 = .ok (.iconst 0, 1) := dk_3 (dk_at dksX11_toldEyes_0 0 rfl rfl)
theorem dX11_toldEyes_1 : decode cX11_toldEyes 1 = .ok (.istore 5, 2) := dk_54 5 (dk_at dksX11_toldEyes_0 1 rfl rfl)
theorem dX11_toldEyes_3 : decode cX11_toldEyes 3 = .ok (.iconst 0, 1) := dk_3 (dk_at dksX11_toldEyes_0 3 rfl rfl)
theorem dX11_toldEyes_4 : decode cX11_toldEyes 4 = .ok (.istore 6, 2) := dk_54 6 (dk_at dksX11_toldEyes_0 4 rfl rfl)
theorem dX11_toldEyes_6 : decode cX11_toldEyes 6 = .ok (.iload 6, 2) := dk_21 6 (dk_at dksX11_toldEyes_0 6 rfl rfl)
theorem dX11_toldEyes_8 : decode cX11_toldEyes 8 = .ok (.aload_n 0, 1) := dk_42 (dk_at dksX11_toldEyes_0 8 rfl rfl)
theorem dX11_toldEyes_9 : decode cX11_toldEyes 9 = .ok (.getfield 279, 3) := dk_180 1 23 (dk_at dksX11_toldEyes_0 9 rfl rfl)
theorem dX11_toldEyes_12 : decode cX11_toldEyes 12 = .ok (.if_icmp .ge 48, 3) := dk_162 0 48 (dk_at dksX11_toldEyes_0 12 rfl rfl)
theorem dX11_toldEyes_15 : decode cX11_toldEyes 15 = .ok (.aload_n 0, 1) := dk_42 (dk_at dksX11_toldEyes_0 15 rfl rfl)
theorem dX11_toldEyes_16 : decode cX11_toldEyes 16 = .ok (.getfield 89, 3) := dk_180 0 89 (dk_at dksX11_toldEyes_0 16 rfl rfl)
theorem dX11_toldEyes_19 : decode cX11_toldEyes 19 = .ok (.iload 6, 2) := dk_21 6 (dk_at dksX11_toldEyes_0 19 rfl rfl)
theorem dX11_toldEyes_21 : decode cX11_toldEyes 21 = .ok (.iaload, 1) := dk_46 (dk_at dksX11_toldEyes_0 21 rfl rfl)
theorem dX11_toldEyes_22 : decode cX11_toldEyes 22 = .ok (.sipush 1000, 3) := dk_17 3 232 (dk_at dksX11_toldEyes_1 0 rfl rfl)
theorem dX11_toldEyes_25 : decode cX11_toldEyes 25 = .ok (.if_icmp .ge 29, 3) := dk_162 0 29 (dk_at dksX11_toldEyes_1 3 rfl rfl)
theorem dX11_toldEyes_28 : decode cX11_toldEyes 28 = .ok (.aload_n 0, 1) := dk_42 (dk_at dksX11_toldEyes_1 6 rfl rfl)
theorem dX11_toldEyes_29 : decode cX11_toldEyes 29 = .ok (.iload 6, 2) := dk_21 6 (dk_at dksX11_toldEyes_1 7 rfl rfl)
theorem dX11_toldEyes_31 : decode cX11_toldEyes 31 = .ok (.iload_n 1, 1) := dk_27 (dk_at dksX11_toldEyes_1 9 rfl rfl)
theorem dX11_toldEyes_32 : decode cX11_toldEyes 32 = .ok (.iload_n 2, 1) := dk_28 (dk_at dksX11_toldEyes_1 10 rfl rfl)
theorem dX11_toldEyes_33 : decode cX11_toldEyes 33 = .ok (.iload_n 3, 1) := dk_29 (dk_at dksX11_toldEyes_1 11 rfl rfl)
theorem dX11_toldEyes_34 : decode cX11_toldEyes 34 = .ok (.iload 4, 2) := dk_21 4 (dk_at dksX11_toldEyes_1 12 rfl rfl)
theorem dX11_toldEyes_36 : decode cX11_toldEyes 36 = .ok (.invokevirtual 358, 3) := dk_182 1 102 (dk_at dksX11_toldEyes_1 14 rfl rfl)
theorem dX11_toldEyes_39 : decode cX11_toldEyes 39 = .ok (.ifCond .eq 15, 3) := dk_153 0 15 (dk_at dksX11_toldEyes_1 17 rfl rfl)
theorem dX11_toldEyes_42 : decode cX11_toldEyes 42 = .ok (.iload 5, 2) := dk_21 5 (dk_at dksX11_toldEyes_1 20 rfl rfl)
theorem dX11_toldEyes_44 : decode cX11_toldEyes 44 = .ok (.aload_n 0, 1) := dk_42 (dk_at dksX11_toldEyes_1 22 rfl rfl)
theorem dX11_toldEyes_45 : decode cX11_toldEyes 45 = .ok (.getfield 107, 3) := dk_180 0 107 (dk_at dksX11_toldEyes_2 0 rfl rfl)
theorem dX11_toldEyes_48 : decode cX11_toldEyes 48 = .ok (.iload 6, 2) := dk_21 6 (dk_at dksX11_toldEyes_2 3 rfl rfl)
theorem dX11_toldEyes_50 : decode cX11_toldEyes 50 = .ok (.iaload, 1) := dk_46 (dk_at dksX11_toldEyes_2 5 rfl rfl)
theorem dX11_toldEyes_51 : decode cX11_toldEyes 51 = .ok (.ior, 1) := dk_128 (dk_at dksX11_toldEyes_2 6 rfl rfl)
theorem dX11_toldEyes_52 : decode cX11_toldEyes 52 = .ok (.istore 5, 2) := dk_54 5 (dk_at dksX11_toldEyes_2 7 rfl rfl)
theorem dX11_toldEyes_54 : decode cX11_toldEyes 54 = .ok (.iinc 6 1, 3) := dk_132 6 1 (dk_at dksX11_toldEyes_2 9 rfl rfl)
theorem dX11_toldEyes_57 : decode cX11_toldEyes 57 = .ok (.goto (-51), 3) := dk_167 255 205 (dk_at dksX11_toldEyes_2 12 rfl rfl)
theorem dX11_toldEyes_60 : decode cX11_toldEyes 60 = .ok (.iload 5, 2) := dk_21 5 (dk_at dksX11_toldEyes_2 15 rfl rfl)
theorem dX11_toldEyes_62 : decode cX11_toldEyes 62 = .ok (.ireturn, 1) := dk_172 (dk_at dksX11_toldEyes_2 17 rfl rfl)
abbrev cX11_ruleEyes : ByteArray := prog_19_method_65_code
def yX11_ruleEyes : MethodName := ⟨RX11, "ruleEyes", "(II)I"⟩
def dkwX11_ruleEyes_6 : List UInt8 := [3, 128, 62, 132, 4, 1, 167, 255, 112, 29, 172]
abbrev dktX11_ruleEyes_6 : List UInt8 := dkwX11_ruleEyes_6 ++ []
def dkwX11_ruleEyes_5 : List UInt8 := [96, 46, 96, 46, 128, 54, 5, 132, 7, 1, 167, 255, 168, 29, 21, 6, 153, 0, 8, 21, 5, 167, 0, 4]
abbrev dktX11_ruleEyes_5 : List UInt8 := dkwX11_ruleEyes_5 ++ dktX11_ruleEyes_6
def dkwX11_ruleEyes_4 : List UInt8 := [54, 6, 21, 5, 42, 180, 0, 110, 16, 8, 27, 104, 42, 180, 0, 29, 8, 21, 4, 104, 4, 96, 21, 7]
abbrev dktX11_ruleEyes_4 : List UInt8 := dkwX11_ruleEyes_4 ++ dktX11_ruleEyes_5
def dkwX11_ruleEyes_3 : List UInt8 := [8, 21, 4, 104, 4, 96, 21, 7, 96, 46, 96, 46, 17, 3, 232, 162, 0, 7, 4, 167, 0, 4, 3]
abbrev dktX11_ruleEyes_3 : List UInt8 := dkwX11_ruleEyes_3 ++ dktX11_ruleEyes_4
def dkwX11_ruleEyes_2 : List UInt8 := [21, 4, 104, 46, 162, 0, 80, 21, 6, 153, 0, 37, 42, 180, 0, 104, 16, 8, 27, 104, 42, 180, 0, 29]
abbrev dktX11_ruleEyes_2 : List UInt8 := dkwX11_ruleEyes_2 ++ dktX11_ruleEyes_3
def dkwX11_ruleEyes_1 : List UInt8 := [46, 28, 159, 0, 6, 167, 0, 117, 3, 54, 5, 4, 54, 6, 4, 54, 7, 21, 7, 42, 180, 0, 29, 8]
abbrev dktX11_ruleEyes_1 : List UInt8 := dkwX11_ruleEyes_1 ++ dktX11_ruleEyes_2
def dkwX11_ruleEyes_0 : List UInt8 := [3, 62, 3, 54, 4, 21, 4, 42, 180, 1, 16, 162, 0, 141, 42, 180, 0, 29, 8, 21, 4, 104, 4, 96]
abbrev dktX11_ruleEyes_0 : List UInt8 := dkwX11_ruleEyes_0 ++ dktX11_ruleEyes_1
theorem dksX11_ruleEyes_0 : cX11_ruleEyes.data.toList.drop 0 = dktX11_ruleEyes_0 := by decide +kernel
theorem dksX11_ruleEyes_1 : cX11_ruleEyes.data.toList.drop 24 = dktX11_ruleEyes_1 := dk_seg dksX11_ruleEyes_0 24 rfl rfl
theorem dksX11_ruleEyes_2 : cX11_ruleEyes.data.toList.drop 48 = dktX11_ruleEyes_2 := dk_seg dksX11_ruleEyes_1 24 rfl rfl
theorem dksX11_ruleEyes_3 : cX11_ruleEyes.data.toList.drop 72 = dktX11_ruleEyes_3 := dk_seg dksX11_ruleEyes_2 24 rfl rfl
theorem dksX11_ruleEyes_4 : cX11_ruleEyes.data.toList.drop 95 = dktX11_ruleEyes_4 := dk_seg dksX11_ruleEyes_3 23 rfl rfl
theorem dksX11_ruleEyes_5 : cX11_ruleEyes.data.toList.drop 119 = dktX11_ruleEyes_5 := dk_seg dksX11_ruleEyes_4 24 rfl rfl
theorem dksX11_ruleEyes_6 : cX11_ruleEyes.data.toList.drop 143 = dktX11_ruleEyes_6 := dk_seg dksX11_ruleEyes_5 24 rfl rfl
theorem dX11_ruleEyes_0 : decode cX11_ruleEyes 0 = .ok (.iconst 0, 1) := dk_3 (dk_at dksX11_ruleEyes_0 0 rfl rfl)
theorem dX11_ruleEyes_1 : decode cX11_ruleEyes 1 = .ok (.istore_n 3, 1) := dk_62 (dk_at dksX11_ruleEyes_0 1 rfl rfl)
theorem dX11_ruleEyes_2 : decode cX11_ruleEyes 2 = .ok (.iconst 0, 1) := dk_3 (dk_at dksX11_ruleEyes_0 2 rfl rfl)
theorem dX11_ruleEyes_3 : decode cX11_ruleEyes 3 = .ok (.istore 4, 2) := dk_54 4 (dk_at dksX11_ruleEyes_0 3 rfl rfl)
theorem dX11_ruleEyes_5 : decode cX11_ruleEyes 5 = .ok (.iload 4, 2) := dk_21 4 (dk_at dksX11_ruleEyes_0 5 rfl rfl)
theorem dX11_ruleEyes_7 : decode cX11_ruleEyes 7 = .ok (.aload_n 0, 1) := dk_42 (dk_at dksX11_ruleEyes_0 7 rfl rfl)
theorem dX11_ruleEyes_8 : decode cX11_ruleEyes 8 = .ok (.getfield 272, 3) := dk_180 1 16 (dk_at dksX11_ruleEyes_0 8 rfl rfl)
theorem dX11_ruleEyes_11 : decode cX11_ruleEyes 11 = .ok (.if_icmp .ge 141, 3) := dk_162 0 141 (dk_at dksX11_ruleEyes_0 11 rfl rfl)
theorem dX11_ruleEyes_14 : decode cX11_ruleEyes 14 = .ok (.aload_n 0, 1) := dk_42 (dk_at dksX11_ruleEyes_0 14 rfl rfl)
theorem dX11_ruleEyes_15 : decode cX11_ruleEyes 15 = .ok (.getfield 29, 3) := dk_180 0 29 (dk_at dksX11_ruleEyes_0 15 rfl rfl)
theorem dX11_ruleEyes_18 : decode cX11_ruleEyes 18 = .ok (.iconst 5, 1) := dk_8 (dk_at dksX11_ruleEyes_0 18 rfl rfl)
theorem dX11_ruleEyes_19 : decode cX11_ruleEyes 19 = .ok (.iload 4, 2) := dk_21 4 (dk_at dksX11_ruleEyes_0 19 rfl rfl)
theorem dX11_ruleEyes_21 : decode cX11_ruleEyes 21 = .ok (.imul, 1) := dk_104 (dk_at dksX11_ruleEyes_0 21 rfl rfl)
theorem dX11_ruleEyes_22 : decode cX11_ruleEyes 22 = .ok (.iconst 1, 1) := dk_4 (dk_at dksX11_ruleEyes_0 22 rfl rfl)
theorem dX11_ruleEyes_23 : decode cX11_ruleEyes 23 = .ok (.iadd, 1) := dk_96 (dk_at dksX11_ruleEyes_0 23 rfl rfl)
theorem dX11_ruleEyes_24 : decode cX11_ruleEyes 24 = .ok (.iaload, 1) := dk_46 (dk_at dksX11_ruleEyes_1 0 rfl rfl)
theorem dX11_ruleEyes_25 : decode cX11_ruleEyes 25 = .ok (.iload_n 2, 1) := dk_28 (dk_at dksX11_ruleEyes_1 1 rfl rfl)
theorem dX11_ruleEyes_26 : decode cX11_ruleEyes 26 = .ok (.if_icmp .eq 6, 3) := dk_159 0 6 (dk_at dksX11_ruleEyes_1 2 rfl rfl)
theorem dX11_ruleEyes_29 : decode cX11_ruleEyes 29 = .ok (.goto 117, 3) := dk_167 0 117 (dk_at dksX11_ruleEyes_1 5 rfl rfl)
theorem dX11_ruleEyes_32 : decode cX11_ruleEyes 32 = .ok (.iconst 0, 1) := dk_3 (dk_at dksX11_ruleEyes_1 8 rfl rfl)
theorem dX11_ruleEyes_33 : decode cX11_ruleEyes 33 = .ok (.istore 5, 2) := dk_54 5 (dk_at dksX11_ruleEyes_1 9 rfl rfl)
theorem dX11_ruleEyes_35 : decode cX11_ruleEyes 35 = .ok (.iconst 1, 1) := dk_4 (dk_at dksX11_ruleEyes_1 11 rfl rfl)
theorem dX11_ruleEyes_36 : decode cX11_ruleEyes 36 = .ok (.istore 6, 2) := dk_54 6 (dk_at dksX11_ruleEyes_1 12 rfl rfl)
theorem dX11_ruleEyes_38 : decode cX11_ruleEyes 38 = .ok (.iconst 1, 1) := dk_4 (dk_at dksX11_ruleEyes_1 14 rfl rfl)
theorem dX11_ruleEyes_39 : decode cX11_ruleEyes 39 = .ok (.istore 7, 2) := dk_54 7 (dk_at dksX11_ruleEyes_1 15 rfl rfl)
theorem dX11_ruleEyes_41 : decode cX11_ruleEyes 41 = .ok (.iload 7, 2) := dk_21 7 (dk_at dksX11_ruleEyes_1 17 rfl rfl)
theorem dX11_ruleEyes_43 : decode cX11_ruleEyes 43 = .ok (.aload_n 0, 1) := dk_42 (dk_at dksX11_ruleEyes_1 19 rfl rfl)
theorem dX11_ruleEyes_44 : decode cX11_ruleEyes 44 = .ok (.getfield 29, 3) := dk_180 0 29 (dk_at dksX11_ruleEyes_1 20 rfl rfl)
theorem dX11_ruleEyes_47 : decode cX11_ruleEyes 47 = .ok (.iconst 5, 1) := dk_8 (dk_at dksX11_ruleEyes_1 23 rfl rfl)
theorem dX11_ruleEyes_48 : decode cX11_ruleEyes 48 = .ok (.iload 4, 2) := dk_21 4 (dk_at dksX11_ruleEyes_2 0 rfl rfl)
theorem dX11_ruleEyes_50 : decode cX11_ruleEyes 50 = .ok (.imul, 1) := dk_104 (dk_at dksX11_ruleEyes_2 2 rfl rfl)
theorem dX11_ruleEyes_51 : decode cX11_ruleEyes 51 = .ok (.iaload, 1) := dk_46 (dk_at dksX11_ruleEyes_2 3 rfl rfl)
theorem dX11_ruleEyes_52 : decode cX11_ruleEyes 52 = .ok (.if_icmp .ge 80, 3) := dk_162 0 80 (dk_at dksX11_ruleEyes_2 4 rfl rfl)
theorem dX11_ruleEyes_55 : decode cX11_ruleEyes 55 = .ok (.iload 6, 2) := dk_21 6 (dk_at dksX11_ruleEyes_2 7 rfl rfl)
theorem dX11_ruleEyes_57 : decode cX11_ruleEyes 57 = .ok (.ifCond .eq 37, 3) := dk_153 0 37 (dk_at dksX11_ruleEyes_2 9 rfl rfl)
theorem dX11_ruleEyes_60 : decode cX11_ruleEyes 60 = .ok (.aload_n 0, 1) := dk_42 (dk_at dksX11_ruleEyes_2 12 rfl rfl)
theorem dX11_ruleEyes_61 : decode cX11_ruleEyes 61 = .ok (.getfield 104, 3) := dk_180 0 104 (dk_at dksX11_ruleEyes_2 13 rfl rfl)
theorem dX11_ruleEyes_64 : decode cX11_ruleEyes 64 = .ok (.bipush 8, 2) := dk_16 8 (dk_at dksX11_ruleEyes_2 16 rfl rfl)
theorem dX11_ruleEyes_66 : decode cX11_ruleEyes 66 = .ok (.iload_n 1, 1) := dk_27 (dk_at dksX11_ruleEyes_2 18 rfl rfl)
theorem dX11_ruleEyes_67 : decode cX11_ruleEyes 67 = .ok (.imul, 1) := dk_104 (dk_at dksX11_ruleEyes_2 19 rfl rfl)
theorem dX11_ruleEyes_68 : decode cX11_ruleEyes 68 = .ok (.aload_n 0, 1) := dk_42 (dk_at dksX11_ruleEyes_2 20 rfl rfl)
theorem dX11_ruleEyes_69 : decode cX11_ruleEyes 69 = .ok (.getfield 29, 3) := dk_180 0 29 (dk_at dksX11_ruleEyes_2 21 rfl rfl)
theorem dX11_ruleEyes_72 : decode cX11_ruleEyes 72 = .ok (.iconst 5, 1) := dk_8 (dk_at dksX11_ruleEyes_3 0 rfl rfl)
theorem dX11_ruleEyes_73 : decode cX11_ruleEyes 73 = .ok (.iload 4, 2) := dk_21 4 (dk_at dksX11_ruleEyes_3 1 rfl rfl)
theorem dX11_ruleEyes_75 : decode cX11_ruleEyes 75 = .ok (.imul, 1) := dk_104 (dk_at dksX11_ruleEyes_3 3 rfl rfl)
theorem dX11_ruleEyes_76 : decode cX11_ruleEyes 76 = .ok (.iconst 1, 1) := dk_4 (dk_at dksX11_ruleEyes_3 4 rfl rfl)
theorem dX11_ruleEyes_77 : decode cX11_ruleEyes 77 = .ok (.iadd, 1) := dk_96 (dk_at dksX11_ruleEyes_3 5 rfl rfl)
theorem dX11_ruleEyes_78 : decode cX11_ruleEyes 78 = .ok (.iload 7, 2) := dk_21 7 (dk_at dksX11_ruleEyes_3 6 rfl rfl)
theorem dX11_ruleEyes_80 : decode cX11_ruleEyes 80 = .ok (.iadd, 1) := dk_96 (dk_at dksX11_ruleEyes_3 8 rfl rfl)
theorem dX11_ruleEyes_81 : decode cX11_ruleEyes 81 = .ok (.iaload, 1) := dk_46 (dk_at dksX11_ruleEyes_3 9 rfl rfl)
theorem dX11_ruleEyes_82 : decode cX11_ruleEyes 82 = .ok (.iadd, 1) := dk_96 (dk_at dksX11_ruleEyes_3 10 rfl rfl)
theorem dX11_ruleEyes_83 : decode cX11_ruleEyes 83 = .ok (.iaload, 1) := dk_46 (dk_at dksX11_ruleEyes_3 11 rfl rfl)
theorem dX11_ruleEyes_84 : decode cX11_ruleEyes 84 = .ok (.sipush 1000, 3) := dk_17 3 232 (dk_at dksX11_ruleEyes_3 12 rfl rfl)
theorem dX11_ruleEyes_87 : decode cX11_ruleEyes 87 = .ok (.if_icmp .ge 7, 3) := dk_162 0 7 (dk_at dksX11_ruleEyes_3 15 rfl rfl)
theorem dX11_ruleEyes_90 : decode cX11_ruleEyes 90 = .ok (.iconst 1, 1) := dk_4 (dk_at dksX11_ruleEyes_3 18 rfl rfl)
theorem dX11_ruleEyes_91 : decode cX11_ruleEyes 91 = .ok (.goto 4, 3) := dk_167 0 4 (dk_at dksX11_ruleEyes_3 19 rfl rfl)
theorem dX11_ruleEyes_94 : decode cX11_ruleEyes 94 = .ok (.iconst 0, 1) := dk_3 (dk_at dksX11_ruleEyes_3 22 rfl rfl)
theorem dX11_ruleEyes_95 : decode cX11_ruleEyes 95 = .ok (.istore 6, 2) := dk_54 6 (dk_at dksX11_ruleEyes_4 0 rfl rfl)
theorem dX11_ruleEyes_97 : decode cX11_ruleEyes 97 = .ok (.iload 5, 2) := dk_21 5 (dk_at dksX11_ruleEyes_4 2 rfl rfl)
theorem dX11_ruleEyes_99 : decode cX11_ruleEyes 99 = .ok (.aload_n 0, 1) := dk_42 (dk_at dksX11_ruleEyes_4 4 rfl rfl)
theorem dX11_ruleEyes_100 : decode cX11_ruleEyes 100 = .ok (.getfield 110, 3) := dk_180 0 110 (dk_at dksX11_ruleEyes_4 5 rfl rfl)
theorem dX11_ruleEyes_103 : decode cX11_ruleEyes 103 = .ok (.bipush 8, 2) := dk_16 8 (dk_at dksX11_ruleEyes_4 8 rfl rfl)
theorem dX11_ruleEyes_105 : decode cX11_ruleEyes 105 = .ok (.iload_n 1, 1) := dk_27 (dk_at dksX11_ruleEyes_4 10 rfl rfl)
theorem dX11_ruleEyes_106 : decode cX11_ruleEyes 106 = .ok (.imul, 1) := dk_104 (dk_at dksX11_ruleEyes_4 11 rfl rfl)
theorem dX11_ruleEyes_107 : decode cX11_ruleEyes 107 = .ok (.aload_n 0, 1) := dk_42 (dk_at dksX11_ruleEyes_4 12 rfl rfl)
theorem dX11_ruleEyes_108 : decode cX11_ruleEyes 108 = .ok (.getfield 29, 3) := dk_180 0 29 (dk_at dksX11_ruleEyes_4 13 rfl rfl)
theorem dX11_ruleEyes_111 : decode cX11_ruleEyes 111 = .ok (.iconst 5, 1) := dk_8 (dk_at dksX11_ruleEyes_4 16 rfl rfl)
theorem dX11_ruleEyes_112 : decode cX11_ruleEyes 112 = .ok (.iload 4, 2) := dk_21 4 (dk_at dksX11_ruleEyes_4 17 rfl rfl)
theorem dX11_ruleEyes_114 : decode cX11_ruleEyes 114 = .ok (.imul, 1) := dk_104 (dk_at dksX11_ruleEyes_4 19 rfl rfl)
theorem dX11_ruleEyes_115 : decode cX11_ruleEyes 115 = .ok (.iconst 1, 1) := dk_4 (dk_at dksX11_ruleEyes_4 20 rfl rfl)
theorem dX11_ruleEyes_116 : decode cX11_ruleEyes 116 = .ok (.iadd, 1) := dk_96 (dk_at dksX11_ruleEyes_4 21 rfl rfl)
theorem dX11_ruleEyes_117 : decode cX11_ruleEyes 117 = .ok (.iload 7, 2) := dk_21 7 (dk_at dksX11_ruleEyes_4 22 rfl rfl)
theorem dX11_ruleEyes_119 : decode cX11_ruleEyes 119 = .ok (.iadd, 1) := dk_96 (dk_at dksX11_ruleEyes_5 0 rfl rfl)
theorem dX11_ruleEyes_120 : decode cX11_ruleEyes 120 = .ok (.iaload, 1) := dk_46 (dk_at dksX11_ruleEyes_5 1 rfl rfl)
theorem dX11_ruleEyes_121 : decode cX11_ruleEyes 121 = .ok (.iadd, 1) := dk_96 (dk_at dksX11_ruleEyes_5 2 rfl rfl)
theorem dX11_ruleEyes_122 : decode cX11_ruleEyes 122 = .ok (.iaload, 1) := dk_46 (dk_at dksX11_ruleEyes_5 3 rfl rfl)
theorem dX11_ruleEyes_123 : decode cX11_ruleEyes 123 = .ok (.ior, 1) := dk_128 (dk_at dksX11_ruleEyes_5 4 rfl rfl)
theorem dX11_ruleEyes_124 : decode cX11_ruleEyes 124 = .ok (.istore 5, 2) := dk_54 5 (dk_at dksX11_ruleEyes_5 5 rfl rfl)
theorem dX11_ruleEyes_126 : decode cX11_ruleEyes 126 = .ok (.iinc 7 1, 3) := dk_132 7 1 (dk_at dksX11_ruleEyes_5 7 rfl rfl)
theorem dX11_ruleEyes_129 : decode cX11_ruleEyes 129 = .ok (.goto (-88), 3) := dk_167 255 168 (dk_at dksX11_ruleEyes_5 10 rfl rfl)
theorem dX11_ruleEyes_132 : decode cX11_ruleEyes 132 = .ok (.iload_n 3, 1) := dk_29 (dk_at dksX11_ruleEyes_5 13 rfl rfl)
theorem dX11_ruleEyes_133 : decode cX11_ruleEyes 133 = .ok (.iload 6, 2) := dk_21 6 (dk_at dksX11_ruleEyes_5 14 rfl rfl)
theorem dX11_ruleEyes_135 : decode cX11_ruleEyes 135 = .ok (.ifCond .eq 8, 3) := dk_153 0 8 (dk_at dksX11_ruleEyes_5 16 rfl rfl)
theorem dX11_ruleEyes_138 : decode cX11_ruleEyes 138 = .ok (.iload 5, 2) := dk_21 5 (dk_at dksX11_ruleEyes_5 19 rfl rfl)
theorem dX11_ruleEyes_140 : decode cX11_ruleEyes 140 = .ok (.goto 4, 3) := dk_167 0 4 (dk_at dksX11_ruleEyes_5 21 rfl rfl)
theorem dX11_ruleEyes_143 : decode cX11_ruleEyes 143 = .ok (.iconst 0, 1) := dk_3 (dk_at dksX11_ruleEyes_6 0 rfl rfl)
theorem dX11_ruleEyes_144 : decode cX11_ruleEyes 144 = .ok (.ior, 1) := dk_128 (dk_at dksX11_ruleEyes_6 1 rfl rfl)
theorem dX11_ruleEyes_145 : decode cX11_ruleEyes 145 = .ok (.istore_n 3, 1) := dk_62 (dk_at dksX11_ruleEyes_6 2 rfl rfl)
theorem dX11_ruleEyes_146 : decode cX11_ruleEyes 146 = .ok (.iinc 4 1, 3) := dk_132 4 1 (dk_at dksX11_ruleEyes_6 3 rfl rfl)
theorem dX11_ruleEyes_149 : decode cX11_ruleEyes 149 = .ok (.goto (-144), 3) := dk_167 255 112 (dk_at dksX11_ruleEyes_6 6 rfl rfl)
theorem dX11_ruleEyes_152 : decode cX11_ruleEyes 152 = .ok (.iload_n 3, 1) := dk_29 (dk_at dksX11_ruleEyes_6 9 rfl rfl)
theorem dX11_ruleEyes_153 : decode cX11_ruleEyes 153 = .ok (.ireturn, 1) := dk_172 (dk_at dksX11_ruleEyes_6 10 rfl rfl)
abbrev cX11_could : ByteArray := prog_19_method_69_code
def yX11_could : MethodName := ⟨RX11, "could", "(IIIZ)I"⟩
def dkwX11_could_4 : List UInt8 := [54, 6, 132, 7, 1, 167, 255, 209, 21, 6, 172]
abbrev dktX11_could_4 : List UInt8 := dkwX11_could_4 ++ []
def dkwX11_could_3 : List UInt8 := [167, 0, 4, 3, 21, 7, 182, 1, 116, 17, 3, 232, 162, 0, 10, 4, 21, 7, 120, 167, 0, 4, 3, 128]
abbrev dktX11_could_3 : List UInt8 := dkwX11_could_3 ++ dktX11_could_4
def dkwX11_could_2 : List UInt8 := [54, 6, 3, 54, 7, 21, 7, 7, 163, 0, 47, 21, 6, 42, 21, 5, 29, 21, 4, 153, 0, 7, 4]
abbrev dktX11_could_2 : List UInt8 := dkwX11_could_2 ++ dktX11_could_3
def dkwX11_could_1 : List UInt8 := [42, 27, 28, 182, 1, 135, 42, 42, 182, 1, 138, 3, 182, 1, 142, 42, 27, 28, 182, 1, 93, 54, 5, 3]
abbrev dktX11_could_1 : List UInt8 := dkwX11_could_1 ++ dktX11_could_2
def dkwX11_could_0 : List UInt8 := [42, 3, 181, 0, 122, 42, 27, 28, 182, 1, 42, 153, 0, 11, 42, 29, 182, 1, 46, 154, 0, 5, 3, 172]
abbrev dktX11_could_0 : List UInt8 := dkwX11_could_0 ++ dktX11_could_1
theorem dksX11_could_0 : cX11_could.data.toList.drop 0 = dktX11_could_0 := by decide +kernel
theorem dksX11_could_1 : cX11_could.data.toList.drop 24 = dktX11_could_1 := dk_seg dksX11_could_0 24 rfl rfl
theorem dksX11_could_2 : cX11_could.data.toList.drop 48 = dktX11_could_2 := dk_seg dksX11_could_1 24 rfl rfl
theorem dksX11_could_3 : cX11_could.data.toList.drop 71 = dktX11_could_3 := dk_seg dksX11_could_2 23 rfl rfl
theorem dksX11_could_4 : cX11_could.data.toList.drop 95 = dktX11_could_4 := dk_seg dksX11_could_3 24 rfl rfl
theorem dX11_could_0 : decode cX11_could 0 = .ok (.aload_n 0, 1) := dk_42 (dk_at dksX11_could_0 0 rfl rfl)
theorem dX11_could_1 : decode cX11_could 1 = .ok (.iconst 0, 1) := dk_3 (dk_at dksX11_could_0 1 rfl rfl)
theorem dX11_could_2 : decode cX11_could 2 = .ok (.putfield 122, 3) := dk_181 0 122 (dk_at dksX11_could_0 2 rfl rfl)
theorem dX11_could_5 : decode cX11_could 5 = .ok (.aload_n 0, 1) := dk_42 (dk_at dksX11_could_0 5 rfl rfl)
theorem dX11_could_6 : decode cX11_could 6 = .ok (.iload_n 1, 1) := dk_27 (dk_at dksX11_could_0 6 rfl rfl)
theorem dX11_could_7 : decode cX11_could 7 = .ok (.iload_n 2, 1) := dk_28 (dk_at dksX11_could_0 7 rfl rfl)
theorem dX11_could_8 : decode cX11_could 8 = .ok (.invokevirtual 298, 3) := dk_182 1 42 (dk_at dksX11_could_0 8 rfl rfl)
theorem dX11_could_11 : decode cX11_could 11 = .ok (.ifCond .eq 11, 3) := dk_153 0 11 (dk_at dksX11_could_0 11 rfl rfl)
theorem dX11_could_14 : decode cX11_could 14 = .ok (.aload_n 0, 1) := dk_42 (dk_at dksX11_could_0 14 rfl rfl)
theorem dX11_could_15 : decode cX11_could 15 = .ok (.iload_n 3, 1) := dk_29 (dk_at dksX11_could_0 15 rfl rfl)
theorem dX11_could_16 : decode cX11_could 16 = .ok (.invokevirtual 302, 3) := dk_182 1 46 (dk_at dksX11_could_0 16 rfl rfl)
theorem dX11_could_19 : decode cX11_could 19 = .ok (.ifCond .ne 5, 3) := dk_154 0 5 (dk_at dksX11_could_0 19 rfl rfl)
theorem dX11_could_22 : decode cX11_could 22 = .ok (.iconst 0, 1) := dk_3 (dk_at dksX11_could_0 22 rfl rfl)
theorem dX11_could_23 : decode cX11_could 23 = .ok (.ireturn, 1) := dk_172 (dk_at dksX11_could_0 23 rfl rfl)
theorem dX11_could_24 : decode cX11_could 24 = .ok (.aload_n 0, 1) := dk_42 (dk_at dksX11_could_1 0 rfl rfl)
theorem dX11_could_25 : decode cX11_could 25 = .ok (.iload_n 1, 1) := dk_27 (dk_at dksX11_could_1 1 rfl rfl)
theorem dX11_could_26 : decode cX11_could 26 = .ok (.iload_n 2, 1) := dk_28 (dk_at dksX11_could_1 2 rfl rfl)
theorem dX11_could_27 : decode cX11_could 27 = .ok (.invokevirtual 391, 3) := dk_182 1 135 (dk_at dksX11_could_1 3 rfl rfl)
theorem dX11_could_30 : decode cX11_could 30 = .ok (.aload_n 0, 1) := dk_42 (dk_at dksX11_could_1 6 rfl rfl)
theorem dX11_could_31 : decode cX11_could 31 = .ok (.aload_n 0, 1) := dk_42 (dk_at dksX11_could_1 7 rfl rfl)
theorem dX11_could_32 : decode cX11_could 32 = .ok (.invokevirtual 394, 3) := dk_182 1 138 (dk_at dksX11_could_1 8 rfl rfl)
theorem dX11_could_35 : decode cX11_could 35 = .ok (.iconst 0, 1) := dk_3 (dk_at dksX11_could_1 11 rfl rfl)
theorem dX11_could_36 : decode cX11_could 36 = .ok (.invokevirtual 398, 3) := dk_182 1 142 (dk_at dksX11_could_1 12 rfl rfl)
theorem dX11_could_39 : decode cX11_could 39 = .ok (.aload_n 0, 1) := dk_42 (dk_at dksX11_could_1 15 rfl rfl)
theorem dX11_could_40 : decode cX11_could 40 = .ok (.iload_n 1, 1) := dk_27 (dk_at dksX11_could_1 16 rfl rfl)
theorem dX11_could_41 : decode cX11_could 41 = .ok (.iload_n 2, 1) := dk_28 (dk_at dksX11_could_1 17 rfl rfl)
theorem dX11_could_42 : decode cX11_could 42 = .ok (.invokevirtual 349, 3) := dk_182 1 93 (dk_at dksX11_could_1 18 rfl rfl)
theorem dX11_could_45 : decode cX11_could 45 = .ok (.istore 5, 2) := dk_54 5 (dk_at dksX11_could_1 21 rfl rfl)
theorem dX11_could_47 : decode cX11_could 47 = .ok (.iconst 0, 1) := dk_3 (dk_at dksX11_could_1 23 rfl rfl)
theorem dX11_could_48 : decode cX11_could 48 = .ok (.istore 6, 2) := dk_54 6 (dk_at dksX11_could_2 0 rfl rfl)
theorem dX11_could_50 : decode cX11_could 50 = .ok (.iconst 0, 1) := dk_3 (dk_at dksX11_could_2 2 rfl rfl)
theorem dX11_could_51 : decode cX11_could 51 = .ok (.istore 7, 2) := dk_54 7 (dk_at dksX11_could_2 3 rfl rfl)
theorem dX11_could_53 : decode cX11_could 53 = .ok (.iload 7, 2) := dk_21 7 (dk_at dksX11_could_2 5 rfl rfl)
theorem dX11_could_55 : decode cX11_could 55 = .ok (.iconst 4, 1) := dk_7 (dk_at dksX11_could_2 7 rfl rfl)
theorem dX11_could_56 : decode cX11_could 56 = .ok (.if_icmp .gt 47, 3) := dk_163 0 47 (dk_at dksX11_could_2 8 rfl rfl)
theorem dX11_could_59 : decode cX11_could 59 = .ok (.iload 6, 2) := dk_21 6 (dk_at dksX11_could_2 11 rfl rfl)
theorem dX11_could_61 : decode cX11_could 61 = .ok (.aload_n 0, 1) := dk_42 (dk_at dksX11_could_2 13 rfl rfl)
theorem dX11_could_62 : decode cX11_could 62 = .ok (.iload 5, 2) := dk_21 5 (dk_at dksX11_could_2 14 rfl rfl)
theorem dX11_could_64 : decode cX11_could 64 = .ok (.iload_n 3, 1) := dk_29 (dk_at dksX11_could_2 16 rfl rfl)
theorem dX11_could_65 : decode cX11_could 65 = .ok (.iload 4, 2) := dk_21 4 (dk_at dksX11_could_2 17 rfl rfl)
theorem dX11_could_67 : decode cX11_could 67 = .ok (.ifCond .eq 7, 3) := dk_153 0 7 (dk_at dksX11_could_2 19 rfl rfl)
theorem dX11_could_70 : decode cX11_could 70 = .ok (.iconst 1, 1) := dk_4 (dk_at dksX11_could_2 22 rfl rfl)
theorem dX11_could_71 : decode cX11_could 71 = .ok (.goto 4, 3) := dk_167 0 4 (dk_at dksX11_could_3 0 rfl rfl)
theorem dX11_could_74 : decode cX11_could 74 = .ok (.iconst 0, 1) := dk_3 (dk_at dksX11_could_3 3 rfl rfl)
theorem dX11_could_75 : decode cX11_could 75 = .ok (.iload 7, 2) := dk_21 7 (dk_at dksX11_could_3 4 rfl rfl)
theorem dX11_could_77 : decode cX11_could 77 = .ok (.invokevirtual 372, 3) := dk_182 1 116 (dk_at dksX11_could_3 6 rfl rfl)
theorem dX11_could_80 : decode cX11_could 80 = .ok (.sipush 1000, 3) := dk_17 3 232 (dk_at dksX11_could_3 9 rfl rfl)
theorem dX11_could_83 : decode cX11_could 83 = .ok (.if_icmp .ge 10, 3) := dk_162 0 10 (dk_at dksX11_could_3 12 rfl rfl)
theorem dX11_could_86 : decode cX11_could 86 = .ok (.iconst 1, 1) := dk_4 (dk_at dksX11_could_3 15 rfl rfl)
theorem dX11_could_87 : decode cX11_could 87 = .ok (.iload 7, 2) := dk_21 7 (dk_at dksX11_could_3 16 rfl rfl)
theorem dX11_could_89 : decode cX11_could 89 = .ok (.ishl, 1) := dk_120 (dk_at dksX11_could_3 18 rfl rfl)
theorem dX11_could_90 : decode cX11_could 90 = .ok (.goto 4, 3) := dk_167 0 4 (dk_at dksX11_could_3 19 rfl rfl)
theorem dX11_could_93 : decode cX11_could 93 = .ok (.iconst 0, 1) := dk_3 (dk_at dksX11_could_3 22 rfl rfl)
theorem dX11_could_94 : decode cX11_could 94 = .ok (.ior, 1) := dk_128 (dk_at dksX11_could_3 23 rfl rfl)
theorem dX11_could_95 : decode cX11_could 95 = .ok (.istore 6, 2) := dk_54 6 (dk_at dksX11_could_4 0 rfl rfl)
theorem dX11_could_97 : decode cX11_could 97 = .ok (.iinc 7 1, 3) := dk_132 7 1 (dk_at dksX11_could_4 2 rfl rfl)
theorem dX11_could_100 : decode cX11_could 100 = .ok (.goto (-47), 3) := dk_167 255 209 (dk_at dksX11_could_4 5 rfl rfl)
theorem dX11_could_103 : decode cX11_could 103 = .ok (.iload 6, 2) := dk_21 6 (dk_at dksX11_could_4 8 rfl rfl)
theorem dX11_could_105 : decode cX11_could 105 = .ok (.ireturn, 1) := dk_172 (dk_at dksX11_could_4 10 rfl rfl)
abbrev cX11_wrong : ByteArray := prog_19_method_71_code
def yX11_wrong : MethodName := ⟨RX11, "wrong", "(I)I"⟩
def dkwX11_wrong_5 : List UInt8 := [182, 1, 148, 54, 4, 167, 255, 240, 29, 28, 2, 130, 126, 172]
abbrev dktX11_wrong_5 : List UInt8 := dkwX11_wrong_5 ++ []
def dkwX11_wrong_4 : List UInt8 := [172, 42, 182, 1, 138, 62, 42, 29, 182, 1, 148, 54, 4, 21, 4, 29, 159, 0, 16, 21, 4, 62, 42, 29]
abbrev dktX11_wrong_4 : List UInt8 := dkwX11_wrong_4 ++ dktX11_wrong_5
def dkwX11_wrong_3 : List UInt8 := [167, 0, 4, 3, 128, 61, 132, 3, 1, 167, 255, 223, 27, 154, 0, 12, 42, 182, 1, 138, 28, 2, 130, 126]
abbrev dktX11_wrong_3 : List UInt8 := dkwX11_wrong_3 ++ dktX11_wrong_4
def dkwX11_wrong_2 : List UInt8 := [29, 42, 180, 1, 23, 162, 0, 31, 28, 42, 180, 0, 89, 29, 46, 17, 3, 232, 162, 0, 9, 4, 29, 120]
abbrev dktX11_wrong_2 : List UInt8 := dkwX11_wrong_2 ++ dktX11_wrong_3
def dkwX11_wrong_1 : List UInt8 := [154, 0, 5, 3, 172, 42, 2, 3, 182, 1, 135, 42, 42, 182, 1, 138, 3, 182, 1, 142, 3, 61, 3, 62]
abbrev dktX11_wrong_1 : List UInt8 := dkwX11_wrong_1 ++ dktX11_wrong_2
def dkwX11_wrong_0 : List UInt8 := [42, 3, 181, 0, 122, 42, 27, 153, 0, 8, 27, 4, 160, 0, 7, 4, 167, 0, 4, 3, 4, 182, 0, 250]
abbrev dktX11_wrong_0 : List UInt8 := dkwX11_wrong_0 ++ dktX11_wrong_1
theorem dksX11_wrong_0 : cX11_wrong.data.toList.drop 0 = dktX11_wrong_0 := by decide +kernel
theorem dksX11_wrong_1 : cX11_wrong.data.toList.drop 24 = dktX11_wrong_1 := dk_seg dksX11_wrong_0 24 rfl rfl
theorem dksX11_wrong_2 : cX11_wrong.data.toList.drop 48 = dktX11_wrong_2 := dk_seg dksX11_wrong_1 24 rfl rfl
theorem dksX11_wrong_3 : cX11_wrong.data.toList.drop 72 = dktX11_wrong_3 := dk_seg dksX11_wrong_2 24 rfl rfl
theorem dksX11_wrong_4 : cX11_wrong.data.toList.drop 96 = dktX11_wrong_4 := dk_seg dksX11_wrong_3 24 rfl rfl
theorem dksX11_wrong_5 : cX11_wrong.data.toList.drop 120 = dktX11_wrong_5 := dk_seg dksX11_wrong_4 24 rfl rfl
theorem dX11_wrong_0 : decode cX11_wrong 0 = .ok (.aload_n 0, 1) := dk_42 (dk_at dksX11_wrong_0 0 rfl rfl)
theorem dX11_wrong_1 : decode cX11_wrong 1 = .ok (.iconst 0, 1) := dk_3 (dk_at dksX11_wrong_0 1 rfl rfl)
theorem dX11_wrong_2 : decode cX11_wrong 2 = .ok (.putfield 122, 3) := dk_181 0 122 (dk_at dksX11_wrong_0 2 rfl rfl)
theorem dX11_wrong_5 : decode cX11_wrong 5 = .ok (.aload_n 0, 1) := dk_42 (dk_at dksX11_wrong_0 5 rfl rfl)
theorem dX11_wrong_6 : decode cX11_wrong 6 = .ok (.iload_n 1, 1) := dk_27 (dk_at dksX11_wrong_0 6 rfl rfl)
theorem dX11_wrong_7 : decode cX11_wrong 7 = .ok (.ifCond .eq 8, 3) := dk_153 0 8 (dk_at dksX11_wrong_0 7 rfl rfl)
theorem dX11_wrong_10 : decode cX11_wrong 10 = .ok (.iload_n 1, 1) := dk_27 (dk_at dksX11_wrong_0 10 rfl rfl)
theorem dX11_wrong_11 : decode cX11_wrong 11 = .ok (.iconst 1, 1) := dk_4 (dk_at dksX11_wrong_0 11 rfl rfl)
theorem dX11_wrong_12 : decode cX11_wrong 12 = .ok (.if_icmp .ne 7, 3) := dk_160 0 7 (dk_at dksX11_wrong_0 12 rfl rfl)
theorem dX11_wrong_15 : decode cX11_wrong 15 = .ok (.iconst 1, 1) := dk_4 (dk_at dksX11_wrong_0 15 rfl rfl)
theorem dX11_wrong_16 : decode cX11_wrong 16 = .ok (.goto 4, 3) := dk_167 0 4 (dk_at dksX11_wrong_0 16 rfl rfl)
theorem dX11_wrong_19 : decode cX11_wrong 19 = .ok (.iconst 0, 1) := dk_3 (dk_at dksX11_wrong_0 19 rfl rfl)
theorem dX11_wrong_20 : decode cX11_wrong 20 = .ok (.iconst 1, 1) := dk_4 (dk_at dksX11_wrong_0 20 rfl rfl)
theorem dX11_wrong_21 : decode cX11_wrong 21 = .ok (.invokevirtual 250, 3) := dk_182 0 250 (dk_at dksX11_wrong_0 21 rfl rfl)
theorem dX11_wrong_24 : decode cX11_wrong 24 = .ok (.ifCond .ne 5, 3) := dk_154 0 5 (dk_at dksX11_wrong_1 0 rfl rfl)
theorem dX11_wrong_27 : decode cX11_wrong 27 = .ok (.iconst 0, 1) := dk_3 (dk_at dksX11_wrong_1 3 rfl rfl)
theorem dX11_wrong_28 : decode cX11_wrong 28 = .ok (.ireturn, 1) := dk_172 (dk_at dksX11_wrong_1 4 rfl rfl)
theorem dX11_wrong_29 : decode cX11_wrong 29 = .ok (.aload_n 0, 1) := dk_42 (dk_at dksX11_wrong_1 5 rfl rfl)
theorem dX11_wrong_30 : decode cX11_wrong 30 = .ok (.iconst (-1), 1) := dk_2 (dk_at dksX11_wrong_1 6 rfl rfl)
theorem dX11_wrong_31 : decode cX11_wrong 31 = .ok (.iconst 0, 1) := dk_3 (dk_at dksX11_wrong_1 7 rfl rfl)
theorem dX11_wrong_32 : decode cX11_wrong 32 = .ok (.invokevirtual 391, 3) := dk_182 1 135 (dk_at dksX11_wrong_1 8 rfl rfl)
theorem dX11_wrong_35 : decode cX11_wrong 35 = .ok (.aload_n 0, 1) := dk_42 (dk_at dksX11_wrong_1 11 rfl rfl)
theorem dX11_wrong_36 : decode cX11_wrong 36 = .ok (.aload_n 0, 1) := dk_42 (dk_at dksX11_wrong_1 12 rfl rfl)
theorem dX11_wrong_37 : decode cX11_wrong 37 = .ok (.invokevirtual 394, 3) := dk_182 1 138 (dk_at dksX11_wrong_1 13 rfl rfl)
theorem dX11_wrong_40 : decode cX11_wrong 40 = .ok (.iconst 0, 1) := dk_3 (dk_at dksX11_wrong_1 16 rfl rfl)
theorem dX11_wrong_41 : decode cX11_wrong 41 = .ok (.invokevirtual 398, 3) := dk_182 1 142 (dk_at dksX11_wrong_1 17 rfl rfl)
theorem dX11_wrong_44 : decode cX11_wrong 44 = .ok (.iconst 0, 1) := dk_3 (dk_at dksX11_wrong_1 20 rfl rfl)
theorem dX11_wrong_45 : decode cX11_wrong 45 = .ok (.istore_n 2, 1) := dk_61 (dk_at dksX11_wrong_1 21 rfl rfl)
theorem dX11_wrong_46 : decode cX11_wrong 46 = .ok (.iconst 0, 1) := dk_3 (dk_at dksX11_wrong_1 22 rfl rfl)
theorem dX11_wrong_47 : decode cX11_wrong 47 = .ok (.istore_n 3, 1) := dk_62 (dk_at dksX11_wrong_1 23 rfl rfl)
theorem dX11_wrong_48 : decode cX11_wrong 48 = .ok (.iload_n 3, 1) := dk_29 (dk_at dksX11_wrong_2 0 rfl rfl)
theorem dX11_wrong_49 : decode cX11_wrong 49 = .ok (.aload_n 0, 1) := dk_42 (dk_at dksX11_wrong_2 1 rfl rfl)
theorem dX11_wrong_50 : decode cX11_wrong 50 = .ok (.getfield 279, 3) := dk_180 1 23 (dk_at dksX11_wrong_2 2 rfl rfl)
theorem dX11_wrong_53 : decode cX11_wrong 53 = .ok (.if_icmp .ge 31, 3) := dk_162 0 31 (dk_at dksX11_wrong_2 5 rfl rfl)
theorem dX11_wrong_56 : decode cX11_wrong 56 = .ok (.iload_n 2, 1) := dk_28 (dk_at dksX11_wrong_2 8 rfl rfl)
theorem dX11_wrong_57 : decode cX11_wrong 57 = .ok (.aload_n 0, 1) := dk_42 (dk_at dksX11_wrong_2 9 rfl rfl)
theorem dX11_wrong_58 : decode cX11_wrong 58 = .ok (.getfield 89, 3) := dk_180 0 89 (dk_at dksX11_wrong_2 10 rfl rfl)
theorem dX11_wrong_61 : decode cX11_wrong 61 = .ok (.iload_n 3, 1) := dk_29 (dk_at dksX11_wrong_2 13 rfl rfl)
theorem dX11_wrong_62 : decode cX11_wrong 62 = .ok (.iaload, 1) := dk_46 (dk_at dksX11_wrong_2 14 rfl rfl)
theorem dX11_wrong_63 : decode cX11_wrong 63 = .ok (.sipush 1000, 3) := dk_17 3 232 (dk_at dksX11_wrong_2 15 rfl rfl)
theorem dX11_wrong_66 : decode cX11_wrong 66 = .ok (.if_icmp .ge 9, 3) := dk_162 0 9 (dk_at dksX11_wrong_2 18 rfl rfl)
theorem dX11_wrong_69 : decode cX11_wrong 69 = .ok (.iconst 1, 1) := dk_4 (dk_at dksX11_wrong_2 21 rfl rfl)
theorem dX11_wrong_70 : decode cX11_wrong 70 = .ok (.iload_n 3, 1) := dk_29 (dk_at dksX11_wrong_2 22 rfl rfl)
theorem dX11_wrong_71 : decode cX11_wrong 71 = .ok (.ishl, 1) := dk_120 (dk_at dksX11_wrong_2 23 rfl rfl)
theorem dX11_wrong_72 : decode cX11_wrong 72 = .ok (.goto 4, 3) := dk_167 0 4 (dk_at dksX11_wrong_3 0 rfl rfl)
theorem dX11_wrong_75 : decode cX11_wrong 75 = .ok (.iconst 0, 1) := dk_3 (dk_at dksX11_wrong_3 3 rfl rfl)
theorem dX11_wrong_76 : decode cX11_wrong 76 = .ok (.ior, 1) := dk_128 (dk_at dksX11_wrong_3 4 rfl rfl)
theorem dX11_wrong_77 : decode cX11_wrong 77 = .ok (.istore_n 2, 1) := dk_61 (dk_at dksX11_wrong_3 5 rfl rfl)
theorem dX11_wrong_78 : decode cX11_wrong 78 = .ok (.iinc 3 1, 3) := dk_132 3 1 (dk_at dksX11_wrong_3 6 rfl rfl)
theorem dX11_wrong_81 : decode cX11_wrong 81 = .ok (.goto (-33), 3) := dk_167 255 223 (dk_at dksX11_wrong_3 9 rfl rfl)
theorem dX11_wrong_84 : decode cX11_wrong 84 = .ok (.iload_n 1, 1) := dk_27 (dk_at dksX11_wrong_3 12 rfl rfl)
theorem dX11_wrong_85 : decode cX11_wrong 85 = .ok (.ifCond .ne 12, 3) := dk_154 0 12 (dk_at dksX11_wrong_3 13 rfl rfl)
theorem dX11_wrong_88 : decode cX11_wrong 88 = .ok (.aload_n 0, 1) := dk_42 (dk_at dksX11_wrong_3 16 rfl rfl)
theorem dX11_wrong_89 : decode cX11_wrong 89 = .ok (.invokevirtual 394, 3) := dk_182 1 138 (dk_at dksX11_wrong_3 17 rfl rfl)
theorem dX11_wrong_92 : decode cX11_wrong 92 = .ok (.iload_n 2, 1) := dk_28 (dk_at dksX11_wrong_3 20 rfl rfl)
theorem dX11_wrong_93 : decode cX11_wrong 93 = .ok (.iconst (-1), 1) := dk_2 (dk_at dksX11_wrong_3 21 rfl rfl)
theorem dX11_wrong_94 : decode cX11_wrong 94 = .ok (.ixor, 1) := dk_130 (dk_at dksX11_wrong_3 22 rfl rfl)
theorem dX11_wrong_95 : decode cX11_wrong 95 = .ok (.iand, 1) := dk_126 (dk_at dksX11_wrong_3 23 rfl rfl)
theorem dX11_wrong_96 : decode cX11_wrong 96 = .ok (.ireturn, 1) := dk_172 (dk_at dksX11_wrong_4 0 rfl rfl)
theorem dX11_wrong_97 : decode cX11_wrong 97 = .ok (.aload_n 0, 1) := dk_42 (dk_at dksX11_wrong_4 1 rfl rfl)
theorem dX11_wrong_98 : decode cX11_wrong 98 = .ok (.invokevirtual 394, 3) := dk_182 1 138 (dk_at dksX11_wrong_4 2 rfl rfl)
theorem dX11_wrong_101 : decode cX11_wrong 101 = .ok (.istore_n 3, 1) := dk_62 (dk_at dksX11_wrong_4 5 rfl rfl)
theorem dX11_wrong_102 : decode cX11_wrong 102 = .ok (.aload_n 0, 1) := dk_42 (dk_at dksX11_wrong_4 6 rfl rfl)
theorem dX11_wrong_103 : decode cX11_wrong 103 = .ok (.iload_n 3, 1) := dk_29 (dk_at dksX11_wrong_4 7 rfl rfl)
theorem dX11_wrong_104 : decode cX11_wrong 104 = .ok (.invokevirtual 404, 3) := dk_182 1 148 (dk_at dksX11_wrong_4 8 rfl rfl)
theorem dX11_wrong_107 : decode cX11_wrong 107 = .ok (.istore 4, 2) := dk_54 4 (dk_at dksX11_wrong_4 11 rfl rfl)
theorem dX11_wrong_109 : decode cX11_wrong 109 = .ok (.iload 4, 2) := dk_21 4 (dk_at dksX11_wrong_4 13 rfl rfl)
theorem dX11_wrong_111 : decode cX11_wrong 111 = .ok (.iload_n 3, 1) := dk_29 (dk_at dksX11_wrong_4 15 rfl rfl)
theorem dX11_wrong_112 : decode cX11_wrong 112 = .ok (.if_icmp .eq 16, 3) := dk_159 0 16 (dk_at dksX11_wrong_4 16 rfl rfl)
theorem dX11_wrong_115 : decode cX11_wrong 115 = .ok (.iload 4, 2) := dk_21 4 (dk_at dksX11_wrong_4 19 rfl rfl)
theorem dX11_wrong_117 : decode cX11_wrong 117 = .ok (.istore_n 3, 1) := dk_62 (dk_at dksX11_wrong_4 21 rfl rfl)
theorem dX11_wrong_118 : decode cX11_wrong 118 = .ok (.aload_n 0, 1) := dk_42 (dk_at dksX11_wrong_4 22 rfl rfl)
theorem dX11_wrong_119 : decode cX11_wrong 119 = .ok (.iload_n 3, 1) := dk_29 (dk_at dksX11_wrong_4 23 rfl rfl)
theorem dX11_wrong_120 : decode cX11_wrong 120 = .ok (.invokevirtual 404, 3) := dk_182 1 148 (dk_at dksX11_wrong_5 0 rfl rfl)
theorem dX11_wrong_123 : decode cX11_wrong 123 = .ok (.istore 4, 2) := dk_54 4 (dk_at dksX11_wrong_5 3 rfl rfl)
theorem dX11_wrong_125 : decode cX11_wrong 125 = .ok (.goto (-16), 3) := dk_167 255 240 (dk_at dksX11_wrong_5 5 rfl rfl)
theorem dX11_wrong_128 : decode cX11_wrong 128 = .ok (.iload_n 3, 1) := dk_29 (dk_at dksX11_wrong_5 8 rfl rfl)
theorem dX11_wrong_129 : decode cX11_wrong 129 = .ok (.iload_n 2, 1) := dk_28 (dk_at dksX11_wrong_5 9 rfl rfl)
theorem dX11_wrong_130 : decode cX11_wrong 130 = .ok (.iconst (-1), 1) := dk_2 (dk_at dksX11_wrong_5 10 rfl rfl)
theorem dX11_wrong_131 : decode cX11_wrong 131 = .ok (.ixor, 1) := dk_130 (dk_at dksX11_wrong_5 11 rfl rfl)
theorem dX11_wrong_132 : decode cX11_wrong 132 = .ok (.iand, 1) := dk_126 (dk_at dksX11_wrong_5 12 rfl rfl)
theorem dX11_wrong_133 : decode cX11_wrong 133 = .ok (.ireturn, 1) := dk_172 (dk_at dksX11_wrong_5 13 rfl rfl)
abbrev cX11_holding : ByteArray := prog_19_method_70_code
def yX11_holding : MethodName := ⟨RX11, "holding", "(I)I"⟩
def dkwX11_holding_10 : List UInt8 := [167, 255, 189, 29, 172]
abbrev dktX11_holding_10 : List UInt8 := dkwX11_holding_10 ++ []
def dkwX11_holding_9 : List UInt8 := [182, 1, 90, 182, 1, 116, 17, 3, 232, 162, 0, 10, 29, 4, 21, 4, 120, 128, 62, 132, 4, 1]
abbrev dktX11_holding_9 : List UInt8 := dkwX11_holding_9 ++ dktX11_holding_10
def dkwX11_holding_8 : List UInt8 := [180, 0, 101, 21, 4, 46, 42, 21, 4, 5, 182, 1, 90, 42, 21, 4, 7, 182, 1, 90, 42, 21, 4, 6]
abbrev dktX11_holding_8 : List UInt8 := dkwX11_holding_8 ++ dktX11_holding_9
def dkwX11_holding_7 : List UInt8 := [54, 4, 21, 4, 42, 180, 1, 23, 162, 0, 64, 27, 21, 4, 122, 4, 126, 4, 160, 0, 48, 42, 42]
abbrev dktX11_holding_7 : List UInt8 := dkwX11_holding_7 ++ dktX11_holding_8
def dkwX11_holding_6 : List UInt8 := [167, 0, 12, 42, 180, 0, 104, 29, 4, 79, 4, 61, 132, 3, 1, 167, 255, 188, 167, 255, 177, 3, 62, 3]
abbrev dktX11_holding_6 : List UInt8 := dkwX11_holding_6 ++ dktX11_holding_7
def dkwX11_holding_5 : List UInt8 := [162, 0, 34, 42, 29, 16, 8, 108, 29, 16, 8, 112, 3, 182, 1, 122, 17, 3, 232, 161, 0, 6]
abbrev dktX11_holding_5 : List UInt8 := dkwX11_holding_5 ++ dktX11_holding_6
def dkwX11_holding_4 : List UInt8 := [162, 0, 63, 42, 180, 0, 104, 29, 46, 17, 3, 232, 161, 0, 45, 29, 16, 8, 112, 42, 180, 1, 13]
abbrev dktX11_holding_4 : List UInt8 := dkwX11_holding_4 ++ dktX11_holding_5
def dkwX11_holding_3 : List UInt8 := [132, 2, 1, 167, 255, 233, 4, 61, 28, 153, 0, 81, 3, 61, 3, 62, 29, 16, 8, 42, 180, 1, 87, 104]
abbrev dktX11_holding_3 : List UInt8 := dkwX11_holding_3 ++ dktX11_holding_4
def dkwX11_holding_2 : List UInt8 := [3, 61, 28, 16, 8, 42, 180, 1, 87, 104, 162, 0, 18, 42, 180, 0, 104, 28, 17, 3, 232, 79]
abbrev dktX11_holding_2 : List UInt8 := dkwX11_holding_2 ++ dktX11_holding_3
def dkwX11_holding_1 : List UInt8 := [28, 27, 28, 122, 4, 126, 4, 160, 0, 7, 4, 167, 0, 6, 17, 3, 232, 79, 132, 2, 1, 167, 255, 223]
abbrev dktX11_holding_1 : List UInt8 := dkwX11_holding_1 ++ dktX11_holding_2
def dkwX11_holding_0 : List UInt8 := [42, 27, 181, 1, 96, 42, 3, 181, 1, 99, 3, 61, 28, 42, 180, 1, 23, 162, 0, 31, 42, 180, 0, 89]
abbrev dktX11_holding_0 : List UInt8 := dkwX11_holding_0 ++ dktX11_holding_1
theorem dksX11_holding_0 : cX11_holding.data.toList.drop 0 = dktX11_holding_0 := by decide +kernel
theorem dksX11_holding_1 : cX11_holding.data.toList.drop 24 = dktX11_holding_1 := dk_seg dksX11_holding_0 24 rfl rfl
theorem dksX11_holding_2 : cX11_holding.data.toList.drop 48 = dktX11_holding_2 := dk_seg dksX11_holding_1 24 rfl rfl
theorem dksX11_holding_3 : cX11_holding.data.toList.drop 70 = dktX11_holding_3 := dk_seg dksX11_holding_2 22 rfl rfl
theorem dksX11_holding_4 : cX11_holding.data.toList.drop 94 = dktX11_holding_4 := dk_seg dksX11_holding_3 24 rfl rfl
theorem dksX11_holding_5 : cX11_holding.data.toList.drop 117 = dktX11_holding_5 := dk_seg dksX11_holding_4 23 rfl rfl
theorem dksX11_holding_6 : cX11_holding.data.toList.drop 139 = dktX11_holding_6 := dk_seg dksX11_holding_5 22 rfl rfl
theorem dksX11_holding_7 : cX11_holding.data.toList.drop 163 = dktX11_holding_7 := dk_seg dksX11_holding_6 24 rfl rfl
theorem dksX11_holding_8 : cX11_holding.data.toList.drop 186 = dktX11_holding_8 := dk_seg dksX11_holding_7 23 rfl rfl
theorem dksX11_holding_9 : cX11_holding.data.toList.drop 210 = dktX11_holding_9 := dk_seg dksX11_holding_8 24 rfl rfl
theorem dksX11_holding_10 : cX11_holding.data.toList.drop 232 = dktX11_holding_10 := dk_seg dksX11_holding_9 22 rfl rfl
theorem dX11_holding_0 : decode cX11_holding 0 = .ok (.aload_n 0, 1) := dk_42 (dk_at dksX11_holding_0 0 rfl rfl)
theorem dX11_holding_1 : decode cX11_holding 1 = .ok (.iload_n 1, 1) := dk_27 (dk_at dksX11_holding_0 1 rfl rfl)
theorem dX11_holding_2 : decode cX11_holding 2 = .ok (.putfield 352, 3) := dk_181 1 96 (dk_at dksX11_holding_0 2 rfl rfl)
theorem dX11_holding_5 : decode cX11_holding 5 = .ok (.aload_n 0, 1) := dk_42 (dk_at dksX11_holding_0 5 rfl rfl)
theorem dX11_holding_6 : decode cX11_holding 6 = .ok (.iconst 0, 1) := dk_3 (dk_at dksX11_holding_0 6 rfl rfl)
theorem dX11_holding_7 : decode cX11_holding 7 = .ok (.putfield 355, 3) := dk_181 1 99 (dk_at dksX11_holding_0 7 rfl rfl)
theorem dX11_holding_10 : decode cX11_holding 10 = .ok (.iconst 0, 1) := dk_3 (dk_at dksX11_holding_0 10 rfl rfl)
theorem dX11_holding_11 : decode cX11_holding 11 = .ok (.istore_n 2, 1) := dk_61 (dk_at dksX11_holding_0 11 rfl rfl)
theorem dX11_holding_12 : decode cX11_holding 12 = .ok (.iload_n 2, 1) := dk_28 (dk_at dksX11_holding_0 12 rfl rfl)
theorem dX11_holding_13 : decode cX11_holding 13 = .ok (.aload_n 0, 1) := dk_42 (dk_at dksX11_holding_0 13 rfl rfl)
theorem dX11_holding_14 : decode cX11_holding 14 = .ok (.getfield 279, 3) := dk_180 1 23 (dk_at dksX11_holding_0 14 rfl rfl)
theorem dX11_holding_17 : decode cX11_holding 17 = .ok (.if_icmp .ge 31, 3) := dk_162 0 31 (dk_at dksX11_holding_0 17 rfl rfl)
theorem dX11_holding_20 : decode cX11_holding 20 = .ok (.aload_n 0, 1) := dk_42 (dk_at dksX11_holding_0 20 rfl rfl)
theorem dX11_holding_21 : decode cX11_holding 21 = .ok (.getfield 89, 3) := dk_180 0 89 (dk_at dksX11_holding_0 21 rfl rfl)
theorem dX11_holding_24 : decode cX11_holding 24 = .ok (.iload_n 2, 1) := dk_28 (dk_at dksX11_holding_1 0 rfl rfl)
theorem dX11_holding_25 : decode cX11_holding 25 = .ok (.iload_n 1, 1) := dk_27 (dk_at dksX11_holding_1 1 rfl rfl)
theorem dX11_holding_26 : decode cX11_holding 26 = .ok (.iload_n 2, 1) := dk_28 (dk_at dksX11_holding_1 2 rfl rfl)
theorem dX11_holding_27 : decode cX11_holding 27 = .ok (.ishr, 1) := dk_122 (dk_at dksX11_holding_1 3 rfl rfl)
theorem dX11_holding_28 : decode cX11_holding 28 = .ok (.iconst 1, 1) := dk_4 (dk_at dksX11_holding_1 4 rfl rfl)
theorem dX11_holding_29 : decode cX11_holding 29 = .ok (.iand, 1) := dk_126 (dk_at dksX11_holding_1 5 rfl rfl)
theorem dX11_holding_30 : decode cX11_holding 30 = .ok (.iconst 1, 1) := dk_4 (dk_at dksX11_holding_1 6 rfl rfl)
theorem dX11_holding_31 : decode cX11_holding 31 = .ok (.if_icmp .ne 7, 3) := dk_160 0 7 (dk_at dksX11_holding_1 7 rfl rfl)
theorem dX11_holding_34 : decode cX11_holding 34 = .ok (.iconst 1, 1) := dk_4 (dk_at dksX11_holding_1 10 rfl rfl)
theorem dX11_holding_35 : decode cX11_holding 35 = .ok (.goto 6, 3) := dk_167 0 6 (dk_at dksX11_holding_1 11 rfl rfl)
theorem dX11_holding_38 : decode cX11_holding 38 = .ok (.sipush 1000, 3) := dk_17 3 232 (dk_at dksX11_holding_1 14 rfl rfl)
theorem dX11_holding_41 : decode cX11_holding 41 = .ok (.iastore, 1) := dk_79 (dk_at dksX11_holding_1 17 rfl rfl)
theorem dX11_holding_42 : decode cX11_holding 42 = .ok (.iinc 2 1, 3) := dk_132 2 1 (dk_at dksX11_holding_1 18 rfl rfl)
theorem dX11_holding_45 : decode cX11_holding 45 = .ok (.goto (-33), 3) := dk_167 255 223 (dk_at dksX11_holding_1 21 rfl rfl)
theorem dX11_holding_48 : decode cX11_holding 48 = .ok (.iconst 0, 1) := dk_3 (dk_at dksX11_holding_2 0 rfl rfl)
theorem dX11_holding_49 : decode cX11_holding 49 = .ok (.istore_n 2, 1) := dk_61 (dk_at dksX11_holding_2 1 rfl rfl)
theorem dX11_holding_50 : decode cX11_holding 50 = .ok (.iload_n 2, 1) := dk_28 (dk_at dksX11_holding_2 2 rfl rfl)
theorem dX11_holding_51 : decode cX11_holding 51 = .ok (.bipush 8, 2) := dk_16 8 (dk_at dksX11_holding_2 3 rfl rfl)
theorem dX11_holding_53 : decode cX11_holding 53 = .ok (.aload_n 0, 1) := dk_42 (dk_at dksX11_holding_2 5 rfl rfl)
theorem dX11_holding_54 : decode cX11_holding 54 = .ok (.getfield 343, 3) := dk_180 1 87 (dk_at dksX11_holding_2 6 rfl rfl)
theorem dX11_holding_57 : decode cX11_holding 57 = .ok (.imul, 1) := dk_104 (dk_at dksX11_holding_2 9 rfl rfl)
theorem dX11_holding_58 : decode cX11_holding 58 = .ok (.if_icmp .ge 18, 3) := dk_162 0 18 (dk_at dksX11_holding_2 10 rfl rfl)
theorem dX11_holding_61 : decode cX11_holding 61 = .ok (.aload_n 0, 1) := dk_42 (dk_at dksX11_holding_2 13 rfl rfl)
theorem dX11_holding_62 : decode cX11_holding 62 = .ok (.getfield 104, 3) := dk_180 0 104 (dk_at dksX11_holding_2 14 rfl rfl)
theorem dX11_holding_65 : decode cX11_holding 65 = .ok (.iload_n 2, 1) := dk_28 (dk_at dksX11_holding_2 17 rfl rfl)
theorem dX11_holding_66 : decode cX11_holding 66 = .ok (.sipush 1000, 3) := dk_17 3 232 (dk_at dksX11_holding_2 18 rfl rfl)
theorem dX11_holding_69 : decode cX11_holding 69 = .ok (.iastore, 1) := dk_79 (dk_at dksX11_holding_2 21 rfl rfl)
theorem dX11_holding_70 : decode cX11_holding 70 = .ok (.iinc 2 1, 3) := dk_132 2 1 (dk_at dksX11_holding_3 0 rfl rfl)
theorem dX11_holding_73 : decode cX11_holding 73 = .ok (.goto (-23), 3) := dk_167 255 233 (dk_at dksX11_holding_3 3 rfl rfl)
theorem dX11_holding_76 : decode cX11_holding 76 = .ok (.iconst 1, 1) := dk_4 (dk_at dksX11_holding_3 6 rfl rfl)
theorem dX11_holding_77 : decode cX11_holding 77 = .ok (.istore_n 2, 1) := dk_61 (dk_at dksX11_holding_3 7 rfl rfl)
theorem dX11_holding_78 : decode cX11_holding 78 = .ok (.iload_n 2, 1) := dk_28 (dk_at dksX11_holding_3 8 rfl rfl)
theorem dX11_holding_79 : decode cX11_holding 79 = .ok (.ifCond .eq 81, 3) := dk_153 0 81 (dk_at dksX11_holding_3 9 rfl rfl)
theorem dX11_holding_82 : decode cX11_holding 82 = .ok (.iconst 0, 1) := dk_3 (dk_at dksX11_holding_3 12 rfl rfl)
theorem dX11_holding_83 : decode cX11_holding 83 = .ok (.istore_n 2, 1) := dk_61 (dk_at dksX11_holding_3 13 rfl rfl)
theorem dX11_holding_84 : decode cX11_holding 84 = .ok (.iconst 0, 1) := dk_3 (dk_at dksX11_holding_3 14 rfl rfl)
theorem dX11_holding_85 : decode cX11_holding 85 = .ok (.istore_n 3, 1) := dk_62 (dk_at dksX11_holding_3 15 rfl rfl)
theorem dX11_holding_86 : decode cX11_holding 86 = .ok (.iload_n 3, 1) := dk_29 (dk_at dksX11_holding_3 16 rfl rfl)
theorem dX11_holding_87 : decode cX11_holding 87 = .ok (.bipush 8, 2) := dk_16 8 (dk_at dksX11_holding_3 17 rfl rfl)
theorem dX11_holding_89 : decode cX11_holding 89 = .ok (.aload_n 0, 1) := dk_42 (dk_at dksX11_holding_3 19 rfl rfl)
theorem dX11_holding_90 : decode cX11_holding 90 = .ok (.getfield 343, 3) := dk_180 1 87 (dk_at dksX11_holding_3 20 rfl rfl)
theorem dX11_holding_93 : decode cX11_holding 93 = .ok (.imul, 1) := dk_104 (dk_at dksX11_holding_3 23 rfl rfl)
theorem dX11_holding_94 : decode cX11_holding 94 = .ok (.if_icmp .ge 63, 3) := dk_162 0 63 (dk_at dksX11_holding_4 0 rfl rfl)
theorem dX11_holding_97 : decode cX11_holding 97 = .ok (.aload_n 0, 1) := dk_42 (dk_at dksX11_holding_4 3 rfl rfl)
theorem dX11_holding_98 : decode cX11_holding 98 = .ok (.getfield 104, 3) := dk_180 0 104 (dk_at dksX11_holding_4 4 rfl rfl)
theorem dX11_holding_101 : decode cX11_holding 101 = .ok (.iload_n 3, 1) := dk_29 (dk_at dksX11_holding_4 7 rfl rfl)
theorem dX11_holding_102 : decode cX11_holding 102 = .ok (.iaload, 1) := dk_46 (dk_at dksX11_holding_4 8 rfl rfl)
theorem dX11_holding_103 : decode cX11_holding 103 = .ok (.sipush 1000, 3) := dk_17 3 232 (dk_at dksX11_holding_4 9 rfl rfl)
theorem dX11_holding_106 : decode cX11_holding 106 = .ok (.if_icmp .lt 45, 3) := dk_161 0 45 (dk_at dksX11_holding_4 12 rfl rfl)
theorem dX11_holding_109 : decode cX11_holding 109 = .ok (.iload_n 3, 1) := dk_29 (dk_at dksX11_holding_4 15 rfl rfl)
theorem dX11_holding_110 : decode cX11_holding 110 = .ok (.bipush 8, 2) := dk_16 8 (dk_at dksX11_holding_4 16 rfl rfl)
theorem dX11_holding_112 : decode cX11_holding 112 = .ok (.irem, 1) := dk_112 (dk_at dksX11_holding_4 18 rfl rfl)
theorem dX11_holding_113 : decode cX11_holding 113 = .ok (.aload_n 0, 1) := dk_42 (dk_at dksX11_holding_4 19 rfl rfl)
theorem dX11_holding_114 : decode cX11_holding 114 = .ok (.getfield 269, 3) := dk_180 1 13 (dk_at dksX11_holding_4 20 rfl rfl)
theorem dX11_holding_117 : decode cX11_holding 117 = .ok (.if_icmp .ge 34, 3) := dk_162 0 34 (dk_at dksX11_holding_5 0 rfl rfl)
theorem dX11_holding_120 : decode cX11_holding 120 = .ok (.aload_n 0, 1) := dk_42 (dk_at dksX11_holding_5 3 rfl rfl)
theorem dX11_holding_121 : decode cX11_holding 121 = .ok (.iload_n 3, 1) := dk_29 (dk_at dksX11_holding_5 4 rfl rfl)
theorem dX11_holding_122 : decode cX11_holding 122 = .ok (.bipush 8, 2) := dk_16 8 (dk_at dksX11_holding_5 5 rfl rfl)
theorem dX11_holding_124 : decode cX11_holding 124 = .ok (.idiv, 1) := dk_108 (dk_at dksX11_holding_5 7 rfl rfl)
theorem dX11_holding_125 : decode cX11_holding 125 = .ok (.iload_n 3, 1) := dk_29 (dk_at dksX11_holding_5 8 rfl rfl)
theorem dX11_holding_126 : decode cX11_holding 126 = .ok (.bipush 8, 2) := dk_16 8 (dk_at dksX11_holding_5 9 rfl rfl)
theorem dX11_holding_128 : decode cX11_holding 128 = .ok (.irem, 1) := dk_112 (dk_at dksX11_holding_5 11 rfl rfl)
theorem dX11_holding_129 : decode cX11_holding 129 = .ok (.iconst 0, 1) := dk_3 (dk_at dksX11_holding_5 12 rfl rfl)
theorem dX11_holding_130 : decode cX11_holding 130 = .ok (.invokevirtual 378, 3) := dk_182 1 122 (dk_at dksX11_holding_5 13 rfl rfl)
theorem dX11_holding_133 : decode cX11_holding 133 = .ok (.sipush 1000, 3) := dk_17 3 232 (dk_at dksX11_holding_5 16 rfl rfl)
theorem dX11_holding_136 : decode cX11_holding 136 = .ok (.if_icmp .lt 6, 3) := dk_161 0 6 (dk_at dksX11_holding_5 19 rfl rfl)
theorem dX11_holding_139 : decode cX11_holding 139 = .ok (.goto 12, 3) := dk_167 0 12 (dk_at dksX11_holding_6 0 rfl rfl)
theorem dX11_holding_142 : decode cX11_holding 142 = .ok (.aload_n 0, 1) := dk_42 (dk_at dksX11_holding_6 3 rfl rfl)
theorem dX11_holding_143 : decode cX11_holding 143 = .ok (.getfield 104, 3) := dk_180 0 104 (dk_at dksX11_holding_6 4 rfl rfl)
theorem dX11_holding_146 : decode cX11_holding 146 = .ok (.iload_n 3, 1) := dk_29 (dk_at dksX11_holding_6 7 rfl rfl)
theorem dX11_holding_147 : decode cX11_holding 147 = .ok (.iconst 1, 1) := dk_4 (dk_at dksX11_holding_6 8 rfl rfl)
theorem dX11_holding_148 : decode cX11_holding 148 = .ok (.iastore, 1) := dk_79 (dk_at dksX11_holding_6 9 rfl rfl)
theorem dX11_holding_149 : decode cX11_holding 149 = .ok (.iconst 1, 1) := dk_4 (dk_at dksX11_holding_6 10 rfl rfl)
theorem dX11_holding_150 : decode cX11_holding 150 = .ok (.istore_n 2, 1) := dk_61 (dk_at dksX11_holding_6 11 rfl rfl)
theorem dX11_holding_151 : decode cX11_holding 151 = .ok (.iinc 3 1, 3) := dk_132 3 1 (dk_at dksX11_holding_6 12 rfl rfl)
theorem dX11_holding_154 : decode cX11_holding 154 = .ok (.goto (-68), 3) := dk_167 255 188 (dk_at dksX11_holding_6 15 rfl rfl)
theorem dX11_holding_157 : decode cX11_holding 157 = .ok (.goto (-79), 3) := dk_167 255 177 (dk_at dksX11_holding_6 18 rfl rfl)
theorem dX11_holding_160 : decode cX11_holding 160 = .ok (.iconst 0, 1) := dk_3 (dk_at dksX11_holding_6 21 rfl rfl)
theorem dX11_holding_161 : decode cX11_holding 161 = .ok (.istore_n 3, 1) := dk_62 (dk_at dksX11_holding_6 22 rfl rfl)
theorem dX11_holding_162 : decode cX11_holding 162 = .ok (.iconst 0, 1) := dk_3 (dk_at dksX11_holding_6 23 rfl rfl)
theorem dX11_holding_163 : decode cX11_holding 163 = .ok (.istore 4, 2) := dk_54 4 (dk_at dksX11_holding_7 0 rfl rfl)
theorem dX11_holding_165 : decode cX11_holding 165 = .ok (.iload 4, 2) := dk_21 4 (dk_at dksX11_holding_7 2 rfl rfl)
theorem dX11_holding_167 : decode cX11_holding 167 = .ok (.aload_n 0, 1) := dk_42 (dk_at dksX11_holding_7 4 rfl rfl)
theorem dX11_holding_168 : decode cX11_holding 168 = .ok (.getfield 279, 3) := dk_180 1 23 (dk_at dksX11_holding_7 5 rfl rfl)
theorem dX11_holding_171 : decode cX11_holding 171 = .ok (.if_icmp .ge 64, 3) := dk_162 0 64 (dk_at dksX11_holding_7 8 rfl rfl)
theorem dX11_holding_174 : decode cX11_holding 174 = .ok (.iload_n 1, 1) := dk_27 (dk_at dksX11_holding_7 11 rfl rfl)
theorem dX11_holding_175 : decode cX11_holding 175 = .ok (.iload 4, 2) := dk_21 4 (dk_at dksX11_holding_7 12 rfl rfl)
theorem dX11_holding_177 : decode cX11_holding 177 = .ok (.ishr, 1) := dk_122 (dk_at dksX11_holding_7 14 rfl rfl)
theorem dX11_holding_178 : decode cX11_holding 178 = .ok (.iconst 1, 1) := dk_4 (dk_at dksX11_holding_7 15 rfl rfl)
theorem dX11_holding_179 : decode cX11_holding 179 = .ok (.iand, 1) := dk_126 (dk_at dksX11_holding_7 16 rfl rfl)
theorem dX11_holding_180 : decode cX11_holding 180 = .ok (.iconst 1, 1) := dk_4 (dk_at dksX11_holding_7 17 rfl rfl)
theorem dX11_holding_181 : decode cX11_holding 181 = .ok (.if_icmp .ne 48, 3) := dk_160 0 48 (dk_at dksX11_holding_7 18 rfl rfl)
theorem dX11_holding_184 : decode cX11_holding 184 = .ok (.aload_n 0, 1) := dk_42 (dk_at dksX11_holding_7 21 rfl rfl)
theorem dX11_holding_185 : decode cX11_holding 185 = .ok (.aload_n 0, 1) := dk_42 (dk_at dksX11_holding_7 22 rfl rfl)
theorem dX11_holding_186 : decode cX11_holding 186 = .ok (.getfield 101, 3) := dk_180 0 101 (dk_at dksX11_holding_8 0 rfl rfl)
theorem dX11_holding_189 : decode cX11_holding 189 = .ok (.iload 4, 2) := dk_21 4 (dk_at dksX11_holding_8 3 rfl rfl)
theorem dX11_holding_191 : decode cX11_holding 191 = .ok (.iaload, 1) := dk_46 (dk_at dksX11_holding_8 5 rfl rfl)
theorem dX11_holding_192 : decode cX11_holding 192 = .ok (.aload_n 0, 1) := dk_42 (dk_at dksX11_holding_8 6 rfl rfl)
theorem dX11_holding_193 : decode cX11_holding 193 = .ok (.iload 4, 2) := dk_21 4 (dk_at dksX11_holding_8 7 rfl rfl)
theorem dX11_holding_195 : decode cX11_holding 195 = .ok (.iconst 2, 1) := dk_5 (dk_at dksX11_holding_8 9 rfl rfl)
theorem dX11_holding_196 : decode cX11_holding 196 = .ok (.invokevirtual 346, 3) := dk_182 1 90 (dk_at dksX11_holding_8 10 rfl rfl)
theorem dX11_holding_199 : decode cX11_holding 199 = .ok (.aload_n 0, 1) := dk_42 (dk_at dksX11_holding_8 13 rfl rfl)
theorem dX11_holding_200 : decode cX11_holding 200 = .ok (.iload 4, 2) := dk_21 4 (dk_at dksX11_holding_8 14 rfl rfl)
theorem dX11_holding_202 : decode cX11_holding 202 = .ok (.iconst 4, 1) := dk_7 (dk_at dksX11_holding_8 16 rfl rfl)
theorem dX11_holding_203 : decode cX11_holding 203 = .ok (.invokevirtual 346, 3) := dk_182 1 90 (dk_at dksX11_holding_8 17 rfl rfl)
theorem dX11_holding_206 : decode cX11_holding 206 = .ok (.aload_n 0, 1) := dk_42 (dk_at dksX11_holding_8 20 rfl rfl)
theorem dX11_holding_207 : decode cX11_holding 207 = .ok (.iload 4, 2) := dk_21 4 (dk_at dksX11_holding_8 21 rfl rfl)
theorem dX11_holding_209 : decode cX11_holding 209 = .ok (.iconst 3, 1) := dk_6 (dk_at dksX11_holding_8 23 rfl rfl)
theorem dX11_holding_210 : decode cX11_holding 210 = .ok (.invokevirtual 346, 3) := dk_182 1 90 (dk_at dksX11_holding_9 0 rfl rfl)
theorem dX11_holding_213 : decode cX11_holding 213 = .ok (.invokevirtual 372, 3) := dk_182 1 116 (dk_at dksX11_holding_9 3 rfl rfl)
theorem dX11_holding_216 : decode cX11_holding 216 = .ok (.sipush 1000, 3) := dk_17 3 232 (dk_at dksX11_holding_9 6 rfl rfl)
theorem dX11_holding_219 : decode cX11_holding 219 = .ok (.if_icmp .ge 10, 3) := dk_162 0 10 (dk_at dksX11_holding_9 9 rfl rfl)
theorem dX11_holding_222 : decode cX11_holding 222 = .ok (.iload_n 3, 1) := dk_29 (dk_at dksX11_holding_9 12 rfl rfl)
theorem dX11_holding_223 : decode cX11_holding 223 = .ok (.iconst 1, 1) := dk_4 (dk_at dksX11_holding_9 13 rfl rfl)
theorem dX11_holding_224 : decode cX11_holding 224 = .ok (.iload 4, 2) := dk_21 4 (dk_at dksX11_holding_9 14 rfl rfl)
theorem dX11_holding_226 : decode cX11_holding 226 = .ok (.ishl, 1) := dk_120 (dk_at dksX11_holding_9 16 rfl rfl)
theorem dX11_holding_227 : decode cX11_holding 227 = .ok (.ior, 1) := dk_128 (dk_at dksX11_holding_9 17 rfl rfl)
theorem dX11_holding_228 : decode cX11_holding 228 = .ok (.istore_n 3, 1) := dk_62 (dk_at dksX11_holding_9 18 rfl rfl)
theorem dX11_holding_229 : decode cX11_holding 229 = .ok (.iinc 4 1, 3) := dk_132 4 1 (dk_at dksX11_holding_9 19 rfl rfl)
theorem dX11_holding_232 : decode cX11_holding 232 = .ok (.goto (-67), 3) := dk_167 255 189 (dk_at dksX11_holding_10 0 rfl rfl)
theorem dX11_holding_235 : decode cX11_holding 235 = .ok (.iload_n 3, 1) := dk_29 (dk_at dksX11_holding_10 3 rfl rfl)
theorem dX11_holding_236 : decode cX11_holding 236 = .ok (.ireturn, 1) := dk_172 (dk_at dksX11_holding_10 4 rfl rfl)
abbrev cX11_mend : ByteArray := prog_19_method_72_code
def yX11_mend : MethodName := ⟨RX11, "mend", "()I"⟩
def dkwX11_mend_6 : List UInt8 := [167, 255, 141, 42, 42, 180, 1, 23, 181, 0, 113, 27, 184, 1, 39, 172]
abbrev dktX11_mend_6 : List UInt8 := dkwX11_mend_6 ++ []
def dkwX11_mend_5 : List UInt8 := [29, 154, 0, 6, 167, 0, 17, 28, 60, 42, 42, 180, 0, 92, 42, 180, 0, 116, 182, 1, 19, 132, 2, 1]
abbrev dktX11_mend_5 : List UInt8 := dkwX11_mend_5 ++ dktX11_mend_6
def dkwX11_mend_4 : List UInt8 := [180, 0, 89, 21, 4, 46, 17, 3, 232, 162, 0, 7, 4, 167, 0, 4, 3, 62, 132, 4, 1, 167, 255, 211]
abbrev dktX11_mend_4 : List UInt8 := dkwX11_mend_4 ++ dktX11_mend_5
def dkwX11_mend_3 : List UInt8 := [21, 4, 42, 180, 1, 23, 162, 0, 42, 29, 153, 0, 30, 28, 21, 4, 122, 4, 126, 4, 159, 0, 16, 42]
abbrev dktX11_mend_3 : List UInt8 := dkwX11_mend_3 ++ dktX11_mend_4
def dkwX11_mend_2 : List UInt8 := [184, 1, 39, 161, 0, 6, 167, 0, 86, 42, 42, 182, 1, 138, 28, 182, 1, 142, 4, 62, 3, 54, 4]
abbrev dktX11_mend_2 : List UInt8 := dkwX11_mend_2 ++ dktX11_mend_3
def dkwX11_mend_1 : List UInt8 := [3, 61, 28, 4, 42, 180, 1, 23, 120, 162, 0, 111, 27, 2, 159, 0, 17, 28, 184, 1, 39, 27]
abbrev dktX11_mend_1 : List UInt8 := dkwX11_mend_1 ++ dktX11_mend_2
def dkwX11_mend_0 : List UInt8 := [42, 3, 181, 0, 122, 42, 180, 1, 23, 16, 12, 164, 0, 5, 2, 172, 42, 2, 3, 182, 1, 135, 2, 60]
abbrev dktX11_mend_0 : List UInt8 := dkwX11_mend_0 ++ dktX11_mend_1
theorem dksX11_mend_0 : cX11_mend.data.toList.drop 0 = dktX11_mend_0 := by decide +kernel
theorem dksX11_mend_1 : cX11_mend.data.toList.drop 24 = dktX11_mend_1 := dk_seg dksX11_mend_0 24 rfl rfl
theorem dksX11_mend_2 : cX11_mend.data.toList.drop 46 = dktX11_mend_2 := dk_seg dksX11_mend_1 22 rfl rfl
theorem dksX11_mend_3 : cX11_mend.data.toList.drop 69 = dktX11_mend_3 := dk_seg dksX11_mend_2 23 rfl rfl
theorem dksX11_mend_4 : cX11_mend.data.toList.drop 93 = dktX11_mend_4 := dk_seg dksX11_mend_3 24 rfl rfl
theorem dksX11_mend_5 : cX11_mend.data.toList.drop 117 = dktX11_mend_5 := dk_seg dksX11_mend_4 24 rfl rfl
theorem dksX11_mend_6 : cX11_mend.data.toList.drop 141 = dktX11_mend_6 := dk_seg dksX11_mend_5 24 rfl rfl
theorem dX11_mend_0 : decode cX11_mend 0 = .ok (.aload_n 0, 1) := dk_42 (dk_at dksX11_mend_0 0 rfl rfl)
theorem dX11_mend_1 : decode cX11_mend 1 = .ok (.iconst 0, 1) := dk_3 (dk_at dksX11_mend_0 1 rfl rfl)
theorem dX11_mend_2 : decode cX11_mend 2 = .ok (.putfield 122, 3) := dk_181 0 122 (dk_at dksX11_mend_0 2 rfl rfl)
theorem dX11_mend_5 : decode cX11_mend 5 = .ok (.aload_n 0, 1) := dk_42 (dk_at dksX11_mend_0 5 rfl rfl)
theorem dX11_mend_6 : decode cX11_mend 6 = .ok (.getfield 279, 3) := dk_180 1 23 (dk_at dksX11_mend_0 6 rfl rfl)
theorem dX11_mend_9 : decode cX11_mend 9 = .ok (.bipush 12, 2) := dk_16 12 (dk_at dksX11_mend_0 9 rfl rfl)
theorem dX11_mend_11 : decode cX11_mend 11 = .ok (.if_icmp .le 5, 3) := dk_164 0 5 (dk_at dksX11_mend_0 11 rfl rfl)
theorem dX11_mend_14 : decode cX11_mend 14 = .ok (.iconst (-1), 1) := dk_2 (dk_at dksX11_mend_0 14 rfl rfl)
theorem dX11_mend_15 : decode cX11_mend 15 = .ok (.ireturn, 1) := dk_172 (dk_at dksX11_mend_0 15 rfl rfl)
theorem dX11_mend_16 : decode cX11_mend 16 = .ok (.aload_n 0, 1) := dk_42 (dk_at dksX11_mend_0 16 rfl rfl)
theorem dX11_mend_17 : decode cX11_mend 17 = .ok (.iconst (-1), 1) := dk_2 (dk_at dksX11_mend_0 17 rfl rfl)
theorem dX11_mend_18 : decode cX11_mend 18 = .ok (.iconst 0, 1) := dk_3 (dk_at dksX11_mend_0 18 rfl rfl)
theorem dX11_mend_19 : decode cX11_mend 19 = .ok (.invokevirtual 391, 3) := dk_182 1 135 (dk_at dksX11_mend_0 19 rfl rfl)
theorem dX11_mend_22 : decode cX11_mend 22 = .ok (.iconst (-1), 1) := dk_2 (dk_at dksX11_mend_0 22 rfl rfl)
theorem dX11_mend_23 : decode cX11_mend 23 = .ok (.istore_n 1, 1) := dk_60 (dk_at dksX11_mend_0 23 rfl rfl)
theorem dX11_mend_24 : decode cX11_mend 24 = .ok (.iconst 0, 1) := dk_3 (dk_at dksX11_mend_1 0 rfl rfl)
theorem dX11_mend_25 : decode cX11_mend 25 = .ok (.istore_n 2, 1) := dk_61 (dk_at dksX11_mend_1 1 rfl rfl)
theorem dX11_mend_26 : decode cX11_mend 26 = .ok (.iload_n 2, 1) := dk_28 (dk_at dksX11_mend_1 2 rfl rfl)
theorem dX11_mend_27 : decode cX11_mend 27 = .ok (.iconst 1, 1) := dk_4 (dk_at dksX11_mend_1 3 rfl rfl)
theorem dX11_mend_28 : decode cX11_mend 28 = .ok (.aload_n 0, 1) := dk_42 (dk_at dksX11_mend_1 4 rfl rfl)
theorem dX11_mend_29 : decode cX11_mend 29 = .ok (.getfield 279, 3) := dk_180 1 23 (dk_at dksX11_mend_1 5 rfl rfl)
theorem dX11_mend_32 : decode cX11_mend 32 = .ok (.ishl, 1) := dk_120 (dk_at dksX11_mend_1 8 rfl rfl)
theorem dX11_mend_33 : decode cX11_mend 33 = .ok (.if_icmp .ge 111, 3) := dk_162 0 111 (dk_at dksX11_mend_1 9 rfl rfl)
theorem dX11_mend_36 : decode cX11_mend 36 = .ok (.iload_n 1, 1) := dk_27 (dk_at dksX11_mend_1 12 rfl rfl)
theorem dX11_mend_37 : decode cX11_mend 37 = .ok (.iconst (-1), 1) := dk_2 (dk_at dksX11_mend_1 13 rfl rfl)
theorem dX11_mend_38 : decode cX11_mend 38 = .ok (.if_icmp .eq 17, 3) := dk_159 0 17 (dk_at dksX11_mend_1 14 rfl rfl)
theorem dX11_mend_41 : decode cX11_mend 41 = .ok (.iload_n 2, 1) := dk_28 (dk_at dksX11_mend_1 17 rfl rfl)
theorem dX11_mend_42 : decode cX11_mend 42 = .ok (.invokestatic 295, 3) := dk_184 1 39 (dk_at dksX11_mend_1 18 rfl rfl)
theorem dX11_mend_45 : decode cX11_mend 45 = .ok (.iload_n 1, 1) := dk_27 (dk_at dksX11_mend_1 21 rfl rfl)
theorem dX11_mend_46 : decode cX11_mend 46 = .ok (.invokestatic 295, 3) := dk_184 1 39 (dk_at dksX11_mend_2 0 rfl rfl)
theorem dX11_mend_49 : decode cX11_mend 49 = .ok (.if_icmp .lt 6, 3) := dk_161 0 6 (dk_at dksX11_mend_2 3 rfl rfl)
theorem dX11_mend_52 : decode cX11_mend 52 = .ok (.goto 86, 3) := dk_167 0 86 (dk_at dksX11_mend_2 6 rfl rfl)
theorem dX11_mend_55 : decode cX11_mend 55 = .ok (.aload_n 0, 1) := dk_42 (dk_at dksX11_mend_2 9 rfl rfl)
theorem dX11_mend_56 : decode cX11_mend 56 = .ok (.aload_n 0, 1) := dk_42 (dk_at dksX11_mend_2 10 rfl rfl)
theorem dX11_mend_57 : decode cX11_mend 57 = .ok (.invokevirtual 394, 3) := dk_182 1 138 (dk_at dksX11_mend_2 11 rfl rfl)
theorem dX11_mend_60 : decode cX11_mend 60 = .ok (.iload_n 2, 1) := dk_28 (dk_at dksX11_mend_2 14 rfl rfl)
theorem dX11_mend_61 : decode cX11_mend 61 = .ok (.invokevirtual 398, 3) := dk_182 1 142 (dk_at dksX11_mend_2 15 rfl rfl)
theorem dX11_mend_64 : decode cX11_mend 64 = .ok (.iconst 1, 1) := dk_4 (dk_at dksX11_mend_2 18 rfl rfl)
theorem dX11_mend_65 : decode cX11_mend 65 = .ok (.istore_n 3, 1) := dk_62 (dk_at dksX11_mend_2 19 rfl rfl)
theorem dX11_mend_66 : decode cX11_mend 66 = .ok (.iconst 0, 1) := dk_3 (dk_at dksX11_mend_2 20 rfl rfl)
theorem dX11_mend_67 : decode cX11_mend 67 = .ok (.istore 4, 2) := dk_54 4 (dk_at dksX11_mend_2 21 rfl rfl)
theorem dX11_mend_69 : decode cX11_mend 69 = .ok (.iload 4, 2) := dk_21 4 (dk_at dksX11_mend_3 0 rfl rfl)
theorem dX11_mend_71 : decode cX11_mend 71 = .ok (.aload_n 0, 1) := dk_42 (dk_at dksX11_mend_3 2 rfl rfl)
theorem dX11_mend_72 : decode cX11_mend 72 = .ok (.getfield 279, 3) := dk_180 1 23 (dk_at dksX11_mend_3 3 rfl rfl)
theorem dX11_mend_75 : decode cX11_mend 75 = .ok (.if_icmp .ge 42, 3) := dk_162 0 42 (dk_at dksX11_mend_3 6 rfl rfl)
theorem dX11_mend_78 : decode cX11_mend 78 = .ok (.iload_n 3, 1) := dk_29 (dk_at dksX11_mend_3 9 rfl rfl)
theorem dX11_mend_79 : decode cX11_mend 79 = .ok (.ifCond .eq 30, 3) := dk_153 0 30 (dk_at dksX11_mend_3 10 rfl rfl)
theorem dX11_mend_82 : decode cX11_mend 82 = .ok (.iload_n 2, 1) := dk_28 (dk_at dksX11_mend_3 13 rfl rfl)
theorem dX11_mend_83 : decode cX11_mend 83 = .ok (.iload 4, 2) := dk_21 4 (dk_at dksX11_mend_3 14 rfl rfl)
theorem dX11_mend_85 : decode cX11_mend 85 = .ok (.ishr, 1) := dk_122 (dk_at dksX11_mend_3 16 rfl rfl)
theorem dX11_mend_86 : decode cX11_mend 86 = .ok (.iconst 1, 1) := dk_4 (dk_at dksX11_mend_3 17 rfl rfl)
theorem dX11_mend_87 : decode cX11_mend 87 = .ok (.iand, 1) := dk_126 (dk_at dksX11_mend_3 18 rfl rfl)
theorem dX11_mend_88 : decode cX11_mend 88 = .ok (.iconst 1, 1) := dk_4 (dk_at dksX11_mend_3 19 rfl rfl)
theorem dX11_mend_89 : decode cX11_mend 89 = .ok (.if_icmp .eq 16, 3) := dk_159 0 16 (dk_at dksX11_mend_3 20 rfl rfl)
theorem dX11_mend_92 : decode cX11_mend 92 = .ok (.aload_n 0, 1) := dk_42 (dk_at dksX11_mend_3 23 rfl rfl)
theorem dX11_mend_93 : decode cX11_mend 93 = .ok (.getfield 89, 3) := dk_180 0 89 (dk_at dksX11_mend_4 0 rfl rfl)
theorem dX11_mend_96 : decode cX11_mend 96 = .ok (.iload 4, 2) := dk_21 4 (dk_at dksX11_mend_4 3 rfl rfl)
theorem dX11_mend_98 : decode cX11_mend 98 = .ok (.iaload, 1) := dk_46 (dk_at dksX11_mend_4 5 rfl rfl)
theorem dX11_mend_99 : decode cX11_mend 99 = .ok (.sipush 1000, 3) := dk_17 3 232 (dk_at dksX11_mend_4 6 rfl rfl)
theorem dX11_mend_102 : decode cX11_mend 102 = .ok (.if_icmp .ge 7, 3) := dk_162 0 7 (dk_at dksX11_mend_4 9 rfl rfl)
theorem dX11_mend_105 : decode cX11_mend 105 = .ok (.iconst 1, 1) := dk_4 (dk_at dksX11_mend_4 12 rfl rfl)
theorem dX11_mend_106 : decode cX11_mend 106 = .ok (.goto 4, 3) := dk_167 0 4 (dk_at dksX11_mend_4 13 rfl rfl)
theorem dX11_mend_109 : decode cX11_mend 109 = .ok (.iconst 0, 1) := dk_3 (dk_at dksX11_mend_4 16 rfl rfl)
theorem dX11_mend_110 : decode cX11_mend 110 = .ok (.istore_n 3, 1) := dk_62 (dk_at dksX11_mend_4 17 rfl rfl)
theorem dX11_mend_111 : decode cX11_mend 111 = .ok (.iinc 4 1, 3) := dk_132 4 1 (dk_at dksX11_mend_4 18 rfl rfl)
theorem dX11_mend_114 : decode cX11_mend 114 = .ok (.goto (-45), 3) := dk_167 255 211 (dk_at dksX11_mend_4 21 rfl rfl)
theorem dX11_mend_117 : decode cX11_mend 117 = .ok (.iload_n 3, 1) := dk_29 (dk_at dksX11_mend_5 0 rfl rfl)
theorem dX11_mend_118 : decode cX11_mend 118 = .ok (.ifCond .ne 6, 3) := dk_154 0 6 (dk_at dksX11_mend_5 1 rfl rfl)
theorem dX11_mend_121 : decode cX11_mend 121 = .ok (.goto 17, 3) := dk_167 0 17 (dk_at dksX11_mend_5 4 rfl rfl)
theorem dX11_mend_124 : decode cX11_mend 124 = .ok (.iload_n 2, 1) := dk_28 (dk_at dksX11_mend_5 7 rfl rfl)
theorem dX11_mend_125 : decode cX11_mend 125 = .ok (.istore_n 1, 1) := dk_60 (dk_at dksX11_mend_5 8 rfl rfl)
theorem dX11_mend_126 : decode cX11_mend 126 = .ok (.aload_n 0, 1) := dk_42 (dk_at dksX11_mend_5 9 rfl rfl)
theorem dX11_mend_127 : decode cX11_mend 127 = .ok (.aload_n 0, 1) := dk_42 (dk_at dksX11_mend_5 10 rfl rfl)
theorem dX11_mend_128 : decode cX11_mend 128 = .ok (.getfield 92, 3) := dk_180 0 92 (dk_at dksX11_mend_5 11 rfl rfl)
theorem dX11_mend_131 : decode cX11_mend 131 = .ok (.aload_n 0, 1) := dk_42 (dk_at dksX11_mend_5 14 rfl rfl)
theorem dX11_mend_132 : decode cX11_mend 132 = .ok (.getfield 116, 3) := dk_180 0 116 (dk_at dksX11_mend_5 15 rfl rfl)
theorem dX11_mend_135 : decode cX11_mend 135 = .ok (.invokevirtual 275, 3) := dk_182 1 19 (dk_at dksX11_mend_5 18 rfl rfl)
theorem dX11_mend_138 : decode cX11_mend 138 = .ok (.iinc 2 1, 3) := dk_132 2 1 (dk_at dksX11_mend_5 21 rfl rfl)
theorem dX11_mend_141 : decode cX11_mend 141 = .ok (.goto (-115), 3) := dk_167 255 141 (dk_at dksX11_mend_6 0 rfl rfl)
theorem dX11_mend_144 : decode cX11_mend 144 = .ok (.aload_n 0, 1) := dk_42 (dk_at dksX11_mend_6 3 rfl rfl)
theorem dX11_mend_145 : decode cX11_mend 145 = .ok (.aload_n 0, 1) := dk_42 (dk_at dksX11_mend_6 4 rfl rfl)
theorem dX11_mend_146 : decode cX11_mend 146 = .ok (.getfield 279, 3) := dk_180 1 23 (dk_at dksX11_mend_6 5 rfl rfl)
theorem dX11_mend_149 : decode cX11_mend 149 = .ok (.putfield 113, 3) := dk_181 0 113 (dk_at dksX11_mend_6 8 rfl rfl)
theorem dX11_mend_152 : decode cX11_mend 152 = .ok (.iload_n 1, 1) := dk_27 (dk_at dksX11_mend_6 11 rfl rfl)
theorem dX11_mend_153 : decode cX11_mend 153 = .ok (.invokestatic 295, 3) := dk_184 1 39 (dk_at dksX11_mend_6 12 rfl rfl)
theorem dX11_mend_156 : decode cX11_mend 156 = .ok (.ireturn, 1) := dk_172 (dk_at dksX11_mend_6 15 rfl rfl)
abbrev cX11_mended : ByteArray := prog_19_method_73_code
def yX11_mended : MethodName := ⟨RX11, "mended", "(I)I"⟩
def dkwX11_mended_1 : List UInt8 := [182, 0, 250, 153, 0, 12, 42, 180, 0, 116, 27, 46, 167, 0, 4, 3, 172]
abbrev dktX11_mended_1 : List UInt8 := dkwX11_mended_1 ++ []
def dkwX11_mended_0 : List UInt8 := [42, 3, 181, 0, 122, 42, 27, 155, 0, 15, 27, 42, 180, 0, 113, 162, 0, 7, 4, 167, 0, 4, 3, 4]
abbrev dktX11_mended_0 : List UInt8 := dkwX11_mended_0 ++ dktX11_mended_1
theorem dksX11_mended_0 : cX11_mended.data.toList.drop 0 = dktX11_mended_0 := by decide +kernel
theorem dksX11_mended_1 : cX11_mended.data.toList.drop 24 = dktX11_mended_1 := dk_seg dksX11_mended_0 24 rfl rfl
theorem dX11_mended_0 : decode cX11_mended 0 = .ok (.aload_n 0, 1) := dk_42 (dk_at dksX11_mended_0 0 rfl rfl)
theorem dX11_mended_1 : decode cX11_mended 1 = .ok (.iconst 0, 1) := dk_3 (dk_at dksX11_mended_0 1 rfl rfl)
theorem dX11_mended_2 : decode cX11_mended 2 = .ok (.putfield 122, 3) := dk_181 0 122 (dk_at dksX11_mended_0 2 rfl rfl)
theorem dX11_mended_5 : decode cX11_mended 5 = .ok (.aload_n 0, 1) := dk_42 (dk_at dksX11_mended_0 5 rfl rfl)
theorem dX11_mended_6 : decode cX11_mended 6 = .ok (.iload_n 1, 1) := dk_27 (dk_at dksX11_mended_0 6 rfl rfl)
theorem dX11_mended_7 : decode cX11_mended 7 = .ok (.ifCond .lt 15, 3) := dk_155 0 15 (dk_at dksX11_mended_0 7 rfl rfl)
theorem dX11_mended_10 : decode cX11_mended 10 = .ok (.iload_n 1, 1) := dk_27 (dk_at dksX11_mended_0 10 rfl rfl)
theorem dX11_mended_11 : decode cX11_mended 11 = .ok (.aload_n 0, 1) := dk_42 (dk_at dksX11_mended_0 11 rfl rfl)
theorem dX11_mended_12 : decode cX11_mended 12 = .ok (.getfield 113, 3) := dk_180 0 113 (dk_at dksX11_mended_0 12 rfl rfl)
theorem dX11_mended_15 : decode cX11_mended 15 = .ok (.if_icmp .ge 7, 3) := dk_162 0 7 (dk_at dksX11_mended_0 15 rfl rfl)
theorem dX11_mended_18 : decode cX11_mended 18 = .ok (.iconst 1, 1) := dk_4 (dk_at dksX11_mended_0 18 rfl rfl)
theorem dX11_mended_19 : decode cX11_mended 19 = .ok (.goto 4, 3) := dk_167 0 4 (dk_at dksX11_mended_0 19 rfl rfl)
theorem dX11_mended_22 : decode cX11_mended 22 = .ok (.iconst 0, 1) := dk_3 (dk_at dksX11_mended_0 22 rfl rfl)
theorem dX11_mended_23 : decode cX11_mended 23 = .ok (.iconst 1, 1) := dk_4 (dk_at dksX11_mended_0 23 rfl rfl)
theorem dX11_mended_24 : decode cX11_mended 24 = .ok (.invokevirtual 250, 3) := dk_182 0 250 (dk_at dksX11_mended_1 0 rfl rfl)
theorem dX11_mended_27 : decode cX11_mended 27 = .ok (.ifCond .eq 12, 3) := dk_153 0 12 (dk_at dksX11_mended_1 3 rfl rfl)
theorem dX11_mended_30 : decode cX11_mended 30 = .ok (.aload_n 0, 1) := dk_42 (dk_at dksX11_mended_1 6 rfl rfl)
theorem dX11_mended_31 : decode cX11_mended 31 = .ok (.getfield 116, 3) := dk_180 0 116 (dk_at dksX11_mended_1 7 rfl rfl)
theorem dX11_mended_34 : decode cX11_mended 34 = .ok (.iload_n 1, 1) := dk_27 (dk_at dksX11_mended_1 10 rfl rfl)
theorem dX11_mended_35 : decode cX11_mended 35 = .ok (.iaload, 1) := dk_46 (dk_at dksX11_mended_1 11 rfl rfl)
theorem dX11_mended_36 : decode cX11_mended 36 = .ok (.goto 4, 3) := dk_167 0 4 (dk_at dksX11_mended_1 12 rfl rfl)
theorem dX11_mended_39 : decode cX11_mended 39 = .ok (.iconst 0, 1) := dk_3 (dk_at dksX11_mended_1 15 rfl rfl)
theorem dX11_mended_40 : decode cX11_mended 40 = .ok (.ireturn, 1) := dk_172 (dk_at dksX11_mended_1 16 rfl rfl)
abbrev cX11_silence : ByteArray := prog_19_method_74_code
def yX11_silence : MethodName := ⟨RX11, "silence", "(II)I"⟩
def dkwX11_silence_6 : List UInt8 := [17, 3, 232, 161, 0, 6, 21, 4, 62, 132, 4, 1, 167, 255, 138, 29, 172]
abbrev dktX11_silence_6 : List UInt8 := dkwX11_silence_6 ++ []
def dkwX11_silence_5 : List UInt8 := [54, 5, 132, 6, 1, 167, 255, 216, 42, 21, 5, 3, 182, 1, 142, 42, 27, 16, 23, 28, 3, 182, 1, 106]
abbrev dktX11_silence_5 : List UInt8 := dkwX11_silence_5 ++ dktX11_silence_6
def dkwX11_silence_4 : List UInt8 := [21, 4, 42, 21, 6, 3, 182, 1, 90, 122, 4, 126, 154, 0, 10, 4, 21, 6, 120, 167, 0, 4, 3, 128]
abbrev dktX11_silence_4 : List UInt8 := dkwX11_silence_4 ++ dktX11_silence_5
def dkwX11_silence_3 : List UInt8 := [161, 0, 6, 167, 0, 77, 3, 54, 5, 3, 54, 6, 21, 6, 42, 180, 1, 23, 162, 0, 37, 21, 5]
abbrev dktX11_silence_3 : List UInt8 := dkwX11_silence_3 ++ dktX11_silence_4
def dkwX11_silence_2 : List UInt8 := [21, 4, 27, 122, 4, 126, 4, 159, 0, 97, 29, 2, 159, 0, 18, 21, 4, 184, 1, 39, 29, 184, 1, 39]
abbrev dktX11_silence_2 : List UInt8 := dkwX11_silence_2 ++ dktX11_silence_3
def dkwX11_silence_1 : List UInt8 := [42, 27, 16, 23, 182, 1, 135, 2, 62, 3, 54, 4, 21, 4, 4, 42, 180, 1, 10, 120, 162, 0, 113]
abbrev dktX11_silence_1 : List UInt8 := dkwX11_silence_1 ++ dktX11_silence_2
def dkwX11_silence_0 : List UInt8 := [42, 3, 181, 0, 122, 42, 27, 3, 182, 1, 42, 153, 0, 11, 42, 28, 182, 1, 46, 154, 0, 5, 3, 172]
abbrev dktX11_silence_0 : List UInt8 := dkwX11_silence_0 ++ dktX11_silence_1
theorem dksX11_silence_0 : cX11_silence.data.toList.drop 0 = dktX11_silence_0 := by decide +kernel
theorem dksX11_silence_1 : cX11_silence.data.toList.drop 24 = dktX11_silence_1 := dk_seg dksX11_silence_0 24 rfl rfl
theorem dksX11_silence_2 : cX11_silence.data.toList.drop 47 = dktX11_silence_2 := dk_seg dksX11_silence_1 23 rfl rfl
theorem dksX11_silence_3 : cX11_silence.data.toList.drop 71 = dktX11_silence_3 := dk_seg dksX11_silence_2 24 rfl rfl
theorem dksX11_silence_4 : cX11_silence.data.toList.drop 94 = dktX11_silence_4 := dk_seg dksX11_silence_3 23 rfl rfl
theorem dksX11_silence_5 : cX11_silence.data.toList.drop 118 = dktX11_silence_5 := dk_seg dksX11_silence_4 24 rfl rfl
theorem dksX11_silence_6 : cX11_silence.data.toList.drop 142 = dktX11_silence_6 := dk_seg dksX11_silence_5 24 rfl rfl
theorem dX11_silence_0 : decode cX11_silence 0 = .ok (.aload_n 0, 1) := dk_42 (dk_at dksX11_silence_0 0 rfl rfl)
theorem dX11_silence_1 : decode cX11_silence 1 = .ok (.iconst 0, 1) := dk_3 (dk_at dksX11_silence_0 1 rfl rfl)
theorem dX11_silence_2 : decode cX11_silence 2 = .ok (.putfield 122, 3) := dk_181 0 122 (dk_at dksX11_silence_0 2 rfl rfl)
theorem dX11_silence_5 : decode cX11_silence 5 = .ok (.aload_n 0, 1) := dk_42 (dk_at dksX11_silence_0 5 rfl rfl)
theorem dX11_silence_6 : decode cX11_silence 6 = .ok (.iload_n 1, 1) := dk_27 (dk_at dksX11_silence_0 6 rfl rfl)
theorem dX11_silence_7 : decode cX11_silence 7 = .ok (.iconst 0, 1) := dk_3 (dk_at dksX11_silence_0 7 rfl rfl)
theorem dX11_silence_8 : decode cX11_silence 8 = .ok (.invokevirtual 298, 3) := dk_182 1 42 (dk_at dksX11_silence_0 8 rfl rfl)
theorem dX11_silence_11 : decode cX11_silence 11 = .ok (.ifCond .eq 11, 3) := dk_153 0 11 (dk_at dksX11_silence_0 11 rfl rfl)
theorem dX11_silence_14 : decode cX11_silence 14 = .ok (.aload_n 0, 1) := dk_42 (dk_at dksX11_silence_0 14 rfl rfl)
theorem dX11_silence_15 : decode cX11_silence 15 = .ok (.iload_n 2, 1) := dk_28 (dk_at dksX11_silence_0 15 rfl rfl)
theorem dX11_silence_16 : decode cX11_silence 16 = .ok (.invokevirtual 302, 3) := dk_182 1 46 (dk_at dksX11_silence_0 16 rfl rfl)
theorem dX11_silence_19 : decode cX11_silence 19 = .ok (.ifCond .ne 5, 3) := dk_154 0 5 (dk_at dksX11_silence_0 19 rfl rfl)
theorem dX11_silence_22 : decode cX11_silence 22 = .ok (.iconst 0, 1) := dk_3 (dk_at dksX11_silence_0 22 rfl rfl)
theorem dX11_silence_23 : decode cX11_silence 23 = .ok (.ireturn, 1) := dk_172 (dk_at dksX11_silence_0 23 rfl rfl)
theorem dX11_silence_24 : decode cX11_silence 24 = .ok (.aload_n 0, 1) := dk_42 (dk_at dksX11_silence_1 0 rfl rfl)
theorem dX11_silence_25 : decode cX11_silence 25 = .ok (.iload_n 1, 1) := dk_27 (dk_at dksX11_silence_1 1 rfl rfl)
theorem dX11_silence_26 : decode cX11_silence 26 = .ok (.bipush 23, 2) := dk_16 23 (dk_at dksX11_silence_1 2 rfl rfl)
theorem dX11_silence_28 : decode cX11_silence 28 = .ok (.invokevirtual 391, 3) := dk_182 1 135 (dk_at dksX11_silence_1 4 rfl rfl)
theorem dX11_silence_31 : decode cX11_silence 31 = .ok (.iconst (-1), 1) := dk_2 (dk_at dksX11_silence_1 7 rfl rfl)
theorem dX11_silence_32 : decode cX11_silence 32 = .ok (.istore_n 3, 1) := dk_62 (dk_at dksX11_silence_1 8 rfl rfl)
theorem dX11_silence_33 : decode cX11_silence 33 = .ok (.iconst 0, 1) := dk_3 (dk_at dksX11_silence_1 9 rfl rfl)
theorem dX11_silence_34 : decode cX11_silence 34 = .ok (.istore 4, 2) := dk_54 4 (dk_at dksX11_silence_1 10 rfl rfl)
theorem dX11_silence_36 : decode cX11_silence 36 = .ok (.iload 4, 2) := dk_21 4 (dk_at dksX11_silence_1 12 rfl rfl)
theorem dX11_silence_38 : decode cX11_silence 38 = .ok (.iconst 1, 1) := dk_4 (dk_at dksX11_silence_1 14 rfl rfl)
theorem dX11_silence_39 : decode cX11_silence 39 = .ok (.aload_n 0, 1) := dk_42 (dk_at dksX11_silence_1 15 rfl rfl)
theorem dX11_silence_40 : decode cX11_silence 40 = .ok (.getfield 266, 3) := dk_180 1 10 (dk_at dksX11_silence_1 16 rfl rfl)
theorem dX11_silence_43 : decode cX11_silence 43 = .ok (.ishl, 1) := dk_120 (dk_at dksX11_silence_1 19 rfl rfl)
theorem dX11_silence_44 : decode cX11_silence 44 = .ok (.if_icmp .ge 113, 3) := dk_162 0 113 (dk_at dksX11_silence_1 20 rfl rfl)
theorem dX11_silence_47 : decode cX11_silence 47 = .ok (.iload 4, 2) := dk_21 4 (dk_at dksX11_silence_2 0 rfl rfl)
theorem dX11_silence_49 : decode cX11_silence 49 = .ok (.iload_n 1, 1) := dk_27 (dk_at dksX11_silence_2 2 rfl rfl)
theorem dX11_silence_50 : decode cX11_silence 50 = .ok (.ishr, 1) := dk_122 (dk_at dksX11_silence_2 3 rfl rfl)
theorem dX11_silence_51 : decode cX11_silence 51 = .ok (.iconst 1, 1) := dk_4 (dk_at dksX11_silence_2 4 rfl rfl)
theorem dX11_silence_52 : decode cX11_silence 52 = .ok (.iand, 1) := dk_126 (dk_at dksX11_silence_2 5 rfl rfl)
theorem dX11_silence_53 : decode cX11_silence 53 = .ok (.iconst 1, 1) := dk_4 (dk_at dksX11_silence_2 6 rfl rfl)
theorem dX11_silence_54 : decode cX11_silence 54 = .ok (.if_icmp .eq 97, 3) := dk_159 0 97 (dk_at dksX11_silence_2 7 rfl rfl)
theorem dX11_silence_57 : decode cX11_silence 57 = .ok (.iload_n 3, 1) := dk_29 (dk_at dksX11_silence_2 10 rfl rfl)
theorem dX11_silence_58 : decode cX11_silence 58 = .ok (.iconst (-1), 1) := dk_2 (dk_at dksX11_silence_2 11 rfl rfl)
theorem dX11_silence_59 : decode cX11_silence 59 = .ok (.if_icmp .eq 18, 3) := dk_159 0 18 (dk_at dksX11_silence_2 12 rfl rfl)
theorem dX11_silence_62 : decode cX11_silence 62 = .ok (.iload 4, 2) := dk_21 4 (dk_at dksX11_silence_2 15 rfl rfl)
theorem dX11_silence_64 : decode cX11_silence 64 = .ok (.invokestatic 295, 3) := dk_184 1 39 (dk_at dksX11_silence_2 17 rfl rfl)
theorem dX11_silence_67 : decode cX11_silence 67 = .ok (.iload_n 3, 1) := dk_29 (dk_at dksX11_silence_2 20 rfl rfl)
theorem dX11_silence_68 : decode cX11_silence 68 = .ok (.invokestatic 295, 3) := dk_184 1 39 (dk_at dksX11_silence_2 21 rfl rfl)
theorem dX11_silence_71 : decode cX11_silence 71 = .ok (.if_icmp .lt 6, 3) := dk_161 0 6 (dk_at dksX11_silence_3 0 rfl rfl)
theorem dX11_silence_74 : decode cX11_silence 74 = .ok (.goto 77, 3) := dk_167 0 77 (dk_at dksX11_silence_3 3 rfl rfl)
theorem dX11_silence_77 : decode cX11_silence 77 = .ok (.iconst 0, 1) := dk_3 (dk_at dksX11_silence_3 6 rfl rfl)
theorem dX11_silence_78 : decode cX11_silence 78 = .ok (.istore 5, 2) := dk_54 5 (dk_at dksX11_silence_3 7 rfl rfl)
theorem dX11_silence_80 : decode cX11_silence 80 = .ok (.iconst 0, 1) := dk_3 (dk_at dksX11_silence_3 9 rfl rfl)
theorem dX11_silence_81 : decode cX11_silence 81 = .ok (.istore 6, 2) := dk_54 6 (dk_at dksX11_silence_3 10 rfl rfl)
theorem dX11_silence_83 : decode cX11_silence 83 = .ok (.iload 6, 2) := dk_21 6 (dk_at dksX11_silence_3 12 rfl rfl)
theorem dX11_silence_85 : decode cX11_silence 85 = .ok (.aload_n 0, 1) := dk_42 (dk_at dksX11_silence_3 14 rfl rfl)
theorem dX11_silence_86 : decode cX11_silence 86 = .ok (.getfield 279, 3) := dk_180 1 23 (dk_at dksX11_silence_3 15 rfl rfl)
theorem dX11_silence_89 : decode cX11_silence 89 = .ok (.if_icmp .ge 37, 3) := dk_162 0 37 (dk_at dksX11_silence_3 18 rfl rfl)
theorem dX11_silence_92 : decode cX11_silence 92 = .ok (.iload 5, 2) := dk_21 5 (dk_at dksX11_silence_3 21 rfl rfl)
theorem dX11_silence_94 : decode cX11_silence 94 = .ok (.iload 4, 2) := dk_21 4 (dk_at dksX11_silence_4 0 rfl rfl)
theorem dX11_silence_96 : decode cX11_silence 96 = .ok (.aload_n 0, 1) := dk_42 (dk_at dksX11_silence_4 2 rfl rfl)
theorem dX11_silence_97 : decode cX11_silence 97 = .ok (.iload 6, 2) := dk_21 6 (dk_at dksX11_silence_4 3 rfl rfl)
theorem dX11_silence_99 : decode cX11_silence 99 = .ok (.iconst 0, 1) := dk_3 (dk_at dksX11_silence_4 5 rfl rfl)
theorem dX11_silence_100 : decode cX11_silence 100 = .ok (.invokevirtual 346, 3) := dk_182 1 90 (dk_at dksX11_silence_4 6 rfl rfl)
theorem dX11_silence_103 : decode cX11_silence 103 = .ok (.ishr, 1) := dk_122 (dk_at dksX11_silence_4 9 rfl rfl)
theorem dX11_silence_104 : decode cX11_silence 104 = .ok (.iconst 1, 1) := dk_4 (dk_at dksX11_silence_4 10 rfl rfl)
theorem dX11_silence_105 : decode cX11_silence 105 = .ok (.iand, 1) := dk_126 (dk_at dksX11_silence_4 11 rfl rfl)
theorem dX11_silence_106 : decode cX11_silence 106 = .ok (.ifCond .ne 10, 3) := dk_154 0 10 (dk_at dksX11_silence_4 12 rfl rfl)
theorem dX11_silence_109 : decode cX11_silence 109 = .ok (.iconst 1, 1) := dk_4 (dk_at dksX11_silence_4 15 rfl rfl)
theorem dX11_silence_110 : decode cX11_silence 110 = .ok (.iload 6, 2) := dk_21 6 (dk_at dksX11_silence_4 16 rfl rfl)
theorem dX11_silence_112 : decode cX11_silence 112 = .ok (.ishl, 1) := dk_120 (dk_at dksX11_silence_4 18 rfl rfl)
theorem dX11_silence_113 : decode cX11_silence 113 = .ok (.goto 4, 3) := dk_167 0 4 (dk_at dksX11_silence_4 19 rfl rfl)
theorem dX11_silence_116 : decode cX11_silence 116 = .ok (.iconst 0, 1) := dk_3 (dk_at dksX11_silence_4 22 rfl rfl)
theorem dX11_silence_117 : decode cX11_silence 117 = .ok (.ior, 1) := dk_128 (dk_at dksX11_silence_4 23 rfl rfl)
theorem dX11_silence_118 : decode cX11_silence 118 = .ok (.istore 5, 2) := dk_54 5 (dk_at dksX11_silence_5 0 rfl rfl)
theorem dX11_silence_120 : decode cX11_silence 120 = .ok (.iinc 6 1, 3) := dk_132 6 1 (dk_at dksX11_silence_5 2 rfl rfl)
theorem dX11_silence_123 : decode cX11_silence 123 = .ok (.goto (-40), 3) := dk_167 255 216 (dk_at dksX11_silence_5 5 rfl rfl)
theorem dX11_silence_126 : decode cX11_silence 126 = .ok (.aload_n 0, 1) := dk_42 (dk_at dksX11_silence_5 8 rfl rfl)
theorem dX11_silence_127 : decode cX11_silence 127 = .ok (.iload 5, 2) := dk_21 5 (dk_at dksX11_silence_5 9 rfl rfl)
theorem dX11_silence_129 : decode cX11_silence 129 = .ok (.iconst 0, 1) := dk_3 (dk_at dksX11_silence_5 11 rfl rfl)
theorem dX11_silence_130 : decode cX11_silence 130 = .ok (.invokevirtual 398, 3) := dk_182 1 142 (dk_at dksX11_silence_5 12 rfl rfl)
theorem dX11_silence_133 : decode cX11_silence 133 = .ok (.aload_n 0, 1) := dk_42 (dk_at dksX11_silence_5 15 rfl rfl)
theorem dX11_silence_134 : decode cX11_silence 134 = .ok (.iload_n 1, 1) := dk_27 (dk_at dksX11_silence_5 16 rfl rfl)
theorem dX11_silence_135 : decode cX11_silence 135 = .ok (.bipush 23, 2) := dk_16 23 (dk_at dksX11_silence_5 17 rfl rfl)
theorem dX11_silence_137 : decode cX11_silence 137 = .ok (.iload_n 2, 1) := dk_28 (dk_at dksX11_silence_5 19 rfl rfl)
theorem dX11_silence_138 : decode cX11_silence 138 = .ok (.iconst 0, 1) := dk_3 (dk_at dksX11_silence_5 20 rfl rfl)
theorem dX11_silence_139 : decode cX11_silence 139 = .ok (.invokevirtual 362, 3) := dk_182 1 106 (dk_at dksX11_silence_5 21 rfl rfl)
theorem dX11_silence_142 : decode cX11_silence 142 = .ok (.sipush 1000, 3) := dk_17 3 232 (dk_at dksX11_silence_6 0 rfl rfl)
theorem dX11_silence_145 : decode cX11_silence 145 = .ok (.if_icmp .lt 6, 3) := dk_161 0 6 (dk_at dksX11_silence_6 3 rfl rfl)
theorem dX11_silence_148 : decode cX11_silence 148 = .ok (.iload 4, 2) := dk_21 4 (dk_at dksX11_silence_6 6 rfl rfl)
theorem dX11_silence_150 : decode cX11_silence 150 = .ok (.istore_n 3, 1) := dk_62 (dk_at dksX11_silence_6 8 rfl rfl)
theorem dX11_silence_151 : decode cX11_silence 151 = .ok (.iinc 4 1, 3) := dk_132 4 1 (dk_at dksX11_silence_6 9 rfl rfl)
theorem dX11_silence_154 : decode cX11_silence 154 = .ok (.goto (-118), 3) := dk_167 255 138 (dk_at dksX11_silence_6 12 rfl rfl)
theorem dX11_silence_157 : decode cX11_silence 157 = .ok (.iload_n 3, 1) := dk_29 (dk_at dksX11_silence_6 15 rfl rfl)
theorem dX11_silence_158 : decode cX11_silence 158 = .ok (.ireturn, 1) := dk_172 (dk_at dksX11_silence_6 16 rfl rfl)
abbrev cX11_likely : ByteArray := prog_19_method_75_code
def yX11_likely : MethodName := ⟨RX11, "likely", "(II)I"⟩
def dkwX11_likely_9 : List UInt8 := [160, 0, 12, 20, 1, 153, 22, 7, 101, 167, 0, 5, 22, 7, 66, 132, 5, 1, 167, 255, 62, 33, 136, 172]
abbrev dktX11_likely_9 : List UInt8 := dkwX11_likely_9 ++ []
def dkwX11_likely_8 : List UInt8 := [167, 0, 37, 22, 9, 20, 1, 153, 105, 22, 11, 109, 55, 7, 42, 21, 5, 7, 182, 1, 90, 4]
abbrev dktX11_likely_8 : List UInt8 := dkwX11_likely_8 ++ dktX11_likely_9
def dkwX11_likely_7 : List UInt8 := [21, 5, 6, 182, 1, 90, 104, 4, 96, 46, 133, 105, 97, 55, 11, 22, 11, 9, 148, 154, 0, 6]
abbrev dktX11_likely_7 : List UInt8 := dkwX11_likely_7 ++ dktX11_likely_8
def dkwX11_likely_6 : List UInt8 := [6, 182, 1, 90, 104, 46, 133, 105, 55, 9, 22, 9, 20, 1, 153, 22, 7, 101, 42, 180, 0, 38, 5, 42]
abbrev dktX11_likely_6 : List UInt8 := dkwX11_likely_6 ++ dktX11_likely_7
def dkwX11_likely_5 : List UInt8 := [160, 0, 11, 20, 1, 153, 33, 101, 167, 0, 4, 33, 55, 7, 22, 7, 42, 180, 0, 38, 5, 42, 21, 5]
abbrev dktX11_likely_5 : List UInt8 := dkwX11_likely_5 ++ dktX11_likely_6
def dkwX11_likely_4 : List UInt8 := [182, 1, 90, 104, 21, 6, 96, 46, 159, 0, 6, 167, 0, 118, 42, 21, 5, 7, 182, 1, 90, 4]
abbrev dktX11_likely_4 : List UInt8 := dkwX11_likely_4 ++ dktX11_likely_5
def dkwX11_likely_3 : List UInt8 := [42, 180, 0, 35, 16, 24, 27, 104, 21, 6, 96, 46, 42, 180, 0, 35, 16, 24, 42, 21, 5, 3]
abbrev dktX11_likely_3 : List UInt8 := dkwX11_likely_3 ++ dktX11_likely_4
def dkwX11_likely_2 : List UInt8 := [54, 6, 42, 21, 5, 5, 182, 1, 90, 28, 160, 0, 165, 42, 21, 5, 3, 182, 1, 90, 27, 159, 0, 154]
abbrev dktX11_likely_2 : List UInt8 := dkwX11_likely_2 ++ dktX11_likely_3
def dkwX11_likely_1 : List UInt8 := [20, 1, 151, 66, 3, 54, 5, 21, 5, 42, 180, 1, 23, 162, 0, 191, 42, 21, 5, 4, 182, 1, 90]
abbrev dktX11_likely_1 : List UInt8 := dkwX11_likely_1 ++ dktX11_likely_2
def dkwX11_likely_0 : List UInt8 := [42, 3, 181, 0, 122, 42, 27, 3, 182, 1, 42, 153, 0, 11, 42, 28, 182, 1, 46, 154, 0, 5, 3, 172]
abbrev dktX11_likely_0 : List UInt8 := dkwX11_likely_0 ++ dktX11_likely_1
theorem dksX11_likely_0 : cX11_likely.data.toList.drop 0 = dktX11_likely_0 := by decide +kernel
theorem dksX11_likely_1 : cX11_likely.data.toList.drop 24 = dktX11_likely_1 := dk_seg dksX11_likely_0 24 rfl rfl
theorem dksX11_likely_2 : cX11_likely.data.toList.drop 47 = dktX11_likely_2 := dk_seg dksX11_likely_1 23 rfl rfl
theorem dksX11_likely_3 : cX11_likely.data.toList.drop 71 = dktX11_likely_3 := dk_seg dksX11_likely_2 24 rfl rfl
theorem dksX11_likely_4 : cX11_likely.data.toList.drop 93 = dktX11_likely_4 := dk_seg dksX11_likely_3 22 rfl rfl
theorem dksX11_likely_5 : cX11_likely.data.toList.drop 115 = dktX11_likely_5 := dk_seg dksX11_likely_4 22 rfl rfl
theorem dksX11_likely_6 : cX11_likely.data.toList.drop 139 = dktX11_likely_6 := dk_seg dksX11_likely_5 24 rfl rfl
theorem dksX11_likely_7 : cX11_likely.data.toList.drop 163 = dktX11_likely_7 := dk_seg dksX11_likely_6 24 rfl rfl
theorem dksX11_likely_8 : cX11_likely.data.toList.drop 185 = dktX11_likely_8 := dk_seg dksX11_likely_7 22 rfl rfl
theorem dksX11_likely_9 : cX11_likely.data.toList.drop 207 = dktX11_likely_9 := dk_seg dksX11_likely_8 22 rfl rfl
theorem dX11_likely_0 : decode cX11_likely 0 = .ok (.aload_n 0, 1) := dk_42 (dk_at dksX11_likely_0 0 rfl rfl)
theorem dX11_likely_1 : decode cX11_likely 1 = .ok (.iconst 0, 1) := dk_3 (dk_at dksX11_likely_0 1 rfl rfl)
theorem dX11_likely_2 : decode cX11_likely 2 = .ok (.putfield 122, 3) := dk_181 0 122 (dk_at dksX11_likely_0 2 rfl rfl)
theorem dX11_likely_5 : decode cX11_likely 5 = .ok (.aload_n 0, 1) := dk_42 (dk_at dksX11_likely_0 5 rfl rfl)
theorem dX11_likely_6 : decode cX11_likely 6 = .ok (.iload_n 1, 1) := dk_27 (dk_at dksX11_likely_0 6 rfl rfl)
theorem dX11_likely_7 : decode cX11_likely 7 = .ok (.iconst 0, 1) := dk_3 (dk_at dksX11_likely_0 7 rfl rfl)
theorem dX11_likely_8 : decode cX11_likely 8 = .ok (.invokevirtual 298, 3) := dk_182 1 42 (dk_at dksX11_likely_0 8 rfl rfl)
theorem dX11_likely_11 : decode cX11_likely 11 = .ok (.ifCond .eq 11, 3) := dk_153 0 11 (dk_at dksX11_likely_0 11 rfl rfl)
theorem dX11_likely_14 : decode cX11_likely 14 = .ok (.aload_n 0, 1) := dk_42 (dk_at dksX11_likely_0 14 rfl rfl)
theorem dX11_likely_15 : decode cX11_likely 15 = .ok (.iload_n 2, 1) := dk_28 (dk_at dksX11_likely_0 15 rfl rfl)
theorem dX11_likely_16 : decode cX11_likely 16 = .ok (.invokevirtual 302, 3) := dk_182 1 46 (dk_at dksX11_likely_0 16 rfl rfl)
theorem dX11_likely_19 : decode cX11_likely 19 = .ok (.ifCond .ne 5, 3) := dk_154 0 5 (dk_at dksX11_likely_0 19 rfl rfl)
theorem dX11_likely_22 : decode cX11_likely 22 = .ok (.iconst 0, 1) := dk_3 (dk_at dksX11_likely_0 22 rfl rfl)
theorem dX11_likely_23 : decode cX11_likely 23 = .ok (.ireturn, 1) := dk_172 (dk_at dksX11_likely_0 23 rfl rfl)
theorem dX11_likely_24 : decode cX11_likely 24 = .ok (.ldc2_w 407, 3) := dk_20 1 151 (dk_at dksX11_likely_1 0 rfl rfl)
theorem dX11_likely_27 : decode cX11_likely 27 = .ok (.lstore_n 3, 1) := dk_66 (dk_at dksX11_likely_1 3 rfl rfl)
theorem dX11_likely_28 : decode cX11_likely 28 = .ok (.iconst 0, 1) := dk_3 (dk_at dksX11_likely_1 4 rfl rfl)
theorem dX11_likely_29 : decode cX11_likely 29 = .ok (.istore 5, 2) := dk_54 5 (dk_at dksX11_likely_1 5 rfl rfl)
theorem dX11_likely_31 : decode cX11_likely 31 = .ok (.iload 5, 2) := dk_21 5 (dk_at dksX11_likely_1 7 rfl rfl)
theorem dX11_likely_33 : decode cX11_likely 33 = .ok (.aload_n 0, 1) := dk_42 (dk_at dksX11_likely_1 9 rfl rfl)
theorem dX11_likely_34 : decode cX11_likely 34 = .ok (.getfield 279, 3) := dk_180 1 23 (dk_at dksX11_likely_1 10 rfl rfl)
theorem dX11_likely_37 : decode cX11_likely 37 = .ok (.if_icmp .ge 191, 3) := dk_162 0 191 (dk_at dksX11_likely_1 13 rfl rfl)
theorem dX11_likely_40 : decode cX11_likely 40 = .ok (.aload_n 0, 1) := dk_42 (dk_at dksX11_likely_1 16 rfl rfl)
theorem dX11_likely_41 : decode cX11_likely 41 = .ok (.iload 5, 2) := dk_21 5 (dk_at dksX11_likely_1 17 rfl rfl)
theorem dX11_likely_43 : decode cX11_likely 43 = .ok (.iconst 1, 1) := dk_4 (dk_at dksX11_likely_1 19 rfl rfl)
theorem dX11_likely_44 : decode cX11_likely 44 = .ok (.invokevirtual 346, 3) := dk_182 1 90 (dk_at dksX11_likely_1 20 rfl rfl)
theorem dX11_likely_47 : decode cX11_likely 47 = .ok (.istore 6, 2) := dk_54 6 (dk_at dksX11_likely_2 0 rfl rfl)
theorem dX11_likely_49 : decode cX11_likely 49 = .ok (.aload_n 0, 1) := dk_42 (dk_at dksX11_likely_2 2 rfl rfl)
theorem dX11_likely_50 : decode cX11_likely 50 = .ok (.iload 5, 2) := dk_21 5 (dk_at dksX11_likely_2 3 rfl rfl)
theorem dX11_likely_52 : decode cX11_likely 52 = .ok (.iconst 2, 1) := dk_5 (dk_at dksX11_likely_2 5 rfl rfl)
theorem dX11_likely_53 : decode cX11_likely 53 = .ok (.invokevirtual 346, 3) := dk_182 1 90 (dk_at dksX11_likely_2 6 rfl rfl)
theorem dX11_likely_56 : decode cX11_likely 56 = .ok (.iload_n 2, 1) := dk_28 (dk_at dksX11_likely_2 9 rfl rfl)
theorem dX11_likely_57 : decode cX11_likely 57 = .ok (.if_icmp .ne 165, 3) := dk_160 0 165 (dk_at dksX11_likely_2 10 rfl rfl)
theorem dX11_likely_60 : decode cX11_likely 60 = .ok (.aload_n 0, 1) := dk_42 (dk_at dksX11_likely_2 13 rfl rfl)
theorem dX11_likely_61 : decode cX11_likely 61 = .ok (.iload 5, 2) := dk_21 5 (dk_at dksX11_likely_2 14 rfl rfl)
theorem dX11_likely_63 : decode cX11_likely 63 = .ok (.iconst 0, 1) := dk_3 (dk_at dksX11_likely_2 16 rfl rfl)
theorem dX11_likely_64 : decode cX11_likely 64 = .ok (.invokevirtual 346, 3) := dk_182 1 90 (dk_at dksX11_likely_2 17 rfl rfl)
theorem dX11_likely_67 : decode cX11_likely 67 = .ok (.iload_n 1, 1) := dk_27 (dk_at dksX11_likely_2 20 rfl rfl)
theorem dX11_likely_68 : decode cX11_likely 68 = .ok (.if_icmp .eq 154, 3) := dk_159 0 154 (dk_at dksX11_likely_2 21 rfl rfl)
theorem dX11_likely_71 : decode cX11_likely 71 = .ok (.aload_n 0, 1) := dk_42 (dk_at dksX11_likely_3 0 rfl rfl)
theorem dX11_likely_72 : decode cX11_likely 72 = .ok (.getfield 35, 3) := dk_180 0 35 (dk_at dksX11_likely_3 1 rfl rfl)
theorem dX11_likely_75 : decode cX11_likely 75 = .ok (.bipush 24, 2) := dk_16 24 (dk_at dksX11_likely_3 4 rfl rfl)
theorem dX11_likely_77 : decode cX11_likely 77 = .ok (.iload_n 1, 1) := dk_27 (dk_at dksX11_likely_3 6 rfl rfl)
theorem dX11_likely_78 : decode cX11_likely 78 = .ok (.imul, 1) := dk_104 (dk_at dksX11_likely_3 7 rfl rfl)
theorem dX11_likely_79 : decode cX11_likely 79 = .ok (.iload 6, 2) := dk_21 6 (dk_at dksX11_likely_3 8 rfl rfl)
theorem dX11_likely_81 : decode cX11_likely 81 = .ok (.iadd, 1) := dk_96 (dk_at dksX11_likely_3 10 rfl rfl)
theorem dX11_likely_82 : decode cX11_likely 82 = .ok (.iaload, 1) := dk_46 (dk_at dksX11_likely_3 11 rfl rfl)
theorem dX11_likely_83 : decode cX11_likely 83 = .ok (.aload_n 0, 1) := dk_42 (dk_at dksX11_likely_3 12 rfl rfl)
theorem dX11_likely_84 : decode cX11_likely 84 = .ok (.getfield 35, 3) := dk_180 0 35 (dk_at dksX11_likely_3 13 rfl rfl)
theorem dX11_likely_87 : decode cX11_likely 87 = .ok (.bipush 24, 2) := dk_16 24 (dk_at dksX11_likely_3 16 rfl rfl)
theorem dX11_likely_89 : decode cX11_likely 89 = .ok (.aload_n 0, 1) := dk_42 (dk_at dksX11_likely_3 18 rfl rfl)
theorem dX11_likely_90 : decode cX11_likely 90 = .ok (.iload 5, 2) := dk_21 5 (dk_at dksX11_likely_3 19 rfl rfl)
theorem dX11_likely_92 : decode cX11_likely 92 = .ok (.iconst 0, 1) := dk_3 (dk_at dksX11_likely_3 21 rfl rfl)
theorem dX11_likely_93 : decode cX11_likely 93 = .ok (.invokevirtual 346, 3) := dk_182 1 90 (dk_at dksX11_likely_4 0 rfl rfl)
theorem dX11_likely_96 : decode cX11_likely 96 = .ok (.imul, 1) := dk_104 (dk_at dksX11_likely_4 3 rfl rfl)
theorem dX11_likely_97 : decode cX11_likely 97 = .ok (.iload 6, 2) := dk_21 6 (dk_at dksX11_likely_4 4 rfl rfl)
theorem dX11_likely_99 : decode cX11_likely 99 = .ok (.iadd, 1) := dk_96 (dk_at dksX11_likely_4 6 rfl rfl)
theorem dX11_likely_100 : decode cX11_likely 100 = .ok (.iaload, 1) := dk_46 (dk_at dksX11_likely_4 7 rfl rfl)
theorem dX11_likely_101 : decode cX11_likely 101 = .ok (.if_icmp .eq 6, 3) := dk_159 0 6 (dk_at dksX11_likely_4 8 rfl rfl)
theorem dX11_likely_104 : decode cX11_likely 104 = .ok (.goto 118, 3) := dk_167 0 118 (dk_at dksX11_likely_4 11 rfl rfl)
theorem dX11_likely_107 : decode cX11_likely 107 = .ok (.aload_n 0, 1) := dk_42 (dk_at dksX11_likely_4 14 rfl rfl)
theorem dX11_likely_108 : decode cX11_likely 108 = .ok (.iload 5, 2) := dk_21 5 (dk_at dksX11_likely_4 15 rfl rfl)
theorem dX11_likely_110 : decode cX11_likely 110 = .ok (.iconst 4, 1) := dk_7 (dk_at dksX11_likely_4 17 rfl rfl)
theorem dX11_likely_111 : decode cX11_likely 111 = .ok (.invokevirtual 346, 3) := dk_182 1 90 (dk_at dksX11_likely_4 18 rfl rfl)
theorem dX11_likely_114 : decode cX11_likely 114 = .ok (.iconst 1, 1) := dk_4 (dk_at dksX11_likely_4 21 rfl rfl)
theorem dX11_likely_115 : decode cX11_likely 115 = .ok (.if_icmp .ne 11, 3) := dk_160 0 11 (dk_at dksX11_likely_5 0 rfl rfl)
theorem dX11_likely_118 : decode cX11_likely 118 = .ok (.ldc2_w 409, 3) := dk_20 1 153 (dk_at dksX11_likely_5 3 rfl rfl)
theorem dX11_likely_121 : decode cX11_likely 121 = .ok (.lload_n 3, 1) := dk_33 (dk_at dksX11_likely_5 6 rfl rfl)
theorem dX11_likely_122 : decode cX11_likely 122 = .ok (.lsub, 1) := dk_101 (dk_at dksX11_likely_5 7 rfl rfl)
theorem dX11_likely_123 : decode cX11_likely 123 = .ok (.goto 4, 3) := dk_167 0 4 (dk_at dksX11_likely_5 8 rfl rfl)
theorem dX11_likely_126 : decode cX11_likely 126 = .ok (.lload_n 3, 1) := dk_33 (dk_at dksX11_likely_5 11 rfl rfl)
theorem dX11_likely_127 : decode cX11_likely 127 = .ok (.lstore 7, 2) := dk_55 7 (dk_at dksX11_likely_5 12 rfl rfl)
theorem dX11_likely_129 : decode cX11_likely 129 = .ok (.lload 7, 2) := dk_22 7 (dk_at dksX11_likely_5 14 rfl rfl)
theorem dX11_likely_131 : decode cX11_likely 131 = .ok (.aload_n 0, 1) := dk_42 (dk_at dksX11_likely_5 16 rfl rfl)
theorem dX11_likely_132 : decode cX11_likely 132 = .ok (.getfield 38, 3) := dk_180 0 38 (dk_at dksX11_likely_5 17 rfl rfl)
theorem dX11_likely_135 : decode cX11_likely 135 = .ok (.iconst 2, 1) := dk_5 (dk_at dksX11_likely_5 20 rfl rfl)
theorem dX11_likely_136 : decode cX11_likely 136 = .ok (.aload_n 0, 1) := dk_42 (dk_at dksX11_likely_5 21 rfl rfl)
theorem dX11_likely_137 : decode cX11_likely 137 = .ok (.iload 5, 2) := dk_21 5 (dk_at dksX11_likely_5 22 rfl rfl)
theorem dX11_likely_139 : decode cX11_likely 139 = .ok (.iconst 3, 1) := dk_6 (dk_at dksX11_likely_6 0 rfl rfl)
theorem dX11_likely_140 : decode cX11_likely 140 = .ok (.invokevirtual 346, 3) := dk_182 1 90 (dk_at dksX11_likely_6 1 rfl rfl)
theorem dX11_likely_143 : decode cX11_likely 143 = .ok (.imul, 1) := dk_104 (dk_at dksX11_likely_6 4 rfl rfl)
theorem dX11_likely_144 : decode cX11_likely 144 = .ok (.iaload, 1) := dk_46 (dk_at dksX11_likely_6 5 rfl rfl)
theorem dX11_likely_145 : decode cX11_likely 145 = .ok (.i2l, 1) := dk_133 (dk_at dksX11_likely_6 6 rfl rfl)
theorem dX11_likely_146 : decode cX11_likely 146 = .ok (.lmul, 1) := dk_105 (dk_at dksX11_likely_6 7 rfl rfl)
theorem dX11_likely_147 : decode cX11_likely 147 = .ok (.lstore 9, 2) := dk_55 9 (dk_at dksX11_likely_6 8 rfl rfl)
theorem dX11_likely_149 : decode cX11_likely 149 = .ok (.lload 9, 2) := dk_22 9 (dk_at dksX11_likely_6 10 rfl rfl)
theorem dX11_likely_151 : decode cX11_likely 151 = .ok (.ldc2_w 409, 3) := dk_20 1 153 (dk_at dksX11_likely_6 12 rfl rfl)
theorem dX11_likely_154 : decode cX11_likely 154 = .ok (.lload 7, 2) := dk_22 7 (dk_at dksX11_likely_6 15 rfl rfl)
theorem dX11_likely_156 : decode cX11_likely 156 = .ok (.lsub, 1) := dk_101 (dk_at dksX11_likely_6 17 rfl rfl)
theorem dX11_likely_157 : decode cX11_likely 157 = .ok (.aload_n 0, 1) := dk_42 (dk_at dksX11_likely_6 18 rfl rfl)
theorem dX11_likely_158 : decode cX11_likely 158 = .ok (.getfield 38, 3) := dk_180 0 38 (dk_at dksX11_likely_6 19 rfl rfl)
theorem dX11_likely_161 : decode cX11_likely 161 = .ok (.iconst 2, 1) := dk_5 (dk_at dksX11_likely_6 22 rfl rfl)
theorem dX11_likely_162 : decode cX11_likely 162 = .ok (.aload_n 0, 1) := dk_42 (dk_at dksX11_likely_6 23 rfl rfl)
theorem dX11_likely_163 : decode cX11_likely 163 = .ok (.iload 5, 2) := dk_21 5 (dk_at dksX11_likely_7 0 rfl rfl)
theorem dX11_likely_165 : decode cX11_likely 165 = .ok (.iconst 3, 1) := dk_6 (dk_at dksX11_likely_7 2 rfl rfl)
theorem dX11_likely_166 : decode cX11_likely 166 = .ok (.invokevirtual 346, 3) := dk_182 1 90 (dk_at dksX11_likely_7 3 rfl rfl)
theorem dX11_likely_169 : decode cX11_likely 169 = .ok (.imul, 1) := dk_104 (dk_at dksX11_likely_7 6 rfl rfl)
theorem dX11_likely_170 : decode cX11_likely 170 = .ok (.iconst 1, 1) := dk_4 (dk_at dksX11_likely_7 7 rfl rfl)
theorem dX11_likely_171 : decode cX11_likely 171 = .ok (.iadd, 1) := dk_96 (dk_at dksX11_likely_7 8 rfl rfl)
theorem dX11_likely_172 : decode cX11_likely 172 = .ok (.iaload, 1) := dk_46 (dk_at dksX11_likely_7 9 rfl rfl)
theorem dX11_likely_173 : decode cX11_likely 173 = .ok (.i2l, 1) := dk_133 (dk_at dksX11_likely_7 10 rfl rfl)
theorem dX11_likely_174 : decode cX11_likely 174 = .ok (.lmul, 1) := dk_105 (dk_at dksX11_likely_7 11 rfl rfl)
theorem dX11_likely_175 : decode cX11_likely 175 = .ok (.ladd, 1) := dk_97 (dk_at dksX11_likely_7 12 rfl rfl)
theorem dX11_likely_176 : decode cX11_likely 176 = .ok (.lstore 11, 2) := dk_55 11 (dk_at dksX11_likely_7 13 rfl rfl)
theorem dX11_likely_178 : decode cX11_likely 178 = .ok (.lload 11, 2) := dk_22 11 (dk_at dksX11_likely_7 15 rfl rfl)
theorem dX11_likely_180 : decode cX11_likely 180 = .ok (.lconst 0, 1) := dk_9 (dk_at dksX11_likely_7 17 rfl rfl)
theorem dX11_likely_181 : decode cX11_likely 181 = .ok (.lcmp, 1) := dk_148 (dk_at dksX11_likely_7 18 rfl rfl)
theorem dX11_likely_182 : decode cX11_likely 182 = .ok (.ifCond .ne 6, 3) := dk_154 0 6 (dk_at dksX11_likely_7 19 rfl rfl)
theorem dX11_likely_185 : decode cX11_likely 185 = .ok (.goto 37, 3) := dk_167 0 37 (dk_at dksX11_likely_8 0 rfl rfl)
theorem dX11_likely_188 : decode cX11_likely 188 = .ok (.lload 9, 2) := dk_22 9 (dk_at dksX11_likely_8 3 rfl rfl)
theorem dX11_likely_190 : decode cX11_likely 190 = .ok (.ldc2_w 409, 3) := dk_20 1 153 (dk_at dksX11_likely_8 5 rfl rfl)
theorem dX11_likely_193 : decode cX11_likely 193 = .ok (.lmul, 1) := dk_105 (dk_at dksX11_likely_8 8 rfl rfl)
theorem dX11_likely_194 : decode cX11_likely 194 = .ok (.lload 11, 2) := dk_22 11 (dk_at dksX11_likely_8 9 rfl rfl)
theorem dX11_likely_196 : decode cX11_likely 196 = .ok (.ldiv, 1) := dk_109 (dk_at dksX11_likely_8 11 rfl rfl)
theorem dX11_likely_197 : decode cX11_likely 197 = .ok (.lstore 7, 2) := dk_55 7 (dk_at dksX11_likely_8 12 rfl rfl)
theorem dX11_likely_199 : decode cX11_likely 199 = .ok (.aload_n 0, 1) := dk_42 (dk_at dksX11_likely_8 14 rfl rfl)
theorem dX11_likely_200 : decode cX11_likely 200 = .ok (.iload 5, 2) := dk_21 5 (dk_at dksX11_likely_8 15 rfl rfl)
theorem dX11_likely_202 : decode cX11_likely 202 = .ok (.iconst 4, 1) := dk_7 (dk_at dksX11_likely_8 17 rfl rfl)
theorem dX11_likely_203 : decode cX11_likely 203 = .ok (.invokevirtual 346, 3) := dk_182 1 90 (dk_at dksX11_likely_8 18 rfl rfl)
theorem dX11_likely_206 : decode cX11_likely 206 = .ok (.iconst 1, 1) := dk_4 (dk_at dksX11_likely_8 21 rfl rfl)
theorem dX11_likely_207 : decode cX11_likely 207 = .ok (.if_icmp .ne 12, 3) := dk_160 0 12 (dk_at dksX11_likely_9 0 rfl rfl)
theorem dX11_likely_210 : decode cX11_likely 210 = .ok (.ldc2_w 409, 3) := dk_20 1 153 (dk_at dksX11_likely_9 3 rfl rfl)
theorem dX11_likely_213 : decode cX11_likely 213 = .ok (.lload 7, 2) := dk_22 7 (dk_at dksX11_likely_9 6 rfl rfl)
theorem dX11_likely_215 : decode cX11_likely 215 = .ok (.lsub, 1) := dk_101 (dk_at dksX11_likely_9 8 rfl rfl)
theorem dX11_likely_216 : decode cX11_likely 216 = .ok (.goto 5, 3) := dk_167 0 5 (dk_at dksX11_likely_9 9 rfl rfl)
theorem dX11_likely_219 : decode cX11_likely 219 = .ok (.lload 7, 2) := dk_22 7 (dk_at dksX11_likely_9 12 rfl rfl)
theorem dX11_likely_221 : decode cX11_likely 221 = .ok (.lstore_n 3, 1) := dk_66 (dk_at dksX11_likely_9 14 rfl rfl)
theorem dX11_likely_222 : decode cX11_likely 222 = .ok (.iinc 5 1, 3) := dk_132 5 1 (dk_at dksX11_likely_9 15 rfl rfl)
theorem dX11_likely_225 : decode cX11_likely 225 = .ok (.goto (-194), 3) := dk_167 255 62 (dk_at dksX11_likely_9 18 rfl rfl)
theorem dX11_likely_228 : decode cX11_likely 228 = .ok (.lload_n 3, 1) := dk_33 (dk_at dksX11_likely_9 21 rfl rfl)
theorem dX11_likely_229 : decode cX11_likely 229 = .ok (.l2i, 1) := dk_136 (dk_at dksX11_likely_9 22 rfl rfl)
theorem dX11_likely_230 : decode cX11_likely 230 = .ok (.ireturn, 1) := dk_172 (dk_at dksX11_likely_9 23 rfl rfl)
abbrev cX11_worlds : ByteArray := prog_19_method_77_code
def yX11_worlds : MethodName := ⟨RX11, "worlds", "(I)I"⟩
def dkwX11_worlds_2 : List UInt8 := [4, 4, 27, 184, 1, 39, 120, 120, 4, 100, 181, 1, 29, 42, 180, 1, 29, 184, 1, 39, 172]
abbrev dktX11_worlds_2 : List UInt8 := dkwX11_worlds_2 ++ []
def dkwX11_worlds_1 : List UInt8 := [7, 163, 0, 7, 4, 167, 0, 4, 3, 4, 182, 0, 250, 154, 0, 5, 3, 172, 42, 27, 181, 1, 26, 42]
abbrev dktX11_worlds_1 : List UInt8 := dkwX11_worlds_1 ++ dktX11_worlds_2
def dkwX11_worlds_0 : List UInt8 := [42, 3, 181, 0, 122, 42, 27, 158, 0, 25, 27, 4, 42, 180, 1, 13, 120, 162, 0, 15, 27, 184, 1, 39]
abbrev dktX11_worlds_0 : List UInt8 := dkwX11_worlds_0 ++ dktX11_worlds_1
theorem dksX11_worlds_0 : cX11_worlds.data.toList.drop 0 = dktX11_worlds_0 := by decide +kernel
theorem dksX11_worlds_1 : cX11_worlds.data.toList.drop 24 = dktX11_worlds_1 := dk_seg dksX11_worlds_0 24 rfl rfl
theorem dksX11_worlds_2 : cX11_worlds.data.toList.drop 48 = dktX11_worlds_2 := dk_seg dksX11_worlds_1 24 rfl rfl
theorem dX11_worlds_0 : decode cX11_worlds 0 = .ok (.aload_n 0, 1) := dk_42 (dk_at dksX11_worlds_0 0 rfl rfl)
theorem dX11_worlds_1 : decode cX11_worlds 1 = .ok (.iconst 0, 1) := dk_3 (dk_at dksX11_worlds_0 1 rfl rfl)
theorem dX11_worlds_2 : decode cX11_worlds 2 = .ok (.putfield 122, 3) := dk_181 0 122 (dk_at dksX11_worlds_0 2 rfl rfl)
theorem dX11_worlds_5 : decode cX11_worlds 5 = .ok (.aload_n 0, 1) := dk_42 (dk_at dksX11_worlds_0 5 rfl rfl)
theorem dX11_worlds_6 : decode cX11_worlds 6 = .ok (.iload_n 1, 1) := dk_27 (dk_at dksX11_worlds_0 6 rfl rfl)
theorem dX11_worlds_7 : decode cX11_worlds 7 = .ok (.ifCond .le 25, 3) := dk_158 0 25 (dk_at dksX11_worlds_0 7 rfl rfl)
theorem dX11_worlds_10 : decode cX11_worlds 10 = .ok (.iload_n 1, 1) := dk_27 (dk_at dksX11_worlds_0 10 rfl rfl)
theorem dX11_worlds_11 : decode cX11_worlds 11 = .ok (.iconst 1, 1) := dk_4 (dk_at dksX11_worlds_0 11 rfl rfl)
theorem dX11_worlds_12 : decode cX11_worlds 12 = .ok (.aload_n 0, 1) := dk_42 (dk_at dksX11_worlds_0 12 rfl rfl)
theorem dX11_worlds_13 : decode cX11_worlds 13 = .ok (.getfield 269, 3) := dk_180 1 13 (dk_at dksX11_worlds_0 13 rfl rfl)
theorem dX11_worlds_16 : decode cX11_worlds 16 = .ok (.ishl, 1) := dk_120 (dk_at dksX11_worlds_0 16 rfl rfl)
theorem dX11_worlds_17 : decode cX11_worlds 17 = .ok (.if_icmp .ge 15, 3) := dk_162 0 15 (dk_at dksX11_worlds_0 17 rfl rfl)
theorem dX11_worlds_20 : decode cX11_worlds 20 = .ok (.iload_n 1, 1) := dk_27 (dk_at dksX11_worlds_0 20 rfl rfl)
theorem dX11_worlds_21 : decode cX11_worlds 21 = .ok (.invokestatic 295, 3) := dk_184 1 39 (dk_at dksX11_worlds_0 21 rfl rfl)
theorem dX11_worlds_24 : decode cX11_worlds 24 = .ok (.iconst 4, 1) := dk_7 (dk_at dksX11_worlds_1 0 rfl rfl)
theorem dX11_worlds_25 : decode cX11_worlds 25 = .ok (.if_icmp .gt 7, 3) := dk_163 0 7 (dk_at dksX11_worlds_1 1 rfl rfl)
theorem dX11_worlds_28 : decode cX11_worlds 28 = .ok (.iconst 1, 1) := dk_4 (dk_at dksX11_worlds_1 4 rfl rfl)
theorem dX11_worlds_29 : decode cX11_worlds 29 = .ok (.goto 4, 3) := dk_167 0 4 (dk_at dksX11_worlds_1 5 rfl rfl)
theorem dX11_worlds_32 : decode cX11_worlds 32 = .ok (.iconst 0, 1) := dk_3 (dk_at dksX11_worlds_1 8 rfl rfl)
theorem dX11_worlds_33 : decode cX11_worlds 33 = .ok (.iconst 1, 1) := dk_4 (dk_at dksX11_worlds_1 9 rfl rfl)
theorem dX11_worlds_34 : decode cX11_worlds 34 = .ok (.invokevirtual 250, 3) := dk_182 0 250 (dk_at dksX11_worlds_1 10 rfl rfl)
theorem dX11_worlds_37 : decode cX11_worlds 37 = .ok (.ifCond .ne 5, 3) := dk_154 0 5 (dk_at dksX11_worlds_1 13 rfl rfl)
theorem dX11_worlds_40 : decode cX11_worlds 40 = .ok (.iconst 0, 1) := dk_3 (dk_at dksX11_worlds_1 16 rfl rfl)
theorem dX11_worlds_41 : decode cX11_worlds 41 = .ok (.ireturn, 1) := dk_172 (dk_at dksX11_worlds_1 17 rfl rfl)
theorem dX11_worlds_42 : decode cX11_worlds 42 = .ok (.aload_n 0, 1) := dk_42 (dk_at dksX11_worlds_1 18 rfl rfl)
theorem dX11_worlds_43 : decode cX11_worlds 43 = .ok (.iload_n 1, 1) := dk_27 (dk_at dksX11_worlds_1 19 rfl rfl)
theorem dX11_worlds_44 : decode cX11_worlds 44 = .ok (.putfield 282, 3) := dk_181 1 26 (dk_at dksX11_worlds_1 20 rfl rfl)
theorem dX11_worlds_47 : decode cX11_worlds 47 = .ok (.aload_n 0, 1) := dk_42 (dk_at dksX11_worlds_1 23 rfl rfl)
theorem dX11_worlds_48 : decode cX11_worlds 48 = .ok (.iconst 1, 1) := dk_4 (dk_at dksX11_worlds_2 0 rfl rfl)
theorem dX11_worlds_49 : decode cX11_worlds 49 = .ok (.iconst 1, 1) := dk_4 (dk_at dksX11_worlds_2 1 rfl rfl)
theorem dX11_worlds_50 : decode cX11_worlds 50 = .ok (.iload_n 1, 1) := dk_27 (dk_at dksX11_worlds_2 2 rfl rfl)
theorem dX11_worlds_51 : decode cX11_worlds 51 = .ok (.invokestatic 295, 3) := dk_184 1 39 (dk_at dksX11_worlds_2 3 rfl rfl)
theorem dX11_worlds_54 : decode cX11_worlds 54 = .ok (.ishl, 1) := dk_120 (dk_at dksX11_worlds_2 6 rfl rfl)
theorem dX11_worlds_55 : decode cX11_worlds 55 = .ok (.ishl, 1) := dk_120 (dk_at dksX11_worlds_2 7 rfl rfl)
theorem dX11_worlds_56 : decode cX11_worlds 56 = .ok (.iconst 1, 1) := dk_4 (dk_at dksX11_worlds_2 8 rfl rfl)
theorem dX11_worlds_57 : decode cX11_worlds 57 = .ok (.isub, 1) := dk_100 (dk_at dksX11_worlds_2 9 rfl rfl)
theorem dX11_worlds_58 : decode cX11_worlds 58 = .ok (.putfield 285, 3) := dk_181 1 29 (dk_at dksX11_worlds_2 10 rfl rfl)
theorem dX11_worlds_61 : decode cX11_worlds 61 = .ok (.aload_n 0, 1) := dk_42 (dk_at dksX11_worlds_2 13 rfl rfl)
theorem dX11_worlds_62 : decode cX11_worlds 62 = .ok (.getfield 285, 3) := dk_180 1 29 (dk_at dksX11_worlds_2 14 rfl rfl)
theorem dX11_worlds_65 : decode cX11_worlds 65 = .ok (.invokestatic 295, 3) := dk_184 1 39 (dk_at dksX11_worlds_2 17 rfl rfl)
theorem dX11_worlds_68 : decode cX11_worlds 68 = .ok (.ireturn, 1) := dk_172 (dk_at dksX11_worlds_2 20 rfl rfl)
abbrev cX11_tell : ByteArray := prog_19_method_83_code
def yX11_tell : MethodName := ⟨RX11, "tell", "(IIZ)I"⟩
def dkwX11_tell_3 : List UInt8 := [89, 180, 1, 29, 21, 4, 126, 181, 1, 29, 42, 180, 1, 29, 184, 1, 39, 172]
abbrev dktX11_tell_3 : List UInt8 := dkwX11_tell_3 ++ []
def dkwX11_tell_2 : List UInt8 := [182, 1, 168, 54, 4, 21, 4, 42, 182, 1, 171, 122, 4, 126, 154, 0, 9, 42, 5, 182, 1, 71, 172, 42]
abbrev dktX11_tell_2 : List UInt8 := dkwX11_tell_2 ++ dktX11_tell_3
def dkwX11_tell_1 : List UInt8 := [42, 28, 182, 1, 161, 2, 160, 0, 9, 42, 5, 182, 1, 71, 172, 42, 27, 42, 28, 29, 182, 1, 164]
abbrev dktX11_tell_1 : List UInt8 := dkwX11_tell_1 ++ dktX11_tell_2
def dkwX11_tell_0 : List UInt8 := [42, 3, 181, 0, 122, 42, 27, 3, 182, 1, 42, 153, 0, 11, 42, 28, 182, 1, 46, 154, 0, 5, 3, 172]
abbrev dktX11_tell_0 : List UInt8 := dkwX11_tell_0 ++ dktX11_tell_1
theorem dksX11_tell_0 : cX11_tell.data.toList.drop 0 = dktX11_tell_0 := by decide +kernel
theorem dksX11_tell_1 : cX11_tell.data.toList.drop 24 = dktX11_tell_1 := dk_seg dksX11_tell_0 24 rfl rfl
theorem dksX11_tell_2 : cX11_tell.data.toList.drop 47 = dktX11_tell_2 := dk_seg dksX11_tell_1 23 rfl rfl
theorem dksX11_tell_3 : cX11_tell.data.toList.drop 71 = dktX11_tell_3 := dk_seg dksX11_tell_2 24 rfl rfl
theorem dX11_tell_0 : decode cX11_tell 0 = .ok (.aload_n 0, 1) := dk_42 (dk_at dksX11_tell_0 0 rfl rfl)
theorem dX11_tell_1 : decode cX11_tell 1 = .ok (.iconst 0, 1) := dk_3 (dk_at dksX11_tell_0 1 rfl rfl)
theorem dX11_tell_2 : decode cX11_tell 2 = .ok (.putfield 122, 3) := dk_181 0 122 (dk_at dksX11_tell_0 2 rfl rfl)
theorem dX11_tell_5 : decode cX11_tell 5 = .ok (.aload_n 0, 1) := dk_42 (dk_at dksX11_tell_0 5 rfl rfl)
theorem dX11_tell_6 : decode cX11_tell 6 = .ok (.iload_n 1, 1) := dk_27 (dk_at dksX11_tell_0 6 rfl rfl)
theorem dX11_tell_7 : decode cX11_tell 7 = .ok (.iconst 0, 1) := dk_3 (dk_at dksX11_tell_0 7 rfl rfl)
theorem dX11_tell_8 : decode cX11_tell 8 = .ok (.invokevirtual 298, 3) := dk_182 1 42 (dk_at dksX11_tell_0 8 rfl rfl)
theorem dX11_tell_11 : decode cX11_tell 11 = .ok (.ifCond .eq 11, 3) := dk_153 0 11 (dk_at dksX11_tell_0 11 rfl rfl)
theorem dX11_tell_14 : decode cX11_tell 14 = .ok (.aload_n 0, 1) := dk_42 (dk_at dksX11_tell_0 14 rfl rfl)
theorem dX11_tell_15 : decode cX11_tell 15 = .ok (.iload_n 2, 1) := dk_28 (dk_at dksX11_tell_0 15 rfl rfl)
theorem dX11_tell_16 : decode cX11_tell 16 = .ok (.invokevirtual 302, 3) := dk_182 1 46 (dk_at dksX11_tell_0 16 rfl rfl)
theorem dX11_tell_19 : decode cX11_tell 19 = .ok (.ifCond .ne 5, 3) := dk_154 0 5 (dk_at dksX11_tell_0 19 rfl rfl)
theorem dX11_tell_22 : decode cX11_tell 22 = .ok (.iconst 0, 1) := dk_3 (dk_at dksX11_tell_0 22 rfl rfl)
theorem dX11_tell_23 : decode cX11_tell 23 = .ok (.ireturn, 1) := dk_172 (dk_at dksX11_tell_0 23 rfl rfl)
theorem dX11_tell_24 : decode cX11_tell 24 = .ok (.aload_n 0, 1) := dk_42 (dk_at dksX11_tell_1 0 rfl rfl)
theorem dX11_tell_25 : decode cX11_tell 25 = .ok (.iload_n 2, 1) := dk_28 (dk_at dksX11_tell_1 1 rfl rfl)
theorem dX11_tell_26 : decode cX11_tell 26 = .ok (.invokevirtual 417, 3) := dk_182 1 161 (dk_at dksX11_tell_1 2 rfl rfl)
theorem dX11_tell_29 : decode cX11_tell 29 = .ok (.iconst (-1), 1) := dk_2 (dk_at dksX11_tell_1 5 rfl rfl)
theorem dX11_tell_30 : decode cX11_tell 30 = .ok (.if_icmp .ne 9, 3) := dk_160 0 9 (dk_at dksX11_tell_1 6 rfl rfl)
theorem dX11_tell_33 : decode cX11_tell 33 = .ok (.aload_n 0, 1) := dk_42 (dk_at dksX11_tell_1 9 rfl rfl)
theorem dX11_tell_34 : decode cX11_tell 34 = .ok (.iconst 2, 1) := dk_5 (dk_at dksX11_tell_1 10 rfl rfl)
theorem dX11_tell_35 : decode cX11_tell 35 = .ok (.invokevirtual 327, 3) := dk_182 1 71 (dk_at dksX11_tell_1 11 rfl rfl)
theorem dX11_tell_38 : decode cX11_tell 38 = .ok (.ireturn, 1) := dk_172 (dk_at dksX11_tell_1 14 rfl rfl)
theorem dX11_tell_39 : decode cX11_tell 39 = .ok (.aload_n 0, 1) := dk_42 (dk_at dksX11_tell_1 15 rfl rfl)
theorem dX11_tell_40 : decode cX11_tell 40 = .ok (.iload_n 1, 1) := dk_27 (dk_at dksX11_tell_1 16 rfl rfl)
theorem dX11_tell_41 : decode cX11_tell 41 = .ok (.aload_n 0, 1) := dk_42 (dk_at dksX11_tell_1 17 rfl rfl)
theorem dX11_tell_42 : decode cX11_tell 42 = .ok (.iload_n 2, 1) := dk_28 (dk_at dksX11_tell_1 18 rfl rfl)
theorem dX11_tell_43 : decode cX11_tell 43 = .ok (.iload_n 3, 1) := dk_29 (dk_at dksX11_tell_1 19 rfl rfl)
theorem dX11_tell_44 : decode cX11_tell 44 = .ok (.invokevirtual 420, 3) := dk_182 1 164 (dk_at dksX11_tell_1 20 rfl rfl)
theorem dX11_tell_47 : decode cX11_tell 47 = .ok (.invokevirtual 424, 3) := dk_182 1 168 (dk_at dksX11_tell_2 0 rfl rfl)
theorem dX11_tell_50 : decode cX11_tell 50 = .ok (.istore 4, 2) := dk_54 4 (dk_at dksX11_tell_2 3 rfl rfl)
theorem dX11_tell_52 : decode cX11_tell 52 = .ok (.iload 4, 2) := dk_21 4 (dk_at dksX11_tell_2 5 rfl rfl)
theorem dX11_tell_54 : decode cX11_tell 54 = .ok (.aload_n 0, 1) := dk_42 (dk_at dksX11_tell_2 7 rfl rfl)
theorem dX11_tell_55 : decode cX11_tell 55 = .ok (.invokevirtual 427, 3) := dk_182 1 171 (dk_at dksX11_tell_2 8 rfl rfl)
theorem dX11_tell_58 : decode cX11_tell 58 = .ok (.ishr, 1) := dk_122 (dk_at dksX11_tell_2 11 rfl rfl)
theorem dX11_tell_59 : decode cX11_tell 59 = .ok (.iconst 1, 1) := dk_4 (dk_at dksX11_tell_2 12 rfl rfl)
theorem dX11_tell_60 : decode cX11_tell 60 = .ok (.iand, 1) := dk_126 (dk_at dksX11_tell_2 13 rfl rfl)
theorem dX11_tell_61 : decode cX11_tell 61 = .ok (.ifCond .ne 9, 3) := dk_154 0 9 (dk_at dksX11_tell_2 14 rfl rfl)
theorem dX11_tell_64 : decode cX11_tell 64 = .ok (.aload_n 0, 1) := dk_42 (dk_at dksX11_tell_2 17 rfl rfl)
theorem dX11_tell_65 : decode cX11_tell 65 = .ok (.iconst 2, 1) := dk_5 (dk_at dksX11_tell_2 18 rfl rfl)
theorem dX11_tell_66 : decode cX11_tell 66 = .ok (.invokevirtual 327, 3) := dk_182 1 71 (dk_at dksX11_tell_2 19 rfl rfl)
theorem dX11_tell_69 : decode cX11_tell 69 = .ok (.ireturn, 1) := dk_172 (dk_at dksX11_tell_2 22 rfl rfl)
theorem dX11_tell_70 : decode cX11_tell 70 = .ok (.aload_n 0, 1) := dk_42 (dk_at dksX11_tell_2 23 rfl rfl)
theorem dX11_tell_71 : decode cX11_tell 71 = .ok (.dup, 1) := dk_89 (dk_at dksX11_tell_3 0 rfl rfl)
theorem dX11_tell_72 : decode cX11_tell 72 = .ok (.getfield 285, 3) := dk_180 1 29 (dk_at dksX11_tell_3 1 rfl rfl)
theorem dX11_tell_75 : decode cX11_tell 75 = .ok (.iload 4, 2) := dk_21 4 (dk_at dksX11_tell_3 4 rfl rfl)
theorem dX11_tell_77 : decode cX11_tell 77 = .ok (.iand, 1) := dk_126 (dk_at dksX11_tell_3 6 rfl rfl)
theorem dX11_tell_78 : decode cX11_tell 78 = .ok (.putfield 285, 3) := dk_181 1 29 (dk_at dksX11_tell_3 7 rfl rfl)
theorem dX11_tell_81 : decode cX11_tell 81 = .ok (.aload_n 0, 1) := dk_42 (dk_at dksX11_tell_3 10 rfl rfl)
theorem dX11_tell_82 : decode cX11_tell 82 = .ok (.getfield 285, 3) := dk_180 1 29 (dk_at dksX11_tell_3 11 rfl rfl)
theorem dX11_tell_85 : decode cX11_tell 85 = .ok (.invokestatic 295, 3) := dk_184 1 39 (dk_at dksX11_tell_3 14 rfl rfl)
theorem dX11_tell_88 : decode cX11_tell 88 = .ok (.ireturn, 1) := dk_172 (dk_at dksX11_tell_3 17 rfl rfl)
abbrev cX11_placeOf : ByteArray := prog_19_method_78_code
def yX11_placeOf : MethodName := ⟨RX11, "placeOf", "(I)I"⟩
def dkwX11_placeOf_1 : List UInt8 := [180, 1, 26, 4, 27, 120, 4, 100, 126, 184, 1, 39, 172]
abbrev dktX11_placeOf_1 : List UInt8 := dkwX11_placeOf_1 ++ []
def dkwX11_placeOf_0 : List UInt8 := [42, 180, 1, 29, 153, 0, 14, 42, 180, 1, 26, 27, 122, 4, 126, 154, 0, 7, 2, 167, 0, 16, 42]
abbrev dktX11_placeOf_0 : List UInt8 := dkwX11_placeOf_0 ++ dktX11_placeOf_1
theorem dksX11_placeOf_0 : cX11_placeOf.data.toList.drop 0 = dktX11_placeOf_0 := by decide +kernel
theorem dksX11_placeOf_1 : cX11_placeOf.data.toList.drop 23 = dktX11_placeOf_1 := dk_seg dksX11_placeOf_0 23 rfl rfl
theorem dX11_placeOf_0 : decode cX11_placeOf 0 = .ok (.aload_n 0, 1) := dk_42 (dk_at dksX11_placeOf_0 0 rfl rfl)
theorem dX11_placeOf_1 : decode cX11_placeOf 1 = .ok (.getfield 285, 3) := dk_180 1 29 (dk_at dksX11_placeOf_0 1 rfl rfl)
theorem dX11_placeOf_4 : decode cX11_placeOf 4 = .ok (.ifCond .eq 14, 3) := dk_153 0 14 (dk_at dksX11_placeOf_0 4 rfl rfl)
theorem dX11_placeOf_7 : decode cX11_placeOf 7 = .ok (.aload_n 0, 1) := dk_42 (dk_at dksX11_placeOf_0 7 rfl rfl)
theorem dX11_placeOf_8 : decode cX11_placeOf 8 = .ok (.getfield 282, 3) := dk_180 1 26 (dk_at dksX11_placeOf_0 8 rfl rfl)
theorem dX11_placeOf_11 : decode cX11_placeOf 11 = .ok (.iload_n 1, 1) := dk_27 (dk_at dksX11_placeOf_0 11 rfl rfl)
theorem dX11_placeOf_12 : decode cX11_placeOf 12 = .ok (.ishr, 1) := dk_122 (dk_at dksX11_placeOf_0 12 rfl rfl)
theorem dX11_placeOf_13 : decode cX11_placeOf 13 = .ok (.iconst 1, 1) := dk_4 (dk_at dksX11_placeOf_0 13 rfl rfl)
theorem dX11_placeOf_14 : decode cX11_placeOf 14 = .ok (.iand, 1) := dk_126 (dk_at dksX11_placeOf_0 14 rfl rfl)
theorem dX11_placeOf_15 : decode cX11_placeOf 15 = .ok (.ifCond .ne 7, 3) := dk_154 0 7 (dk_at dksX11_placeOf_0 15 rfl rfl)
theorem dX11_placeOf_18 : decode cX11_placeOf 18 = .ok (.iconst (-1), 1) := dk_2 (dk_at dksX11_placeOf_0 18 rfl rfl)
theorem dX11_placeOf_19 : decode cX11_placeOf 19 = .ok (.goto 16, 3) := dk_167 0 16 (dk_at dksX11_placeOf_0 19 rfl rfl)
theorem dX11_placeOf_22 : decode cX11_placeOf 22 = .ok (.aload_n 0, 1) := dk_42 (dk_at dksX11_placeOf_0 22 rfl rfl)
theorem dX11_placeOf_23 : decode cX11_placeOf 23 = .ok (.getfield 282, 3) := dk_180 1 26 (dk_at dksX11_placeOf_1 0 rfl rfl)
theorem dX11_placeOf_26 : decode cX11_placeOf 26 = .ok (.iconst 1, 1) := dk_4 (dk_at dksX11_placeOf_1 3 rfl rfl)
theorem dX11_placeOf_27 : decode cX11_placeOf 27 = .ok (.iload_n 1, 1) := dk_27 (dk_at dksX11_placeOf_1 4 rfl rfl)
theorem dX11_placeOf_28 : decode cX11_placeOf 28 = .ok (.ishl, 1) := dk_120 (dk_at dksX11_placeOf_1 5 rfl rfl)
theorem dX11_placeOf_29 : decode cX11_placeOf 29 = .ok (.iconst 1, 1) := dk_4 (dk_at dksX11_placeOf_1 6 rfl rfl)
theorem dX11_placeOf_30 : decode cX11_placeOf 30 = .ok (.isub, 1) := dk_100 (dk_at dksX11_placeOf_1 7 rfl rfl)
theorem dX11_placeOf_31 : decode cX11_placeOf 31 = .ok (.iand, 1) := dk_126 (dk_at dksX11_placeOf_1 8 rfl rfl)
theorem dX11_placeOf_32 : decode cX11_placeOf 32 = .ok (.invokestatic 295, 3) := dk_184 1 39 (dk_at dksX11_placeOf_1 9 rfl rfl)
theorem dX11_placeOf_35 : decode cX11_placeOf 35 = .ok (.ireturn, 1) := dk_172 (dk_at dksX11_placeOf_1 12 rfl rfl)
abbrev cX11_worldsOf : ByteArray := prog_19_method_82_code
def yX11_worldsOf : MethodName := ⟨RX11, "worldsOf", "(IZ)I"⟩
def dkwX11_worldsOf_2 : List UInt8 := [54, 4, 132, 5, 1, 167, 255, 215, 21, 4, 172]
abbrev dktX11_worldsOf_2 : List UInt8 := dkwX11_worldsOf_2 ++ []
def dkwX11_worldsOf_1 : List UInt8 := [122, 4, 126, 28, 153, 0, 7, 3, 167, 0, 4, 4, 160, 0, 10, 4, 21, 5, 120, 167, 0, 4, 3, 128]
abbrev dktX11_worldsOf_1 : List UInt8 := dkwX11_worldsOf_1 ++ dktX11_worldsOf_2
def dkwX11_worldsOf_0 : List UInt8 := [42, 27, 182, 1, 161, 62, 3, 54, 4, 3, 54, 5, 21, 5, 16, 16, 162, 0, 40, 21, 4, 21, 5, 29]
abbrev dktX11_worldsOf_0 : List UInt8 := dkwX11_worldsOf_0 ++ dktX11_worldsOf_1
theorem dksX11_worldsOf_0 : cX11_worldsOf.data.toList.drop 0 = dktX11_worldsOf_0 := by decide +kernel
theorem dksX11_worldsOf_1 : cX11_worldsOf.data.toList.drop 24 = dktX11_worldsOf_1 := dk_seg dksX11_worldsOf_0 24 rfl rfl
theorem dksX11_worldsOf_2 : cX11_worldsOf.data.toList.drop 48 = dktX11_worldsOf_2 := dk_seg dksX11_worldsOf_1 24 rfl rfl
theorem dX11_worldsOf_0 : decode cX11_worldsOf 0 = .ok (.aload_n 0, 1) := dk_42 (dk_at dksX11_worldsOf_0 0 rfl rfl)
theorem dX11_worldsOf_1 : decode cX11_worldsOf 1 = .ok (.iload_n 1, 1) := dk_27 (dk_at dksX11_worldsOf_0 1 rfl rfl)
theorem dX11_worldsOf_2 : decode cX11_worldsOf 2 = .ok (.invokevirtual 417, 3) := dk_182 1 161 (dk_at dksX11_worldsOf_0 2 rfl rfl)
theorem dX11_worldsOf_5 : decode cX11_worldsOf 5 = .ok (.istore_n 3, 1) := dk_62 (dk_at dksX11_worldsOf_0 5 rfl rfl)
theorem dX11_worldsOf_6 : decode cX11_worldsOf 6 = .ok (.iconst 0, 1) := dk_3 (dk_at dksX11_worldsOf_0 6 rfl rfl)
theorem dX11_worldsOf_7 : decode cX11_worldsOf 7 = .ok (.istore 4, 2) := dk_54 4 (dk_at dksX11_worldsOf_0 7 rfl rfl)
theorem dX11_worldsOf_9 : decode cX11_worldsOf 9 = .ok (.iconst 0, 1) := dk_3 (dk_at dksX11_worldsOf_0 9 rfl rfl)
theorem dX11_worldsOf_10 : decode cX11_worldsOf 10 = .ok (.istore 5, 2) := dk_54 5 (dk_at dksX11_worldsOf_0 10 rfl rfl)
theorem dX11_worldsOf_12 : decode cX11_worldsOf 12 = .ok (.iload 5, 2) := dk_21 5 (dk_at dksX11_worldsOf_0 12 rfl rfl)
theorem dX11_worldsOf_14 : decode cX11_worldsOf 14 = .ok (.bipush 16, 2) := dk_16 16 (dk_at dksX11_worldsOf_0 14 rfl rfl)
theorem dX11_worldsOf_16 : decode cX11_worldsOf 16 = .ok (.if_icmp .ge 40, 3) := dk_162 0 40 (dk_at dksX11_worldsOf_0 16 rfl rfl)
theorem dX11_worldsOf_19 : decode cX11_worldsOf 19 = .ok (.iload 4, 2) := dk_21 4 (dk_at dksX11_worldsOf_0 19 rfl rfl)
theorem dX11_worldsOf_21 : decode cX11_worldsOf 21 = .ok (.iload 5, 2) := dk_21 5 (dk_at dksX11_worldsOf_0 21 rfl rfl)
theorem dX11_worldsOf_23 : decode cX11_worldsOf 23 = .ok (.iload_n 3, 1) := dk_29 (dk_at dksX11_worldsOf_0 23 rfl rfl)
theorem dX11_worldsOf_24 : decode cX11_worldsOf 24 = .ok (.ishr, 1) := dk_122 (dk_at dksX11_worldsOf_1 0 rfl rfl)
theorem dX11_worldsOf_25 : decode cX11_worldsOf 25 = .ok (.iconst 1, 1) := dk_4 (dk_at dksX11_worldsOf_1 1 rfl rfl)
theorem dX11_worldsOf_26 : decode cX11_worldsOf 26 = .ok (.iand, 1) := dk_126 (dk_at dksX11_worldsOf_1 2 rfl rfl)
theorem dX11_worldsOf_27 : decode cX11_worldsOf 27 = .ok (.iload_n 2, 1) := dk_28 (dk_at dksX11_worldsOf_1 3 rfl rfl)
theorem dX11_worldsOf_28 : decode cX11_worldsOf 28 = .ok (.ifCond .eq 7, 3) := dk_153 0 7 (dk_at dksX11_worldsOf_1 4 rfl rfl)
theorem dX11_worldsOf_31 : decode cX11_worldsOf 31 = .ok (.iconst 0, 1) := dk_3 (dk_at dksX11_worldsOf_1 7 rfl rfl)
theorem dX11_worldsOf_32 : decode cX11_worldsOf 32 = .ok (.goto 4, 3) := dk_167 0 4 (dk_at dksX11_worldsOf_1 8 rfl rfl)
theorem dX11_worldsOf_35 : decode cX11_worldsOf 35 = .ok (.iconst 1, 1) := dk_4 (dk_at dksX11_worldsOf_1 11 rfl rfl)
theorem dX11_worldsOf_36 : decode cX11_worldsOf 36 = .ok (.if_icmp .ne 10, 3) := dk_160 0 10 (dk_at dksX11_worldsOf_1 12 rfl rfl)
theorem dX11_worldsOf_39 : decode cX11_worldsOf 39 = .ok (.iconst 1, 1) := dk_4 (dk_at dksX11_worldsOf_1 15 rfl rfl)
theorem dX11_worldsOf_40 : decode cX11_worldsOf 40 = .ok (.iload 5, 2) := dk_21 5 (dk_at dksX11_worldsOf_1 16 rfl rfl)
theorem dX11_worldsOf_42 : decode cX11_worldsOf 42 = .ok (.ishl, 1) := dk_120 (dk_at dksX11_worldsOf_1 18 rfl rfl)
theorem dX11_worldsOf_43 : decode cX11_worldsOf 43 = .ok (.goto 4, 3) := dk_167 0 4 (dk_at dksX11_worldsOf_1 19 rfl rfl)
theorem dX11_worldsOf_46 : decode cX11_worldsOf 46 = .ok (.iconst 0, 1) := dk_3 (dk_at dksX11_worldsOf_1 22 rfl rfl)
theorem dX11_worldsOf_47 : decode cX11_worldsOf 47 = .ok (.ior, 1) := dk_128 (dk_at dksX11_worldsOf_1 23 rfl rfl)
theorem dX11_worldsOf_48 : decode cX11_worldsOf 48 = .ok (.istore 4, 2) := dk_54 4 (dk_at dksX11_worldsOf_2 0 rfl rfl)
theorem dX11_worldsOf_50 : decode cX11_worldsOf 50 = .ok (.iinc 5 1, 3) := dk_132 5 1 (dk_at dksX11_worldsOf_2 2 rfl rfl)
theorem dX11_worldsOf_53 : decode cX11_worldsOf 53 = .ok (.goto (-41), 3) := dk_167 255 215 (dk_at dksX11_worldsOf_2 5 rfl rfl)
theorem dX11_worldsOf_56 : decode cX11_worldsOf 56 = .ok (.iload 4, 2) := dk_21 4 (dk_at dksX11_worldsOf_2 8 rfl rfl)
theorem dX11_worldsOf_58 : decode cX11_worldsOf 58 = .ok (.ireturn, 1) := dk_172 (dk_at dksX11_worldsOf_2 10 rfl rfl)
abbrev cX11_knows : ByteArray := prog_19_method_81_code
def yX11_knows : MethodName := ⟨RX11, "knows", "(II)I"⟩
def dkwX11_knows_5 : List UInt8 := [167, 255, 149, 21, 4, 172]
abbrev dktX11_knows_5 : List UInt8 := dkwX11_knows_5 ++ []
def dkwX11_knows_4 : List UInt8 := [167, 255, 201, 21, 4, 21, 6, 153, 0, 10, 4, 21, 5, 120, 167, 0, 4, 3, 128, 54, 4, 132, 5, 1]
abbrev dktX11_knows_4 : List UInt8 := dkwX11_knows_4 ++ dktX11_knows_5
def dkwX11_knows_3 : List UInt8 := [126, 160, 0, 13, 28, 21, 7, 122, 4, 126, 4, 160, 0, 7, 4, 167, 0, 4, 3, 54, 6, 132, 7, 1]
abbrev dktX11_knows_3 : List UInt8 := dkwX11_knows_3 ++ dktX11_knows_4
def dkwX11_knows_2 : List UInt8 := [21, 6, 153, 0, 40, 42, 180, 1, 29, 21, 7, 122, 4, 126, 153, 0, 24, 21, 7, 29, 126, 21, 5, 29]
abbrev dktX11_knows_2 : List UInt8 := dkwX11_knows_2 ++ dktX11_knows_3
def dkwX11_knows_1 : List UInt8 := [21, 5, 122, 4, 126, 154, 0, 6, 167, 0, 85, 4, 54, 6, 3, 54, 7, 21, 7, 16, 16, 162, 0, 54]
abbrev dktX11_knows_1 : List UInt8 := dkwX11_knows_1 ++ dktX11_knows_2
def dkwX11_knows_0 : List UInt8 := [42, 27, 182, 1, 158, 62, 3, 54, 4, 3, 54, 5, 21, 5, 16, 16, 162, 0, 106, 42, 180, 1, 29]
abbrev dktX11_knows_0 : List UInt8 := dkwX11_knows_0 ++ dktX11_knows_1
theorem dksX11_knows_0 : cX11_knows.data.toList.drop 0 = dktX11_knows_0 := by decide +kernel
theorem dksX11_knows_1 : cX11_knows.data.toList.drop 23 = dktX11_knows_1 := dk_seg dksX11_knows_0 23 rfl rfl
theorem dksX11_knows_2 : cX11_knows.data.toList.drop 47 = dktX11_knows_2 := dk_seg dksX11_knows_1 24 rfl rfl
theorem dksX11_knows_3 : cX11_knows.data.toList.drop 71 = dktX11_knows_3 := dk_seg dksX11_knows_2 24 rfl rfl
theorem dksX11_knows_4 : cX11_knows.data.toList.drop 95 = dktX11_knows_4 := dk_seg dksX11_knows_3 24 rfl rfl
theorem dksX11_knows_5 : cX11_knows.data.toList.drop 119 = dktX11_knows_5 := dk_seg dksX11_knows_4 24 rfl rfl
theorem dX11_knows_0 : decode cX11_knows 0 = .ok (.aload_n 0, 1) := dk_42 (dk_at dksX11_knows_0 0 rfl rfl)
theorem dX11_knows_1 : decode cX11_knows 1 = .ok (.iload_n 1, 1) := dk_27 (dk_at dksX11_knows_0 1 rfl rfl)
theorem dX11_knows_2 : decode cX11_knows 2 = .ok (.invokevirtual 414, 3) := dk_182 1 158 (dk_at dksX11_knows_0 2 rfl rfl)
theorem dX11_knows_5 : decode cX11_knows 5 = .ok (.istore_n 3, 1) := dk_62 (dk_at dksX11_knows_0 5 rfl rfl)
theorem dX11_knows_6 : decode cX11_knows 6 = .ok (.iconst 0, 1) := dk_3 (dk_at dksX11_knows_0 6 rfl rfl)
theorem dX11_knows_7 : decode cX11_knows 7 = .ok (.istore 4, 2) := dk_54 4 (dk_at dksX11_knows_0 7 rfl rfl)
theorem dX11_knows_9 : decode cX11_knows 9 = .ok (.iconst 0, 1) := dk_3 (dk_at dksX11_knows_0 9 rfl rfl)
theorem dX11_knows_10 : decode cX11_knows 10 = .ok (.istore 5, 2) := dk_54 5 (dk_at dksX11_knows_0 10 rfl rfl)
theorem dX11_knows_12 : decode cX11_knows 12 = .ok (.iload 5, 2) := dk_21 5 (dk_at dksX11_knows_0 12 rfl rfl)
theorem dX11_knows_14 : decode cX11_knows 14 = .ok (.bipush 16, 2) := dk_16 16 (dk_at dksX11_knows_0 14 rfl rfl)
theorem dX11_knows_16 : decode cX11_knows 16 = .ok (.if_icmp .ge 106, 3) := dk_162 0 106 (dk_at dksX11_knows_0 16 rfl rfl)
theorem dX11_knows_19 : decode cX11_knows 19 = .ok (.aload_n 0, 1) := dk_42 (dk_at dksX11_knows_0 19 rfl rfl)
theorem dX11_knows_20 : decode cX11_knows 20 = .ok (.getfield 285, 3) := dk_180 1 29 (dk_at dksX11_knows_0 20 rfl rfl)
theorem dX11_knows_23 : decode cX11_knows 23 = .ok (.iload 5, 2) := dk_21 5 (dk_at dksX11_knows_1 0 rfl rfl)
theorem dX11_knows_25 : decode cX11_knows 25 = .ok (.ishr, 1) := dk_122 (dk_at dksX11_knows_1 2 rfl rfl)
theorem dX11_knows_26 : decode cX11_knows 26 = .ok (.iconst 1, 1) := dk_4 (dk_at dksX11_knows_1 3 rfl rfl)
theorem dX11_knows_27 : decode cX11_knows 27 = .ok (.iand, 1) := dk_126 (dk_at dksX11_knows_1 4 rfl rfl)
theorem dX11_knows_28 : decode cX11_knows 28 = .ok (.ifCond .ne 6, 3) := dk_154 0 6 (dk_at dksX11_knows_1 5 rfl rfl)
theorem dX11_knows_31 : decode cX11_knows 31 = .ok (.goto 85, 3) := dk_167 0 85 (dk_at dksX11_knows_1 8 rfl rfl)
theorem dX11_knows_34 : decode cX11_knows 34 = .ok (.iconst 1, 1) := dk_4 (dk_at dksX11_knows_1 11 rfl rfl)
theorem dX11_knows_35 : decode cX11_knows 35 = .ok (.istore 6, 2) := dk_54 6 (dk_at dksX11_knows_1 12 rfl rfl)
theorem dX11_knows_37 : decode cX11_knows 37 = .ok (.iconst 0, 1) := dk_3 (dk_at dksX11_knows_1 14 rfl rfl)
theorem dX11_knows_38 : decode cX11_knows 38 = .ok (.istore 7, 2) := dk_54 7 (dk_at dksX11_knows_1 15 rfl rfl)
theorem dX11_knows_40 : decode cX11_knows 40 = .ok (.iload 7, 2) := dk_21 7 (dk_at dksX11_knows_1 17 rfl rfl)
theorem dX11_knows_42 : decode cX11_knows 42 = .ok (.bipush 16, 2) := dk_16 16 (dk_at dksX11_knows_1 19 rfl rfl)
theorem dX11_knows_44 : decode cX11_knows 44 = .ok (.if_icmp .ge 54, 3) := dk_162 0 54 (dk_at dksX11_knows_1 21 rfl rfl)
theorem dX11_knows_47 : decode cX11_knows 47 = .ok (.iload 6, 2) := dk_21 6 (dk_at dksX11_knows_2 0 rfl rfl)
theorem dX11_knows_49 : decode cX11_knows 49 = .ok (.ifCond .eq 40, 3) := dk_153 0 40 (dk_at dksX11_knows_2 2 rfl rfl)
theorem dX11_knows_52 : decode cX11_knows 52 = .ok (.aload_n 0, 1) := dk_42 (dk_at dksX11_knows_2 5 rfl rfl)
theorem dX11_knows_53 : decode cX11_knows 53 = .ok (.getfield 285, 3) := dk_180 1 29 (dk_at dksX11_knows_2 6 rfl rfl)
theorem dX11_knows_56 : decode cX11_knows 56 = .ok (.iload 7, 2) := dk_21 7 (dk_at dksX11_knows_2 9 rfl rfl)
theorem dX11_knows_58 : decode cX11_knows 58 = .ok (.ishr, 1) := dk_122 (dk_at dksX11_knows_2 11 rfl rfl)
theorem dX11_knows_59 : decode cX11_knows 59 = .ok (.iconst 1, 1) := dk_4 (dk_at dksX11_knows_2 12 rfl rfl)
theorem dX11_knows_60 : decode cX11_knows 60 = .ok (.iand, 1) := dk_126 (dk_at dksX11_knows_2 13 rfl rfl)
theorem dX11_knows_61 : decode cX11_knows 61 = .ok (.ifCond .eq 24, 3) := dk_153 0 24 (dk_at dksX11_knows_2 14 rfl rfl)
theorem dX11_knows_64 : decode cX11_knows 64 = .ok (.iload 7, 2) := dk_21 7 (dk_at dksX11_knows_2 17 rfl rfl)
theorem dX11_knows_66 : decode cX11_knows 66 = .ok (.iload_n 3, 1) := dk_29 (dk_at dksX11_knows_2 19 rfl rfl)
theorem dX11_knows_67 : decode cX11_knows 67 = .ok (.iand, 1) := dk_126 (dk_at dksX11_knows_2 20 rfl rfl)
theorem dX11_knows_68 : decode cX11_knows 68 = .ok (.iload 5, 2) := dk_21 5 (dk_at dksX11_knows_2 21 rfl rfl)
theorem dX11_knows_70 : decode cX11_knows 70 = .ok (.iload_n 3, 1) := dk_29 (dk_at dksX11_knows_2 23 rfl rfl)
theorem dX11_knows_71 : decode cX11_knows 71 = .ok (.iand, 1) := dk_126 (dk_at dksX11_knows_3 0 rfl rfl)
theorem dX11_knows_72 : decode cX11_knows 72 = .ok (.if_icmp .ne 13, 3) := dk_160 0 13 (dk_at dksX11_knows_3 1 rfl rfl)
theorem dX11_knows_75 : decode cX11_knows 75 = .ok (.iload_n 2, 1) := dk_28 (dk_at dksX11_knows_3 4 rfl rfl)
theorem dX11_knows_76 : decode cX11_knows 76 = .ok (.iload 7, 2) := dk_21 7 (dk_at dksX11_knows_3 5 rfl rfl)
theorem dX11_knows_78 : decode cX11_knows 78 = .ok (.ishr, 1) := dk_122 (dk_at dksX11_knows_3 7 rfl rfl)
theorem dX11_knows_79 : decode cX11_knows 79 = .ok (.iconst 1, 1) := dk_4 (dk_at dksX11_knows_3 8 rfl rfl)
theorem dX11_knows_80 : decode cX11_knows 80 = .ok (.iand, 1) := dk_126 (dk_at dksX11_knows_3 9 rfl rfl)
theorem dX11_knows_81 : decode cX11_knows 81 = .ok (.iconst 1, 1) := dk_4 (dk_at dksX11_knows_3 10 rfl rfl)
theorem dX11_knows_82 : decode cX11_knows 82 = .ok (.if_icmp .ne 7, 3) := dk_160 0 7 (dk_at dksX11_knows_3 11 rfl rfl)
theorem dX11_knows_85 : decode cX11_knows 85 = .ok (.iconst 1, 1) := dk_4 (dk_at dksX11_knows_3 14 rfl rfl)
theorem dX11_knows_86 : decode cX11_knows 86 = .ok (.goto 4, 3) := dk_167 0 4 (dk_at dksX11_knows_3 15 rfl rfl)
theorem dX11_knows_89 : decode cX11_knows 89 = .ok (.iconst 0, 1) := dk_3 (dk_at dksX11_knows_3 18 rfl rfl)
theorem dX11_knows_90 : decode cX11_knows 90 = .ok (.istore 6, 2) := dk_54 6 (dk_at dksX11_knows_3 19 rfl rfl)
theorem dX11_knows_92 : decode cX11_knows 92 = .ok (.iinc 7 1, 3) := dk_132 7 1 (dk_at dksX11_knows_3 21 rfl rfl)
theorem dX11_knows_95 : decode cX11_knows 95 = .ok (.goto (-55), 3) := dk_167 255 201 (dk_at dksX11_knows_4 0 rfl rfl)
theorem dX11_knows_98 : decode cX11_knows 98 = .ok (.iload 4, 2) := dk_21 4 (dk_at dksX11_knows_4 3 rfl rfl)
theorem dX11_knows_100 : decode cX11_knows 100 = .ok (.iload 6, 2) := dk_21 6 (dk_at dksX11_knows_4 5 rfl rfl)
theorem dX11_knows_102 : decode cX11_knows 102 = .ok (.ifCond .eq 10, 3) := dk_153 0 10 (dk_at dksX11_knows_4 7 rfl rfl)
theorem dX11_knows_105 : decode cX11_knows 105 = .ok (.iconst 1, 1) := dk_4 (dk_at dksX11_knows_4 10 rfl rfl)
theorem dX11_knows_106 : decode cX11_knows 106 = .ok (.iload 5, 2) := dk_21 5 (dk_at dksX11_knows_4 11 rfl rfl)
theorem dX11_knows_108 : decode cX11_knows 108 = .ok (.ishl, 1) := dk_120 (dk_at dksX11_knows_4 13 rfl rfl)
theorem dX11_knows_109 : decode cX11_knows 109 = .ok (.goto 4, 3) := dk_167 0 4 (dk_at dksX11_knows_4 14 rfl rfl)
theorem dX11_knows_112 : decode cX11_knows 112 = .ok (.iconst 0, 1) := dk_3 (dk_at dksX11_knows_4 17 rfl rfl)
theorem dX11_knows_113 : decode cX11_knows 113 = .ok (.ior, 1) := dk_128 (dk_at dksX11_knows_4 18 rfl rfl)
theorem dX11_knows_114 : decode cX11_knows 114 = .ok (.istore 4, 2) := dk_54 4 (dk_at dksX11_knows_4 19 rfl rfl)
theorem dX11_knows_116 : decode cX11_knows 116 = .ok (.iinc 5 1, 3) := dk_132 5 1 (dk_at dksX11_knows_4 21 rfl rfl)
theorem dX11_knows_119 : decode cX11_knows 119 = .ok (.goto (-107), 3) := dk_167 255 149 (dk_at dksX11_knows_5 0 rfl rfl)
theorem dX11_knows_122 : decode cX11_knows 122 = .ok (.iload 4, 2) := dk_21 4 (dk_at dksX11_knows_5 3 rfl rfl)
theorem dX11_knows_124 : decode cX11_knows 124 = .ok (.ireturn, 1) := dk_172 (dk_at dksX11_knows_5 5 rfl rfl)
abbrev cX11_seenBy : ByteArray := prog_19_method_80_code
def yX11_seenBy : MethodName := ⟨RX11, "seenBy", "(I)I"⟩
def dkwX11_seenBy_3 : List UInt8 := [132, 3, 1, 167, 255, 187, 28, 172]
abbrev dktX11_seenBy_3 : List UInt8 := dkwX11_seenBy_3 ++ []
def dkwX11_seenBy_2 : List UInt8 := [42, 180, 0, 26, 8, 21, 4, 104, 4, 96, 46, 160, 0, 9, 4, 29, 120, 167, 0, 4, 3, 128, 61]
abbrev dktX11_seenBy_2 : List UInt8 := dkwX11_seenBy_2 ++ dktX11_seenBy_3
def dkwX11_seenBy_1 : List UInt8 := [54, 4, 28, 42, 180, 0, 35, 16, 24, 27, 104, 42, 180, 0, 26, 8, 21, 4, 104, 5, 96, 46, 96, 46]
abbrev dktX11_seenBy_1 : List UInt8 := dkwX11_seenBy_1 ++ dktX11_seenBy_2
def dkwX11_seenBy_0 : List UInt8 := [3, 61, 3, 62, 29, 42, 180, 1, 26, 184, 1, 39, 162, 0, 64, 42, 180, 1, 26, 29, 184, 1, 155]
abbrev dktX11_seenBy_0 : List UInt8 := dkwX11_seenBy_0 ++ dktX11_seenBy_1
theorem dksX11_seenBy_0 : cX11_seenBy.data.toList.drop 0 = dktX11_seenBy_0 := by decide +kernel
theorem dksX11_seenBy_1 : cX11_seenBy.data.toList.drop 23 = dktX11_seenBy_1 := dk_seg dksX11_seenBy_0 23 rfl rfl
theorem dksX11_seenBy_2 : cX11_seenBy.data.toList.drop 47 = dktX11_seenBy_2 := dk_seg dksX11_seenBy_1 24 rfl rfl
theorem dksX11_seenBy_3 : cX11_seenBy.data.toList.drop 70 = dktX11_seenBy_3 := dk_seg dksX11_seenBy_2 23 rfl rfl
theorem dX11_seenBy_0 : decode cX11_seenBy 0 = .ok (.iconst 0, 1) := dk_3 (dk_at dksX11_seenBy_0 0 rfl rfl)
theorem dX11_seenBy_1 : decode cX11_seenBy 1 = .ok (.istore_n 2, 1) := dk_61 (dk_at dksX11_seenBy_0 1 rfl rfl)
theorem dX11_seenBy_2 : decode cX11_seenBy 2 = .ok (.iconst 0, 1) := dk_3 (dk_at dksX11_seenBy_0 2 rfl rfl)
theorem dX11_seenBy_3 : decode cX11_seenBy 3 = .ok (.istore_n 3, 1) := dk_62 (dk_at dksX11_seenBy_0 3 rfl rfl)
theorem dX11_seenBy_4 : decode cX11_seenBy 4 = .ok (.iload_n 3, 1) := dk_29 (dk_at dksX11_seenBy_0 4 rfl rfl)
theorem dX11_seenBy_5 : decode cX11_seenBy 5 = .ok (.aload_n 0, 1) := dk_42 (dk_at dksX11_seenBy_0 5 rfl rfl)
theorem dX11_seenBy_6 : decode cX11_seenBy 6 = .ok (.getfield 282, 3) := dk_180 1 26 (dk_at dksX11_seenBy_0 6 rfl rfl)
theorem dX11_seenBy_9 : decode cX11_seenBy 9 = .ok (.invokestatic 295, 3) := dk_184 1 39 (dk_at dksX11_seenBy_0 9 rfl rfl)
theorem dX11_seenBy_12 : decode cX11_seenBy 12 = .ok (.if_icmp .ge 64, 3) := dk_162 0 64 (dk_at dksX11_seenBy_0 12 rfl rfl)
theorem dX11_seenBy_15 : decode cX11_seenBy 15 = .ok (.aload_n 0, 1) := dk_42 (dk_at dksX11_seenBy_0 15 rfl rfl)
theorem dX11_seenBy_16 : decode cX11_seenBy 16 = .ok (.getfield 282, 3) := dk_180 1 26 (dk_at dksX11_seenBy_0 16 rfl rfl)
theorem dX11_seenBy_19 : decode cX11_seenBy 19 = .ok (.iload_n 3, 1) := dk_29 (dk_at dksX11_seenBy_0 19 rfl rfl)
theorem dX11_seenBy_20 : decode cX11_seenBy 20 = .ok (.invokestatic 411, 3) := dk_184 1 155 (dk_at dksX11_seenBy_0 20 rfl rfl)
theorem dX11_seenBy_23 : decode cX11_seenBy 23 = .ok (.istore 4, 2) := dk_54 4 (dk_at dksX11_seenBy_1 0 rfl rfl)
theorem dX11_seenBy_25 : decode cX11_seenBy 25 = .ok (.iload_n 2, 1) := dk_28 (dk_at dksX11_seenBy_1 2 rfl rfl)
theorem dX11_seenBy_26 : decode cX11_seenBy 26 = .ok (.aload_n 0, 1) := dk_42 (dk_at dksX11_seenBy_1 3 rfl rfl)
theorem dX11_seenBy_27 : decode cX11_seenBy 27 = .ok (.getfield 35, 3) := dk_180 0 35 (dk_at dksX11_seenBy_1 4 rfl rfl)
theorem dX11_seenBy_30 : decode cX11_seenBy 30 = .ok (.bipush 24, 2) := dk_16 24 (dk_at dksX11_seenBy_1 7 rfl rfl)
theorem dX11_seenBy_32 : decode cX11_seenBy 32 = .ok (.iload_n 1, 1) := dk_27 (dk_at dksX11_seenBy_1 9 rfl rfl)
theorem dX11_seenBy_33 : decode cX11_seenBy 33 = .ok (.imul, 1) := dk_104 (dk_at dksX11_seenBy_1 10 rfl rfl)
theorem dX11_seenBy_34 : decode cX11_seenBy 34 = .ok (.aload_n 0, 1) := dk_42 (dk_at dksX11_seenBy_1 11 rfl rfl)
theorem dX11_seenBy_35 : decode cX11_seenBy 35 = .ok (.getfield 26, 3) := dk_180 0 26 (dk_at dksX11_seenBy_1 12 rfl rfl)
theorem dX11_seenBy_38 : decode cX11_seenBy 38 = .ok (.iconst 5, 1) := dk_8 (dk_at dksX11_seenBy_1 15 rfl rfl)
theorem dX11_seenBy_39 : decode cX11_seenBy 39 = .ok (.iload 4, 2) := dk_21 4 (dk_at dksX11_seenBy_1 16 rfl rfl)
theorem dX11_seenBy_41 : decode cX11_seenBy 41 = .ok (.imul, 1) := dk_104 (dk_at dksX11_seenBy_1 18 rfl rfl)
theorem dX11_seenBy_42 : decode cX11_seenBy 42 = .ok (.iconst 2, 1) := dk_5 (dk_at dksX11_seenBy_1 19 rfl rfl)
theorem dX11_seenBy_43 : decode cX11_seenBy 43 = .ok (.iadd, 1) := dk_96 (dk_at dksX11_seenBy_1 20 rfl rfl)
theorem dX11_seenBy_44 : decode cX11_seenBy 44 = .ok (.iaload, 1) := dk_46 (dk_at dksX11_seenBy_1 21 rfl rfl)
theorem dX11_seenBy_45 : decode cX11_seenBy 45 = .ok (.iadd, 1) := dk_96 (dk_at dksX11_seenBy_1 22 rfl rfl)
theorem dX11_seenBy_46 : decode cX11_seenBy 46 = .ok (.iaload, 1) := dk_46 (dk_at dksX11_seenBy_1 23 rfl rfl)
theorem dX11_seenBy_47 : decode cX11_seenBy 47 = .ok (.aload_n 0, 1) := dk_42 (dk_at dksX11_seenBy_2 0 rfl rfl)
theorem dX11_seenBy_48 : decode cX11_seenBy 48 = .ok (.getfield 26, 3) := dk_180 0 26 (dk_at dksX11_seenBy_2 1 rfl rfl)
theorem dX11_seenBy_51 : decode cX11_seenBy 51 = .ok (.iconst 5, 1) := dk_8 (dk_at dksX11_seenBy_2 4 rfl rfl)
theorem dX11_seenBy_52 : decode cX11_seenBy 52 = .ok (.iload 4, 2) := dk_21 4 (dk_at dksX11_seenBy_2 5 rfl rfl)
theorem dX11_seenBy_54 : decode cX11_seenBy 54 = .ok (.imul, 1) := dk_104 (dk_at dksX11_seenBy_2 7 rfl rfl)
theorem dX11_seenBy_55 : decode cX11_seenBy 55 = .ok (.iconst 1, 1) := dk_4 (dk_at dksX11_seenBy_2 8 rfl rfl)
theorem dX11_seenBy_56 : decode cX11_seenBy 56 = .ok (.iadd, 1) := dk_96 (dk_at dksX11_seenBy_2 9 rfl rfl)
theorem dX11_seenBy_57 : decode cX11_seenBy 57 = .ok (.iaload, 1) := dk_46 (dk_at dksX11_seenBy_2 10 rfl rfl)
theorem dX11_seenBy_58 : decode cX11_seenBy 58 = .ok (.if_icmp .ne 9, 3) := dk_160 0 9 (dk_at dksX11_seenBy_2 11 rfl rfl)
theorem dX11_seenBy_61 : decode cX11_seenBy 61 = .ok (.iconst 1, 1) := dk_4 (dk_at dksX11_seenBy_2 14 rfl rfl)
theorem dX11_seenBy_62 : decode cX11_seenBy 62 = .ok (.iload_n 3, 1) := dk_29 (dk_at dksX11_seenBy_2 15 rfl rfl)
theorem dX11_seenBy_63 : decode cX11_seenBy 63 = .ok (.ishl, 1) := dk_120 (dk_at dksX11_seenBy_2 16 rfl rfl)
theorem dX11_seenBy_64 : decode cX11_seenBy 64 = .ok (.goto 4, 3) := dk_167 0 4 (dk_at dksX11_seenBy_2 17 rfl rfl)
theorem dX11_seenBy_67 : decode cX11_seenBy 67 = .ok (.iconst 0, 1) := dk_3 (dk_at dksX11_seenBy_2 20 rfl rfl)
theorem dX11_seenBy_68 : decode cX11_seenBy 68 = .ok (.ior, 1) := dk_128 (dk_at dksX11_seenBy_2 21 rfl rfl)
theorem dX11_seenBy_69 : decode cX11_seenBy 69 = .ok (.istore_n 2, 1) := dk_61 (dk_at dksX11_seenBy_2 22 rfl rfl)
theorem dX11_seenBy_70 : decode cX11_seenBy 70 = .ok (.iinc 3 1, 3) := dk_132 3 1 (dk_at dksX11_seenBy_3 0 rfl rfl)
theorem dX11_seenBy_73 : decode cX11_seenBy 73 = .ok (.goto (-69), 3) := dk_167 255 187 (dk_at dksX11_seenBy_3 3 rfl rfl)
theorem dX11_seenBy_76 : decode cX11_seenBy 76 = .ok (.iload_n 2, 1) := dk_28 (dk_at dksX11_seenBy_3 6 rfl rfl)
theorem dX11_seenBy_77 : decode cX11_seenBy 77 = .ok (.ireturn, 1) := dk_172 (dk_at dksX11_seenBy_3 7 rfl rfl)
abbrev cX11_low : ByteArray := prog_19_method_76_code
def yX11_low : MethodName := ⟨RX11, "low", "(II)I"⟩
def dkwX11_low_1 : List UInt8 := [29, 122, 4, 126, 154, 0, 9, 132, 3, 1, 167, 255, 245, 29, 172]
abbrev dktX11_low_1 : List UInt8 := dkwX11_low_1 ++ []
def dkwX11_low_0 : List UInt8 := [26, 61, 3, 62, 29, 27, 162, 0, 15, 28, 28, 4, 100, 126, 61, 132, 3, 1, 167, 255, 242, 3, 62, 28]
abbrev dktX11_low_0 : List UInt8 := dkwX11_low_0 ++ dktX11_low_1
theorem dksX11_low_0 : cX11_low.data.toList.drop 0 = dktX11_low_0 := by decide +kernel
theorem dksX11_low_1 : cX11_low.data.toList.drop 24 = dktX11_low_1 := dk_seg dksX11_low_0 24 rfl rfl
theorem dX11_low_0 : decode cX11_low 0 = .ok (.iload_n 0, 1) := dk_26 (dk_at dksX11_low_0 0 rfl rfl)
theorem dX11_low_1 : decode cX11_low 1 = .ok (.istore_n 2, 1) := dk_61 (dk_at dksX11_low_0 1 rfl rfl)
theorem dX11_low_2 : decode cX11_low 2 = .ok (.iconst 0, 1) := dk_3 (dk_at dksX11_low_0 2 rfl rfl)
theorem dX11_low_3 : decode cX11_low 3 = .ok (.istore_n 3, 1) := dk_62 (dk_at dksX11_low_0 3 rfl rfl)
theorem dX11_low_4 : decode cX11_low 4 = .ok (.iload_n 3, 1) := dk_29 (dk_at dksX11_low_0 4 rfl rfl)
theorem dX11_low_5 : decode cX11_low 5 = .ok (.iload_n 1, 1) := dk_27 (dk_at dksX11_low_0 5 rfl rfl)
theorem dX11_low_6 : decode cX11_low 6 = .ok (.if_icmp .ge 15, 3) := dk_162 0 15 (dk_at dksX11_low_0 6 rfl rfl)
theorem dX11_low_9 : decode cX11_low 9 = .ok (.iload_n 2, 1) := dk_28 (dk_at dksX11_low_0 9 rfl rfl)
theorem dX11_low_10 : decode cX11_low 10 = .ok (.iload_n 2, 1) := dk_28 (dk_at dksX11_low_0 10 rfl rfl)
theorem dX11_low_11 : decode cX11_low 11 = .ok (.iconst 1, 1) := dk_4 (dk_at dksX11_low_0 11 rfl rfl)
theorem dX11_low_12 : decode cX11_low 12 = .ok (.isub, 1) := dk_100 (dk_at dksX11_low_0 12 rfl rfl)
theorem dX11_low_13 : decode cX11_low 13 = .ok (.iand, 1) := dk_126 (dk_at dksX11_low_0 13 rfl rfl)
theorem dX11_low_14 : decode cX11_low 14 = .ok (.istore_n 2, 1) := dk_61 (dk_at dksX11_low_0 14 rfl rfl)
theorem dX11_low_15 : decode cX11_low 15 = .ok (.iinc 3 1, 3) := dk_132 3 1 (dk_at dksX11_low_0 15 rfl rfl)
theorem dX11_low_18 : decode cX11_low 18 = .ok (.goto (-14), 3) := dk_167 255 242 (dk_at dksX11_low_0 18 rfl rfl)
theorem dX11_low_21 : decode cX11_low 21 = .ok (.iconst 0, 1) := dk_3 (dk_at dksX11_low_0 21 rfl rfl)
theorem dX11_low_22 : decode cX11_low 22 = .ok (.istore_n 3, 1) := dk_62 (dk_at dksX11_low_0 22 rfl rfl)
theorem dX11_low_23 : decode cX11_low 23 = .ok (.iload_n 2, 1) := dk_28 (dk_at dksX11_low_0 23 rfl rfl)
theorem dX11_low_24 : decode cX11_low 24 = .ok (.iload_n 3, 1) := dk_29 (dk_at dksX11_low_1 0 rfl rfl)
theorem dX11_low_25 : decode cX11_low 25 = .ok (.ishr, 1) := dk_122 (dk_at dksX11_low_1 1 rfl rfl)
theorem dX11_low_26 : decode cX11_low 26 = .ok (.iconst 1, 1) := dk_4 (dk_at dksX11_low_1 2 rfl rfl)
theorem dX11_low_27 : decode cX11_low 27 = .ok (.iand, 1) := dk_126 (dk_at dksX11_low_1 3 rfl rfl)
theorem dX11_low_28 : decode cX11_low 28 = .ok (.ifCond .ne 9, 3) := dk_154 0 9 (dk_at dksX11_low_1 4 rfl rfl)
theorem dX11_low_31 : decode cX11_low 31 = .ok (.iinc 3 1, 3) := dk_132 3 1 (dk_at dksX11_low_1 7 rfl rfl)
theorem dX11_low_34 : decode cX11_low 34 = .ok (.goto (-11), 3) := dk_167 255 245 (dk_at dksX11_low_1 10 rfl rfl)
theorem dX11_low_37 : decode cX11_low 37 = .ok (.iload_n 3, 1) := dk_29 (dk_at dksX11_low_1 13 rfl rfl)
theorem dX11_low_38 : decode cX11_low 38 = .ok (.ireturn, 1) := dk_172 (dk_at dksX11_low_1 14 rfl rfl)
abbrev cX11_real : ByteArray := prog_19_method_79_code
def yX11_real : MethodName := ⟨RX11, "real", "()I"⟩
def dkwX11_real_2 : List UInt8 := [132, 2, 1, 167, 255, 212, 27, 172]
abbrev dktX11_real_2 : List UInt8 := dkwX11_real_2 ++ []
def dkwX11_real_1 : List UInt8 := [180, 1, 26, 28, 184, 1, 155, 104, 7, 96, 46, 154, 0, 9, 4, 28, 120, 167, 0, 4, 3, 128, 60]
abbrev dktX11_real_1 : List UInt8 := dkwX11_real_1 ++ dktX11_real_2
def dkwX11_real_0 : List UInt8 := [3, 60, 3, 61, 28, 42, 180, 1, 26, 184, 1, 39, 162, 0, 39, 27, 42, 180, 0, 26, 8, 42]
abbrev dktX11_real_0 : List UInt8 := dkwX11_real_0 ++ dktX11_real_1
theorem dksX11_real_0 : cX11_real.data.toList.drop 0 = dktX11_real_0 := by decide +kernel
theorem dksX11_real_1 : cX11_real.data.toList.drop 22 = dktX11_real_1 := dk_seg dksX11_real_0 22 rfl rfl
theorem dksX11_real_2 : cX11_real.data.toList.drop 45 = dktX11_real_2 := dk_seg dksX11_real_1 23 rfl rfl
theorem dX11_real_0 : decode cX11_real 0 = .ok (.iconst 0, 1) := dk_3 (dk_at dksX11_real_0 0 rfl rfl)
theorem dX11_real_1 : decode cX11_real 1 = .ok (.istore_n 1, 1) := dk_60 (dk_at dksX11_real_0 1 rfl rfl)
theorem dX11_real_2 : decode cX11_real 2 = .ok (.iconst 0, 1) := dk_3 (dk_at dksX11_real_0 2 rfl rfl)
theorem dX11_real_3 : decode cX11_real 3 = .ok (.istore_n 2, 1) := dk_61 (dk_at dksX11_real_0 3 rfl rfl)
theorem dX11_real_4 : decode cX11_real 4 = .ok (.iload_n 2, 1) := dk_28 (dk_at dksX11_real_0 4 rfl rfl)
theorem dX11_real_5 : decode cX11_real 5 = .ok (.aload_n 0, 1) := dk_42 (dk_at dksX11_real_0 5 rfl rfl)
theorem dX11_real_6 : decode cX11_real 6 = .ok (.getfield 282, 3) := dk_180 1 26 (dk_at dksX11_real_0 6 rfl rfl)
theorem dX11_real_9 : decode cX11_real 9 = .ok (.invokestatic 295, 3) := dk_184 1 39 (dk_at dksX11_real_0 9 rfl rfl)
theorem dX11_real_12 : decode cX11_real 12 = .ok (.if_icmp .ge 39, 3) := dk_162 0 39 (dk_at dksX11_real_0 12 rfl rfl)
theorem dX11_real_15 : decode cX11_real 15 = .ok (.iload_n 1, 1) := dk_27 (dk_at dksX11_real_0 15 rfl rfl)
theorem dX11_real_16 : decode cX11_real 16 = .ok (.aload_n 0, 1) := dk_42 (dk_at dksX11_real_0 16 rfl rfl)
theorem dX11_real_17 : decode cX11_real 17 = .ok (.getfield 26, 3) := dk_180 0 26 (dk_at dksX11_real_0 17 rfl rfl)
theorem dX11_real_20 : decode cX11_real 20 = .ok (.iconst 5, 1) := dk_8 (dk_at dksX11_real_0 20 rfl rfl)
theorem dX11_real_21 : decode cX11_real 21 = .ok (.aload_n 0, 1) := dk_42 (dk_at dksX11_real_0 21 rfl rfl)
theorem dX11_real_22 : decode cX11_real 22 = .ok (.getfield 282, 3) := dk_180 1 26 (dk_at dksX11_real_1 0 rfl rfl)
theorem dX11_real_25 : decode cX11_real 25 = .ok (.iload_n 2, 1) := dk_28 (dk_at dksX11_real_1 3 rfl rfl)
theorem dX11_real_26 : decode cX11_real 26 = .ok (.invokestatic 411, 3) := dk_184 1 155 (dk_at dksX11_real_1 4 rfl rfl)
theorem dX11_real_29 : decode cX11_real 29 = .ok (.imul, 1) := dk_104 (dk_at dksX11_real_1 7 rfl rfl)
theorem dX11_real_30 : decode cX11_real 30 = .ok (.iconst 4, 1) := dk_7 (dk_at dksX11_real_1 8 rfl rfl)
theorem dX11_real_31 : decode cX11_real 31 = .ok (.iadd, 1) := dk_96 (dk_at dksX11_real_1 9 rfl rfl)
theorem dX11_real_32 : decode cX11_real 32 = .ok (.iaload, 1) := dk_46 (dk_at dksX11_real_1 10 rfl rfl)
theorem dX11_real_33 : decode cX11_real 33 = .ok (.ifCond .ne 9, 3) := dk_154 0 9 (dk_at dksX11_real_1 11 rfl rfl)
theorem dX11_real_36 : decode cX11_real 36 = .ok (.iconst 1, 1) := dk_4 (dk_at dksX11_real_1 14 rfl rfl)
theorem dX11_real_37 : decode cX11_real 37 = .ok (.iload_n 2, 1) := dk_28 (dk_at dksX11_real_1 15 rfl rfl)
theorem dX11_real_38 : decode cX11_real 38 = .ok (.ishl, 1) := dk_120 (dk_at dksX11_real_1 16 rfl rfl)
theorem dX11_real_39 : decode cX11_real 39 = .ok (.goto 4, 3) := dk_167 0 4 (dk_at dksX11_real_1 17 rfl rfl)
theorem dX11_real_42 : decode cX11_real 42 = .ok (.iconst 0, 1) := dk_3 (dk_at dksX11_real_1 20 rfl rfl)
theorem dX11_real_43 : decode cX11_real 43 = .ok (.ior, 1) := dk_128 (dk_at dksX11_real_1 21 rfl rfl)
theorem dX11_real_44 : decode cX11_real 44 = .ok (.istore_n 1, 1) := dk_60 (dk_at dksX11_real_1 22 rfl rfl)
theorem dX11_real_45 : decode cX11_real 45 = .ok (.iinc 2 1, 3) := dk_132 2 1 (dk_at dksX11_real_2 0 rfl rfl)
theorem dX11_real_48 : decode cX11_real 48 = .ok (.goto (-44), 3) := dk_167 255 212 (dk_at dksX11_real_2 3 rfl rfl)
theorem dX11_real_51 : decode cX11_real 51 = .ok (.iload_n 1, 1) := dk_27 (dk_at dksX11_real_2 6 rfl rfl)
theorem dX11_real_52 : decode cX11_real 52 = .ok (.ireturn, 1) := dk_172 (dk_at dksX11_real_2 7 rfl rfl)
abbrev cX11_known : ByteArray := prog_19_method_84_code
def yX11_known : MethodName := ⟨RX11, "known", "(IIIZ)Z"⟩
def dkwX11_known_6 : List UInt8 := [167, 0, 4, 3, 172]
abbrev dktX11_known_6 : List UInt8 := dkwX11_known_6 ++ []
def dkwX11_known_5 : List UInt8 := [54, 5, 132, 6, 255, 167, 255, 231, 21, 5, 42, 182, 1, 171, 122, 4, 126, 4, 160, 0, 7, 4]
abbrev dktX11_known_5 : List UInt8 := dkwX11_known_5 ++ dktX11_known_6
def dkwX11_known_4 : List UInt8 := [4, 100, 54, 6, 21, 6, 155, 0, 26, 42, 27, 6, 21, 6, 104, 122, 16, 7, 126, 21, 5, 182, 1, 168]
abbrev dktX11_known_4 : List UInt8 := dkwX11_known_4 ++ dktX11_known_5
def dkwX11_known_3 : List UInt8 := [167, 255, 216, 42, 29, 182, 1, 161, 2, 160, 0, 5, 3, 172, 42, 29, 21, 4, 182, 1, 164, 54, 5, 28]
abbrev dktX11_known_3 : List UInt8 := dkwX11_known_3 ++ dktX11_known_4
def dkwX11_known_2 : List UInt8 := [42, 180, 1, 10, 162, 0, 7, 4, 167, 0, 4, 3, 5, 182, 0, 250, 154, 0, 5, 3, 172, 132, 5, 1]
abbrev dktX11_known_2 : List UInt8 := dkwX11_known_2 ++ dktX11_known_3
def dkwX11_known_1 : List UInt8 := [154, 0, 5, 3, 172, 3, 54, 5, 21, 5, 28, 162, 0, 40, 42, 27, 6, 21, 5, 104, 122, 16, 7, 126]
abbrev dktX11_known_1 : List UInt8 := dkwX11_known_1 ++ dktX11_known_2
def dkwX11_known_0 : List UInt8 := [42, 3, 181, 0, 122, 42, 29, 182, 1, 46, 153, 0, 17, 42, 28, 4, 7, 184, 1, 35, 5, 182, 0, 250]
abbrev dktX11_known_0 : List UInt8 := dkwX11_known_0 ++ dktX11_known_1
theorem dksX11_known_0 : cX11_known.data.toList.drop 0 = dktX11_known_0 := by decide +kernel
theorem dksX11_known_1 : cX11_known.data.toList.drop 24 = dktX11_known_1 := dk_seg dksX11_known_0 24 rfl rfl
theorem dksX11_known_2 : cX11_known.data.toList.drop 48 = dktX11_known_2 := dk_seg dksX11_known_1 24 rfl rfl
theorem dksX11_known_3 : cX11_known.data.toList.drop 72 = dktX11_known_3 := dk_seg dksX11_known_2 24 rfl rfl
theorem dksX11_known_4 : cX11_known.data.toList.drop 96 = dktX11_known_4 := dk_seg dksX11_known_3 24 rfl rfl
theorem dksX11_known_5 : cX11_known.data.toList.drop 120 = dktX11_known_5 := dk_seg dksX11_known_4 24 rfl rfl
theorem dksX11_known_6 : cX11_known.data.toList.drop 142 = dktX11_known_6 := dk_seg dksX11_known_5 22 rfl rfl
theorem dX11_known_0 : decode cX11_known 0 = .ok (.aload_n 0, 1) := dk_42 (dk_at dksX11_known_0 0 rfl rfl)
theorem dX11_known_1 : decode cX11_known 1 = .ok (.iconst 0, 1) := dk_3 (dk_at dksX11_known_0 1 rfl rfl)
theorem dX11_known_2 : decode cX11_known 2 = .ok (.putfield 122, 3) := dk_181 0 122 (dk_at dksX11_known_0 2 rfl rfl)
theorem dX11_known_5 : decode cX11_known 5 = .ok (.aload_n 0, 1) := dk_42 (dk_at dksX11_known_0 5 rfl rfl)
theorem dX11_known_6 : decode cX11_known 6 = .ok (.iload_n 3, 1) := dk_29 (dk_at dksX11_known_0 6 rfl rfl)
theorem dX11_known_7 : decode cX11_known 7 = .ok (.invokevirtual 302, 3) := dk_182 1 46 (dk_at dksX11_known_0 7 rfl rfl)
theorem dX11_known_10 : decode cX11_known 10 = .ok (.ifCond .eq 17, 3) := dk_153 0 17 (dk_at dksX11_known_0 10 rfl rfl)
theorem dX11_known_13 : decode cX11_known 13 = .ok (.aload_n 0, 1) := dk_42 (dk_at dksX11_known_0 13 rfl rfl)
theorem dX11_known_14 : decode cX11_known 14 = .ok (.iload_n 2, 1) := dk_28 (dk_at dksX11_known_0 14 rfl rfl)
theorem dX11_known_15 : decode cX11_known 15 = .ok (.iconst 1, 1) := dk_4 (dk_at dksX11_known_0 15 rfl rfl)
theorem dX11_known_16 : decode cX11_known 16 = .ok (.iconst 4, 1) := dk_7 (dk_at dksX11_known_0 16 rfl rfl)
theorem dX11_known_17 : decode cX11_known 17 = .ok (.invokestatic 291, 3) := dk_184 1 35 (dk_at dksX11_known_0 17 rfl rfl)
theorem dX11_known_20 : decode cX11_known 20 = .ok (.iconst 2, 1) := dk_5 (dk_at dksX11_known_0 20 rfl rfl)
theorem dX11_known_21 : decode cX11_known 21 = .ok (.invokevirtual 250, 3) := dk_182 0 250 (dk_at dksX11_known_0 21 rfl rfl)
theorem dX11_known_24 : decode cX11_known 24 = .ok (.ifCond .ne 5, 3) := dk_154 0 5 (dk_at dksX11_known_1 0 rfl rfl)
theorem dX11_known_27 : decode cX11_known 27 = .ok (.iconst 0, 1) := dk_3 (dk_at dksX11_known_1 3 rfl rfl)
theorem dX11_known_28 : decode cX11_known 28 = .ok (.ireturn, 1) := dk_172 (dk_at dksX11_known_1 4 rfl rfl)
theorem dX11_known_29 : decode cX11_known 29 = .ok (.iconst 0, 1) := dk_3 (dk_at dksX11_known_1 5 rfl rfl)
theorem dX11_known_30 : decode cX11_known 30 = .ok (.istore 5, 2) := dk_54 5 (dk_at dksX11_known_1 6 rfl rfl)
theorem dX11_known_32 : decode cX11_known 32 = .ok (.iload 5, 2) := dk_21 5 (dk_at dksX11_known_1 8 rfl rfl)
theorem dX11_known_34 : decode cX11_known 34 = .ok (.iload_n 2, 1) := dk_28 (dk_at dksX11_known_1 10 rfl rfl)
theorem dX11_known_35 : decode cX11_known 35 = .ok (.if_icmp .ge 40, 3) := dk_162 0 40 (dk_at dksX11_known_1 11 rfl rfl)
theorem dX11_known_38 : decode cX11_known 38 = .ok (.aload_n 0, 1) := dk_42 (dk_at dksX11_known_1 14 rfl rfl)
theorem dX11_known_39 : decode cX11_known 39 = .ok (.iload_n 1, 1) := dk_27 (dk_at dksX11_known_1 15 rfl rfl)
theorem dX11_known_40 : decode cX11_known 40 = .ok (.iconst 3, 1) := dk_6 (dk_at dksX11_known_1 16 rfl rfl)
theorem dX11_known_41 : decode cX11_known 41 = .ok (.iload 5, 2) := dk_21 5 (dk_at dksX11_known_1 17 rfl rfl)
theorem dX11_known_43 : decode cX11_known 43 = .ok (.imul, 1) := dk_104 (dk_at dksX11_known_1 19 rfl rfl)
theorem dX11_known_44 : decode cX11_known 44 = .ok (.ishr, 1) := dk_122 (dk_at dksX11_known_1 20 rfl rfl)
theorem dX11_known_45 : decode cX11_known 45 = .ok (.bipush 7, 2) := dk_16 7 (dk_at dksX11_known_1 21 rfl rfl)
theorem dX11_known_47 : decode cX11_known 47 = .ok (.iand, 1) := dk_126 (dk_at dksX11_known_1 23 rfl rfl)
theorem dX11_known_48 : decode cX11_known 48 = .ok (.aload_n 0, 1) := dk_42 (dk_at dksX11_known_2 0 rfl rfl)
theorem dX11_known_49 : decode cX11_known 49 = .ok (.getfield 266, 3) := dk_180 1 10 (dk_at dksX11_known_2 1 rfl rfl)
theorem dX11_known_52 : decode cX11_known 52 = .ok (.if_icmp .ge 7, 3) := dk_162 0 7 (dk_at dksX11_known_2 4 rfl rfl)
theorem dX11_known_55 : decode cX11_known 55 = .ok (.iconst 1, 1) := dk_4 (dk_at dksX11_known_2 7 rfl rfl)
theorem dX11_known_56 : decode cX11_known 56 = .ok (.goto 4, 3) := dk_167 0 4 (dk_at dksX11_known_2 8 rfl rfl)
theorem dX11_known_59 : decode cX11_known 59 = .ok (.iconst 0, 1) := dk_3 (dk_at dksX11_known_2 11 rfl rfl)
theorem dX11_known_60 : decode cX11_known 60 = .ok (.iconst 2, 1) := dk_5 (dk_at dksX11_known_2 12 rfl rfl)
theorem dX11_known_61 : decode cX11_known 61 = .ok (.invokevirtual 250, 3) := dk_182 0 250 (dk_at dksX11_known_2 13 rfl rfl)
theorem dX11_known_64 : decode cX11_known 64 = .ok (.ifCond .ne 5, 3) := dk_154 0 5 (dk_at dksX11_known_2 16 rfl rfl)
theorem dX11_known_67 : decode cX11_known 67 = .ok (.iconst 0, 1) := dk_3 (dk_at dksX11_known_2 19 rfl rfl)
theorem dX11_known_68 : decode cX11_known 68 = .ok (.ireturn, 1) := dk_172 (dk_at dksX11_known_2 20 rfl rfl)
theorem dX11_known_69 : decode cX11_known 69 = .ok (.iinc 5 1, 3) := dk_132 5 1 (dk_at dksX11_known_2 21 rfl rfl)
theorem dX11_known_72 : decode cX11_known 72 = .ok (.goto (-40), 3) := dk_167 255 216 (dk_at dksX11_known_3 0 rfl rfl)
theorem dX11_known_75 : decode cX11_known 75 = .ok (.aload_n 0, 1) := dk_42 (dk_at dksX11_known_3 3 rfl rfl)
theorem dX11_known_76 : decode cX11_known 76 = .ok (.iload_n 3, 1) := dk_29 (dk_at dksX11_known_3 4 rfl rfl)
theorem dX11_known_77 : decode cX11_known 77 = .ok (.invokevirtual 417, 3) := dk_182 1 161 (dk_at dksX11_known_3 5 rfl rfl)
theorem dX11_known_80 : decode cX11_known 80 = .ok (.iconst (-1), 1) := dk_2 (dk_at dksX11_known_3 8 rfl rfl)
theorem dX11_known_81 : decode cX11_known 81 = .ok (.if_icmp .ne 5, 3) := dk_160 0 5 (dk_at dksX11_known_3 9 rfl rfl)
theorem dX11_known_84 : decode cX11_known 84 = .ok (.iconst 0, 1) := dk_3 (dk_at dksX11_known_3 12 rfl rfl)
theorem dX11_known_85 : decode cX11_known 85 = .ok (.ireturn, 1) := dk_172 (dk_at dksX11_known_3 13 rfl rfl)
theorem dX11_known_86 : decode cX11_known 86 = .ok (.aload_n 0, 1) := dk_42 (dk_at dksX11_known_3 14 rfl rfl)
theorem dX11_known_87 : decode cX11_known 87 = .ok (.iload_n 3, 1) := dk_29 (dk_at dksX11_known_3 15 rfl rfl)
theorem dX11_known_88 : decode cX11_known 88 = .ok (.iload 4, 2) := dk_21 4 (dk_at dksX11_known_3 16 rfl rfl)
theorem dX11_known_90 : decode cX11_known 90 = .ok (.invokevirtual 420, 3) := dk_182 1 164 (dk_at dksX11_known_3 18 rfl rfl)
theorem dX11_known_93 : decode cX11_known 93 = .ok (.istore 5, 2) := dk_54 5 (dk_at dksX11_known_3 21 rfl rfl)
theorem dX11_known_95 : decode cX11_known 95 = .ok (.iload_n 2, 1) := dk_28 (dk_at dksX11_known_3 23 rfl rfl)
theorem dX11_known_96 : decode cX11_known 96 = .ok (.iconst 1, 1) := dk_4 (dk_at dksX11_known_4 0 rfl rfl)
theorem dX11_known_97 : decode cX11_known 97 = .ok (.isub, 1) := dk_100 (dk_at dksX11_known_4 1 rfl rfl)
theorem dX11_known_98 : decode cX11_known 98 = .ok (.istore 6, 2) := dk_54 6 (dk_at dksX11_known_4 2 rfl rfl)
theorem dX11_known_100 : decode cX11_known 100 = .ok (.iload 6, 2) := dk_21 6 (dk_at dksX11_known_4 4 rfl rfl)
theorem dX11_known_102 : decode cX11_known 102 = .ok (.ifCond .lt 26, 3) := dk_155 0 26 (dk_at dksX11_known_4 6 rfl rfl)
theorem dX11_known_105 : decode cX11_known 105 = .ok (.aload_n 0, 1) := dk_42 (dk_at dksX11_known_4 9 rfl rfl)
theorem dX11_known_106 : decode cX11_known 106 = .ok (.iload_n 1, 1) := dk_27 (dk_at dksX11_known_4 10 rfl rfl)
theorem dX11_known_107 : decode cX11_known 107 = .ok (.iconst 3, 1) := dk_6 (dk_at dksX11_known_4 11 rfl rfl)
theorem dX11_known_108 : decode cX11_known 108 = .ok (.iload 6, 2) := dk_21 6 (dk_at dksX11_known_4 12 rfl rfl)
theorem dX11_known_110 : decode cX11_known 110 = .ok (.imul, 1) := dk_104 (dk_at dksX11_known_4 14 rfl rfl)
theorem dX11_known_111 : decode cX11_known 111 = .ok (.ishr, 1) := dk_122 (dk_at dksX11_known_4 15 rfl rfl)
theorem dX11_known_112 : decode cX11_known 112 = .ok (.bipush 7, 2) := dk_16 7 (dk_at dksX11_known_4 16 rfl rfl)
theorem dX11_known_114 : decode cX11_known 114 = .ok (.iand, 1) := dk_126 (dk_at dksX11_known_4 18 rfl rfl)
theorem dX11_known_115 : decode cX11_known 115 = .ok (.iload 5, 2) := dk_21 5 (dk_at dksX11_known_4 19 rfl rfl)
theorem dX11_known_117 : decode cX11_known 117 = .ok (.invokevirtual 424, 3) := dk_182 1 168 (dk_at dksX11_known_4 21 rfl rfl)
theorem dX11_known_120 : decode cX11_known 120 = .ok (.istore 5, 2) := dk_54 5 (dk_at dksX11_known_5 0 rfl rfl)
theorem dX11_known_122 : decode cX11_known 122 = .ok (.iinc 6 (-1), 3) := dk_132 6 255 (dk_at dksX11_known_5 2 rfl rfl)
theorem dX11_known_125 : decode cX11_known 125 = .ok (.goto (-25), 3) := dk_167 255 231 (dk_at dksX11_known_5 5 rfl rfl)
theorem dX11_known_128 : decode cX11_known 128 = .ok (.iload 5, 2) := dk_21 5 (dk_at dksX11_known_5 8 rfl rfl)
theorem dX11_known_130 : decode cX11_known 130 = .ok (.aload_n 0, 1) := dk_42 (dk_at dksX11_known_5 10 rfl rfl)
theorem dX11_known_131 : decode cX11_known 131 = .ok (.invokevirtual 427, 3) := dk_182 1 171 (dk_at dksX11_known_5 11 rfl rfl)
theorem dX11_known_134 : decode cX11_known 134 = .ok (.ishr, 1) := dk_122 (dk_at dksX11_known_5 14 rfl rfl)
theorem dX11_known_135 : decode cX11_known 135 = .ok (.iconst 1, 1) := dk_4 (dk_at dksX11_known_5 15 rfl rfl)
theorem dX11_known_136 : decode cX11_known 136 = .ok (.iand, 1) := dk_126 (dk_at dksX11_known_5 16 rfl rfl)
theorem dX11_known_137 : decode cX11_known 137 = .ok (.iconst 1, 1) := dk_4 (dk_at dksX11_known_5 17 rfl rfl)
theorem dX11_known_138 : decode cX11_known 138 = .ok (.if_icmp .ne 7, 3) := dk_160 0 7 (dk_at dksX11_known_5 18 rfl rfl)
theorem dX11_known_141 : decode cX11_known 141 = .ok (.iconst 1, 1) := dk_4 (dk_at dksX11_known_5 21 rfl rfl)
theorem dX11_known_142 : decode cX11_known 142 = .ok (.goto 4, 3) := dk_167 0 4 (dk_at dksX11_known_6 0 rfl rfl)
theorem dX11_known_145 : decode cX11_known 145 = .ok (.iconst 0, 1) := dk_3 (dk_at dksX11_known_6 3 rfl rfl)
theorem dX11_known_146 : decode cX11_known 146 = .ok (.ireturn, 1) := dk_172 (dk_at dksX11_known_6 4 rfl rfl)
abbrev cX11_image : ByteArray := prog_19_method_85_code
def yX11_image : MethodName := ⟨RX11, "image", "()V"⟩
def dkwX11_image_1 : List UInt8 := [181, 1, 177, 42, 42, 180, 1, 29, 181, 1, 180, 42, 42, 180, 0, 83, 42, 180, 0, 119, 182, 1, 19, 177]
abbrev dktX11_image_1 : List UInt8 := dkwX11_image_1 ++ []
def dkwX11_image_0 : List UInt8 := [42, 3, 181, 0, 122, 42, 4, 181, 1, 32, 42, 42, 180, 1, 23, 181, 1, 174, 42, 42, 180, 1, 26]
abbrev dktX11_image_0 : List UInt8 := dkwX11_image_0 ++ dktX11_image_1
theorem dksX11_image_0 : cX11_image.data.toList.drop 0 = dktX11_image_0 := by decide +kernel
theorem dksX11_image_1 : cX11_image.data.toList.drop 23 = dktX11_image_1 := dk_seg dksX11_image_0 23 rfl rfl
theorem dX11_image_0 : decode cX11_image 0 = .ok (.aload_n 0, 1) := dk_42 (dk_at dksX11_image_0 0 rfl rfl)
theorem dX11_image_1 : decode cX11_image 1 = .ok (.iconst 0, 1) := dk_3 (dk_at dksX11_image_0 1 rfl rfl)
theorem dX11_image_2 : decode cX11_image 2 = .ok (.putfield 122, 3) := dk_181 0 122 (dk_at dksX11_image_0 2 rfl rfl)
theorem dX11_image_5 : decode cX11_image 5 = .ok (.aload_n 0, 1) := dk_42 (dk_at dksX11_image_0 5 rfl rfl)
theorem dX11_image_6 : decode cX11_image 6 = .ok (.iconst 1, 1) := dk_4 (dk_at dksX11_image_0 6 rfl rfl)
theorem dX11_image_7 : decode cX11_image 7 = .ok (.putfield 288, 3) := dk_181 1 32 (dk_at dksX11_image_0 7 rfl rfl)
theorem dX11_image_10 : decode cX11_image 10 = .ok (.aload_n 0, 1) := dk_42 (dk_at dksX11_image_0 10 rfl rfl)
theorem dX11_image_11 : decode cX11_image 11 = .ok (.aload_n 0, 1) := dk_42 (dk_at dksX11_image_0 11 rfl rfl)
theorem dX11_image_12 : decode cX11_image 12 = .ok (.getfield 279, 3) := dk_180 1 23 (dk_at dksX11_image_0 12 rfl rfl)
theorem dX11_image_15 : decode cX11_image 15 = .ok (.putfield 430, 3) := dk_181 1 174 (dk_at dksX11_image_0 15 rfl rfl)
theorem dX11_image_18 : decode cX11_image 18 = .ok (.aload_n 0, 1) := dk_42 (dk_at dksX11_image_0 18 rfl rfl)
theorem dX11_image_19 : decode cX11_image 19 = .ok (.aload_n 0, 1) := dk_42 (dk_at dksX11_image_0 19 rfl rfl)
theorem dX11_image_20 : decode cX11_image 20 = .ok (.getfield 282, 3) := dk_180 1 26 (dk_at dksX11_image_0 20 rfl rfl)
theorem dX11_image_23 : decode cX11_image 23 = .ok (.putfield 433, 3) := dk_181 1 177 (dk_at dksX11_image_1 0 rfl rfl)
theorem dX11_image_26 : decode cX11_image 26 = .ok (.aload_n 0, 1) := dk_42 (dk_at dksX11_image_1 3 rfl rfl)
theorem dX11_image_27 : decode cX11_image 27 = .ok (.aload_n 0, 1) := dk_42 (dk_at dksX11_image_1 4 rfl rfl)
theorem dX11_image_28 : decode cX11_image 28 = .ok (.getfield 285, 3) := dk_180 1 29 (dk_at dksX11_image_1 5 rfl rfl)
theorem dX11_image_31 : decode cX11_image 31 = .ok (.putfield 436, 3) := dk_181 1 180 (dk_at dksX11_image_1 8 rfl rfl)
theorem dX11_image_34 : decode cX11_image 34 = .ok (.aload_n 0, 1) := dk_42 (dk_at dksX11_image_1 11 rfl rfl)
theorem dX11_image_35 : decode cX11_image 35 = .ok (.aload_n 0, 1) := dk_42 (dk_at dksX11_image_1 12 rfl rfl)
theorem dX11_image_36 : decode cX11_image 36 = .ok (.getfield 83, 3) := dk_180 0 83 (dk_at dksX11_image_1 13 rfl rfl)
theorem dX11_image_39 : decode cX11_image 39 = .ok (.aload_n 0, 1) := dk_42 (dk_at dksX11_image_1 16 rfl rfl)
theorem dX11_image_40 : decode cX11_image 40 = .ok (.getfield 119, 3) := dk_180 0 119 (dk_at dksX11_image_1 17 rfl rfl)
theorem dX11_image_43 : decode cX11_image 43 = .ok (.invokevirtual 275, 3) := dk_182 1 19 (dk_at dksX11_image_1 20 rfl rfl)
theorem dX11_image_46 : decode cX11_image 46 = .ok (.return_, 1) := dk_177 (dk_at dksX11_image_1 23 rfl rfl)
abbrev cX11_restore : ByteArray := prog_19_method_86_code
def yX11_restore : MethodName := ⟨RX11, "restore", "()Z"⟩
def dkwX11_restore_2 : List UInt8 := [182, 1, 19, 4, 172]
abbrev dktX11_restore_2 : List UInt8 := dkwX11_restore_2 ++ []
def dkwX11_restore_1 : List UInt8 := [180, 1, 177, 181, 1, 26, 42, 42, 180, 1, 180, 181, 1, 29, 42, 42, 180, 0, 119, 42, 180, 0, 83]
abbrev dktX11_restore_1 : List UInt8 := dkwX11_restore_1 ++ dktX11_restore_2
def dkwX11_restore_0 : List UInt8 := [42, 3, 181, 0, 122, 42, 180, 1, 32, 154, 0, 5, 3, 172, 42, 42, 180, 1, 174, 181, 1, 23, 42, 42]
abbrev dktX11_restore_0 : List UInt8 := dkwX11_restore_0 ++ dktX11_restore_1
theorem dksX11_restore_0 : cX11_restore.data.toList.drop 0 = dktX11_restore_0 := by decide +kernel
theorem dksX11_restore_1 : cX11_restore.data.toList.drop 24 = dktX11_restore_1 := dk_seg dksX11_restore_0 24 rfl rfl
theorem dksX11_restore_2 : cX11_restore.data.toList.drop 47 = dktX11_restore_2 := dk_seg dksX11_restore_1 23 rfl rfl
theorem dX11_restore_0 : decode cX11_restore 0 = .ok (.aload_n 0, 1) := dk_42 (dk_at dksX11_restore_0 0 rfl rfl)
theorem dX11_restore_1 : decode cX11_restore 1 = .ok (.iconst 0, 1) := dk_3 (dk_at dksX11_restore_0 1 rfl rfl)
theorem dX11_restore_2 : decode cX11_restore 2 = .ok (.putfield 122, 3) := dk_181 0 122 (dk_at dksX11_restore_0 2 rfl rfl)
theorem dX11_restore_5 : decode cX11_restore 5 = .ok (.aload_n 0, 1) := dk_42 (dk_at dksX11_restore_0 5 rfl rfl)
theorem dX11_restore_6 : decode cX11_restore 6 = .ok (.getfield 288, 3) := dk_180 1 32 (dk_at dksX11_restore_0 6 rfl rfl)
theorem dX11_restore_9 : decode cX11_restore 9 = .ok (.ifCond .ne 5, 3) := dk_154 0 5 (dk_at dksX11_restore_0 9 rfl rfl)
theorem dX11_restore_12 : decode cX11_restore 12 = .ok (.iconst 0, 1) := dk_3 (dk_at dksX11_restore_0 12 rfl rfl)
theorem dX11_restore_13 : decode cX11_restore 13 = .ok (.ireturn, 1) := dk_172 (dk_at dksX11_restore_0 13 rfl rfl)
theorem dX11_restore_14 : decode cX11_restore 14 = .ok (.aload_n 0, 1) := dk_42 (dk_at dksX11_restore_0 14 rfl rfl)
theorem dX11_restore_15 : decode cX11_restore 15 = .ok (.aload_n 0, 1) := dk_42 (dk_at dksX11_restore_0 15 rfl rfl)
theorem dX11_restore_16 : decode cX11_restore 16 = .ok (.getfield 430, 3) := dk_180 1 174 (dk_at dksX11_restore_0 16 rfl rfl)
theorem dX11_restore_19 : decode cX11_restore 19 = .ok (.putfield 279, 3) := dk_181 1 23 (dk_at dksX11_restore_0 19 rfl rfl)
theorem dX11_restore_22 : decode cX11_restore 22 = .ok (.aload_n 0, 1) := dk_42 (dk_at dksX11_restore_0 22 rfl rfl)
theorem dX11_restore_23 : decode cX11_restore 23 = .ok (.aload_n 0, 1) := dk_42 (dk_at dksX11_restore_0 23 rfl rfl)
theorem dX11_restore_24 : decode cX11_restore 24 = .ok (.getfield 433, 3) := dk_180 1 177 (dk_at dksX11_restore_1 0 rfl rfl)
theorem dX11_restore_27 : decode cX11_restore 27 = .ok (.putfield 282, 3) := dk_181 1 26 (dk_at dksX11_restore_1 3 rfl rfl)
theorem dX11_restore_30 : decode cX11_restore 30 = .ok (.aload_n 0, 1) := dk_42 (dk_at dksX11_restore_1 6 rfl rfl)
theorem dX11_restore_31 : decode cX11_restore 31 = .ok (.aload_n 0, 1) := dk_42 (dk_at dksX11_restore_1 7 rfl rfl)
theorem dX11_restore_32 : decode cX11_restore 32 = .ok (.getfield 436, 3) := dk_180 1 180 (dk_at dksX11_restore_1 8 rfl rfl)
theorem dX11_restore_35 : decode cX11_restore 35 = .ok (.putfield 285, 3) := dk_181 1 29 (dk_at dksX11_restore_1 11 rfl rfl)
theorem dX11_restore_38 : decode cX11_restore 38 = .ok (.aload_n 0, 1) := dk_42 (dk_at dksX11_restore_1 14 rfl rfl)
theorem dX11_restore_39 : decode cX11_restore 39 = .ok (.aload_n 0, 1) := dk_42 (dk_at dksX11_restore_1 15 rfl rfl)
theorem dX11_restore_40 : decode cX11_restore 40 = .ok (.getfield 119, 3) := dk_180 0 119 (dk_at dksX11_restore_1 16 rfl rfl)
theorem dX11_restore_43 : decode cX11_restore 43 = .ok (.aload_n 0, 1) := dk_42 (dk_at dksX11_restore_1 19 rfl rfl)
theorem dX11_restore_44 : decode cX11_restore 44 = .ok (.getfield 83, 3) := dk_180 0 83 (dk_at dksX11_restore_1 20 rfl rfl)
theorem dX11_restore_47 : decode cX11_restore 47 = .ok (.invokevirtual 275, 3) := dk_182 1 19 (dk_at dksX11_restore_2 0 rfl rfl)
theorem dX11_restore_50 : decode cX11_restore 50 = .ok (.iconst 1, 1) := dk_4 (dk_at dksX11_restore_2 3 rfl rfl)
theorem dX11_restore_51 : decode cX11_restore 51 = .ok (.ireturn, 1) := dk_172 (dk_at dksX11_restore_2 4 rfl rfl)
theorem q113 : (Jvm.Cond.initialized "EndingTownModel") ∈ lw_all := lw_g (lw_at lw_m1 14 rfl) rfl
theorem q601 : (Jvm.Cond.selects "EndingTownModel" ({ cls := "java/lang/Object", name := "getClass", desc := "()Ljava/lang/Class;" } : Jvm.MethodName) ({ cls := "java/lang/Object", name := "getClass", desc := "()Ljava/lang/Class;" } : Jvm.MethodName)) ∈ lw_all := lw_g (lw_at lw_m3 22 rfl) rfl
theorem q1359 : (Jvm.Cond.instantiable "EndingTownModel" (74 : Nat)) ∈ lw_all := lw_g (lw_at lw_m6 60 rfl) rfl
theorem q1361 : (Jvm.Cond.instanceMethod ({ cls := "EndingTownModel", name := "<init>", desc := "()V" } : Jvm.MethodName)) ∈ lw_all := lw_g (lw_at lw_m6 62 rfl) rfl
theorem q1362 : (Jvm.Cond.code ({ cls := "EndingTownModel", name := "<init>", desc := "()V" } : Jvm.MethodName) prog_19_method_1_code (1 : Nat) (Option.none : Option Jvm.ClassFile.FieldType)) ∈ lw_all := lw_g (lw_at lw_m6 63 rfl) rfl
theorem q1363 : (Jvm.Cond.methodLink "EndingTownModel" (1 : Nat) ({ cls := "java/lang/Object", name := "<init>", desc := "()V" } : Jvm.MethodName)) ∈ lw_all := lw_g (lw_at lw_m6 64 rfl) rfl
theorem q1364 : (Jvm.Cond.fieldLink "EndingTownModel" (122 : Nat) "EndingTownModel" "thrown" "I") ∈ lw_all := lw_g (lw_at lw_m6 65 rfl) rfl
theorem q1365 : (Jvm.Cond.fieldLink "EndingTownModel" (260 : Nat) "EndingTownModel" "stems" "I") ∈ lw_all := lw_g (lw_at lw_m6 66 rfl) rfl
theorem q1366 : (Jvm.Cond.fieldLink "EndingTownModel" (263 : Nat) "EndingTownModel" "changes" "I") ∈ lw_all := lw_g (lw_at lw_m6 67 rfl) rfl
theorem q1367 : (Jvm.Cond.fieldLink "EndingTownModel" (7 : Nat) "EndingTownModel" "places" "I") ∈ lw_all := lw_g (lw_at lw_m6 68 rfl) rfl
theorem q1368 : (Jvm.Cond.fieldLink "EndingTownModel" (266 : Nat) "EndingTownModel" "people" "I") ∈ lw_all := lw_g (lw_at lw_m6 69 rfl) rfl
theorem q1369 : (Jvm.Cond.fieldLink "EndingTownModel" (269 : Nat) "EndingTownModel" "things" "I") ∈ lw_all := lw_g (lw_at lw_m6 70 rfl) rfl
theorem q1370 : (Jvm.Cond.fieldLink "EndingTownModel" (272 : Nat) "EndingTownModel" "rules" "I") ∈ lw_all := lw_g (lw_at lw_m6 71 rfl) rfl
theorem q1371 : (Jvm.Cond.fieldLink "EndingTownModel" (13 : Nat) "EndingTownModel" "stem" "[I") ∈ lw_all := lw_g (lw_at lw_m6 72 rfl) rfl
theorem q1372 : (Jvm.Cond.fieldLink "EndingTownModel" (17 : Nat) "EndingTownModel" "ending" "[I") ∈ lw_all := lw_g (lw_at lw_m6 73 rfl) rfl
theorem q1373 : (Jvm.Cond.fieldLink "EndingTownModel" (20 : Nat) "EndingTownModel" "change" "[I") ∈ lw_all := lw_g (lw_at lw_m6 74 rfl) rfl
theorem q1374 : (Jvm.Cond.fieldLink "EndingTownModel" (23 : Nat) "EndingTownModel" "not" "[I") ∈ lw_all := lw_g (lw_at lw_m6 75 rfl) rfl
theorem q1375 : (Jvm.Cond.fieldLink "EndingTownModel" (26 : Nat) "EndingTownModel" "thing" "[I") ∈ lw_all := lw_g (lw_at lw_m6 76 rfl) rfl
theorem q1376 : (Jvm.Cond.fieldLink "EndingTownModel" (29 : Nat) "EndingTownModel" "rule" "[I") ∈ lw_all := lw_g (lw_at lw_m6 77 rfl) rfl
theorem q1377 : (Jvm.Cond.fieldLink "EndingTownModel" (32 : Nat) "EndingTownModel" "near" "[I") ∈ lw_all := lw_g (lw_at lw_m6 78 rfl) rfl
theorem q1378 : (Jvm.Cond.fieldLink "EndingTownModel" (35 : Nat) "EndingTownModel" "where" "[I") ∈ lw_all := lw_g (lw_at lw_m6 79 rfl) rfl
theorem q1379 : (Jvm.Cond.fieldLink "EndingTownModel" (38 : Nat) "EndingTownModel" "weigh" "[I") ∈ lw_all := lw_g (lw_at lw_m6 80 rfl) rfl
theorem q1380 : (Jvm.Cond.fieldLink "EndingTownModel" (41 : Nat) "EndingTownModel" "tape" "[I") ∈ lw_all := lw_g (lw_at lw_m6 81 rfl) rfl
theorem q1381 : (Jvm.Cond.fieldLink "EndingTownModel" (125 : Nat) "EndingTownModel" "taped" "I") ∈ lw_all := lw_g (lw_at lw_m6 82 rfl) rfl
theorem q1382 : (Jvm.Cond.fieldLink "EndingTownModel" (173 : Nat) "EndingTownModel" "faultKind" "I") ∈ lw_all := lw_g (lw_at lw_m6 83 rfl) rfl
theorem q1383 : (Jvm.Cond.fieldLink "EndingTownModel" (44 : Nat) "EndingTownModel" "faultPlace" "I") ∈ lw_all := lw_g (lw_at lw_m6 84 rfl) rfl
theorem q1384 : (Jvm.Cond.fieldLink "EndingTownModel" (47 : Nat) "EndingTownModel" "refused" "[I") ∈ lw_all := lw_g (lw_at lw_m6 85 rfl) rfl
theorem q1385 : (Jvm.Cond.fieldLink "EndingTownModel" (132 : Nat) "EndingTownModel" "size" "I") ∈ lw_all := lw_g (lw_at lw_m6 86 rfl) rfl
theorem q1386 : (Jvm.Cond.fieldLink "EndingTownModel" (135 : Nat) "EndingTownModel" "next" "I") ∈ lw_all := lw_g (lw_at lw_m6 87 rfl) rfl
theorem q1387 : (Jvm.Cond.fieldLink "EndingTownModel" (152 : Nat) "EndingTownModel" "sort" "I") ∈ lw_all := lw_g (lw_at lw_m6 88 rfl) rfl
theorem q1388 : (Jvm.Cond.fieldLink "EndingTownModel" (142 : Nat) "EndingTownModel" "place" "I") ∈ lw_all := lw_g (lw_at lw_m6 89 rfl) rfl
theorem q1389 : (Jvm.Cond.fieldLink "EndingTownModel" (162 : Nat) "EndingTownModel" "long0" "I") ∈ lw_all := lw_g (lw_at lw_m6 90 rfl) rfl
theorem q1390 : (Jvm.Cond.fieldLink "EndingTownModel" (149 : Nat) "EndingTownModel" "value" "I") ∈ lw_all := lw_g (lw_at lw_m6 91 rfl) rfl
theorem q1391 : (Jvm.Cond.fieldLink "EndingTownModel" (145 : Nat) "EndingTownModel" "word" "J") ∈ lw_all := lw_g (lw_at lw_m6 92 rfl) rfl
theorem q1392 : (Jvm.Cond.fieldLink "EndingTownModel" (210 : Nat) "EndingTownModel" "newStems" "I") ∈ lw_all := lw_g (lw_at lw_m6 93 rfl) rfl
theorem q1393 : (Jvm.Cond.fieldLink "EndingTownModel" (225 : Nat) "EndingTownModel" "newChanges" "I") ∈ lw_all := lw_g (lw_at lw_m6 94 rfl) rfl
theorem q1394 : (Jvm.Cond.fieldLink "EndingTownModel" (201 : Nat) "EndingTownModel" "newPlaces" "I") ∈ lw_all := lw_g (lw_at lw_m6 95 rfl) rfl
theorem q1395 : (Jvm.Cond.fieldLink "EndingTownModel" (219 : Nat) "EndingTownModel" "newPeople" "I") ∈ lw_all := lw_g (lw_at lw_m6 96 rfl) rfl
theorem q1396 : (Jvm.Cond.fieldLink "EndingTownModel" (207 : Nat) "EndingTownModel" "newThings" "I") ∈ lw_all := lw_g (lw_at lw_m6 97 rfl) rfl
theorem q1397 : (Jvm.Cond.fieldLink "EndingTownModel" (216 : Nat) "EndingTownModel" "newRules" "I") ∈ lw_all := lw_g (lw_at lw_m6 98 rfl) rfl
theorem q1398 : (Jvm.Cond.fieldLink "EndingTownModel" (228 : Nat) "EndingTownModel" "hasNot" "Z") ∈ lw_all := lw_g (lw_at lw_m6 99 rfl) rfl
theorem q1399 : (Jvm.Cond.fieldLink "EndingTownModel" (231 : Nat) "EndingTownModel" "hasPlaces" "Z") ∈ lw_all := lw_g (lw_at lw_m6 100 rfl) rfl
theorem q1400 : (Jvm.Cond.fieldLink "EndingTownModel" (197 : Nat) "EndingTownModel" "hasOthers" "Z") ∈ lw_all := lw_g (lw_at lw_m6 101 rfl) rfl
theorem q1401 : (Jvm.Cond.fieldLink "EndingTownModel" (50 : Nat) "EndingTownModel" "newStem" "[I") ∈ lw_all := lw_g (lw_at lw_m6 102 rfl) rfl
theorem q1402 : (Jvm.Cond.fieldLink "EndingTownModel" (53 : Nat) "EndingTownModel" "newEnding" "[I") ∈ lw_all := lw_g (lw_at lw_m6 103 rfl) rfl
theorem q1403 : (Jvm.Cond.fieldLink "EndingTownModel" (56 : Nat) "EndingTownModel" "newChange" "[I") ∈ lw_all := lw_g (lw_at lw_m6 104 rfl) rfl
theorem q1404 : (Jvm.Cond.fieldLink "EndingTownModel" (59 : Nat) "EndingTownModel" "newNot" "[I") ∈ lw_all := lw_g (lw_at lw_m6 105 rfl) rfl
theorem q1405 : (Jvm.Cond.fieldLink "EndingTownModel" (62 : Nat) "EndingTownModel" "newThing" "[I") ∈ lw_all := lw_g (lw_at lw_m6 106 rfl) rfl
theorem q1406 : (Jvm.Cond.fieldLink "EndingTownModel" (65 : Nat) "EndingTownModel" "newRule" "[I") ∈ lw_all := lw_g (lw_at lw_m6 107 rfl) rfl
theorem q1407 : (Jvm.Cond.fieldLink "EndingTownModel" (68 : Nat) "EndingTownModel" "newNear" "[I") ∈ lw_all := lw_g (lw_at lw_m6 108 rfl) rfl
theorem q1408 : (Jvm.Cond.fieldLink "EndingTownModel" (71 : Nat) "EndingTownModel" "newWhere" "[I") ∈ lw_all := lw_g (lw_at lw_m6 109 rfl) rfl
theorem q1409 : (Jvm.Cond.fieldLink "EndingTownModel" (74 : Nat) "EndingTownModel" "newWeigh" "[I") ∈ lw_all := lw_g (lw_at lw_m6 110 rfl) rfl
theorem q1410 : (Jvm.Cond.fieldLink "EndingTownModel" (77 : Nat) "EndingTownModel" "spoken" "[I") ∈ lw_all := lw_g (lw_at lw_m6 111 rfl) rfl
theorem q1411 : (Jvm.Cond.fieldLink "EndingTownModel" (80 : Nat) "EndingTownModel" "way" "[I") ∈ lw_all := lw_g (lw_at lw_m6 112 rfl) rfl
theorem q1412 : (Jvm.Cond.fieldLink "EndingTownModel" (305 : Nat) "EndingTownModel" "spokenLong" "I") ∈ lw_all := lw_g (lw_at lw_m6 113 rfl) rfl
theorem q1413 : (Jvm.Cond.fieldLink "EndingTownModel" (321 : Nat) "EndingTownModel" "ways" "I") ∈ lw_all := lw_g (lw_at lw_m6 114 rfl) rfl
theorem q1414 : (Jvm.Cond.fieldLink "EndingTownModel" (279 : Nat) "EndingTownModel" "sayings" "I") ∈ lw_all := lw_g (lw_at lw_m6 115 rfl) rfl
theorem q1415 : (Jvm.Cond.fieldLink "EndingTownModel" (83 : Nat) "EndingTownModel" "said" "[I") ∈ lw_all := lw_g (lw_at lw_m6 116 rfl) rfl
theorem q1416 : (Jvm.Cond.fieldLink "EndingTownModel" (86 : Nat) "EndingTownModel" "wayKept" "[I") ∈ lw_all := lw_g (lw_at lw_m6 117 rfl) rfl
theorem q1417 : (Jvm.Cond.fieldLink "EndingTownModel" (89 : Nat) "EndingTownModel" "round" "[I") ∈ lw_all := lw_g (lw_at lw_m6 118 rfl) rfl
theorem q1418 : (Jvm.Cond.fieldLink "EndingTownModel" (92 : Nat) "EndingTownModel" "takes" "[I") ∈ lw_all := lw_g (lw_at lw_m6 119 rfl) rfl
theorem q1419 : (Jvm.Cond.fieldLink "EndingTownModel" (95 : Nat) "EndingTownModel" "pairWho" "[I") ∈ lw_all := lw_g (lw_at lw_m6 120 rfl) rfl
theorem q1420 : (Jvm.Cond.fieldLink "EndingTownModel" (98 : Nat) "EndingTownModel" "pairHour" "[I") ∈ lw_all := lw_g (lw_at lw_m6 121 rfl) rfl
theorem q1421 : (Jvm.Cond.fieldLink "EndingTownModel" (101 : Nat) "EndingTownModel" "pairOf" "[I") ∈ lw_all := lw_g (lw_at lw_m6 122 rfl) rfl
theorem q1422 : (Jvm.Cond.fieldLink "EndingTownModel" (104 : Nat) "EndingTownModel" "could" "[I") ∈ lw_all := lw_g (lw_at lw_m6 123 rfl) rfl
theorem q1423 : (Jvm.Cond.fieldLink "EndingTownModel" (343 : Nat) "EndingTownModel" "pairs" "I") ∈ lw_all := lw_g (lw_at lw_m6 124 rfl) rfl
theorem q1424 : (Jvm.Cond.fieldLink "EndingTownModel" (352 : Nat) "EndingTownModel" "there" "I") ∈ lw_all := lw_g (lw_at lw_m6 125 rfl) rfl
theorem q1425 : (Jvm.Cond.fieldLink "EndingTownModel" (355 : Nat) "EndingTownModel" "changed" "I") ∈ lw_all := lw_g (lw_at lw_m6 126 rfl) rfl
theorem q1426 : (Jvm.Cond.fieldLink "EndingTownModel" (375 : Nat) "EndingTownModel" "firstHow" "I") ∈ lw_all := lw_g (lw_at lw_m6 127 rfl) rfl
theorem q1427 : (Jvm.Cond.fieldLink "EndingTownModel" (107 : Nat) "EndingTownModel" "eyes" "[I") ∈ lw_all := lw_g (lw_at lw_m6 128 rfl) rfl
theorem q1428 : (Jvm.Cond.fieldLink "EndingTownModel" (110 : Nat) "EndingTownModel" "couldEyes" "[I") ∈ lw_all := lw_g (lw_at lw_m6 129 rfl) rfl
theorem q1429 : (Jvm.Cond.fieldLink "EndingTownModel" (113 : Nat) "EndingTownModel" "mendLong" "I") ∈ lw_all := lw_g (lw_at lw_m6 130 rfl) rfl
theorem q1430 : (Jvm.Cond.fieldLink "EndingTownModel" (116 : Nat) "EndingTownModel" "mend" "[I") ∈ lw_all := lw_g (lw_at lw_m6 131 rfl) rfl
theorem q1431 : (Jvm.Cond.fieldLink "EndingTownModel" (282 : Nat) "EndingTownModel" "worldThings" "I") ∈ lw_all := lw_g (lw_at lw_m6 132 rfl) rfl
theorem q1432 : (Jvm.Cond.fieldLink "EndingTownModel" (285 : Nat) "EndingTownModel" "left" "I") ∈ lw_all := lw_g (lw_at lw_m6 133 rfl) rfl
theorem q1433 : (Jvm.Cond.fieldLink "EndingTownModel" (288 : Nat) "EndingTownModel" "hasImage" "Z") ∈ lw_all := lw_g (lw_at lw_m6 134 rfl) rfl
theorem q1434 : (Jvm.Cond.fieldLink "EndingTownModel" (430 : Nat) "EndingTownModel" "imageSayings" "I") ∈ lw_all := lw_g (lw_at lw_m6 135 rfl) rfl
theorem q1435 : (Jvm.Cond.fieldLink "EndingTownModel" (433 : Nat) "EndingTownModel" "imageThings" "I") ∈ lw_all := lw_g (lw_at lw_m6 136 rfl) rfl
theorem q1436 : (Jvm.Cond.fieldLink "EndingTownModel" (436 : Nat) "EndingTownModel" "imageLeft" "I") ∈ lw_all := lw_g (lw_at lw_m6 137 rfl) rfl
theorem q1437 : (Jvm.Cond.fieldLink "EndingTownModel" (119 : Nat) "EndingTownModel" "imageSaid" "[I") ∈ lw_all := lw_g (lw_at lw_m6 138 rfl) rfl
theorem q1438 : (Jvm.Cond.lays "EndingTownModel" "EndingTownModel" "thrown" "I") ∈ lw_all := lw_g (lw_at lw_m6 139 rfl) rfl
theorem q1439 : (Jvm.Cond.soleField "EndingTownModel" "thrown") ∈ lw_all := lw_g (lw_at lw_m6 140 rfl) rfl
theorem q1440 : (Jvm.Cond.lays "EndingTownModel" "EndingTownModel" "stems" "I") ∈ lw_all := lw_g (lw_at lw_m6 141 rfl) rfl
theorem q1441 : (Jvm.Cond.soleField "EndingTownModel" "stems") ∈ lw_all := lw_g (lw_at lw_m6 142 rfl) rfl
theorem q1442 : (Jvm.Cond.lays "EndingTownModel" "EndingTownModel" "changes" "I") ∈ lw_all := lw_g (lw_at lw_m6 143 rfl) rfl
theorem q1443 : (Jvm.Cond.soleField "EndingTownModel" "changes") ∈ lw_all := lw_g (lw_at lw_m6 144 rfl) rfl
theorem q1444 : (Jvm.Cond.lays "EndingTownModel" "EndingTownModel" "places" "I") ∈ lw_all := lw_g (lw_at lw_m6 145 rfl) rfl
theorem q1445 : (Jvm.Cond.soleField "EndingTownModel" "places") ∈ lw_all := lw_g (lw_at lw_m6 146 rfl) rfl
theorem q1446 : (Jvm.Cond.lays "EndingTownModel" "EndingTownModel" "people" "I") ∈ lw_all := lw_g (lw_at lw_m6 147 rfl) rfl
theorem q1447 : (Jvm.Cond.soleField "EndingTownModel" "people") ∈ lw_all := lw_g (lw_at lw_m6 148 rfl) rfl
theorem q1448 : (Jvm.Cond.lays "EndingTownModel" "EndingTownModel" "things" "I") ∈ lw_all := lw_g (lw_at lw_m6 149 rfl) rfl
theorem q1449 : (Jvm.Cond.soleField "EndingTownModel" "things") ∈ lw_all := lw_g (lw_at lw_m6 150 rfl) rfl
theorem q1450 : (Jvm.Cond.lays "EndingTownModel" "EndingTownModel" "rules" "I") ∈ lw_all := lw_g (lw_at lw_m6 151 rfl) rfl
theorem q1451 : (Jvm.Cond.soleField "EndingTownModel" "rules") ∈ lw_all := lw_g (lw_at lw_m6 152 rfl) rfl
theorem q1452 : (Jvm.Cond.laysFinal "EndingTownModel" "EndingTownModel" "stem" "[I") ∈ lw_all := lw_g (lw_at lw_m6 153 rfl) rfl
theorem q1453 : (Jvm.Cond.soleField "EndingTownModel" "stem") ∈ lw_all := lw_g (lw_at lw_m6 154 rfl) rfl
theorem q1454 : (Jvm.Cond.laysFinal "EndingTownModel" "EndingTownModel" "ending" "[I") ∈ lw_all := lw_g (lw_at lw_m6 155 rfl) rfl
theorem q1455 : (Jvm.Cond.soleField "EndingTownModel" "ending") ∈ lw_all := lw_g (lw_at lw_m6 156 rfl) rfl
theorem q1456 : (Jvm.Cond.laysFinal "EndingTownModel" "EndingTownModel" "change" "[I") ∈ lw_all := lw_g (lw_at lw_m6 157 rfl) rfl
theorem q1457 : (Jvm.Cond.soleField "EndingTownModel" "change") ∈ lw_all := lw_g (lw_at lw_m6 158 rfl) rfl
theorem q1458 : (Jvm.Cond.laysFinal "EndingTownModel" "EndingTownModel" "not" "[I") ∈ lw_all := lw_g (lw_at lw_m6 159 rfl) rfl
theorem q1459 : (Jvm.Cond.soleField "EndingTownModel" "not") ∈ lw_all := lw_g (lw_at lw_m6 160 rfl) rfl
theorem q1460 : (Jvm.Cond.laysFinal "EndingTownModel" "EndingTownModel" "thing" "[I") ∈ lw_all := lw_g (lw_at lw_m6 161 rfl) rfl
theorem q1461 : (Jvm.Cond.soleField "EndingTownModel" "thing") ∈ lw_all := lw_g (lw_at lw_m6 162 rfl) rfl
theorem q1462 : (Jvm.Cond.laysFinal "EndingTownModel" "EndingTownModel" "rule" "[I") ∈ lw_all := lw_g (lw_at lw_m6 163 rfl) rfl
theorem q1463 : (Jvm.Cond.soleField "EndingTownModel" "rule") ∈ lw_all := lw_g (lw_at lw_m6 164 rfl) rfl
theorem q1464 : (Jvm.Cond.laysFinal "EndingTownModel" "EndingTownModel" "near" "[I") ∈ lw_all := lw_g (lw_at lw_m6 165 rfl) rfl
theorem q1465 : (Jvm.Cond.soleField "EndingTownModel" "near") ∈ lw_all := lw_g (lw_at lw_m6 166 rfl) rfl
theorem q1466 : (Jvm.Cond.laysFinal "EndingTownModel" "EndingTownModel" "where" "[I") ∈ lw_all := lw_g (lw_at lw_m6 167 rfl) rfl
theorem q1467 : (Jvm.Cond.soleField "EndingTownModel" "where") ∈ lw_all := lw_g (lw_at lw_m6 168 rfl) rfl
theorem q1468 : (Jvm.Cond.laysFinal "EndingTownModel" "EndingTownModel" "weigh" "[I") ∈ lw_all := lw_g (lw_at lw_m6 169 rfl) rfl
theorem q1469 : (Jvm.Cond.soleField "EndingTownModel" "weigh") ∈ lw_all := lw_g (lw_at lw_m6 170 rfl) rfl
theorem q1470 : (Jvm.Cond.laysFinal "EndingTownModel" "EndingTownModel" "tape" "[I") ∈ lw_all := lw_g (lw_at lw_m6 171 rfl) rfl
theorem q1471 : (Jvm.Cond.soleField "EndingTownModel" "tape") ∈ lw_all := lw_g (lw_at lw_m6 172 rfl) rfl
theorem q1472 : (Jvm.Cond.lays "EndingTownModel" "EndingTownModel" "taped" "I") ∈ lw_all := lw_g (lw_at lw_m6 173 rfl) rfl
theorem q1473 : (Jvm.Cond.soleField "EndingTownModel" "taped") ∈ lw_all := lw_g (lw_at lw_m6 174 rfl) rfl
theorem q1474 : (Jvm.Cond.lays "EndingTownModel" "EndingTownModel" "faultKind" "I") ∈ lw_all := lw_g (lw_at lw_m6 175 rfl) rfl
theorem q1475 : (Jvm.Cond.soleField "EndingTownModel" "faultKind") ∈ lw_all := lw_g (lw_at lw_m6 176 rfl) rfl
theorem q1476 : (Jvm.Cond.lays "EndingTownModel" "EndingTownModel" "faultPlace" "I") ∈ lw_all := lw_g (lw_at lw_m6 177 rfl) rfl
theorem q1477 : (Jvm.Cond.soleField "EndingTownModel" "faultPlace") ∈ lw_all := lw_g (lw_at lw_m6 178 rfl) rfl
theorem q1478 : (Jvm.Cond.laysFinal "EndingTownModel" "EndingTownModel" "refused" "[I") ∈ lw_all := lw_g (lw_at lw_m6 179 rfl) rfl
theorem q1479 : (Jvm.Cond.soleField "EndingTownModel" "refused") ∈ lw_all := lw_g (lw_at lw_m6 180 rfl) rfl
theorem q1480 : (Jvm.Cond.lays "EndingTownModel" "EndingTownModel" "size" "I") ∈ lw_all := lw_g (lw_at lw_m6 181 rfl) rfl
theorem q1481 : (Jvm.Cond.soleField "EndingTownModel" "size") ∈ lw_all := lw_g (lw_at lw_m6 182 rfl) rfl
theorem q1482 : (Jvm.Cond.lays "EndingTownModel" "EndingTownModel" "next" "I") ∈ lw_all := lw_g (lw_at lw_m6 183 rfl) rfl
theorem q1483 : (Jvm.Cond.soleField "EndingTownModel" "next") ∈ lw_all := lw_g (lw_at lw_m6 184 rfl) rfl
theorem q1484 : (Jvm.Cond.lays "EndingTownModel" "EndingTownModel" "sort" "I") ∈ lw_all := lw_g (lw_at lw_m6 185 rfl) rfl
theorem q1485 : (Jvm.Cond.soleField "EndingTownModel" "sort") ∈ lw_all := lw_g (lw_at lw_m6 186 rfl) rfl
theorem q1486 : (Jvm.Cond.lays "EndingTownModel" "EndingTownModel" "place" "I") ∈ lw_all := lw_g (lw_at lw_m6 187 rfl) rfl
theorem q1487 : (Jvm.Cond.soleField "EndingTownModel" "place") ∈ lw_all := lw_g (lw_at lw_m6 188 rfl) rfl
theorem q1488 : (Jvm.Cond.lays "EndingTownModel" "EndingTownModel" "long0" "I") ∈ lw_all := lw_g (lw_at lw_m6 189 rfl) rfl
theorem q1489 : (Jvm.Cond.soleField "EndingTownModel" "long0") ∈ lw_all := lw_g (lw_at lw_m6 190 rfl) rfl
theorem q1490 : (Jvm.Cond.lays "EndingTownModel" "EndingTownModel" "value" "I") ∈ lw_all := lw_g (lw_at lw_m6 191 rfl) rfl
theorem q1491 : (Jvm.Cond.soleField "EndingTownModel" "value") ∈ lw_all := lw_g (lw_at lw_m6 192 rfl) rfl
theorem q1492 : (Jvm.Cond.lays "EndingTownModel" "EndingTownModel" "word" "J") ∈ lw_all := lw_g (lw_at lw_m6 193 rfl) rfl
theorem q1493 : (Jvm.Cond.soleField "EndingTownModel" "word") ∈ lw_all := lw_g (lw_at lw_m6 194 rfl) rfl
theorem q1494 : (Jvm.Cond.lays "EndingTownModel" "EndingTownModel" "newStems" "I") ∈ lw_all := lw_g (lw_at lw_m6 195 rfl) rfl
theorem q1495 : (Jvm.Cond.soleField "EndingTownModel" "newStems") ∈ lw_all := lw_g (lw_at lw_m6 196 rfl) rfl
theorem q1496 : (Jvm.Cond.lays "EndingTownModel" "EndingTownModel" "newChanges" "I") ∈ lw_all := lw_g (lw_at lw_m6 197 rfl) rfl
theorem q1497 : (Jvm.Cond.soleField "EndingTownModel" "newChanges") ∈ lw_all := lw_g (lw_at lw_m6 198 rfl) rfl
theorem q1498 : (Jvm.Cond.lays "EndingTownModel" "EndingTownModel" "newPlaces" "I") ∈ lw_all := lw_g (lw_at lw_m6 199 rfl) rfl
theorem q1499 : (Jvm.Cond.soleField "EndingTownModel" "newPlaces") ∈ lw_all := lw_g (lw_at lw_m6 200 rfl) rfl
theorem q1500 : (Jvm.Cond.lays "EndingTownModel" "EndingTownModel" "newPeople" "I") ∈ lw_all := lw_g (lw_at lw_m6 201 rfl) rfl
theorem q1501 : (Jvm.Cond.soleField "EndingTownModel" "newPeople") ∈ lw_all := lw_g (lw_at lw_m6 202 rfl) rfl
theorem q1502 : (Jvm.Cond.lays "EndingTownModel" "EndingTownModel" "newThings" "I") ∈ lw_all := lw_g (lw_at lw_m6 203 rfl) rfl
theorem q1503 : (Jvm.Cond.soleField "EndingTownModel" "newThings") ∈ lw_all := lw_g (lw_at lw_m6 204 rfl) rfl
theorem q1504 : (Jvm.Cond.lays "EndingTownModel" "EndingTownModel" "newRules" "I") ∈ lw_all := lw_g (lw_at lw_m6 205 rfl) rfl
theorem q1505 : (Jvm.Cond.soleField "EndingTownModel" "newRules") ∈ lw_all := lw_g (lw_at lw_m6 206 rfl) rfl
theorem q1506 : (Jvm.Cond.lays "EndingTownModel" "EndingTownModel" "hasNot" "Z") ∈ lw_all := lw_g (lw_at lw_m6 207 rfl) rfl
theorem q1507 : (Jvm.Cond.soleField "EndingTownModel" "hasNot") ∈ lw_all := lw_g (lw_at lw_m6 208 rfl) rfl
theorem q1508 : (Jvm.Cond.lays "EndingTownModel" "EndingTownModel" "hasPlaces" "Z") ∈ lw_all := lw_g (lw_at lw_m6 209 rfl) rfl
theorem q1509 : (Jvm.Cond.soleField "EndingTownModel" "hasPlaces") ∈ lw_all := lw_g (lw_at lw_m6 210 rfl) rfl
theorem q1510 : (Jvm.Cond.lays "EndingTownModel" "EndingTownModel" "hasOthers" "Z") ∈ lw_all := lw_g (lw_at lw_m6 211 rfl) rfl
theorem q1511 : (Jvm.Cond.soleField "EndingTownModel" "hasOthers") ∈ lw_all := lw_g (lw_at lw_m6 212 rfl) rfl
theorem q1512 : (Jvm.Cond.laysFinal "EndingTownModel" "EndingTownModel" "newStem" "[I") ∈ lw_all := lw_g (lw_at lw_m6 213 rfl) rfl
theorem q1513 : (Jvm.Cond.soleField "EndingTownModel" "newStem") ∈ lw_all := lw_g (lw_at lw_m6 214 rfl) rfl
theorem q1514 : (Jvm.Cond.laysFinal "EndingTownModel" "EndingTownModel" "newEnding" "[I") ∈ lw_all := lw_g (lw_at lw_m6 215 rfl) rfl
theorem q1515 : (Jvm.Cond.soleField "EndingTownModel" "newEnding") ∈ lw_all := lw_g (lw_at lw_m6 216 rfl) rfl
theorem q1516 : (Jvm.Cond.laysFinal "EndingTownModel" "EndingTownModel" "newChange" "[I") ∈ lw_all := lw_g (lw_at lw_m6 217 rfl) rfl
theorem q1517 : (Jvm.Cond.soleField "EndingTownModel" "newChange") ∈ lw_all := lw_g (lw_at lw_m6 218 rfl) rfl
theorem q1518 : (Jvm.Cond.laysFinal "EndingTownModel" "EndingTownModel" "newNot" "[I") ∈ lw_all := lw_g (lw_at lw_m6 219 rfl) rfl
theorem q1519 : (Jvm.Cond.soleField "EndingTownModel" "newNot") ∈ lw_all := lw_g (lw_at lw_m6 220 rfl) rfl
theorem q1520 : (Jvm.Cond.laysFinal "EndingTownModel" "EndingTownModel" "newThing" "[I") ∈ lw_all := lw_g (lw_at lw_m6 221 rfl) rfl
theorem q1521 : (Jvm.Cond.soleField "EndingTownModel" "newThing") ∈ lw_all := lw_g (lw_at lw_m6 222 rfl) rfl
theorem q1522 : (Jvm.Cond.laysFinal "EndingTownModel" "EndingTownModel" "newRule" "[I") ∈ lw_all := lw_g (lw_at lw_m6 223 rfl) rfl
theorem q1523 : (Jvm.Cond.soleField "EndingTownModel" "newRule") ∈ lw_all := lw_g (lw_at lw_m6 224 rfl) rfl
theorem q1524 : (Jvm.Cond.laysFinal "EndingTownModel" "EndingTownModel" "newNear" "[I") ∈ lw_all := lw_g (lw_at lw_m6 225 rfl) rfl
theorem q1525 : (Jvm.Cond.soleField "EndingTownModel" "newNear") ∈ lw_all := lw_g (lw_at lw_m6 226 rfl) rfl
theorem q1526 : (Jvm.Cond.laysFinal "EndingTownModel" "EndingTownModel" "newWhere" "[I") ∈ lw_all := lw_g (lw_at lw_m6 227 rfl) rfl
theorem q1527 : (Jvm.Cond.soleField "EndingTownModel" "newWhere") ∈ lw_all := lw_g (lw_at lw_m6 228 rfl) rfl
theorem q1528 : (Jvm.Cond.laysFinal "EndingTownModel" "EndingTownModel" "newWeigh" "[I") ∈ lw_all := lw_g (lw_at lw_m6 229 rfl) rfl
theorem q1529 : (Jvm.Cond.soleField "EndingTownModel" "newWeigh") ∈ lw_all := lw_g (lw_at lw_m6 230 rfl) rfl
theorem q1530 : (Jvm.Cond.laysFinal "EndingTownModel" "EndingTownModel" "spoken" "[I") ∈ lw_all := lw_g (lw_at lw_m6 231 rfl) rfl
theorem q1531 : (Jvm.Cond.soleField "EndingTownModel" "spoken") ∈ lw_all := lw_g (lw_at lw_m6 232 rfl) rfl
theorem q1532 : (Jvm.Cond.laysFinal "EndingTownModel" "EndingTownModel" "way" "[I") ∈ lw_all := lw_g (lw_at lw_m6 233 rfl) rfl
theorem q1533 : (Jvm.Cond.soleField "EndingTownModel" "way") ∈ lw_all := lw_g (lw_at lw_m6 234 rfl) rfl
theorem q1534 : (Jvm.Cond.lays "EndingTownModel" "EndingTownModel" "spokenLong" "I") ∈ lw_all := lw_g (lw_at lw_m6 235 rfl) rfl
theorem q1535 : (Jvm.Cond.soleField "EndingTownModel" "spokenLong") ∈ lw_all := lw_g (lw_at lw_m6 236 rfl) rfl
theorem q1536 : (Jvm.Cond.lays "EndingTownModel" "EndingTownModel" "ways" "I") ∈ lw_all := lw_g (lw_at lw_m6 237 rfl) rfl
theorem q1537 : (Jvm.Cond.soleField "EndingTownModel" "ways") ∈ lw_all := lw_g (lw_at lw_m6 238 rfl) rfl
theorem q1538 : (Jvm.Cond.lays "EndingTownModel" "EndingTownModel" "sayings" "I") ∈ lw_all := lw_g (lw_at lw_m6 239 rfl) rfl
theorem q1539 : (Jvm.Cond.soleField "EndingTownModel" "sayings") ∈ lw_all := lw_g (lw_at lw_m7 0 rfl) rfl
theorem q1540 : (Jvm.Cond.laysFinal "EndingTownModel" "EndingTownModel" "said" "[I") ∈ lw_all := lw_g (lw_at lw_m7 1 rfl) rfl
theorem q1541 : (Jvm.Cond.soleField "EndingTownModel" "said") ∈ lw_all := lw_g (lw_at lw_m7 2 rfl) rfl
theorem q1542 : (Jvm.Cond.laysFinal "EndingTownModel" "EndingTownModel" "wayKept" "[I") ∈ lw_all := lw_g (lw_at lw_m7 3 rfl) rfl
theorem q1543 : (Jvm.Cond.soleField "EndingTownModel" "wayKept") ∈ lw_all := lw_g (lw_at lw_m7 4 rfl) rfl
theorem q1544 : (Jvm.Cond.laysFinal "EndingTownModel" "EndingTownModel" "round" "[I") ∈ lw_all := lw_g (lw_at lw_m7 5 rfl) rfl
theorem q1545 : (Jvm.Cond.soleField "EndingTownModel" "round") ∈ lw_all := lw_g (lw_at lw_m7 6 rfl) rfl
theorem q1546 : (Jvm.Cond.laysFinal "EndingTownModel" "EndingTownModel" "takes" "[I") ∈ lw_all := lw_g (lw_at lw_m7 7 rfl) rfl
theorem q1547 : (Jvm.Cond.soleField "EndingTownModel" "takes") ∈ lw_all := lw_g (lw_at lw_m7 8 rfl) rfl
theorem q1548 : (Jvm.Cond.laysFinal "EndingTownModel" "EndingTownModel" "pairWho" "[I") ∈ lw_all := lw_g (lw_at lw_m7 9 rfl) rfl
theorem q1549 : (Jvm.Cond.soleField "EndingTownModel" "pairWho") ∈ lw_all := lw_g (lw_at lw_m7 10 rfl) rfl
theorem q1550 : (Jvm.Cond.laysFinal "EndingTownModel" "EndingTownModel" "pairHour" "[I") ∈ lw_all := lw_g (lw_at lw_m7 11 rfl) rfl
theorem q1551 : (Jvm.Cond.soleField "EndingTownModel" "pairHour") ∈ lw_all := lw_g (lw_at lw_m7 12 rfl) rfl
theorem q1552 : (Jvm.Cond.laysFinal "EndingTownModel" "EndingTownModel" "pairOf" "[I") ∈ lw_all := lw_g (lw_at lw_m7 13 rfl) rfl
theorem q1553 : (Jvm.Cond.soleField "EndingTownModel" "pairOf") ∈ lw_all := lw_g (lw_at lw_m7 14 rfl) rfl
theorem q1554 : (Jvm.Cond.laysFinal "EndingTownModel" "EndingTownModel" "could" "[I") ∈ lw_all := lw_g (lw_at lw_m7 15 rfl) rfl
theorem q1555 : (Jvm.Cond.soleField "EndingTownModel" "could") ∈ lw_all := lw_g (lw_at lw_m7 16 rfl) rfl
theorem q1556 : (Jvm.Cond.lays "EndingTownModel" "EndingTownModel" "pairs" "I") ∈ lw_all := lw_g (lw_at lw_m7 17 rfl) rfl
theorem q1557 : (Jvm.Cond.soleField "EndingTownModel" "pairs") ∈ lw_all := lw_g (lw_at lw_m7 18 rfl) rfl
theorem q1558 : (Jvm.Cond.lays "EndingTownModel" "EndingTownModel" "there" "I") ∈ lw_all := lw_g (lw_at lw_m7 19 rfl) rfl
theorem q1559 : (Jvm.Cond.soleField "EndingTownModel" "there") ∈ lw_all := lw_g (lw_at lw_m7 20 rfl) rfl
theorem q1560 : (Jvm.Cond.lays "EndingTownModel" "EndingTownModel" "changed" "I") ∈ lw_all := lw_g (lw_at lw_m7 21 rfl) rfl
theorem q1561 : (Jvm.Cond.soleField "EndingTownModel" "changed") ∈ lw_all := lw_g (lw_at lw_m7 22 rfl) rfl
theorem q1562 : (Jvm.Cond.lays "EndingTownModel" "EndingTownModel" "firstHow" "I") ∈ lw_all := lw_g (lw_at lw_m7 23 rfl) rfl
theorem q1563 : (Jvm.Cond.soleField "EndingTownModel" "firstHow") ∈ lw_all := lw_g (lw_at lw_m7 24 rfl) rfl
theorem q1564 : (Jvm.Cond.laysFinal "EndingTownModel" "EndingTownModel" "eyes" "[I") ∈ lw_all := lw_g (lw_at lw_m7 25 rfl) rfl
theorem q1565 : (Jvm.Cond.soleField "EndingTownModel" "eyes") ∈ lw_all := lw_g (lw_at lw_m7 26 rfl) rfl
theorem q1566 : (Jvm.Cond.laysFinal "EndingTownModel" "EndingTownModel" "couldEyes" "[I") ∈ lw_all := lw_g (lw_at lw_m7 27 rfl) rfl
theorem q1567 : (Jvm.Cond.soleField "EndingTownModel" "couldEyes") ∈ lw_all := lw_g (lw_at lw_m7 28 rfl) rfl
theorem q1568 : (Jvm.Cond.lays "EndingTownModel" "EndingTownModel" "mendLong" "I") ∈ lw_all := lw_g (lw_at lw_m7 29 rfl) rfl
theorem q1569 : (Jvm.Cond.soleField "EndingTownModel" "mendLong") ∈ lw_all := lw_g (lw_at lw_m7 30 rfl) rfl
theorem q1570 : (Jvm.Cond.laysFinal "EndingTownModel" "EndingTownModel" "mend" "[I") ∈ lw_all := lw_g (lw_at lw_m7 31 rfl) rfl
theorem q1571 : (Jvm.Cond.soleField "EndingTownModel" "mend") ∈ lw_all := lw_g (lw_at lw_m7 32 rfl) rfl
theorem q1572 : (Jvm.Cond.lays "EndingTownModel" "EndingTownModel" "worldThings" "I") ∈ lw_all := lw_g (lw_at lw_m7 33 rfl) rfl
theorem q1573 : (Jvm.Cond.soleField "EndingTownModel" "worldThings") ∈ lw_all := lw_g (lw_at lw_m7 34 rfl) rfl
theorem q1574 : (Jvm.Cond.lays "EndingTownModel" "EndingTownModel" "left" "I") ∈ lw_all := lw_g (lw_at lw_m7 35 rfl) rfl
theorem q1575 : (Jvm.Cond.soleField "EndingTownModel" "left") ∈ lw_all := lw_g (lw_at lw_m7 36 rfl) rfl
theorem q1576 : (Jvm.Cond.lays "EndingTownModel" "EndingTownModel" "hasImage" "Z") ∈ lw_all := lw_g (lw_at lw_m7 37 rfl) rfl
theorem q1577 : (Jvm.Cond.soleField "EndingTownModel" "hasImage") ∈ lw_all := lw_g (lw_at lw_m7 38 rfl) rfl
theorem q1578 : (Jvm.Cond.lays "EndingTownModel" "EndingTownModel" "imageSayings" "I") ∈ lw_all := lw_g (lw_at lw_m7 39 rfl) rfl
theorem q1579 : (Jvm.Cond.soleField "EndingTownModel" "imageSayings") ∈ lw_all := lw_g (lw_at lw_m7 40 rfl) rfl
theorem q1580 : (Jvm.Cond.lays "EndingTownModel" "EndingTownModel" "imageThings" "I") ∈ lw_all := lw_g (lw_at lw_m7 41 rfl) rfl
theorem q1581 : (Jvm.Cond.soleField "EndingTownModel" "imageThings") ∈ lw_all := lw_g (lw_at lw_m7 42 rfl) rfl
theorem q1582 : (Jvm.Cond.lays "EndingTownModel" "EndingTownModel" "imageLeft" "I") ∈ lw_all := lw_g (lw_at lw_m7 43 rfl) rfl
theorem q1583 : (Jvm.Cond.soleField "EndingTownModel" "imageLeft") ∈ lw_all := lw_g (lw_at lw_m7 44 rfl) rfl
theorem q1584 : (Jvm.Cond.laysFinal "EndingTownModel" "EndingTownModel" "imageSaid" "[I") ∈ lw_all := lw_g (lw_at lw_m7 45 rfl) rfl
theorem q1585 : (Jvm.Cond.soleField "EndingTownModel" "imageSaid") ∈ lw_all := lw_g (lw_at lw_m7 46 rfl) rfl
theorem q1586 : (Jvm.Cond.superclass "EndingTownModel" "java/lang/Object") ∈ lw_all := lw_g (lw_at lw_m7 47 rfl) rfl
theorem q1588 : (Jvm.Cond.instanceMethod ({ cls := "EndingTownModel", name := "thrown", desc := "()I" } : Jvm.MethodName)) ∈ lw_all := lw_g (lw_at lw_m7 49 rfl) rfl
theorem q1589 : (Jvm.Cond.selects "EndingTownModel" ({ cls := "EndingTownModel", name := "thrown", desc := "()I" } : Jvm.MethodName) ({ cls := "EndingTownModel", name := "thrown", desc := "()I" } : Jvm.MethodName)) ∈ lw_all := lw_g (lw_at lw_m7 50 rfl) rfl
theorem q1590 : (Jvm.Cond.code ({ cls := "EndingTownModel", name := "thrown", desc := "()I" } : Jvm.MethodName) prog_19_method_2_code (1 : Nat) (Option.some Jvm.ClassFile.FieldType.int)) ∈ lw_all := lw_g (lw_at lw_m7 51 rfl) rfl
theorem q1592 : (Jvm.Cond.instanceMethod ({ cls := "EndingTownModel", name := "feed", desc := "(IIIII)I" } : Jvm.MethodName)) ∈ lw_all := lw_g (lw_at lw_m7 53 rfl) rfl
theorem q1593 : (Jvm.Cond.selects "EndingTownModel" ({ cls := "EndingTownModel", name := "feed", desc := "(IIIII)I" } : Jvm.MethodName) ({ cls := "EndingTownModel", name := "feed", desc := "(IIIII)I" } : Jvm.MethodName)) ∈ lw_all := lw_g (lw_at lw_m7 54 rfl) rfl
theorem q1594 : (Jvm.Cond.code ({ cls := "EndingTownModel", name := "feed", desc := "(IIIII)I" } : Jvm.MethodName) prog_19_method_6_code (6 : Nat) (Option.some Jvm.ClassFile.FieldType.int)) ∈ lw_all := lw_g (lw_at lw_m7 55 rfl) rfl
theorem q1595 : (Jvm.Cond.methodLink "EndingTownModel" (128 : Nat) ({ cls := "EndingTownModel", name := "lays", desc := "(I)V" } : Jvm.MethodName)) ∈ lw_all := lw_g (lw_at lw_m7 56 rfl) rfl
theorem q1596 : (Jvm.Cond.privateMethod ({ cls := "EndingTownModel", name := "lays", desc := "(I)V" } : Jvm.MethodName)) ∈ lw_tbl := lw_at lw_m7 57 rfl
theorem q1597 : (Jvm.Cond.instanceMethod ({ cls := "EndingTownModel", name := "lays", desc := "(I)V" } : Jvm.MethodName)) ∈ lw_all := lw_g (lw_at lw_m7 58 rfl) rfl
theorem q1598 : (Jvm.Cond.code ({ cls := "EndingTownModel", name := "lays", desc := "(I)V" } : Jvm.MethodName) prog_19_method_7_code (3 : Nat) (Option.none : Option Jvm.ClassFile.FieldType)) ∈ lw_all := lw_g (lw_at lw_m7 59 rfl) rfl
theorem q1600 : (Jvm.Cond.instanceMethod ({ cls := "EndingTownModel", name := "village", desc := "(I)I" } : Jvm.MethodName)) ∈ lw_all := lw_g (lw_at lw_m7 61 rfl) rfl
theorem q1601 : (Jvm.Cond.selects "EndingTownModel" ({ cls := "EndingTownModel", name := "village", desc := "(I)I" } : Jvm.MethodName) ({ cls := "EndingTownModel", name := "village", desc := "(I)I" } : Jvm.MethodName)) ∈ lw_all := lw_g (lw_at lw_m7 62 rfl) rfl
theorem q1602 : (Jvm.Cond.code ({ cls := "EndingTownModel", name := "village", desc := "(I)I" } : Jvm.MethodName) prog_19_method_29_code (5 : Nat) (Option.some Jvm.ClassFile.FieldType.int)) ∈ lw_all := lw_g (lw_at lw_m7 63 rfl) rfl
theorem q1603 : (Jvm.Cond.methodLink "EndingTownModel" (250 : Nat) ({ cls := "EndingTownModel", name := "right", desc := "(ZI)Z" } : Jvm.MethodName)) ∈ lw_all := lw_g (lw_at lw_m7 64 rfl) rfl
theorem q1604 : (Jvm.Cond.privateMethod ({ cls := "EndingTownModel", name := "right", desc := "(ZI)Z" } : Jvm.MethodName)) ∈ lw_tbl := lw_at lw_m7 65 rfl
theorem q1605 : (Jvm.Cond.instanceMethod ({ cls := "EndingTownModel", name := "right", desc := "(ZI)Z" } : Jvm.MethodName)) ∈ lw_all := lw_g (lw_at lw_m7 66 rfl) rfl
theorem q1606 : (Jvm.Cond.code ({ cls := "EndingTownModel", name := "right", desc := "(ZI)Z" } : Jvm.MethodName) prog_19_method_3_code (3 : Nat) (Option.some Jvm.ClassFile.FieldType.boolean)) ∈ lw_all := lw_g (lw_at lw_m7 67 rfl) rfl
theorem q1607 : (Jvm.Cond.methodLink "EndingTownModel" (254 : Nat) ({ cls := "EndingTownModel", name := "empties", desc := "()V" } : Jvm.MethodName)) ∈ lw_all := lw_g (lw_at lw_m7 68 rfl) rfl
theorem q1608 : (Jvm.Cond.privateMethod ({ cls := "EndingTownModel", name := "empties", desc := "()V" } : Jvm.MethodName)) ∈ lw_tbl := lw_at lw_m7 69 rfl
theorem q1609 : (Jvm.Cond.instanceMethod ({ cls := "EndingTownModel", name := "empties", desc := "()V" } : Jvm.MethodName)) ∈ lw_all := lw_g (lw_at lw_m7 70 rfl) rfl
theorem q1610 : (Jvm.Cond.code ({ cls := "EndingTownModel", name := "empties", desc := "()V" } : Jvm.MethodName) prog_19_method_28_code (2 : Nat) (Option.none : Option Jvm.ClassFile.FieldType)) ∈ lw_all := lw_g (lw_at lw_m7 71 rfl) rfl
theorem q1611 : (Jvm.Cond.methodLink "EndingTownModel" (180 : Nat) ({ cls := "EndingTownModel", name := "steps", desc := "()V" } : Jvm.MethodName)) ∈ lw_all := lw_g (lw_at lw_m7 72 rfl) rfl
theorem q1612 : (Jvm.Cond.privateMethod ({ cls := "EndingTownModel", name := "steps", desc := "()V" } : Jvm.MethodName)) ∈ lw_tbl := lw_at lw_m7 73 rfl
theorem q1613 : (Jvm.Cond.instanceMethod ({ cls := "EndingTownModel", name := "steps", desc := "()V" } : Jvm.MethodName)) ∈ lw_all := lw_g (lw_at lw_m7 74 rfl) rfl
theorem q1614 : (Jvm.Cond.code ({ cls := "EndingTownModel", name := "steps", desc := "()V" } : Jvm.MethodName) prog_19_method_11_code (2 : Nat) (Option.none : Option Jvm.ClassFile.FieldType)) ∈ lw_all := lw_g (lw_at lw_m7 75 rfl) rfl
theorem q1615 : (Jvm.Cond.methodLink "EndingTownModel" (138 : Nat) ({ cls := "EndingTownModel", name := "byteAt", desc := "(I)I" } : Jvm.MethodName)) ∈ lw_all := lw_g (lw_at lw_m7 76 rfl) rfl
theorem q1616 : (Jvm.Cond.privateMethod ({ cls := "EndingTownModel", name := "byteAt", desc := "(I)I" } : Jvm.MethodName)) ∈ lw_tbl := lw_at lw_m7 77 rfl
theorem q1617 : (Jvm.Cond.instanceMethod ({ cls := "EndingTownModel", name := "byteAt", desc := "(I)I" } : Jvm.MethodName)) ∈ lw_all := lw_g (lw_at lw_m7 78 rfl) rfl
theorem q1618 : (Jvm.Cond.code ({ cls := "EndingTownModel", name := "byteAt", desc := "(I)I" } : Jvm.MethodName) prog_19_method_8_code (2 : Nat) (Option.some Jvm.ClassFile.FieldType.int)) ∈ lw_all := lw_g (lw_at lw_m7 79 rfl) rfl
theorem q1619 : (Jvm.Cond.methodLink "EndingTownModel" (155 : Nat) ({ cls := "EndingTownModel", name := "isLetter", desc := "(I)Z" } : Jvm.MethodName)) ∈ lw_all := lw_g (lw_at lw_m7 80 rfl) rfl
theorem q1620 : (Jvm.Cond.static ({ cls := "EndingTownModel", name := "isLetter", desc := "(I)Z" } : Jvm.MethodName)) ∈ lw_all := lw_g (lw_at lw_m7 81 rfl) rfl
theorem q1621 : (Jvm.Cond.code ({ cls := "EndingTownModel", name := "isLetter", desc := "(I)Z" } : Jvm.MethodName) prog_19_method_9_code (1 : Nat) (Option.some Jvm.ClassFile.FieldType.boolean)) ∈ lw_all := lw_g (lw_at lw_m7 82 rfl) rfl
theorem q1622 : (Jvm.Cond.methodLink "EndingTownModel" (159 : Nat) ({ cls := "EndingTownModel", name := "isDigit", desc := "(I)Z" } : Jvm.MethodName)) ∈ lw_all := lw_g (lw_at lw_m7 83 rfl) rfl
theorem q1623 : (Jvm.Cond.static ({ cls := "EndingTownModel", name := "isDigit", desc := "(I)Z" } : Jvm.MethodName)) ∈ lw_all := lw_g (lw_at lw_m7 84 rfl) rfl
theorem q1624 : (Jvm.Cond.code ({ cls := "EndingTownModel", name := "isDigit", desc := "(I)Z" } : Jvm.MethodName) prog_19_method_10_code (1 : Nat) (Option.some Jvm.ClassFile.FieldType.boolean)) ∈ lw_all := lw_g (lw_at lw_m7 85 rfl) rfl
theorem q1625 : (Jvm.Cond.methodLink "EndingTownModel" (176 : Nat) ({ cls := "EndingTownModel", name := "isGood", desc := "()Z" } : Jvm.MethodName)) ∈ lw_all := lw_g (lw_at lw_m7 86 rfl) rfl
theorem q1626 : (Jvm.Cond.privateMethod ({ cls := "EndingTownModel", name := "isGood", desc := "()Z" } : Jvm.MethodName)) ∈ lw_tbl := lw_at lw_m7 87 rfl
theorem q1627 : (Jvm.Cond.instanceMethod ({ cls := "EndingTownModel", name := "isGood", desc := "()Z" } : Jvm.MethodName)) ∈ lw_all := lw_g (lw_at lw_m7 88 rfl) rfl
theorem q1628 : (Jvm.Cond.code ({ cls := "EndingTownModel", name := "isGood", desc := "()Z" } : Jvm.MethodName) prog_19_method_16_code (1 : Nat) (Option.some Jvm.ClassFile.FieldType.boolean)) ∈ lw_all := lw_g (lw_at lw_m7 89 rfl) rfl
theorem q1629 : (Jvm.Cond.methodLink "EndingTownModel" (257 : Nat) ({ cls := "EndingTownModel", name := "line", desc := "()V" } : Jvm.MethodName)) ∈ lw_all := lw_g (lw_at lw_m7 90 rfl) rfl
theorem q1630 : (Jvm.Cond.privateMethod ({ cls := "EndingTownModel", name := "line", desc := "()V" } : Jvm.MethodName)) ∈ lw_tbl := lw_at lw_m7 91 rfl
theorem q1631 : (Jvm.Cond.instanceMethod ({ cls := "EndingTownModel", name := "line", desc := "()V" } : Jvm.MethodName)) ∈ lw_all := lw_g (lw_at lw_m7 92 rfl) rfl
theorem q1632 : (Jvm.Cond.code ({ cls := "EndingTownModel", name := "line", desc := "()V" } : Jvm.MethodName) prog_19_method_27_code (4 : Nat) (Option.none : Option Jvm.ClassFile.FieldType)) ∈ lw_all := lw_g (lw_at lw_m7 93 rfl) rfl
theorem q1633 : (Jvm.Cond.methodLink "EndingTownModel" (213 : Nat) ({ cls := "EndingTownModel", name := "is", desc := "(I)Z" } : Jvm.MethodName)) ∈ lw_all := lw_g (lw_at lw_m7 94 rfl) rfl
theorem q1634 : (Jvm.Cond.privateMethod ({ cls := "EndingTownModel", name := "is", desc := "(I)Z" } : Jvm.MethodName)) ∈ lw_tbl := lw_at lw_m7 95 rfl
theorem q1635 : (Jvm.Cond.instanceMethod ({ cls := "EndingTownModel", name := "is", desc := "(I)Z" } : Jvm.MethodName)) ∈ lw_all := lw_g (lw_at lw_m7 96 rfl) rfl
theorem q1636 : (Jvm.Cond.code ({ cls := "EndingTownModel", name := "is", desc := "(I)Z" } : Jvm.MethodName) prog_19_method_14_code (2 : Nat) (Option.some Jvm.ClassFile.FieldType.boolean)) ∈ lw_all := lw_g (lw_at lw_m7 97 rfl) rfl
theorem q1637 : (Jvm.Cond.methodLink "EndingTownModel" (169 : Nat) ({ cls := "EndingTownModel", name := "letters", desc := "(I)J" } : Jvm.MethodName)) ∈ lw_all := lw_g (lw_at lw_m7 98 rfl) rfl
theorem q1638 : (Jvm.Cond.static ({ cls := "EndingTownModel", name := "letters", desc := "(I)J" } : Jvm.MethodName)) ∈ lw_all := lw_g (lw_at lw_m7 99 rfl) rfl
theorem q1639 : (Jvm.Cond.code ({ cls := "EndingTownModel", name := "letters", desc := "(I)J" } : Jvm.MethodName) prog_19_method_13_code (1 : Nat) (Option.some Jvm.ClassFile.FieldType.long)) ∈ lw_all := lw_g (lw_at lw_m7 100 rfl) rfl
theorem q1640 : (Jvm.Cond.methodLink "EndingTownModel" (165 : Nat) ({ cls := "EndingTownModel", name := "spelled", desc := "(IIIIII)J" } : Jvm.MethodName)) ∈ lw_all := lw_g (lw_at lw_m7 101 rfl) rfl
theorem q1641 : (Jvm.Cond.static ({ cls := "EndingTownModel", name := "spelled", desc := "(IIIIII)J" } : Jvm.MethodName)) ∈ lw_all := lw_g (lw_at lw_m7 102 rfl) rfl
theorem q1642 : (Jvm.Cond.code ({ cls := "EndingTownModel", name := "spelled", desc := "(IIIIII)J" } : Jvm.MethodName) prog_19_method_12_code (8 : Nat) (Option.some Jvm.ClassFile.FieldType.long)) ∈ lw_all := lw_g (lw_at lw_m7 103 rfl) rfl
theorem q1643 : (Jvm.Cond.methodLink "EndingTownModel" (183 : Nat) ({ cls := "EndingTownModel", name := "faults", desc := "(I)V" } : Jvm.MethodName)) ∈ lw_all := lw_g (lw_at lw_m7 104 rfl) rfl
theorem q1644 : (Jvm.Cond.privateMethod ({ cls := "EndingTownModel", name := "faults", desc := "(I)V" } : Jvm.MethodName)) ∈ lw_tbl := lw_at lw_m7 105 rfl
theorem q1645 : (Jvm.Cond.instanceMethod ({ cls := "EndingTownModel", name := "faults", desc := "(I)V" } : Jvm.MethodName)) ∈ lw_all := lw_g (lw_at lw_m7 106 rfl) rfl
theorem q1646 : (Jvm.Cond.code ({ cls := "EndingTownModel", name := "faults", desc := "(I)V" } : Jvm.MethodName) prog_19_method_15_code (2 : Nat) (Option.none : Option Jvm.ClassFile.FieldType)) ∈ lw_all := lw_g (lw_at lw_m7 107 rfl) rfl
theorem q1647 : (Jvm.Cond.methodLink "EndingTownModel" (193 : Nat) ({ cls := "EndingTownModel", name := "word0", desc := "([II)V" } : Jvm.MethodName)) ∈ lw_all := lw_g (lw_at lw_m7 108 rfl) rfl
theorem q1648 : (Jvm.Cond.privateMethod ({ cls := "EndingTownModel", name := "word0", desc := "([II)V" } : Jvm.MethodName)) ∈ lw_tbl := lw_at lw_m7 109 rfl
theorem q1649 : (Jvm.Cond.instanceMethod ({ cls := "EndingTownModel", name := "word0", desc := "([II)V" } : Jvm.MethodName)) ∈ lw_all := lw_g (lw_at lw_m7 110 rfl) rfl
theorem q1650 : (Jvm.Cond.code ({ cls := "EndingTownModel", name := "word0", desc := "([II)V" } : Jvm.MethodName) prog_19_method_21_code (4 : Nat) (Option.none : Option Jvm.ClassFile.FieldType)) ∈ lw_all := lw_g (lw_at lw_m7 111 rfl) rfl
theorem q1651 : (Jvm.Cond.methodLink "EndingTownModel" (222 : Nat) ({ cls := "EndingTownModel", name := "readsEnding", desc := "()V" } : Jvm.MethodName)) ∈ lw_all := lw_g (lw_at lw_m7 112 rfl) rfl
theorem q1652 : (Jvm.Cond.privateMethod ({ cls := "EndingTownModel", name := "readsEnding", desc := "()V" } : Jvm.MethodName)) ∈ lw_tbl := lw_at lw_m7 113 rfl
theorem q1653 : (Jvm.Cond.instanceMethod ({ cls := "EndingTownModel", name := "readsEnding", desc := "()V" } : Jvm.MethodName)) ∈ lw_all := lw_g (lw_at lw_m7 114 rfl) rfl
theorem q1654 : (Jvm.Cond.code ({ cls := "EndingTownModel", name := "readsEnding", desc := "()V" } : Jvm.MethodName) prog_19_method_22_code (3 : Nat) (Option.none : Option Jvm.ClassFile.FieldType)) ∈ lw_all := lw_g (lw_at lw_m7 115 rfl) rfl
theorem q1655 : (Jvm.Cond.methodLink "EndingTownModel" (189 : Nat) ({ cls := "EndingTownModel", name := "number", desc := "(II)I" } : Jvm.MethodName)) ∈ lw_all := lw_g (lw_at lw_m7 116 rfl) rfl
theorem q1656 : (Jvm.Cond.privateMethod ({ cls := "EndingTownModel", name := "number", desc := "(II)I" } : Jvm.MethodName)) ∈ lw_tbl := lw_at lw_m7 117 rfl
theorem q1657 : (Jvm.Cond.instanceMethod ({ cls := "EndingTownModel", name := "number", desc := "(II)I" } : Jvm.MethodName)) ∈ lw_all := lw_g (lw_at lw_m7 118 rfl) rfl
theorem q1658 : (Jvm.Cond.code ({ cls := "EndingTownModel", name := "number", desc := "(II)I" } : Jvm.MethodName) prog_19_method_18_code (4 : Nat) (Option.some Jvm.ClassFile.FieldType.int)) ∈ lw_all := lw_g (lw_at lw_m7 119 rfl) rfl
theorem q1659 : (Jvm.Cond.methodLink "EndingTownModel" (234 : Nat) ({ cls := "EndingTownModel", name := "readsNear", desc := "()V" } : Jvm.MethodName)) ∈ lw_all := lw_g (lw_at lw_m7 120 rfl) rfl
theorem q1660 : (Jvm.Cond.privateMethod ({ cls := "EndingTownModel", name := "readsNear", desc := "()V" } : Jvm.MethodName)) ∈ lw_tbl := lw_at lw_m7 121 rfl
theorem q1661 : (Jvm.Cond.instanceMethod ({ cls := "EndingTownModel", name := "readsNear", desc := "()V" } : Jvm.MethodName)) ∈ lw_all := lw_g (lw_at lw_m7 122 rfl) rfl
theorem q1662 : (Jvm.Cond.code ({ cls := "EndingTownModel", name := "readsNear", desc := "()V" } : Jvm.MethodName) prog_19_method_23_code (2 : Nat) (Option.none : Option Jvm.ClassFile.FieldType)) ∈ lw_all := lw_g (lw_at lw_m7 123 rfl) rfl
theorem q1663 : (Jvm.Cond.methodLink "EndingTownModel" (204 : Nat) ({ cls := "EndingTownModel", name := "among", desc := "(I)I" } : Jvm.MethodName)) ∈ lw_all := lw_g (lw_at lw_m7 124 rfl) rfl
theorem q1664 : (Jvm.Cond.privateMethod ({ cls := "EndingTownModel", name := "among", desc := "(I)I" } : Jvm.MethodName)) ∈ lw_tbl := lw_at lw_m7 125 rfl
theorem q1665 : (Jvm.Cond.instanceMethod ({ cls := "EndingTownModel", name := "among", desc := "(I)I" } : Jvm.MethodName)) ∈ lw_all := lw_g (lw_at lw_m7 126 rfl) rfl
theorem q1666 : (Jvm.Cond.code ({ cls := "EndingTownModel", name := "among", desc := "(I)I" } : Jvm.MethodName) prog_19_method_20_code (3 : Nat) (Option.some Jvm.ClassFile.FieldType.int)) ∈ lw_all := lw_g (lw_at lw_m7 127 rfl) rfl
theorem q1667 : (Jvm.Cond.methodLink "EndingTownModel" (186 : Nat) ({ cls := "EndingTownModel", name := "amongHere", desc := "(I)Z" } : Jvm.MethodName)) ∈ lw_all := lw_g (lw_at lw_m7 128 rfl) rfl
theorem q1668 : (Jvm.Cond.privateMethod ({ cls := "EndingTownModel", name := "amongHere", desc := "(I)Z" } : Jvm.MethodName)) ∈ lw_tbl := lw_at lw_m7 129 rfl
theorem q1669 : (Jvm.Cond.instanceMethod ({ cls := "EndingTownModel", name := "amongHere", desc := "(I)Z" } : Jvm.MethodName)) ∈ lw_all := lw_g (lw_at lw_m7 130 rfl) rfl
theorem q1670 : (Jvm.Cond.code ({ cls := "EndingTownModel", name := "amongHere", desc := "(I)Z" } : Jvm.MethodName) prog_19_method_19_code (2 : Nat) (Option.some Jvm.ClassFile.FieldType.boolean)) ∈ lw_all := lw_g (lw_at lw_m7 131 rfl) rfl
theorem q1671 : (Jvm.Cond.methodLink "EndingTownModel" (237 : Nat) ({ cls := "EndingTownModel", name := "readsThing", desc := "()V" } : Jvm.MethodName)) ∈ lw_all := lw_g (lw_at lw_m7 132 rfl) rfl
theorem q1672 : (Jvm.Cond.privateMethod ({ cls := "EndingTownModel", name := "readsThing", desc := "()V" } : Jvm.MethodName)) ∈ lw_tbl := lw_at lw_m7 133 rfl
theorem q1673 : (Jvm.Cond.instanceMethod ({ cls := "EndingTownModel", name := "readsThing", desc := "()V" } : Jvm.MethodName)) ∈ lw_all := lw_g (lw_at lw_m7 134 rfl) rfl
theorem q1674 : (Jvm.Cond.code ({ cls := "EndingTownModel", name := "readsThing", desc := "()V" } : Jvm.MethodName) prog_19_method_24_code (3 : Nat) (Option.none : Option Jvm.ClassFile.FieldType)) ∈ lw_all := lw_g (lw_at lw_m7 135 rfl) rfl
theorem q1675 : (Jvm.Cond.methodLink "EndingTownModel" (240 : Nat) ({ cls := "EndingTownModel", name := "readsRule", desc := "()V" } : Jvm.MethodName)) ∈ lw_all := lw_g (lw_at lw_m7 136 rfl) rfl
theorem q1676 : (Jvm.Cond.privateMethod ({ cls := "EndingTownModel", name := "readsRule", desc := "()V" } : Jvm.MethodName)) ∈ lw_tbl := lw_at lw_m7 137 rfl
theorem q1677 : (Jvm.Cond.instanceMethod ({ cls := "EndingTownModel", name := "readsRule", desc := "()V" } : Jvm.MethodName)) ∈ lw_all := lw_g (lw_at lw_m7 138 rfl) rfl
theorem q1678 : (Jvm.Cond.code ({ cls := "EndingTownModel", name := "readsRule", desc := "()V" } : Jvm.MethodName) prog_19_method_25_code (4 : Nat) (Option.none : Option Jvm.ClassFile.FieldType)) ∈ lw_all := lw_g (lw_at lw_m7 139 rfl) rfl
theorem q1679 : (Jvm.Cond.methodLink "EndingTownModel" (243 : Nat) ({ cls := "EndingTownModel", name := "readsAt", desc := "()V" } : Jvm.MethodName)) ∈ lw_all := lw_g (lw_at lw_m7 140 rfl) rfl
theorem q1680 : (Jvm.Cond.privateMethod ({ cls := "EndingTownModel", name := "readsAt", desc := "()V" } : Jvm.MethodName)) ∈ lw_tbl := lw_at lw_m7 141 rfl
theorem q1681 : (Jvm.Cond.instanceMethod ({ cls := "EndingTownModel", name := "readsAt", desc := "()V" } : Jvm.MethodName)) ∈ lw_all := lw_g (lw_at lw_m7 142 rfl) rfl
theorem q1682 : (Jvm.Cond.code ({ cls := "EndingTownModel", name := "readsAt", desc := "()V" } : Jvm.MethodName) prog_19_method_26_code (4 : Nat) (Option.none : Option Jvm.ClassFile.FieldType)) ∈ lw_all := lw_g (lw_at lw_m7 143 rfl) rfl
theorem q1683 : (Jvm.Cond.methodLink "EndingTownModel" (246 : Nat) ({ cls := "EndingTownModel", name := "need", desc := "(Z)V" } : Jvm.MethodName)) ∈ lw_all := lw_g (lw_at lw_m7 144 rfl) rfl
theorem q1684 : (Jvm.Cond.privateMethod ({ cls := "EndingTownModel", name := "need", desc := "(Z)V" } : Jvm.MethodName)) ∈ lw_tbl := lw_at lw_m7 145 rfl
theorem q1685 : (Jvm.Cond.instanceMethod ({ cls := "EndingTownModel", name := "need", desc := "(Z)V" } : Jvm.MethodName)) ∈ lw_all := lw_g (lw_at lw_m7 146 rfl) rfl
theorem q1686 : (Jvm.Cond.code ({ cls := "EndingTownModel", name := "need", desc := "(Z)V" } : Jvm.MethodName) prog_19_method_17_code (2 : Nat) (Option.none : Option Jvm.ClassFile.FieldType)) ∈ lw_all := lw_g (lw_at lw_m7 147 rfl) rfl
theorem q1687 : (Jvm.Cond.methodLink "EndingTownModel" (275 : Nat) ({ cls := "EndingTownModel", name := "copies", desc := "([I[I)V" } : Jvm.MethodName)) ∈ lw_all := lw_g (lw_at lw_m7 148 rfl) rfl
theorem q1688 : (Jvm.Cond.privateMethod ({ cls := "EndingTownModel", name := "copies", desc := "([I[I)V" } : Jvm.MethodName)) ∈ lw_tbl := lw_at lw_m7 149 rfl
theorem q1689 : (Jvm.Cond.instanceMethod ({ cls := "EndingTownModel", name := "copies", desc := "([I[I)V" } : Jvm.MethodName)) ∈ lw_all := lw_g (lw_at lw_m7 150 rfl) rfl
theorem q1690 : (Jvm.Cond.code ({ cls := "EndingTownModel", name := "copies", desc := "([I[I)V" } : Jvm.MethodName) prog_19_method_5_code (4 : Nat) (Option.none : Option Jvm.ClassFile.FieldType)) ∈ lw_all := lw_g (lw_at lw_m7 151 rfl) rfl
theorem q1692 : (Jvm.Cond.instanceMethod ({ cls := "EndingTownModel", name := "fault", desc := "()I" } : Jvm.MethodName)) ∈ lw_all := lw_g (lw_at lw_m7 153 rfl) rfl
theorem q1693 : (Jvm.Cond.selects "EndingTownModel" ({ cls := "EndingTownModel", name := "fault", desc := "()I" } : Jvm.MethodName) ({ cls := "EndingTownModel", name := "fault", desc := "()I" } : Jvm.MethodName)) ∈ lw_all := lw_g (lw_at lw_m7 154 rfl) rfl
theorem q1694 : (Jvm.Cond.code ({ cls := "EndingTownModel", name := "fault", desc := "()I" } : Jvm.MethodName) prog_19_method_30_code (1 : Nat) (Option.some Jvm.ClassFile.FieldType.int)) ∈ lw_all := lw_g (lw_at lw_m7 155 rfl) rfl
theorem q1696 : (Jvm.Cond.instanceMethod ({ cls := "EndingTownModel", name := "count", desc := "(I)I" } : Jvm.MethodName)) ∈ lw_all := lw_g (lw_at lw_m7 157 rfl) rfl
theorem q1697 : (Jvm.Cond.selects "EndingTownModel" ({ cls := "EndingTownModel", name := "count", desc := "(I)I" } : Jvm.MethodName) ({ cls := "EndingTownModel", name := "count", desc := "(I)I" } : Jvm.MethodName)) ∈ lw_all := lw_g (lw_at lw_m7 158 rfl) rfl
theorem q1698 : (Jvm.Cond.code ({ cls := "EndingTownModel", name := "count", desc := "(I)I" } : Jvm.MethodName) prog_19_method_31_code (2 : Nat) (Option.some Jvm.ClassFile.FieldType.int)) ∈ lw_all := lw_g (lw_at lw_m7 159 rfl) rfl
theorem q1699 : (Jvm.Cond.methodLink "EndingTownModel" (291 : Nat) ({ cls := "EndingTownModel", name := "within", desc := "(III)Z" } : Jvm.MethodName)) ∈ lw_all := lw_g (lw_at lw_m7 160 rfl) rfl
theorem q1700 : (Jvm.Cond.static ({ cls := "EndingTownModel", name := "within", desc := "(III)Z" } : Jvm.MethodName)) ∈ lw_all := lw_g (lw_at lw_m7 161 rfl) rfl
theorem q1701 : (Jvm.Cond.code ({ cls := "EndingTownModel", name := "within", desc := "(III)Z" } : Jvm.MethodName) prog_19_method_4_code (3 : Nat) (Option.some Jvm.ClassFile.FieldType.boolean)) ∈ lw_all := lw_g (lw_at lw_m7 162 rfl) rfl
theorem q1702 : (Jvm.Cond.methodLink "EndingTownModel" (295 : Nat) ({ cls := "EndingTownModel", name := "bits", desc := "(I)I" } : Jvm.MethodName)) ∈ lw_all := lw_g (lw_at lw_m7 163 rfl) rfl
theorem q1703 : (Jvm.Cond.static ({ cls := "EndingTownModel", name := "bits", desc := "(I)I" } : Jvm.MethodName)) ∈ lw_all := lw_g (lw_at lw_m7 164 rfl) rfl
theorem q1704 : (Jvm.Cond.code ({ cls := "EndingTownModel", name := "bits", desc := "(I)I" } : Jvm.MethodName) prog_19_method_32_code (3 : Nat) (Option.some Jvm.ClassFile.FieldType.int)) ∈ lw_all := lw_g (lw_at lw_m7 165 rfl) rfl
theorem q1706 : (Jvm.Cond.instanceMethod ({ cls := "EndingTownModel", name := "where", desc := "(II)I" } : Jvm.MethodName)) ∈ lw_all := lw_g (lw_at lw_m7 167 rfl) rfl
theorem q1707 : (Jvm.Cond.selects "EndingTownModel" ({ cls := "EndingTownModel", name := "where", desc := "(II)I" } : Jvm.MethodName) ({ cls := "EndingTownModel", name := "where", desc := "(II)I" } : Jvm.MethodName)) ∈ lw_all := lw_g (lw_at lw_m7 168 rfl) rfl
theorem q1708 : (Jvm.Cond.code ({ cls := "EndingTownModel", name := "where", desc := "(II)I" } : Jvm.MethodName) prog_19_method_35_code (3 : Nat) (Option.some Jvm.ClassFile.FieldType.int)) ∈ lw_all := lw_g (lw_at lw_m7 169 rfl) rfl
theorem q1709 : (Jvm.Cond.methodLink "EndingTownModel" (298 : Nat) ({ cls := "EndingTownModel", name := "isWho", desc := "(II)Z" } : Jvm.MethodName)) ∈ lw_all := lw_g (lw_at lw_m7 170 rfl) rfl
theorem q1710 : (Jvm.Cond.privateMethod ({ cls := "EndingTownModel", name := "isWho", desc := "(II)Z" } : Jvm.MethodName)) ∈ lw_tbl := lw_at lw_m7 171 rfl
theorem q1711 : (Jvm.Cond.instanceMethod ({ cls := "EndingTownModel", name := "isWho", desc := "(II)Z" } : Jvm.MethodName)) ∈ lw_all := lw_g (lw_at lw_m7 172 rfl) rfl
theorem q1712 : (Jvm.Cond.code ({ cls := "EndingTownModel", name := "isWho", desc := "(II)Z" } : Jvm.MethodName) prog_19_method_33_code (3 : Nat) (Option.some Jvm.ClassFile.FieldType.boolean)) ∈ lw_all := lw_g (lw_at lw_m7 173 rfl) rfl
theorem q1714 : (Jvm.Cond.instanceMethod ({ cls := "EndingTownModel", name := "thing", desc := "(II)I" } : Jvm.MethodName)) ∈ lw_all := lw_g (lw_at lw_m7 175 rfl) rfl
theorem q1715 : (Jvm.Cond.selects "EndingTownModel" ({ cls := "EndingTownModel", name := "thing", desc := "(II)I" } : Jvm.MethodName) ({ cls := "EndingTownModel", name := "thing", desc := "(II)I" } : Jvm.MethodName)) ∈ lw_all := lw_g (lw_at lw_m7 176 rfl) rfl
theorem q1716 : (Jvm.Cond.code ({ cls := "EndingTownModel", name := "thing", desc := "(II)I" } : Jvm.MethodName) prog_19_method_36_code (3 : Nat) (Option.some Jvm.ClassFile.FieldType.int)) ∈ lw_all := lw_g (lw_at lw_m7 177 rfl) rfl
theorem q1717 : (Jvm.Cond.methodLink "EndingTownModel" (302 : Nat) ({ cls := "EndingTownModel", name := "isThing", desc := "(I)Z" } : Jvm.MethodName)) ∈ lw_all := lw_g (lw_at lw_m7 178 rfl) rfl
theorem q1718 : (Jvm.Cond.privateMethod ({ cls := "EndingTownModel", name := "isThing", desc := "(I)Z" } : Jvm.MethodName)) ∈ lw_tbl := lw_at lw_m7 179 rfl
theorem q1719 : (Jvm.Cond.instanceMethod ({ cls := "EndingTownModel", name := "isThing", desc := "(I)Z" } : Jvm.MethodName)) ∈ lw_all := lw_g (lw_at lw_m7 180 rfl) rfl
theorem q1720 : (Jvm.Cond.code ({ cls := "EndingTownModel", name := "isThing", desc := "(I)Z" } : Jvm.MethodName) prog_19_method_34_code (2 : Nat) (Option.some Jvm.ClassFile.FieldType.boolean)) ∈ lw_all := lw_g (lw_at lw_m7 181 rfl) rfl
theorem q1722 : (Jvm.Cond.instanceMethod ({ cls := "EndingTownModel", name := "word", desc := "(IIII)I" } : Jvm.MethodName)) ∈ lw_all := lw_g (lw_at lw_m7 183 rfl) rfl
theorem q1723 : (Jvm.Cond.selects "EndingTownModel" ({ cls := "EndingTownModel", name := "word", desc := "(IIII)I" } : Jvm.MethodName) ({ cls := "EndingTownModel", name := "word", desc := "(IIII)I" } : Jvm.MethodName)) ∈ lw_all := lw_g (lw_at lw_m7 184 rfl) rfl
theorem q1724 : (Jvm.Cond.code ({ cls := "EndingTownModel", name := "word", desc := "(IIII)I" } : Jvm.MethodName) prog_19_method_41_code (5 : Nat) (Option.some Jvm.ClassFile.FieldType.int)) ∈ lw_all := lw_g (lw_at lw_m7 185 rfl) rfl
theorem q1725 : (Jvm.Cond.methodLink "EndingTownModel" (317 : Nat) ({ cls := "EndingTownModel", name := "speaks", desc := "(II)V" } : Jvm.MethodName)) ∈ lw_all := lw_g (lw_at lw_m7 186 rfl) rfl
theorem q1726 : (Jvm.Cond.privateMethod ({ cls := "EndingTownModel", name := "speaks", desc := "(II)V" } : Jvm.MethodName)) ∈ lw_tbl := lw_at lw_m7 187 rfl
theorem q1727 : (Jvm.Cond.instanceMethod ({ cls := "EndingTownModel", name := "speaks", desc := "(II)V" } : Jvm.MethodName)) ∈ lw_all := lw_g (lw_at lw_m7 188 rfl) rfl
theorem q1728 : (Jvm.Cond.code ({ cls := "EndingTownModel", name := "speaks", desc := "(II)V" } : Jvm.MethodName) prog_19_method_40_code (7 : Nat) (Option.none : Option Jvm.ClassFile.FieldType)) ∈ lw_all := lw_g (lw_at lw_m7 189 rfl) rfl
theorem q1729 : (Jvm.Cond.methodLink "EndingTownModel" (308 : Nat) ({ cls := "EndingTownModel", name := "ends", desc := "(II)Z" } : Jvm.MethodName)) ∈ lw_all := lw_g (lw_at lw_m7 190 rfl) rfl
theorem q1730 : (Jvm.Cond.privateMethod ({ cls := "EndingTownModel", name := "ends", desc := "(II)Z" } : Jvm.MethodName)) ∈ lw_tbl := lw_at lw_m7 191 rfl
theorem q1731 : (Jvm.Cond.instanceMethod ({ cls := "EndingTownModel", name := "ends", desc := "(II)Z" } : Jvm.MethodName)) ∈ lw_all := lw_g (lw_at lw_m7 192 rfl) rfl
theorem q1732 : (Jvm.Cond.code ({ cls := "EndingTownModel", name := "ends", desc := "(II)Z" } : Jvm.MethodName) prog_19_method_37_code (6 : Nat) (Option.some Jvm.ClassFile.FieldType.boolean)) ∈ lw_all := lw_g (lw_at lw_m7 193 rfl) rfl
theorem q1733 : (Jvm.Cond.methodLink "EndingTownModel" (311 : Nat) ({ cls := "EndingTownModel", name := "begins", desc := "(II)Z" } : Jvm.MethodName)) ∈ lw_all := lw_g (lw_at lw_m7 194 rfl) rfl
theorem q1734 : (Jvm.Cond.privateMethod ({ cls := "EndingTownModel", name := "begins", desc := "(II)Z" } : Jvm.MethodName)) ∈ lw_tbl := lw_at lw_m7 195 rfl
theorem q1735 : (Jvm.Cond.instanceMethod ({ cls := "EndingTownModel", name := "begins", desc := "(II)Z" } : Jvm.MethodName)) ∈ lw_all := lw_g (lw_at lw_m7 196 rfl) rfl
theorem q1736 : (Jvm.Cond.code ({ cls := "EndingTownModel", name := "begins", desc := "(II)Z" } : Jvm.MethodName) prog_19_method_38_code (5 : Nat) (Option.some Jvm.ClassFile.FieldType.boolean)) ∈ lw_all := lw_g (lw_at lw_m7 197 rfl) rfl
theorem q1737 : (Jvm.Cond.methodLink "EndingTownModel" (314 : Nat) ({ cls := "EndingTownModel", name := "adds", desc := "(I)V" } : Jvm.MethodName)) ∈ lw_all := lw_g (lw_at lw_m7 198 rfl) rfl
theorem q1738 : (Jvm.Cond.privateMethod ({ cls := "EndingTownModel", name := "adds", desc := "(I)V" } : Jvm.MethodName)) ∈ lw_tbl := lw_at lw_m7 199 rfl
theorem q1739 : (Jvm.Cond.instanceMethod ({ cls := "EndingTownModel", name := "adds", desc := "(I)V" } : Jvm.MethodName)) ∈ lw_all := lw_g (lw_at lw_m7 200 rfl) rfl
theorem q1740 : (Jvm.Cond.code ({ cls := "EndingTownModel", name := "adds", desc := "(I)V" } : Jvm.MethodName) prog_19_method_39_code (2 : Nat) (Option.none : Option Jvm.ClassFile.FieldType)) ∈ lw_all := lw_g (lw_at lw_m7 201 rfl) rfl
theorem q1742 : (Jvm.Cond.instanceMethod ({ cls := "EndingTownModel", name := "apart", desc := "(I)I" } : Jvm.MethodName)) ∈ lw_all := lw_g (lw_at lw_m7 203 rfl) rfl
theorem q1743 : (Jvm.Cond.selects "EndingTownModel" ({ cls := "EndingTownModel", name := "apart", desc := "(I)I" } : Jvm.MethodName) ({ cls := "EndingTownModel", name := "apart", desc := "(I)I" } : Jvm.MethodName)) ∈ lw_all := lw_g (lw_at lw_m7 204 rfl) rfl
theorem q1744 : (Jvm.Cond.code ({ cls := "EndingTownModel", name := "apart", desc := "(I)I" } : Jvm.MethodName) prog_19_method_43_code (2 : Nat) (Option.some Jvm.ClassFile.FieldType.int)) ∈ lw_all := lw_g (lw_at lw_m7 205 rfl) rfl
theorem q1745 : (Jvm.Cond.methodLink "EndingTownModel" (324 : Nat) ({ cls := "EndingTownModel", name := "finds", desc := "(II)V" } : Jvm.MethodName)) ∈ lw_all := lw_g (lw_at lw_m7 206 rfl) rfl
theorem q1746 : (Jvm.Cond.privateMethod ({ cls := "EndingTownModel", name := "finds", desc := "(II)V" } : Jvm.MethodName)) ∈ lw_tbl := lw_at lw_m7 207 rfl
theorem q1747 : (Jvm.Cond.instanceMethod ({ cls := "EndingTownModel", name := "finds", desc := "(II)V" } : Jvm.MethodName)) ∈ lw_all := lw_g (lw_at lw_m7 208 rfl) rfl
theorem q1748 : (Jvm.Cond.code ({ cls := "EndingTownModel", name := "finds", desc := "(II)V" } : Jvm.MethodName) prog_19_method_42_code (6 : Nat) (Option.none : Option Jvm.ClassFile.FieldType)) ∈ lw_all := lw_g (lw_at lw_m7 209 rfl) rfl
theorem q1750 : (Jvm.Cond.instanceMethod ({ cls := "EndingTownModel", name := "way", desc := "(I)I" } : Jvm.MethodName)) ∈ lw_all := lw_g (lw_at lw_m7 211 rfl) rfl
theorem q1751 : (Jvm.Cond.selects "EndingTownModel" ({ cls := "EndingTownModel", name := "way", desc := "(I)I" } : Jvm.MethodName) ({ cls := "EndingTownModel", name := "way", desc := "(I)I" } : Jvm.MethodName)) ∈ lw_all := lw_g (lw_at lw_m7 212 rfl) rfl
theorem q1752 : (Jvm.Cond.code ({ cls := "EndingTownModel", name := "way", desc := "(I)I" } : Jvm.MethodName) prog_19_method_44_code (2 : Nat) (Option.some Jvm.ClassFile.FieldType.int)) ∈ lw_all := lw_g (lw_at lw_m7 213 rfl) rfl
theorem q1754 : (Jvm.Cond.instanceMethod ({ cls := "EndingTownModel", name := "say", desc := "(IIIIZ)I" } : Jvm.MethodName)) ∈ lw_all := lw_g (lw_at lw_m7 215 rfl) rfl
theorem q1755 : (Jvm.Cond.selects "EndingTownModel" ({ cls := "EndingTownModel", name := "say", desc := "(IIIIZ)I" } : Jvm.MethodName) ({ cls := "EndingTownModel", name := "say", desc := "(IIIIZ)I" } : Jvm.MethodName)) ∈ lw_all := lw_g (lw_at lw_m7 216 rfl) rfl
theorem q1756 : (Jvm.Cond.code ({ cls := "EndingTownModel", name := "say", desc := "(IIIIZ)I" } : Jvm.MethodName) prog_19_method_48_code (6 : Nat) (Option.some Jvm.ClassFile.FieldType.int)) ∈ lw_all := lw_g (lw_at lw_m7 217 rfl) rfl
theorem q1757 : (Jvm.Cond.methodLink "EndingTownModel" (327 : Nat) ({ cls := "EndingTownModel", name := "refuses", desc := "(I)I" } : Jvm.MethodName)) ∈ lw_all := lw_g (lw_at lw_m7 218 rfl) rfl
theorem q1758 : (Jvm.Cond.privateMethod ({ cls := "EndingTownModel", name := "refuses", desc := "(I)I" } : Jvm.MethodName)) ∈ lw_tbl := lw_at lw_m7 219 rfl
theorem q1759 : (Jvm.Cond.instanceMethod ({ cls := "EndingTownModel", name := "refuses", desc := "(I)I" } : Jvm.MethodName)) ∈ lw_all := lw_g (lw_at lw_m7 220 rfl) rfl
theorem q1760 : (Jvm.Cond.code ({ cls := "EndingTownModel", name := "refuses", desc := "(I)I" } : Jvm.MethodName) prog_19_method_47_code (2 : Nat) (Option.some Jvm.ClassFile.FieldType.int)) ∈ lw_all := lw_g (lw_at lw_m7 221 rfl) rfl
theorem q1761 : (Jvm.Cond.methodLink "EndingTownModel" (330 : Nat) ({ cls := "EndingTownModel", name := "adds5", desc := "(IIIII)I" } : Jvm.MethodName)) ∈ lw_all := lw_g (lw_at lw_m7 222 rfl) rfl
theorem q1762 : (Jvm.Cond.privateMethod ({ cls := "EndingTownModel", name := "adds5", desc := "(IIIII)I" } : Jvm.MethodName)) ∈ lw_tbl := lw_at lw_m7 223 rfl
theorem q1763 : (Jvm.Cond.instanceMethod ({ cls := "EndingTownModel", name := "adds5", desc := "(IIIII)I" } : Jvm.MethodName)) ∈ lw_all := lw_g (lw_at lw_m7 224 rfl) rfl
theorem q1764 : (Jvm.Cond.code ({ cls := "EndingTownModel", name := "adds5", desc := "(IIIII)I" } : Jvm.MethodName) prog_19_method_46_code (7 : Nat) (Option.some Jvm.ClassFile.FieldType.int)) ∈ lw_all := lw_g (lw_at lw_m7 225 rfl) rfl
theorem q1766 : (Jvm.Cond.instanceMethod ({ cls := "EndingTownModel", name := "utter", desc := "(III)I" } : Jvm.MethodName)) ∈ lw_all := lw_g (lw_at lw_m7 227 rfl) rfl
theorem q1767 : (Jvm.Cond.selects "EndingTownModel" ({ cls := "EndingTownModel", name := "utter", desc := "(III)I" } : Jvm.MethodName) ({ cls := "EndingTownModel", name := "utter", desc := "(III)I" } : Jvm.MethodName)) ∈ lw_all := lw_g (lw_at lw_m7 228 rfl) rfl
theorem q1768 : (Jvm.Cond.code ({ cls := "EndingTownModel", name := "utter", desc := "(III)I" } : Jvm.MethodName) prog_19_method_52_code (13 : Nat) (Option.some Jvm.ClassFile.FieldType.int)) ∈ lw_all := lw_g (lw_at lw_m7 229 rfl) rfl
theorem q1769 : (Jvm.Cond.methodLink "EndingTownModel" (334 : Nat) ({ cls := "EndingTownModel", name := "blanks", desc := "(II)I" } : Jvm.MethodName)) ∈ lw_all := lw_g (lw_at lw_m7 230 rfl) rfl
theorem q1770 : (Jvm.Cond.privateMethod ({ cls := "EndingTownModel", name := "blanks", desc := "(II)I" } : Jvm.MethodName)) ∈ lw_tbl := lw_at lw_m7 231 rfl
theorem q1771 : (Jvm.Cond.instanceMethod ({ cls := "EndingTownModel", name := "blanks", desc := "(II)I" } : Jvm.MethodName)) ∈ lw_all := lw_g (lw_at lw_m7 232 rfl) rfl
theorem q1772 : (Jvm.Cond.code ({ cls := "EndingTownModel", name := "blanks", desc := "(II)I" } : Jvm.MethodName) prog_19_method_49_code (4 : Nat) (Option.some Jvm.ClassFile.FieldType.int)) ∈ lw_all := lw_g (lw_at lw_m7 233 rfl) rfl
theorem q1773 : (Jvm.Cond.methodLink "EndingTownModel" (337 : Nat) ({ cls := "EndingTownModel", name := "lettersTo", desc := "(II)I" } : Jvm.MethodName)) ∈ lw_all := lw_g (lw_at lw_m7 234 rfl) rfl
theorem q1774 : (Jvm.Cond.privateMethod ({ cls := "EndingTownModel", name := "lettersTo", desc := "(II)I" } : Jvm.MethodName)) ∈ lw_tbl := lw_at lw_m7 235 rfl
theorem q1775 : (Jvm.Cond.instanceMethod ({ cls := "EndingTownModel", name := "lettersTo", desc := "(II)I" } : Jvm.MethodName)) ∈ lw_all := lw_g (lw_at lw_m7 236 rfl) rfl
theorem q1776 : (Jvm.Cond.code ({ cls := "EndingTownModel", name := "lettersTo", desc := "(II)I" } : Jvm.MethodName) prog_19_method_50_code (4 : Nat) (Option.some Jvm.ClassFile.FieldType.int)) ∈ lw_all := lw_g (lw_at lw_m7 237 rfl) rfl
theorem q1777 : (Jvm.Cond.methodLink "EndingTownModel" (340 : Nat) ({ cls := "EndingTownModel", name := "isNot", desc := "(II)Z" } : Jvm.MethodName)) ∈ lw_all := lw_g (lw_at lw_m7 238 rfl) rfl
theorem q1778 : (Jvm.Cond.privateMethod ({ cls := "EndingTownModel", name := "isNot", desc := "(II)Z" } : Jvm.MethodName)) ∈ lw_tbl := lw_at lw_m7 239 rfl
theorem q1779 : (Jvm.Cond.instanceMethod ({ cls := "EndingTownModel", name := "isNot", desc := "(II)Z" } : Jvm.MethodName)) ∈ lw_all := lw_g (lw_at lw_m8 0 rfl) rfl
theorem q1780 : (Jvm.Cond.code ({ cls := "EndingTownModel", name := "isNot", desc := "(II)Z" } : Jvm.MethodName) prog_19_method_51_code (4 : Nat) (Option.some Jvm.ClassFile.FieldType.boolean)) ∈ lw_all := lw_g (lw_at lw_m8 1 rfl) rfl
theorem q1782 : (Jvm.Cond.instanceMethod ({ cls := "EndingTownModel", name := "unsay", desc := "()I" } : Jvm.MethodName)) ∈ lw_all := lw_g (lw_at lw_m8 3 rfl) rfl
theorem q1783 : (Jvm.Cond.selects "EndingTownModel" ({ cls := "EndingTownModel", name := "unsay", desc := "()I" } : Jvm.MethodName) ({ cls := "EndingTownModel", name := "unsay", desc := "()I" } : Jvm.MethodName)) ∈ lw_all := lw_g (lw_at lw_m8 4 rfl) rfl
theorem q1784 : (Jvm.Cond.code ({ cls := "EndingTownModel", name := "unsay", desc := "()I" } : Jvm.MethodName) prog_19_method_53_code (1 : Nat) (Option.some Jvm.ClassFile.FieldType.int)) ∈ lw_all := lw_g (lw_at lw_m8 5 rfl) rfl
theorem q1786 : (Jvm.Cond.instanceMethod ({ cls := "EndingTownModel", name := "saying", desc := "(II)I" } : Jvm.MethodName)) ∈ lw_all := lw_g (lw_at lw_m8 7 rfl) rfl
theorem q1787 : (Jvm.Cond.selects "EndingTownModel" ({ cls := "EndingTownModel", name := "saying", desc := "(II)I" } : Jvm.MethodName) ({ cls := "EndingTownModel", name := "saying", desc := "(II)I" } : Jvm.MethodName)) ∈ lw_all := lw_g (lw_at lw_m8 8 rfl) rfl
theorem q1788 : (Jvm.Cond.code ({ cls := "EndingTownModel", name := "saying", desc := "(II)I" } : Jvm.MethodName) prog_19_method_68_code (3 : Nat) (Option.some Jvm.ClassFile.FieldType.int)) ∈ lw_all := lw_g (lw_at lw_m8 9 rfl) rfl
theorem q1789 : (Jvm.Cond.methodLink "EndingTownModel" (346 : Nat) ({ cls := "EndingTownModel", name := "of", desc := "(II)I" } : Jvm.MethodName)) ∈ lw_all := lw_g (lw_at lw_m8 10 rfl) rfl
theorem q1790 : (Jvm.Cond.privateMethod ({ cls := "EndingTownModel", name := "of", desc := "(II)I" } : Jvm.MethodName)) ∈ lw_tbl := lw_at lw_m8 11 rfl
theorem q1791 : (Jvm.Cond.instanceMethod ({ cls := "EndingTownModel", name := "of", desc := "(II)I" } : Jvm.MethodName)) ∈ lw_all := lw_g (lw_at lw_m8 12 rfl) rfl
theorem q1792 : (Jvm.Cond.code ({ cls := "EndingTownModel", name := "of", desc := "(II)I" } : Jvm.MethodName) prog_19_method_45_code (3 : Nat) (Option.some Jvm.ClassFile.FieldType.int)) ∈ lw_all := lw_g (lw_at lw_m8 13 rfl) rfl
theorem q1793 : (Jvm.Cond.methodLink "EndingTownModel" (391 : Nat) ({ cls := "EndingTownModel", name := "asks", desc := "(II)V" } : Jvm.MethodName)) ∈ lw_all := lw_g (lw_at lw_m8 14 rfl) rfl
theorem q1794 : (Jvm.Cond.privateMethod ({ cls := "EndingTownModel", name := "asks", desc := "(II)V" } : Jvm.MethodName)) ∈ lw_tbl := lw_at lw_m8 15 rfl
theorem q1795 : (Jvm.Cond.instanceMethod ({ cls := "EndingTownModel", name := "asks", desc := "(II)V" } : Jvm.MethodName)) ∈ lw_all := lw_g (lw_at lw_m8 16 rfl) rfl
theorem q1796 : (Jvm.Cond.code ({ cls := "EndingTownModel", name := "asks", desc := "(II)V" } : Jvm.MethodName) prog_19_method_54_code (4 : Nat) (Option.none : Option Jvm.ClassFile.FieldType)) ∈ lw_all := lw_g (lw_at lw_m8 17 rfl) rfl
theorem q1797 : (Jvm.Cond.methodLink "EndingTownModel" (349 : Nat) ({ cls := "EndingTownModel", name := "pairAt", desc := "(II)I" } : Jvm.MethodName)) ∈ lw_all := lw_g (lw_at lw_m8 18 rfl) rfl
theorem q1798 : (Jvm.Cond.privateMethod ({ cls := "EndingTownModel", name := "pairAt", desc := "(II)I" } : Jvm.MethodName)) ∈ lw_tbl := lw_at lw_m8 19 rfl
theorem q1799 : (Jvm.Cond.instanceMethod ({ cls := "EndingTownModel", name := "pairAt", desc := "(II)I" } : Jvm.MethodName)) ∈ lw_all := lw_g (lw_at lw_m8 20 rfl) rfl
theorem q1800 : (Jvm.Cond.code ({ cls := "EndingTownModel", name := "pairAt", desc := "(II)I" } : Jvm.MethodName) prog_19_method_55_code (4 : Nat) (Option.some Jvm.ClassFile.FieldType.int)) ∈ lw_all := lw_g (lw_at lw_m8 21 rfl) rfl
theorem q1801 : (Jvm.Cond.methodLink "EndingTownModel" (394 : Nat) ({ cls := "EndingTownModel", name := "all", desc := "()I" } : Jvm.MethodName)) ∈ lw_all := lw_g (lw_at lw_m8 22 rfl) rfl
theorem q1802 : (Jvm.Cond.privateMethod ({ cls := "EndingTownModel", name := "all", desc := "()I" } : Jvm.MethodName)) ∈ lw_tbl := lw_at lw_m8 23 rfl
theorem q1803 : (Jvm.Cond.instanceMethod ({ cls := "EndingTownModel", name := "all", desc := "()I" } : Jvm.MethodName)) ∈ lw_all := lw_g (lw_at lw_m8 24 rfl) rfl
theorem q1804 : (Jvm.Cond.code ({ cls := "EndingTownModel", name := "all", desc := "()I" } : Jvm.MethodName) prog_19_method_63_code (1 : Nat) (Option.some Jvm.ClassFile.FieldType.int)) ∈ lw_all := lw_g (lw_at lw_m8 25 rfl) rfl
theorem q1805 : (Jvm.Cond.methodLink "EndingTownModel" (398 : Nat) ({ cls := "EndingTownModel", name := "reckons", desc := "(II)V" } : Jvm.MethodName)) ∈ lw_all := lw_g (lw_at lw_m8 26 rfl) rfl
theorem q1806 : (Jvm.Cond.privateMethod ({ cls := "EndingTownModel", name := "reckons", desc := "(II)V" } : Jvm.MethodName)) ∈ lw_tbl := lw_at lw_m8 27 rfl
theorem q1807 : (Jvm.Cond.instanceMethod ({ cls := "EndingTownModel", name := "reckons", desc := "(II)V" } : Jvm.MethodName)) ∈ lw_all := lw_g (lw_at lw_m8 28 rfl) rfl
theorem q1808 : (Jvm.Cond.code ({ cls := "EndingTownModel", name := "reckons", desc := "(II)V" } : Jvm.MethodName) prog_19_method_62_code (7 : Nat) (Option.none : Option Jvm.ClassFile.FieldType)) ∈ lw_all := lw_g (lw_at lw_m8 29 rfl) rfl
theorem q1809 : (Jvm.Cond.methodLink "EndingTownModel" (378 : Nat) ({ cls := "EndingTownModel", name := "least", desc := "(III)I" } : Jvm.MethodName)) ∈ lw_all := lw_g (lw_at lw_m8 30 rfl) rfl
theorem q1810 : (Jvm.Cond.privateMethod ({ cls := "EndingTownModel", name := "least", desc := "(III)I" } : Jvm.MethodName)) ∈ lw_tbl := lw_at lw_m8 31 rfl
theorem q1811 : (Jvm.Cond.instanceMethod ({ cls := "EndingTownModel", name := "least", desc := "(III)I" } : Jvm.MethodName)) ∈ lw_all := lw_g (lw_at lw_m8 32 rfl) rfl
theorem q1812 : (Jvm.Cond.code ({ cls := "EndingTownModel", name := "least", desc := "(III)I" } : Jvm.MethodName) prog_19_method_61_code (7 : Nat) (Option.some Jvm.ClassFile.FieldType.int)) ∈ lw_all := lw_g (lw_at lw_m8 33 rfl) rfl
theorem q1813 : (Jvm.Cond.methodLink "EndingTownModel" (372 : Nat) ({ cls := "EndingTownModel", name := "byHow", desc := "(IIII)I" } : Jvm.MethodName)) ∈ lw_all := lw_g (lw_at lw_m8 34 rfl) rfl
theorem q1814 : (Jvm.Cond.privateMethod ({ cls := "EndingTownModel", name := "byHow", desc := "(IIII)I" } : Jvm.MethodName)) ∈ lw_tbl := lw_at lw_m8 35 rfl
theorem q1815 : (Jvm.Cond.instanceMethod ({ cls := "EndingTownModel", name := "byHow", desc := "(IIII)I" } : Jvm.MethodName)) ∈ lw_all := lw_g (lw_at lw_m8 36 rfl) rfl
theorem q1816 : (Jvm.Cond.code ({ cls := "EndingTownModel", name := "byHow", desc := "(IIII)I" } : Jvm.MethodName) prog_19_method_60_code (7 : Nat) (Option.some Jvm.ClassFile.FieldType.int)) ∈ lw_all := lw_g (lw_at lw_m8 37 rfl) rfl
theorem q1817 : (Jvm.Cond.methodLink "EndingTownModel" (362 : Nat) ({ cls := "EndingTownModel", name := "byTold", desc := "(IIII)I" } : Jvm.MethodName)) ∈ lw_all := lw_g (lw_at lw_m8 38 rfl) rfl
theorem q1818 : (Jvm.Cond.privateMethod ({ cls := "EndingTownModel", name := "byTold", desc := "(IIII)I" } : Jvm.MethodName)) ∈ lw_tbl := lw_at lw_m8 39 rfl
theorem q1819 : (Jvm.Cond.instanceMethod ({ cls := "EndingTownModel", name := "byTold", desc := "(IIII)I" } : Jvm.MethodName)) ∈ lw_all := lw_g (lw_at lw_m8 40 rfl) rfl
theorem q1820 : (Jvm.Cond.code ({ cls := "EndingTownModel", name := "byTold", desc := "(IIII)I" } : Jvm.MethodName) prog_19_method_58_code (7 : Nat) (Option.some Jvm.ClassFile.FieldType.int)) ∈ lw_all := lw_g (lw_at lw_m8 41 rfl) rfl
theorem q1821 : (Jvm.Cond.methodLink "EndingTownModel" (358 : Nat) ({ cls := "EndingTownModel", name := "isTold", desc := "(IIIII)Z" } : Jvm.MethodName)) ∈ lw_all := lw_g (lw_at lw_m8 42 rfl) rfl
theorem q1822 : (Jvm.Cond.privateMethod ({ cls := "EndingTownModel", name := "isTold", desc := "(IIIII)Z" } : Jvm.MethodName)) ∈ lw_tbl := lw_at lw_m8 43 rfl
theorem q1823 : (Jvm.Cond.instanceMethod ({ cls := "EndingTownModel", name := "isTold", desc := "(IIIII)Z" } : Jvm.MethodName)) ∈ lw_all := lw_g (lw_at lw_m8 44 rfl) rfl
theorem q1824 : (Jvm.Cond.code ({ cls := "EndingTownModel", name := "isTold", desc := "(IIIII)Z" } : Jvm.MethodName) prog_19_method_57_code (6 : Nat) (Option.some Jvm.ClassFile.FieldType.boolean)) ∈ lw_all := lw_g (lw_at lw_m8 45 rfl) rfl
theorem q1825 : (Jvm.Cond.methodLink "EndingTownModel" (366 : Nat) ({ cls := "EndingTownModel", name := "byRules", desc := "(II)I" } : Jvm.MethodName)) ∈ lw_all := lw_g (lw_at lw_m8 46 rfl) rfl
theorem q1826 : (Jvm.Cond.privateMethod ({ cls := "EndingTownModel", name := "byRules", desc := "(II)I" } : Jvm.MethodName)) ∈ lw_tbl := lw_at lw_m8 47 rfl
theorem q1827 : (Jvm.Cond.instanceMethod ({ cls := "EndingTownModel", name := "byRules", desc := "(II)I" } : Jvm.MethodName)) ∈ lw_all := lw_g (lw_at lw_m8 48 rfl) rfl
theorem q1828 : (Jvm.Cond.code ({ cls := "EndingTownModel", name := "byRules", desc := "(II)I" } : Jvm.MethodName) prog_19_method_59_code (8 : Nat) (Option.some Jvm.ClassFile.FieldType.int)) ∈ lw_all := lw_g (lw_at lw_m8 49 rfl) rfl
theorem q1829 : (Jvm.Cond.methodLink "EndingTownModel" (369 : Nat) ({ cls := "EndingTownModel", name := "isBy", desc := "(IIIII)Z" } : Jvm.MethodName)) ∈ lw_all := lw_g (lw_at lw_m8 50 rfl) rfl
theorem q1830 : (Jvm.Cond.privateMethod ({ cls := "EndingTownModel", name := "isBy", desc := "(IIIII)Z" } : Jvm.MethodName)) ∈ lw_tbl := lw_at lw_m8 51 rfl
theorem q1831 : (Jvm.Cond.instanceMethod ({ cls := "EndingTownModel", name := "isBy", desc := "(IIIII)Z" } : Jvm.MethodName)) ∈ lw_all := lw_g (lw_at lw_m8 52 rfl) rfl
theorem q1832 : (Jvm.Cond.code ({ cls := "EndingTownModel", name := "isBy", desc := "(IIIII)Z" } : Jvm.MethodName) prog_19_method_56_code (7 : Nat) (Option.some Jvm.ClassFile.FieldType.boolean)) ∈ lw_all := lw_g (lw_at lw_m8 53 rfl) rfl
theorem q1833 : (Jvm.Cond.methodLink "EndingTownModel" (401 : Nat) ({ cls := "EndingTownModel", name := "looks", desc := "()V" } : Jvm.MethodName)) ∈ lw_all := lw_g (lw_at lw_m8 54 rfl) rfl
theorem q1834 : (Jvm.Cond.privateMethod ({ cls := "EndingTownModel", name := "looks", desc := "()V" } : Jvm.MethodName)) ∈ lw_tbl := lw_at lw_m8 55 rfl
theorem q1835 : (Jvm.Cond.instanceMethod ({ cls := "EndingTownModel", name := "looks", desc := "()V" } : Jvm.MethodName)) ∈ lw_all := lw_g (lw_at lw_m8 56 rfl) rfl
theorem q1836 : (Jvm.Cond.code ({ cls := "EndingTownModel", name := "looks", desc := "()V" } : Jvm.MethodName) prog_19_method_67_code (6 : Nat) (Option.none : Option Jvm.ClassFile.FieldType)) ∈ lw_all := lw_g (lw_at lw_m8 57 rfl) rfl
theorem q1837 : (Jvm.Cond.methodLink "EndingTownModel" (388 : Nat) ({ cls := "EndingTownModel", name := "eyesBy", desc := "(IIII)I" } : Jvm.MethodName)) ∈ lw_all := lw_g (lw_at lw_m8 58 rfl) rfl
theorem q1838 : (Jvm.Cond.privateMethod ({ cls := "EndingTownModel", name := "eyesBy", desc := "(IIII)I" } : Jvm.MethodName)) ∈ lw_tbl := lw_at lw_m8 59 rfl
theorem q1839 : (Jvm.Cond.instanceMethod ({ cls := "EndingTownModel", name := "eyesBy", desc := "(IIII)I" } : Jvm.MethodName)) ∈ lw_all := lw_g (lw_at lw_m8 60 rfl) rfl
theorem q1840 : (Jvm.Cond.code ({ cls := "EndingTownModel", name := "eyesBy", desc := "(IIII)I" } : Jvm.MethodName) prog_19_method_66_code (6 : Nat) (Option.some Jvm.ClassFile.FieldType.int)) ∈ lw_all := lw_g (lw_at lw_m8 61 rfl) rfl
theorem q1841 : (Jvm.Cond.methodLink "EndingTownModel" (382 : Nat) ({ cls := "EndingTownModel", name := "toldEyes", desc := "(IIII)I" } : Jvm.MethodName)) ∈ lw_all := lw_g (lw_at lw_m8 62 rfl) rfl
theorem q1842 : (Jvm.Cond.privateMethod ({ cls := "EndingTownModel", name := "toldEyes", desc := "(IIII)I" } : Jvm.MethodName)) ∈ lw_tbl := lw_at lw_m8 63 rfl
theorem q1843 : (Jvm.Cond.instanceMethod ({ cls := "EndingTownModel", name := "toldEyes", desc := "(IIII)I" } : Jvm.MethodName)) ∈ lw_all := lw_g (lw_at lw_m8 64 rfl) rfl
theorem q1844 : (Jvm.Cond.code ({ cls := "EndingTownModel", name := "toldEyes", desc := "(IIII)I" } : Jvm.MethodName) prog_19_method_64_code (7 : Nat) (Option.some Jvm.ClassFile.FieldType.int)) ∈ lw_all := lw_g (lw_at lw_m8 65 rfl) rfl
theorem q1845 : (Jvm.Cond.methodLink "EndingTownModel" (385 : Nat) ({ cls := "EndingTownModel", name := "ruleEyes", desc := "(II)I" } : Jvm.MethodName)) ∈ lw_all := lw_g (lw_at lw_m8 66 rfl) rfl
theorem q1846 : (Jvm.Cond.privateMethod ({ cls := "EndingTownModel", name := "ruleEyes", desc := "(II)I" } : Jvm.MethodName)) ∈ lw_tbl := lw_at lw_m8 67 rfl
theorem q1847 : (Jvm.Cond.instanceMethod ({ cls := "EndingTownModel", name := "ruleEyes", desc := "(II)I" } : Jvm.MethodName)) ∈ lw_all := lw_g (lw_at lw_m8 68 rfl) rfl
theorem q1848 : (Jvm.Cond.code ({ cls := "EndingTownModel", name := "ruleEyes", desc := "(II)I" } : Jvm.MethodName) prog_19_method_65_code (8 : Nat) (Option.some Jvm.ClassFile.FieldType.int)) ∈ lw_all := lw_g (lw_at lw_m8 69 rfl) rfl
theorem q1850 : (Jvm.Cond.instanceMethod ({ cls := "EndingTownModel", name := "could", desc := "(IIIZ)I" } : Jvm.MethodName)) ∈ lw_all := lw_g (lw_at lw_m8 71 rfl) rfl
theorem q1851 : (Jvm.Cond.selects "EndingTownModel" ({ cls := "EndingTownModel", name := "could", desc := "(IIIZ)I" } : Jvm.MethodName) ({ cls := "EndingTownModel", name := "could", desc := "(IIIZ)I" } : Jvm.MethodName)) ∈ lw_all := lw_g (lw_at lw_m8 72 rfl) rfl
theorem q1852 : (Jvm.Cond.code ({ cls := "EndingTownModel", name := "could", desc := "(IIIZ)I" } : Jvm.MethodName) prog_19_method_69_code (8 : Nat) (Option.some Jvm.ClassFile.FieldType.int)) ∈ lw_all := lw_g (lw_at lw_m8 73 rfl) rfl
theorem q1854 : (Jvm.Cond.instanceMethod ({ cls := "EndingTownModel", name := "wrong", desc := "(I)I" } : Jvm.MethodName)) ∈ lw_all := lw_g (lw_at lw_m8 75 rfl) rfl
theorem q1855 : (Jvm.Cond.selects "EndingTownModel" ({ cls := "EndingTownModel", name := "wrong", desc := "(I)I" } : Jvm.MethodName) ({ cls := "EndingTownModel", name := "wrong", desc := "(I)I" } : Jvm.MethodName)) ∈ lw_all := lw_g (lw_at lw_m8 76 rfl) rfl
theorem q1856 : (Jvm.Cond.code ({ cls := "EndingTownModel", name := "wrong", desc := "(I)I" } : Jvm.MethodName) prog_19_method_71_code (5 : Nat) (Option.some Jvm.ClassFile.FieldType.int)) ∈ lw_all := lw_g (lw_at lw_m8 77 rfl) rfl
theorem q1857 : (Jvm.Cond.methodLink "EndingTownModel" (404 : Nat) ({ cls := "EndingTownModel", name := "holding", desc := "(I)I" } : Jvm.MethodName)) ∈ lw_all := lw_g (lw_at lw_m8 78 rfl) rfl
theorem q1858 : (Jvm.Cond.privateMethod ({ cls := "EndingTownModel", name := "holding", desc := "(I)I" } : Jvm.MethodName)) ∈ lw_tbl := lw_at lw_m8 79 rfl
theorem q1859 : (Jvm.Cond.instanceMethod ({ cls := "EndingTownModel", name := "holding", desc := "(I)I" } : Jvm.MethodName)) ∈ lw_all := lw_g (lw_at lw_m8 80 rfl) rfl
theorem q1860 : (Jvm.Cond.code ({ cls := "EndingTownModel", name := "holding", desc := "(I)I" } : Jvm.MethodName) prog_19_method_70_code (5 : Nat) (Option.some Jvm.ClassFile.FieldType.int)) ∈ lw_all := lw_g (lw_at lw_m8 81 rfl) rfl
theorem q1862 : (Jvm.Cond.instanceMethod ({ cls := "EndingTownModel", name := "mend", desc := "()I" } : Jvm.MethodName)) ∈ lw_all := lw_g (lw_at lw_m8 83 rfl) rfl
theorem q1863 : (Jvm.Cond.selects "EndingTownModel" ({ cls := "EndingTownModel", name := "mend", desc := "()I" } : Jvm.MethodName) ({ cls := "EndingTownModel", name := "mend", desc := "()I" } : Jvm.MethodName)) ∈ lw_all := lw_g (lw_at lw_m8 84 rfl) rfl
theorem q1864 : (Jvm.Cond.code ({ cls := "EndingTownModel", name := "mend", desc := "()I" } : Jvm.MethodName) prog_19_method_72_code (5 : Nat) (Option.some Jvm.ClassFile.FieldType.int)) ∈ lw_all := lw_g (lw_at lw_m8 85 rfl) rfl
theorem q1866 : (Jvm.Cond.instanceMethod ({ cls := "EndingTownModel", name := "mended", desc := "(I)I" } : Jvm.MethodName)) ∈ lw_all := lw_g (lw_at lw_m8 87 rfl) rfl
theorem q1867 : (Jvm.Cond.selects "EndingTownModel" ({ cls := "EndingTownModel", name := "mended", desc := "(I)I" } : Jvm.MethodName) ({ cls := "EndingTownModel", name := "mended", desc := "(I)I" } : Jvm.MethodName)) ∈ lw_all := lw_g (lw_at lw_m8 88 rfl) rfl
theorem q1868 : (Jvm.Cond.code ({ cls := "EndingTownModel", name := "mended", desc := "(I)I" } : Jvm.MethodName) prog_19_method_73_code (2 : Nat) (Option.some Jvm.ClassFile.FieldType.int)) ∈ lw_all := lw_g (lw_at lw_m8 89 rfl) rfl
theorem q1870 : (Jvm.Cond.instanceMethod ({ cls := "EndingTownModel", name := "silence", desc := "(II)I" } : Jvm.MethodName)) ∈ lw_all := lw_g (lw_at lw_m8 91 rfl) rfl
theorem q1871 : (Jvm.Cond.selects "EndingTownModel" ({ cls := "EndingTownModel", name := "silence", desc := "(II)I" } : Jvm.MethodName) ({ cls := "EndingTownModel", name := "silence", desc := "(II)I" } : Jvm.MethodName)) ∈ lw_all := lw_g (lw_at lw_m8 92 rfl) rfl
theorem q1872 : (Jvm.Cond.code ({ cls := "EndingTownModel", name := "silence", desc := "(II)I" } : Jvm.MethodName) prog_19_method_74_code (7 : Nat) (Option.some Jvm.ClassFile.FieldType.int)) ∈ lw_all := lw_g (lw_at lw_m8 93 rfl) rfl
theorem q1874 : (Jvm.Cond.instanceMethod ({ cls := "EndingTownModel", name := "likely", desc := "(II)I" } : Jvm.MethodName)) ∈ lw_all := lw_g (lw_at lw_m8 95 rfl) rfl
theorem q1875 : (Jvm.Cond.selects "EndingTownModel" ({ cls := "EndingTownModel", name := "likely", desc := "(II)I" } : Jvm.MethodName) ({ cls := "EndingTownModel", name := "likely", desc := "(II)I" } : Jvm.MethodName)) ∈ lw_all := lw_g (lw_at lw_m8 96 rfl) rfl
theorem q1876 : (Jvm.Cond.code ({ cls := "EndingTownModel", name := "likely", desc := "(II)I" } : Jvm.MethodName) prog_19_method_75_code (13 : Nat) (Option.some Jvm.ClassFile.FieldType.int)) ∈ lw_all := lw_g (lw_at lw_m8 97 rfl) rfl
theorem q1877 : (Jvm.Cond.constantLong "EndingTownModel" (407 : Nat) (500000 : Int64)) ∈ lw_all := lw_g (lw_at lw_m8 98 rfl) rfl
theorem q1878 : (Jvm.Cond.constantLong "EndingTownModel" (409 : Nat) (1000000 : Int64)) ∈ lw_all := lw_g (lw_at lw_m8 99 rfl) rfl
theorem q1880 : (Jvm.Cond.instanceMethod ({ cls := "EndingTownModel", name := "worlds", desc := "(I)I" } : Jvm.MethodName)) ∈ lw_all := lw_g (lw_at lw_m8 101 rfl) rfl
theorem q1881 : (Jvm.Cond.selects "EndingTownModel" ({ cls := "EndingTownModel", name := "worlds", desc := "(I)I" } : Jvm.MethodName) ({ cls := "EndingTownModel", name := "worlds", desc := "(I)I" } : Jvm.MethodName)) ∈ lw_all := lw_g (lw_at lw_m8 102 rfl) rfl
theorem q1882 : (Jvm.Cond.code ({ cls := "EndingTownModel", name := "worlds", desc := "(I)I" } : Jvm.MethodName) prog_19_method_77_code (2 : Nat) (Option.some Jvm.ClassFile.FieldType.int)) ∈ lw_all := lw_g (lw_at lw_m8 103 rfl) rfl
theorem q1884 : (Jvm.Cond.instanceMethod ({ cls := "EndingTownModel", name := "tell", desc := "(IIZ)I" } : Jvm.MethodName)) ∈ lw_all := lw_g (lw_at lw_m8 105 rfl) rfl
theorem q1885 : (Jvm.Cond.selects "EndingTownModel" ({ cls := "EndingTownModel", name := "tell", desc := "(IIZ)I" } : Jvm.MethodName) ({ cls := "EndingTownModel", name := "tell", desc := "(IIZ)I" } : Jvm.MethodName)) ∈ lw_all := lw_g (lw_at lw_m8 106 rfl) rfl
theorem q1886 : (Jvm.Cond.code ({ cls := "EndingTownModel", name := "tell", desc := "(IIZ)I" } : Jvm.MethodName) prog_19_method_83_code (5 : Nat) (Option.some Jvm.ClassFile.FieldType.int)) ∈ lw_all := lw_g (lw_at lw_m8 107 rfl) rfl
theorem q1887 : (Jvm.Cond.methodLink "EndingTownModel" (417 : Nat) ({ cls := "EndingTownModel", name := "placeOf", desc := "(I)I" } : Jvm.MethodName)) ∈ lw_all := lw_g (lw_at lw_m8 108 rfl) rfl
theorem q1888 : (Jvm.Cond.privateMethod ({ cls := "EndingTownModel", name := "placeOf", desc := "(I)I" } : Jvm.MethodName)) ∈ lw_tbl := lw_at lw_m8 109 rfl
theorem q1889 : (Jvm.Cond.instanceMethod ({ cls := "EndingTownModel", name := "placeOf", desc := "(I)I" } : Jvm.MethodName)) ∈ lw_all := lw_g (lw_at lw_m8 110 rfl) rfl
theorem q1890 : (Jvm.Cond.code ({ cls := "EndingTownModel", name := "placeOf", desc := "(I)I" } : Jvm.MethodName) prog_19_method_78_code (2 : Nat) (Option.some Jvm.ClassFile.FieldType.int)) ∈ lw_all := lw_g (lw_at lw_m8 111 rfl) rfl
theorem q1891 : (Jvm.Cond.methodLink "EndingTownModel" (420 : Nat) ({ cls := "EndingTownModel", name := "worldsOf", desc := "(IZ)I" } : Jvm.MethodName)) ∈ lw_all := lw_g (lw_at lw_m8 112 rfl) rfl
theorem q1892 : (Jvm.Cond.privateMethod ({ cls := "EndingTownModel", name := "worldsOf", desc := "(IZ)I" } : Jvm.MethodName)) ∈ lw_tbl := lw_at lw_m8 113 rfl
theorem q1893 : (Jvm.Cond.instanceMethod ({ cls := "EndingTownModel", name := "worldsOf", desc := "(IZ)I" } : Jvm.MethodName)) ∈ lw_all := lw_g (lw_at lw_m8 114 rfl) rfl
theorem q1894 : (Jvm.Cond.code ({ cls := "EndingTownModel", name := "worldsOf", desc := "(IZ)I" } : Jvm.MethodName) prog_19_method_82_code (6 : Nat) (Option.some Jvm.ClassFile.FieldType.int)) ∈ lw_all := lw_g (lw_at lw_m8 115 rfl) rfl
theorem q1895 : (Jvm.Cond.methodLink "EndingTownModel" (424 : Nat) ({ cls := "EndingTownModel", name := "knows", desc := "(II)I" } : Jvm.MethodName)) ∈ lw_all := lw_g (lw_at lw_m8 116 rfl) rfl
theorem q1896 : (Jvm.Cond.privateMethod ({ cls := "EndingTownModel", name := "knows", desc := "(II)I" } : Jvm.MethodName)) ∈ lw_tbl := lw_at lw_m8 117 rfl
theorem q1897 : (Jvm.Cond.instanceMethod ({ cls := "EndingTownModel", name := "knows", desc := "(II)I" } : Jvm.MethodName)) ∈ lw_all := lw_g (lw_at lw_m8 118 rfl) rfl
theorem q1898 : (Jvm.Cond.code ({ cls := "EndingTownModel", name := "knows", desc := "(II)I" } : Jvm.MethodName) prog_19_method_81_code (8 : Nat) (Option.some Jvm.ClassFile.FieldType.int)) ∈ lw_all := lw_g (lw_at lw_m8 119 rfl) rfl
theorem q1899 : (Jvm.Cond.methodLink "EndingTownModel" (414 : Nat) ({ cls := "EndingTownModel", name := "seenBy", desc := "(I)I" } : Jvm.MethodName)) ∈ lw_all := lw_g (lw_at lw_m8 120 rfl) rfl
theorem q1900 : (Jvm.Cond.privateMethod ({ cls := "EndingTownModel", name := "seenBy", desc := "(I)I" } : Jvm.MethodName)) ∈ lw_tbl := lw_at lw_m8 121 rfl
theorem q1901 : (Jvm.Cond.instanceMethod ({ cls := "EndingTownModel", name := "seenBy", desc := "(I)I" } : Jvm.MethodName)) ∈ lw_all := lw_g (lw_at lw_m8 122 rfl) rfl
theorem q1902 : (Jvm.Cond.code ({ cls := "EndingTownModel", name := "seenBy", desc := "(I)I" } : Jvm.MethodName) prog_19_method_80_code (5 : Nat) (Option.some Jvm.ClassFile.FieldType.int)) ∈ lw_all := lw_g (lw_at lw_m8 123 rfl) rfl
theorem q1903 : (Jvm.Cond.methodLink "EndingTownModel" (411 : Nat) ({ cls := "EndingTownModel", name := "low", desc := "(II)I" } : Jvm.MethodName)) ∈ lw_all := lw_g (lw_at lw_m8 124 rfl) rfl
theorem q1904 : (Jvm.Cond.static ({ cls := "EndingTownModel", name := "low", desc := "(II)I" } : Jvm.MethodName)) ∈ lw_all := lw_g (lw_at lw_m8 125 rfl) rfl
theorem q1905 : (Jvm.Cond.code ({ cls := "EndingTownModel", name := "low", desc := "(II)I" } : Jvm.MethodName) prog_19_method_76_code (4 : Nat) (Option.some Jvm.ClassFile.FieldType.int)) ∈ lw_all := lw_g (lw_at lw_m8 126 rfl) rfl
theorem q1906 : (Jvm.Cond.methodLink "EndingTownModel" (427 : Nat) ({ cls := "EndingTownModel", name := "real", desc := "()I" } : Jvm.MethodName)) ∈ lw_all := lw_g (lw_at lw_m8 127 rfl) rfl
theorem q1907 : (Jvm.Cond.privateMethod ({ cls := "EndingTownModel", name := "real", desc := "()I" } : Jvm.MethodName)) ∈ lw_tbl := lw_at lw_m8 128 rfl
theorem q1908 : (Jvm.Cond.instanceMethod ({ cls := "EndingTownModel", name := "real", desc := "()I" } : Jvm.MethodName)) ∈ lw_all := lw_g (lw_at lw_m8 129 rfl) rfl
theorem q1909 : (Jvm.Cond.code ({ cls := "EndingTownModel", name := "real", desc := "()I" } : Jvm.MethodName) prog_19_method_79_code (3 : Nat) (Option.some Jvm.ClassFile.FieldType.int)) ∈ lw_all := lw_g (lw_at lw_m8 130 rfl) rfl
theorem q1911 : (Jvm.Cond.instanceMethod ({ cls := "EndingTownModel", name := "known", desc := "(IIIZ)Z" } : Jvm.MethodName)) ∈ lw_all := lw_g (lw_at lw_m8 132 rfl) rfl
theorem q1912 : (Jvm.Cond.selects "EndingTownModel" ({ cls := "EndingTownModel", name := "known", desc := "(IIIZ)Z" } : Jvm.MethodName) ({ cls := "EndingTownModel", name := "known", desc := "(IIIZ)Z" } : Jvm.MethodName)) ∈ lw_all := lw_g (lw_at lw_m8 133 rfl) rfl
theorem q1913 : (Jvm.Cond.code ({ cls := "EndingTownModel", name := "known", desc := "(IIIZ)Z" } : Jvm.MethodName) prog_19_method_84_code (7 : Nat) (Option.some Jvm.ClassFile.FieldType.boolean)) ∈ lw_all := lw_g (lw_at lw_m8 134 rfl) rfl
theorem q1915 : (Jvm.Cond.instanceMethod ({ cls := "EndingTownModel", name := "image", desc := "()V" } : Jvm.MethodName)) ∈ lw_all := lw_g (lw_at lw_m8 136 rfl) rfl
theorem q1916 : (Jvm.Cond.selects "EndingTownModel" ({ cls := "EndingTownModel", name := "image", desc := "()V" } : Jvm.MethodName) ({ cls := "EndingTownModel", name := "image", desc := "()V" } : Jvm.MethodName)) ∈ lw_all := lw_g (lw_at lw_m8 137 rfl) rfl
theorem q1917 : (Jvm.Cond.code ({ cls := "EndingTownModel", name := "image", desc := "()V" } : Jvm.MethodName) prog_19_method_85_code (1 : Nat) (Option.none : Option Jvm.ClassFile.FieldType)) ∈ lw_all := lw_g (lw_at lw_m8 138 rfl) rfl
theorem q1919 : (Jvm.Cond.instanceMethod ({ cls := "EndingTownModel", name := "restore", desc := "()Z" } : Jvm.MethodName)) ∈ lw_all := lw_g (lw_at lw_m8 140 rfl) rfl
theorem q1920 : (Jvm.Cond.selects "EndingTownModel" ({ cls := "EndingTownModel", name := "restore", desc := "()Z" } : Jvm.MethodName) ({ cls := "EndingTownModel", name := "restore", desc := "()Z" } : Jvm.MethodName)) ∈ lw_all := lw_g (lw_at lw_m8 141 rfl) rfl
theorem q1921 : (Jvm.Cond.code ({ cls := "EndingTownModel", name := "restore", desc := "()Z" } : Jvm.MethodName) prog_19_method_86_code (1 : Nat) (Option.some Jvm.ClassFile.FieldType.boolean)) ∈ lw_all := lw_g (lw_at lw_m8 142 rfl) rfl
theorem q1935 : (Jvm.Cond.castable "EndingTownModel" "java/lang/Object") ∈ lw_tbl := lw_at lw_m8 156 rfl
theorem in_X11 : ∀ w ∈ wsX110, w ∈ lw_all := lw_in wsX110 [1438, 1440, 1442, 1444, 1446, 1448, 1450, 1452, 1454, 1456, 1458, 1460, 1462, 1464, 1466, 1468, 1470, 1472, 1474, 1476, 1478, 1480, 1482, 1484, 1486, 1488, 1490, 1492, 1494, 1496, 1498, 1500, 1502, 1504, 1506, 1508, 1510, 1512, 1514, 1516, 1518, 1520, 1522, 1524, 1526, 1528, 1530, 1532, 1534, 1536, 1538, 1540, 1542, 1544, 1546, 1548, 1550, 1552, 1554, 1556, 1558, 1560, 1562, 1564, 1566, 1568, 1570, 1572, 1574, 1576, 1578, 1580, 1582, 1584] (by decide +kernel) (by decide +kernel)
