/-! HatRankModel -/
set_option maxRecDepth 100000
def RX6 : String := "HatRankModel"
def TX6 : u_T := fun k => match k with
  | 0 => ("HatRankModel", "code", "I", false)
  | 1 => ("HatRankModel", "now", "I", false)
  | 2 => ("HatRankModel", "blow", "[I", true)
  | 3 => ("HatRankModel", "more", "I", false)
  | 4 => ("HatRankModel", "places", "I", false)
  | 5 => ("HatRankModel", "lee", "[I", true)
  | 6 => ("HatRankModel", "down", "[I", true)
  | 7 => ("HatRankModel", "lying", "[I", true)
  | 8 => ("HatRankModel", "ways", "I", false)
  | 9 => ("HatRankModel", "wayOne", "[I", true)
  | 10 => ("HatRankModel", "wayOther", "[I", true)
  | 11 => ("HatRankModel", "people", "I", false)
  | 12 => ("HatRankModel", "hats", "[I", true)
  | 13 => ("HatRankModel", "brim", "[I", true)
  | 14 => ("HatRankModel", "at", "[I", true)
  | 15 => ("HatRankModel", "landed", "[I", true)
  | 16 => ("HatRankModel", "doneMany", "I", false)
  | 17 => ("HatRankModel", "undoneMany", "I", false)
  | 18 => ("HatRankModel", "changeOf", "[I", true)
  | 19 => ("HatRankModel", "changeAt", "[I", true)
  | 20 => ("HatRankModel", "before", "[I", true)
  | 21 => ("HatRankModel", "behind", "[I", true)
  | 22 => ("HatRankModel", "tape", "[B", true)
  | 23 => ("HatRankModel", "taped", "I", false)
  | 24 => ("HatRankModel", "here", "I", false)
  | 25 => ("HatRankModel", "fault", "I", false)
  | 26 => ("HatRankModel", "open", "I", false)
  | 27 => ("HatRankModel", "laid", "I", false)
  | 28 => ("HatRankModel", "act", "[B", true)
  | 29 => ("HatRankModel", "with", "[I", true)
  | 30 => ("HatRankModel", "lineMany", "[I", true)
  | 31 => ("HatRankModel", "testEnd", "[S", true)
  | 32 => ("HatRankModel", "lineEnd", "[S", true)
  | 33 => ("HatRankModel", "facts", "[I", true)
  | 34 => ("HatRankModel", "pile", "[I", true)
  | 35 => ("HatRankModel", "hasLaw", "Z", false)
  | 36 => ("HatRankModel", "hatsThen", "[I", true)
  | 37 => ("HatRankModel", "atThen", "[I", true)
  | 38 => ("HatRankModel", "lyingThen", "[I", true)
  | 39 => ("HatRankModel", "landedThen", "[I", true)
  | 40 => ("HatRankModel", "drawn", "I", false)
  | 41 => ("HatRankModel", "least", "[I", true)
  | 42 => ("HatRankModel", "keptHats", "[I", true)
  | 43 => ("HatRankModel", "keptLying", "[I", true)
  | 44 => ("HatRankModel", "untilHour", "I", false)
  | 45 => ("HatRankModel", "asked", "I", false)
  | 46 => ("HatRankModel", "commandsThen", "J", false)
  | 47 => ("HatRankModel", "hatsSum", "J", false)
  | 48 => ("HatRankModel", "hasImage", "Z", false)
  | 49 => ("HatRankModel", "imageNow", "I", false)
  | 50 => ("HatRankModel", "imagePeople", "I", false)
  | 51 => ("HatRankModel", "imagePlaces", "I", false)
  | 52 => ("HatRankModel", "imageHats", "[I", true)
  | 53 => ("HatRankModel", "imageAt", "[I", true)
  | 54 => ("HatRankModel", "imageLying", "[I", true)
  | 55 => ("HatRankModel", "bodies", "I", false)
  | 56 => ("HatRankModel", "kind", "[I", true)
  | 57 => ("HatRankModel", "traces", "I", false)
  | 58 => ("HatRankModel", "traced", "[I", true)
  | 59 => ("HatRankModel", "holds", "[I", true)
  | 60 => ("HatRankModel", "size", "[I", true)
  | 61 => ("HatRankModel", "elements", "[J", true)
  | _ => ("HatRankModel", "shifted", "[J", true)
def tyX6 : Nat → FieldType := fun k => match k with
  | 0 => .int
  | 1 => .int
  | 2 => .array .int
  | 3 => .int
  | 4 => .int
  | 5 => .array .int
  | 6 => .array .int
  | 7 => .array .int
  | 8 => .int
  | 9 => .array .int
  | 10 => .array .int
  | 11 => .int
  | 12 => .array .int
  | 13 => .array .int
  | 14 => .array .int
  | 15 => .array .int
  | 16 => .int
  | 17 => .int
  | 18 => .array .int
  | 19 => .array .int
  | 20 => .array .int
  | 21 => .array .int
  | 22 => .array .byte
  | 23 => .int
  | 24 => .int
  | 25 => .int
  | 26 => .int
  | 27 => .int
  | 28 => .array .byte
  | 29 => .array .int
  | 30 => .array .int
  | 31 => .array .short
  | 32 => .array .short
  | 33 => .array .int
  | 34 => .array .int
  | 35 => .boolean
  | 36 => .array .int
  | 37 => .array .int
  | 38 => .array .int
  | 39 => .array .int
  | 40 => .int
  | 41 => .array .int
  | 42 => .array .int
  | 43 => .array .int
  | 44 => .int
  | 45 => .int
  | 46 => .long
  | 47 => .long
  | 48 => .boolean
  | 49 => .int
  | 50 => .int
  | 51 => .int
  | 52 => .array .int
  | 53 => .array .int
  | 54 => .array .int
  | 55 => .int
  | 56 => .array .int
  | 57 => .int
  | 58 => .array .int
  | 59 => .array .int
  | 60 => .array .int
  | 61 => .array .long
  | _ => .array .long
abbrev wsX60 : List Cond := u_ws RX6 TX6 63
set_option maxRecDepth 100000 in
theorem nmX6 : ∀ a, a < 63 → ∀ b, b < 63 → a ≠ b → (TX6 a).2.1 ≠ (TX6 b).2.1 := by decide +kernel
set_option maxRecDepth 100000 in
theorem tyX6_ok : ∀ k, k < 63 → parseFieldDescriptor (TX6 k).2.2.1 = some (tyX6 k) := by decide +kernel
abbrev cX6_init : ByteArray := prog_26_method_1_code
def yX6_init : MethodName := ⟨RX6, "<init>", "()V"⟩
def dkwX6_init_18 : List UInt8 := [188, 10, 181, 0, 117, 42, 17, 1, 104, 188, 11, 181, 0, 120, 42, 16, 60, 188, 11, 181, 0, 124, 177]
abbrev dktX6_init_18 : List UInt8 := dkwX6_init_18 ++ []
def dkwX6_init_17 : List UInt8 := [2, 79, 89, 5, 2, 79, 89, 6, 2, 79, 89, 7, 2, 79, 89, 8, 2, 79, 181, 0, 114, 42, 16, 6]
abbrev dktX6_init_17 : List UInt8 := dkwX6_init_17 ++ dktX6_init_18
def dkwX6_init_16 : List UInt8 := [188, 10, 181, 0, 108, 42, 16, 24, 188, 10, 181, 0, 111, 42, 16, 6, 188, 10, 89, 3, 2, 79, 89, 4]
abbrev dktX6_init_16 : List UInt8 := dkwX6_init_16 ++ dktX6_init_17
def dkwX6_init_15 : List UInt8 := [188, 10, 181, 0, 99, 42, 16, 6, 188, 10, 181, 0, 102, 42, 16, 7, 188, 10, 181, 0, 105, 42, 16, 50]
abbrev dktX6_init_15 : List UInt8 := dkwX6_init_15 ++ dktX6_init_16
def dkwX6_init_14 : List UInt8 := [188, 10, 181, 0, 90, 42, 16, 78, 188, 10, 181, 0, 93, 42, 16, 91, 188, 10, 181, 0, 96, 42, 16, 6]
abbrev dktX6_init_14 : List UInt8 := dkwX6_init_14 ++ dktX6_init_15
def dkwX6_init_13 : List UInt8 := [181, 0, 81, 42, 16, 7, 188, 10, 181, 0, 84, 42, 16, 6, 188, 10, 181, 0, 87, 42, 17, 0, 175]
abbrev dktX6_init_13 : List UInt8 := dkwX6_init_13 ++ dktX6_init_14
def dkwX6_init_12 : List UInt8 := [42, 17, 0, 130, 188, 10, 181, 0, 75, 42, 16, 6, 188, 10, 181, 0, 78, 42, 16, 6, 188, 10]
abbrev dktX6_init_12 : List UInt8 := dkwX6_init_12 ++ dktX6_init_13
def dkwX6_init_11 : List UInt8 := [42, 16, 122, 188, 9, 181, 0, 65, 42, 16, 122, 188, 9, 181, 0, 69, 42, 16, 6, 188, 10, 181, 0, 72]
abbrev dktX6_init_11 : List UInt8 := dkwX6_init_11 ++ dktX6_init_12
def dkwX6_init_10 : List UInt8 := [17, 1, 4, 188, 8, 181, 0, 56, 42, 17, 1, 4, 188, 10, 181, 0, 59, 42, 5, 188, 10, 181, 0, 62]
abbrev dktX6_init_10 : List UInt8 := dkwX6_init_10 ++ dktX6_init_11
def dkwX6_init_9 : List UInt8 := [16, 40, 188, 10, 181, 0, 46, 42, 16, 40, 188, 10, 181, 0, 49, 42, 16, 120, 188, 8, 181, 0, 52, 42]
abbrev dktX6_init_9 : List UInt8 := dkwX6_init_9 ++ dktX6_init_10
def dkwX6_init_8 : List UInt8 := [16, 6, 188, 10, 181, 0, 37, 42, 16, 40, 188, 10, 181, 0, 40, 42, 16, 40, 188, 10, 181, 0, 43, 42]
abbrev dktX6_init_8 : List UInt8 := dkwX6_init_8 ++ dktX6_init_9
def dkwX6_init_7 : List UInt8 := [16, 6, 188, 10, 181, 0, 28, 42, 16, 6, 188, 10, 181, 0, 31, 42, 16, 6, 188, 10, 181, 0, 34, 42]
abbrev dktX6_init_7 : List UInt8 := dkwX6_init_7 ++ dktX6_init_8
def dkwX6_init_6 : List UInt8 := [16, 7, 188, 10, 181, 0, 19, 42, 16, 12, 188, 10, 181, 0, 22, 42, 16, 12, 188, 10, 181, 0, 25, 42]
abbrev dktX6_init_6 : List UInt8 := dkwX6_init_6 ++ dktX6_init_7
def dkwX6_init_5 : List UInt8 := [16, 23, 6, 79, 181, 0, 7, 42, 16, 7, 188, 10, 181, 0, 13, 42, 16, 7, 188, 10, 181, 0, 16, 42]
abbrev dktX6_init_5 : List UInt8 := dkwX6_init_5 ++ dktX6_init_6
def dkwX6_init_4 : List UInt8 := [6, 79, 89, 16, 19, 6, 79, 89, 16, 20, 6, 79, 89, 16, 21, 6, 79, 89, 16, 22, 6, 79, 89]
abbrev dktX6_init_4 : List UInt8 := dkwX6_init_4 ++ dktX6_init_5
def dkwX6_init_3 : List UInt8 := [79, 89, 16, 14, 6, 79, 89, 16, 15, 6, 79, 89, 16, 16, 6, 79, 89, 16, 17, 6, 79, 89, 16, 18]
abbrev dktX6_init_3 : List UInt8 := dkwX6_init_3 ++ dktX6_init_4
def dkwX6_init_2 : List UInt8 := [89, 16, 9, 6, 79, 89, 16, 10, 6, 79, 89, 16, 11, 6, 79, 89, 16, 12, 6, 79, 89, 16, 13, 6]
abbrev dktX6_init_2 : List UInt8 := dkwX6_init_2 ++ dktX6_init_3
def dkwX6_init_1 : List UInt8 := [79, 89, 7, 6, 79, 89, 8, 6, 79, 89, 16, 6, 6, 79, 89, 16, 7, 6, 79, 89, 16, 8, 6, 79]
abbrev dktX6_init_1 : List UInt8 := dkwX6_init_1 ++ dktX6_init_2
def dkwX6_init_0 : List UInt8 := [42, 183, 0, 1, 42, 16, 24, 188, 10, 89, 3, 6, 79, 89, 4, 6, 79, 89, 5, 6, 79, 89, 6, 6]
abbrev dktX6_init_0 : List UInt8 := dkwX6_init_0 ++ dktX6_init_1
theorem dksX6_init_0 : cX6_init.data.toList.drop 0 = dktX6_init_0 := by decide +kernel
theorem dksX6_init_1 : cX6_init.data.toList.drop 24 = dktX6_init_1 := dk_seg dksX6_init_0 24 rfl rfl
theorem dksX6_init_2 : cX6_init.data.toList.drop 48 = dktX6_init_2 := dk_seg dksX6_init_1 24 rfl rfl
theorem dksX6_init_3 : cX6_init.data.toList.drop 72 = dktX6_init_3 := dk_seg dksX6_init_2 24 rfl rfl
theorem dksX6_init_4 : cX6_init.data.toList.drop 96 = dktX6_init_4 := dk_seg dksX6_init_3 24 rfl rfl
theorem dksX6_init_5 : cX6_init.data.toList.drop 119 = dktX6_init_5 := dk_seg dksX6_init_4 23 rfl rfl
theorem dksX6_init_6 : cX6_init.data.toList.drop 143 = dktX6_init_6 := dk_seg dksX6_init_5 24 rfl rfl
theorem dksX6_init_7 : cX6_init.data.toList.drop 167 = dktX6_init_7 := dk_seg dksX6_init_6 24 rfl rfl
theorem dksX6_init_8 : cX6_init.data.toList.drop 191 = dktX6_init_8 := dk_seg dksX6_init_7 24 rfl rfl
theorem dksX6_init_9 : cX6_init.data.toList.drop 215 = dktX6_init_9 := dk_seg dksX6_init_8 24 rfl rfl
theorem dksX6_init_10 : cX6_init.data.toList.drop 239 = dktX6_init_10 := dk_seg dksX6_init_9 24 rfl rfl
theorem dksX6_init_11 : cX6_init.data.toList.drop 263 = dktX6_init_11 := dk_seg dksX6_init_10 24 rfl rfl
theorem dksX6_init_12 : cX6_init.data.toList.drop 287 = dktX6_init_12 := dk_seg dksX6_init_11 24 rfl rfl
theorem dksX6_init_13 : cX6_init.data.toList.drop 309 = dktX6_init_13 := dk_seg dksX6_init_12 22 rfl rfl
theorem dksX6_init_14 : cX6_init.data.toList.drop 332 = dktX6_init_14 := dk_seg dksX6_init_13 23 rfl rfl
theorem dksX6_init_15 : cX6_init.data.toList.drop 356 = dktX6_init_15 := dk_seg dksX6_init_14 24 rfl rfl
theorem dksX6_init_16 : cX6_init.data.toList.drop 380 = dktX6_init_16 := dk_seg dksX6_init_15 24 rfl rfl
theorem dksX6_init_17 : cX6_init.data.toList.drop 404 = dktX6_init_17 := dk_seg dksX6_init_16 24 rfl rfl
theorem dksX6_init_18 : cX6_init.data.toList.drop 428 = dktX6_init_18 := dk_seg dksX6_init_17 24 rfl rfl
theorem dX6_init_0 : decode cX6_init 0 = .ok (.aload_n 0, 1) := dk_42 (dk_at dksX6_init_0 0 rfl rfl)
theorem dX6_init_1 : decode cX6_init 1 = .ok (.invokespecial 1, 3) := dk_183 0 1 (dk_at dksX6_init_0 1 rfl rfl)
theorem dX6_init_4 : decode cX6_init 4 = .ok (.aload_n 0, 1) := dk_42 (dk_at dksX6_init_0 4 rfl rfl)
theorem dX6_init_5 : decode cX6_init 5 = .ok (.bipush 24, 2) := dk_16 24 (dk_at dksX6_init_0 5 rfl rfl)
theorem dX6_init_7 : decode cX6_init 7 = .ok (.newarray .int, 2) := dk_188_10 (dk_at dksX6_init_0 7 rfl rfl)
theorem dX6_init_9 : decode cX6_init 9 = .ok (.dup, 1) := dk_89 (dk_at dksX6_init_0 9 rfl rfl)
theorem dX6_init_10 : decode cX6_init 10 = .ok (.iconst 0, 1) := dk_3 (dk_at dksX6_init_0 10 rfl rfl)
theorem dX6_init_11 : decode cX6_init 11 = .ok (.iconst 3, 1) := dk_6 (dk_at dksX6_init_0 11 rfl rfl)
theorem dX6_init_12 : decode cX6_init 12 = .ok (.iastore, 1) := dk_79 (dk_at dksX6_init_0 12 rfl rfl)
theorem dX6_init_13 : decode cX6_init 13 = .ok (.dup, 1) := dk_89 (dk_at dksX6_init_0 13 rfl rfl)
theorem dX6_init_14 : decode cX6_init 14 = .ok (.iconst 1, 1) := dk_4 (dk_at dksX6_init_0 14 rfl rfl)
theorem dX6_init_15 : decode cX6_init 15 = .ok (.iconst 3, 1) := dk_6 (dk_at dksX6_init_0 15 rfl rfl)
theorem dX6_init_16 : decode cX6_init 16 = .ok (.iastore, 1) := dk_79 (dk_at dksX6_init_0 16 rfl rfl)
theorem dX6_init_17 : decode cX6_init 17 = .ok (.dup, 1) := dk_89 (dk_at dksX6_init_0 17 rfl rfl)
theorem dX6_init_18 : decode cX6_init 18 = .ok (.iconst 2, 1) := dk_5 (dk_at dksX6_init_0 18 rfl rfl)
theorem dX6_init_19 : decode cX6_init 19 = .ok (.iconst 3, 1) := dk_6 (dk_at dksX6_init_0 19 rfl rfl)
theorem dX6_init_20 : decode cX6_init 20 = .ok (.iastore, 1) := dk_79 (dk_at dksX6_init_0 20 rfl rfl)
theorem dX6_init_21 : decode cX6_init 21 = .ok (.dup, 1) := dk_89 (dk_at dksX6_init_0 21 rfl rfl)
theorem dX6_init_22 : decode cX6_init 22 = .ok (.iconst 3, 1) := dk_6 (dk_at dksX6_init_0 22 rfl rfl)
theorem dX6_init_23 : decode cX6_init 23 = .ok (.iconst 3, 1) := dk_6 (dk_at dksX6_init_0 23 rfl rfl)
theorem dX6_init_24 : decode cX6_init 24 = .ok (.iastore, 1) := dk_79 (dk_at dksX6_init_1 0 rfl rfl)
theorem dX6_init_25 : decode cX6_init 25 = .ok (.dup, 1) := dk_89 (dk_at dksX6_init_1 1 rfl rfl)
theorem dX6_init_26 : decode cX6_init 26 = .ok (.iconst 4, 1) := dk_7 (dk_at dksX6_init_1 2 rfl rfl)
theorem dX6_init_27 : decode cX6_init 27 = .ok (.iconst 3, 1) := dk_6 (dk_at dksX6_init_1 3 rfl rfl)
theorem dX6_init_28 : decode cX6_init 28 = .ok (.iastore, 1) := dk_79 (dk_at dksX6_init_1 4 rfl rfl)
theorem dX6_init_29 : decode cX6_init 29 = .ok (.dup, 1) := dk_89 (dk_at dksX6_init_1 5 rfl rfl)
theorem dX6_init_30 : decode cX6_init 30 = .ok (.iconst 5, 1) := dk_8 (dk_at dksX6_init_1 6 rfl rfl)
theorem dX6_init_31 : decode cX6_init 31 = .ok (.iconst 3, 1) := dk_6 (dk_at dksX6_init_1 7 rfl rfl)
theorem dX6_init_32 : decode cX6_init 32 = .ok (.iastore, 1) := dk_79 (dk_at dksX6_init_1 8 rfl rfl)
theorem dX6_init_33 : decode cX6_init 33 = .ok (.dup, 1) := dk_89 (dk_at dksX6_init_1 9 rfl rfl)
theorem dX6_init_34 : decode cX6_init 34 = .ok (.bipush 6, 2) := dk_16 6 (dk_at dksX6_init_1 10 rfl rfl)
theorem dX6_init_36 : decode cX6_init 36 = .ok (.iconst 3, 1) := dk_6 (dk_at dksX6_init_1 12 rfl rfl)
theorem dX6_init_37 : decode cX6_init 37 = .ok (.iastore, 1) := dk_79 (dk_at dksX6_init_1 13 rfl rfl)
theorem dX6_init_38 : decode cX6_init 38 = .ok (.dup, 1) := dk_89 (dk_at dksX6_init_1 14 rfl rfl)
theorem dX6_init_39 : decode cX6_init 39 = .ok (.bipush 7, 2) := dk_16 7 (dk_at dksX6_init_1 15 rfl rfl)
theorem dX6_init_41 : decode cX6_init 41 = .ok (.iconst 3, 1) := dk_6 (dk_at dksX6_init_1 17 rfl rfl)
theorem dX6_init_42 : decode cX6_init 42 = .ok (.iastore, 1) := dk_79 (dk_at dksX6_init_1 18 rfl rfl)
theorem dX6_init_43 : decode cX6_init 43 = .ok (.dup, 1) := dk_89 (dk_at dksX6_init_1 19 rfl rfl)
theorem dX6_init_44 : decode cX6_init 44 = .ok (.bipush 8, 2) := dk_16 8 (dk_at dksX6_init_1 20 rfl rfl)
theorem dX6_init_46 : decode cX6_init 46 = .ok (.iconst 3, 1) := dk_6 (dk_at dksX6_init_1 22 rfl rfl)
theorem dX6_init_47 : decode cX6_init 47 = .ok (.iastore, 1) := dk_79 (dk_at dksX6_init_1 23 rfl rfl)
theorem dX6_init_48 : decode cX6_init 48 = .ok (.dup, 1) := dk_89 (dk_at dksX6_init_2 0 rfl rfl)
theorem dX6_init_49 : decode cX6_init 49 = .ok (.bipush 9, 2) := dk_16 9 (dk_at dksX6_init_2 1 rfl rfl)
theorem dX6_init_51 : decode cX6_init 51 = .ok (.iconst 3, 1) := dk_6 (dk_at dksX6_init_2 3 rfl rfl)
theorem dX6_init_52 : decode cX6_init 52 = .ok (.iastore, 1) := dk_79 (dk_at dksX6_init_2 4 rfl rfl)
theorem dX6_init_53 : decode cX6_init 53 = .ok (.dup, 1) := dk_89 (dk_at dksX6_init_2 5 rfl rfl)
theorem dX6_init_54 : decode cX6_init 54 = .ok (.bipush 10, 2) := dk_16 10 (dk_at dksX6_init_2 6 rfl rfl)
theorem dX6_init_56 : decode cX6_init 56 = .ok (.iconst 3, 1) := dk_6 (dk_at dksX6_init_2 8 rfl rfl)
theorem dX6_init_57 : decode cX6_init 57 = .ok (.iastore, 1) := dk_79 (dk_at dksX6_init_2 9 rfl rfl)
theorem dX6_init_58 : decode cX6_init 58 = .ok (.dup, 1) := dk_89 (dk_at dksX6_init_2 10 rfl rfl)
theorem dX6_init_59 : decode cX6_init 59 = .ok (.bipush 11, 2) := dk_16 11 (dk_at dksX6_init_2 11 rfl rfl)
theorem dX6_init_61 : decode cX6_init 61 = .ok (.iconst 3, 1) := dk_6 (dk_at dksX6_init_2 13 rfl rfl)
theorem dX6_init_62 : decode cX6_init 62 = .ok (.iastore, 1) := dk_79 (dk_at dksX6_init_2 14 rfl rfl)
theorem dX6_init_63 : decode cX6_init 63 = .ok (.dup, 1) := dk_89 (dk_at dksX6_init_2 15 rfl rfl)
theorem dX6_init_64 : decode cX6_init 64 = .ok (.bipush 12, 2) := dk_16 12 (dk_at dksX6_init_2 16 rfl rfl)
theorem dX6_init_66 : decode cX6_init 66 = .ok (.iconst 3, 1) := dk_6 (dk_at dksX6_init_2 18 rfl rfl)
theorem dX6_init_67 : decode cX6_init 67 = .ok (.iastore, 1) := dk_79 (dk_at dksX6_init_2 19 rfl rfl)
theorem dX6_init_68 : decode cX6_init 68 = .ok (.dup, 1) := dk_89 (dk_at dksX6_init_2 20 rfl rfl)
theorem dX6_init_69 : decode cX6_init 69 = .ok (.bipush 13, 2) := dk_16 13 (dk_at dksX6_init_2 21 rfl rfl)
theorem dX6_init_71 : decode cX6_init 71 = .ok (.iconst 3, 1) := dk_6 (dk_at dksX6_init_2 23 rfl rfl)
theorem dX6_init_72 : decode cX6_init 72 = .ok (.iastore, 1) := dk_79 (dk_at dksX6_init_3 0 rfl rfl)
theorem dX6_init_73 : decode cX6_init 73 = .ok (.dup, 1) := dk_89 (dk_at dksX6_init_3 1 rfl rfl)
theorem dX6_init_74 : decode cX6_init 74 = .ok (.bipush 14, 2) := dk_16 14 (dk_at dksX6_init_3 2 rfl rfl)
theorem dX6_init_76 : decode cX6_init 76 = .ok (.iconst 3, 1) := dk_6 (dk_at dksX6_init_3 4 rfl rfl)
theorem dX6_init_77 : decode cX6_init 77 = .ok (.iastore, 1) := dk_79 (dk_at dksX6_init_3 5 rfl rfl)
theorem dX6_init_78 : decode cX6_init 78 = .ok (.dup, 1) := dk_89 (dk_at dksX6_init_3 6 rfl rfl)
theorem dX6_init_79 : decode cX6_init 79 = .ok (.bipush 15, 2) := dk_16 15 (dk_at dksX6_init_3 7 rfl rfl)
theorem dX6_init_81 : decode cX6_init 81 = .ok (.iconst 3, 1) := dk_6 (dk_at dksX6_init_3 9 rfl rfl)
theorem dX6_init_82 : decode cX6_init 82 = .ok (.iastore, 1) := dk_79 (dk_at dksX6_init_3 10 rfl rfl)
theorem dX6_init_83 : decode cX6_init 83 = .ok (.dup, 1) := dk_89 (dk_at dksX6_init_3 11 rfl rfl)
theorem dX6_init_84 : decode cX6_init 84 = .ok (.bipush 16, 2) := dk_16 16 (dk_at dksX6_init_3 12 rfl rfl)
theorem dX6_init_86 : decode cX6_init 86 = .ok (.iconst 3, 1) := dk_6 (dk_at dksX6_init_3 14 rfl rfl)
theorem dX6_init_87 : decode cX6_init 87 = .ok (.iastore, 1) := dk_79 (dk_at dksX6_init_3 15 rfl rfl)
theorem dX6_init_88 : decode cX6_init 88 = .ok (.dup, 1) := dk_89 (dk_at dksX6_init_3 16 rfl rfl)
theorem dX6_init_89 : decode cX6_init 89 = .ok (.bipush 17, 2) := dk_16 17 (dk_at dksX6_init_3 17 rfl rfl)
theorem dX6_init_91 : decode cX6_init 91 = .ok (.iconst 3, 1) := dk_6 (dk_at dksX6_init_3 19 rfl rfl)
theorem dX6_init_92 : decode cX6_init 92 = .ok (.iastore, 1) := dk_79 (dk_at dksX6_init_3 20 rfl rfl)
theorem dX6_init_93 : decode cX6_init 93 = .ok (.dup, 1) := dk_89 (dk_at dksX6_init_3 21 rfl rfl)
theorem dX6_init_94 : decode cX6_init 94 = .ok (.bipush 18, 2) := dk_16 18 (dk_at dksX6_init_3 22 rfl rfl)
theorem dX6_init_96 : decode cX6_init 96 = .ok (.iconst 3, 1) := dk_6 (dk_at dksX6_init_4 0 rfl rfl)
theorem dX6_init_97 : decode cX6_init 97 = .ok (.iastore, 1) := dk_79 (dk_at dksX6_init_4 1 rfl rfl)
theorem dX6_init_98 : decode cX6_init 98 = .ok (.dup, 1) := dk_89 (dk_at dksX6_init_4 2 rfl rfl)
theorem dX6_init_99 : decode cX6_init 99 = .ok (.bipush 19, 2) := dk_16 19 (dk_at dksX6_init_4 3 rfl rfl)
theorem dX6_init_101 : decode cX6_init 101 = .ok (.iconst 3, 1) := dk_6 (dk_at dksX6_init_4 5 rfl rfl)
theorem dX6_init_102 : decode cX6_init 102 = .ok (.iastore, 1) := dk_79 (dk_at dksX6_init_4 6 rfl rfl)
theorem dX6_init_103 : decode cX6_init 103 = .ok (.dup, 1) := dk_89 (dk_at dksX6_init_4 7 rfl rfl)
theorem dX6_init_104 : decode cX6_init 104 = .ok (.bipush 20, 2) := dk_16 20 (dk_at dksX6_init_4 8 rfl rfl)
theorem dX6_init_106 : decode cX6_init 106 = .ok (.iconst 3, 1) := dk_6 (dk_at dksX6_init_4 10 rfl rfl)
theorem dX6_init_107 : decode cX6_init 107 = .ok (.iastore, 1) := dk_79 (dk_at dksX6_init_4 11 rfl rfl)
theorem dX6_init_108 : decode cX6_init 108 = .ok (.dup, 1) := dk_89 (dk_at dksX6_init_4 12 rfl rfl)
theorem dX6_init_109 : decode cX6_init 109 = .ok (.bipush 21, 2) := dk_16 21 (dk_at dksX6_init_4 13 rfl rfl)
theorem dX6_init_111 : decode cX6_init 111 = .ok (.iconst 3, 1) := dk_6 (dk_at dksX6_init_4 15 rfl rfl)
theorem dX6_init_112 : decode cX6_init 112 = .ok (.iastore, 1) := dk_79 (dk_at dksX6_init_4 16 rfl rfl)
theorem dX6_init_113 : decode cX6_init 113 = .ok (.dup, 1) := dk_89 (dk_at dksX6_init_4 17 rfl rfl)
theorem dX6_init_114 : decode cX6_init 114 = .ok (.bipush 22, 2) := dk_16 22 (dk_at dksX6_init_4 18 rfl rfl)
theorem dX6_init_116 : decode cX6_init 116 = .ok (.iconst 3, 1) := dk_6 (dk_at dksX6_init_4 20 rfl rfl)
theorem dX6_init_117 : decode cX6_init 117 = .ok (.iastore, 1) := dk_79 (dk_at dksX6_init_4 21 rfl rfl)
theorem dX6_init_118 : decode cX6_init 118 = .ok (.dup, 1) := dk_89 (dk_at dksX6_init_4 22 rfl rfl)
theorem dX6_init_119 : decode cX6_init 119 = .ok (.bipush 23, 2) := dk_16 23 (dk_at dksX6_init_5 0 rfl rfl)
theorem dX6_init_121 : decode cX6_init 121 = .ok (.iconst 3, 1) := dk_6 (dk_at dksX6_init_5 2 rfl rfl)
theorem dX6_init_122 : decode cX6_init 122 = .ok (.iastore, 1) := dk_79 (dk_at dksX6_init_5 3 rfl rfl)
theorem dX6_init_123 : decode cX6_init 123 = .ok (.putfield 7, 3) := dk_181 0 7 (dk_at dksX6_init_5 4 rfl rfl)
theorem dX6_init_126 : decode cX6_init 126 = .ok (.aload_n 0, 1) := dk_42 (dk_at dksX6_init_5 7 rfl rfl)
theorem dX6_init_127 : decode cX6_init 127 = .ok (.bipush 7, 2) := dk_16 7 (dk_at dksX6_init_5 8 rfl rfl)
theorem dX6_init_129 : decode cX6_init 129 = .ok (.newarray .int, 2) := dk_188_10 (dk_at dksX6_init_5 10 rfl rfl)
theorem dX6_init_131 : decode cX6_init 131 = .ok (.putfield 13, 3) := dk_181 0 13 (dk_at dksX6_init_5 12 rfl rfl)
theorem dX6_init_134 : decode cX6_init 134 = .ok (.aload_n 0, 1) := dk_42 (dk_at dksX6_init_5 15 rfl rfl)
theorem dX6_init_135 : decode cX6_init 135 = .ok (.bipush 7, 2) := dk_16 7 (dk_at dksX6_init_5 16 rfl rfl)
theorem dX6_init_137 : decode cX6_init 137 = .ok (.newarray .int, 2) := dk_188_10 (dk_at dksX6_init_5 18 rfl rfl)
theorem dX6_init_139 : decode cX6_init 139 = .ok (.putfield 16, 3) := dk_181 0 16 (dk_at dksX6_init_5 20 rfl rfl)
theorem dX6_init_142 : decode cX6_init 142 = .ok (.aload_n 0, 1) := dk_42 (dk_at dksX6_init_5 23 rfl rfl)
theorem dX6_init_143 : decode cX6_init 143 = .ok (.bipush 7, 2) := dk_16 7 (dk_at dksX6_init_6 0 rfl rfl)
theorem dX6_init_145 : decode cX6_init 145 = .ok (.newarray .int, 2) := dk_188_10 (dk_at dksX6_init_6 2 rfl rfl)
theorem dX6_init_147 : decode cX6_init 147 = .ok (.putfield 19, 3) := dk_181 0 19 (dk_at dksX6_init_6 4 rfl rfl)
theorem dX6_init_150 : decode cX6_init 150 = .ok (.aload_n 0, 1) := dk_42 (dk_at dksX6_init_6 7 rfl rfl)
theorem dX6_init_151 : decode cX6_init 151 = .ok (.bipush 12, 2) := dk_16 12 (dk_at dksX6_init_6 8 rfl rfl)
theorem dX6_init_153 : decode cX6_init 153 = .ok (.newarray .int, 2) := dk_188_10 (dk_at dksX6_init_6 10 rfl rfl)
theorem dX6_init_155 : decode cX6_init 155 = .ok (.putfield 22, 3) := dk_181 0 22 (dk_at dksX6_init_6 12 rfl rfl)
theorem dX6_init_158 : decode cX6_init 158 = .ok (.aload_n 0, 1) := dk_42 (dk_at dksX6_init_6 15 rfl rfl)
theorem dX6_init_159 : decode cX6_init 159 = .ok (.bipush 12, 2) := dk_16 12 (dk_at dksX6_init_6 16 rfl rfl)
theorem dX6_init_161 : decode cX6_init 161 = .ok (.newarray .int, 2) := dk_188_10 (dk_at dksX6_init_6 18 rfl rfl)
theorem dX6_init_163 : decode cX6_init 163 = .ok (.putfield 25, 3) := dk_181 0 25 (dk_at dksX6_init_6 20 rfl rfl)
theorem dX6_init_166 : decode cX6_init 166 = .ok (.aload_n 0, 1) := dk_42 (dk_at dksX6_init_6 23 rfl rfl)
theorem dX6_init_167 : decode cX6_init 167 = .ok (.bipush 6, 2) := dk_16 6 (dk_at dksX6_init_7 0 rfl rfl)
theorem dX6_init_169 : decode cX6_init 169 = .ok (.newarray .int, 2) := dk_188_10 (dk_at dksX6_init_7 2 rfl rfl)
theorem dX6_init_171 : decode cX6_init 171 = .ok (.putfield 28, 3) := dk_181 0 28 (dk_at dksX6_init_7 4 rfl rfl)
theorem dX6_init_174 : decode cX6_init 174 = .ok (.aload_n 0, 1) := dk_42 (dk_at dksX6_init_7 7 rfl rfl)
theorem dX6_init_175 : decode cX6_init 175 = .ok (.bipush 6, 2) := dk_16 6 (dk_at dksX6_init_7 8 rfl rfl)
theorem dX6_init_177 : decode cX6_init 177 = .ok (.newarray .int, 2) := dk_188_10 (dk_at dksX6_init_7 10 rfl rfl)
theorem dX6_init_179 : decode cX6_init 179 = .ok (.putfield 31, 3) := dk_181 0 31 (dk_at dksX6_init_7 12 rfl rfl)
theorem dX6_init_182 : decode cX6_init 182 = .ok (.aload_n 0, 1) := dk_42 (dk_at dksX6_init_7 15 rfl rfl)
theorem dX6_init_183 : decode cX6_init 183 = .ok (.bipush 6, 2) := dk_16 6 (dk_at dksX6_init_7 16 rfl rfl)
theorem dX6_init_185 : decode cX6_init 185 = .ok (.newarray .int, 2) := dk_188_10 (dk_at dksX6_init_7 18 rfl rfl)
theorem dX6_init_187 : decode cX6_init 187 = .ok (.putfield 34, 3) := dk_181 0 34 (dk_at dksX6_init_7 20 rfl rfl)
theorem dX6_init_190 : decode cX6_init 190 = .ok (.aload_n 0, 1) := dk_42 (dk_at dksX6_init_7 23 rfl rfl)
theorem dX6_init_191 : decode cX6_init 191 = .ok (.bipush 6, 2) := dk_16 6 (dk_at dksX6_init_8 0 rfl rfl)
theorem dX6_init_193 : decode cX6_init 193 = .ok (.newarray .int, 2) := dk_188_10 (dk_at dksX6_init_8 2 rfl rfl)
theorem dX6_init_195 : decode cX6_init 195 = .ok (.putfield 37, 3) := dk_181 0 37 (dk_at dksX6_init_8 4 rfl rfl)
theorem dX6_init_198 : decode cX6_init 198 = .ok (.aload_n 0, 1) := dk_42 (dk_at dksX6_init_8 7 rfl rfl)
theorem dX6_init_199 : decode cX6_init 199 = .ok (.bipush 40, 2) := dk_16 40 (dk_at dksX6_init_8 8 rfl rfl)
theorem dX6_init_201 : decode cX6_init 201 = .ok (.newarray .int, 2) := dk_188_10 (dk_at dksX6_init_8 10 rfl rfl)
theorem dX6_init_203 : decode cX6_init 203 = .ok (.putfield 40, 3) := dk_181 0 40 (dk_at dksX6_init_8 12 rfl rfl)
theorem dX6_init_206 : decode cX6_init 206 = .ok (.aload_n 0, 1) := dk_42 (dk_at dksX6_init_8 15 rfl rfl)
theorem dX6_init_207 : decode cX6_init 207 = .ok (.bipush 40, 2) := dk_16 40 (dk_at dksX6_init_8 16 rfl rfl)
theorem dX6_init_209 : decode cX6_init 209 = .ok (.newarray .int, 2) := dk_188_10 (dk_at dksX6_init_8 18 rfl rfl)
theorem dX6_init_211 : decode cX6_init 211 = .ok (.putfield 43, 3) := dk_181 0 43 (dk_at dksX6_init_8 20 rfl rfl)
theorem dX6_init_214 : decode cX6_init 214 = .ok (.aload_n 0, 1) := dk_42 (dk_at dksX6_init_8 23 rfl rfl)
theorem dX6_init_215 : decode cX6_init 215 = .ok (.bipush 40, 2) := dk_16 40 (dk_at dksX6_init_9 0 rfl rfl)
theorem dX6_init_217 : decode cX6_init 217 = .ok (.newarray .int, 2) := dk_188_10 (dk_at dksX6_init_9 2 rfl rfl)
theorem dX6_init_219 : decode cX6_init 219 = .ok (.putfield 46, 3) := dk_181 0 46 (dk_at dksX6_init_9 4 rfl rfl)
theorem dX6_init_222 : decode cX6_init 222 = .ok (.aload_n 0, 1) := dk_42 (dk_at dksX6_init_9 7 rfl rfl)
theorem dX6_init_223 : decode cX6_init 223 = .ok (.bipush 40, 2) := dk_16 40 (dk_at dksX6_init_9 8 rfl rfl)
theorem dX6_init_225 : decode cX6_init 225 = .ok (.newarray .int, 2) := dk_188_10 (dk_at dksX6_init_9 10 rfl rfl)
theorem dX6_init_227 : decode cX6_init 227 = .ok (.putfield 49, 3) := dk_181 0 49 (dk_at dksX6_init_9 12 rfl rfl)
theorem dX6_init_230 : decode cX6_init 230 = .ok (.aload_n 0, 1) := dk_42 (dk_at dksX6_init_9 15 rfl rfl)
theorem dX6_init_231 : decode cX6_init 231 = .ok (.bipush 120, 2) := dk_16 120 (dk_at dksX6_init_9 16 rfl rfl)
theorem dX6_init_233 : decode cX6_init 233 = .ok (.newarray .byte, 2) := dk_188_8 (dk_at dksX6_init_9 18 rfl rfl)
theorem dX6_init_235 : decode cX6_init 235 = .ok (.putfield 52, 3) := dk_181 0 52 (dk_at dksX6_init_9 20 rfl rfl)
theorem dX6_init_238 : decode cX6_init 238 = .ok (.aload_n 0, 1) := dk_42 (dk_at dksX6_init_9 23 rfl rfl)
theorem dX6_init_239 : decode cX6_init 239 = .ok (.sipush 260, 3) := dk_17 1 4 (dk_at dksX6_init_10 0 rfl rfl)
theorem dX6_init_242 : decode cX6_init 242 = .ok (.newarray .byte, 2) := dk_188_8 (dk_at dksX6_init_10 3 rfl rfl)
theorem dX6_init_244 : decode cX6_init 244 = .ok (.putfield 56, 3) := dk_181 0 56 (dk_at dksX6_init_10 5 rfl rfl)
theorem dX6_init_247 : decode cX6_init 247 = .ok (.aload_n 0, 1) := dk_42 (dk_at dksX6_init_10 8 rfl rfl)
theorem dX6_init_248 : decode cX6_init 248 = .ok (.sipush 260, 3) := dk_17 1 4 (dk_at dksX6_init_10 9 rfl rfl)
theorem dX6_init_251 : decode cX6_init 251 = .ok (.newarray .int, 2) := dk_188_10 (dk_at dksX6_init_10 12 rfl rfl)
theorem dX6_init_253 : decode cX6_init 253 = .ok (.putfield 59, 3) := dk_181 0 59 (dk_at dksX6_init_10 14 rfl rfl)
theorem dX6_init_256 : decode cX6_init 256 = .ok (.aload_n 0, 1) := dk_42 (dk_at dksX6_init_10 17 rfl rfl)
theorem dX6_init_257 : decode cX6_init 257 = .ok (.iconst 2, 1) := dk_5 (dk_at dksX6_init_10 18 rfl rfl)
theorem dX6_init_258 : decode cX6_init 258 = .ok (.newarray .int, 2) := dk_188_10 (dk_at dksX6_init_10 19 rfl rfl)
theorem dX6_init_260 : decode cX6_init 260 = .ok (.putfield 62, 3) := dk_181 0 62 (dk_at dksX6_init_10 21 rfl rfl)
theorem dX6_init_263 : decode cX6_init 263 = .ok (.aload_n 0, 1) := dk_42 (dk_at dksX6_init_11 0 rfl rfl)
theorem dX6_init_264 : decode cX6_init 264 = .ok (.bipush 122, 2) := dk_16 122 (dk_at dksX6_init_11 1 rfl rfl)
theorem dX6_init_266 : decode cX6_init 266 = .ok (.newarray .short, 2) := dk_188_9 (dk_at dksX6_init_11 3 rfl rfl)
theorem dX6_init_268 : decode cX6_init 268 = .ok (.putfield 65, 3) := dk_181 0 65 (dk_at dksX6_init_11 5 rfl rfl)
theorem dX6_init_271 : decode cX6_init 271 = .ok (.aload_n 0, 1) := dk_42 (dk_at dksX6_init_11 8 rfl rfl)
theorem dX6_init_272 : decode cX6_init 272 = .ok (.bipush 122, 2) := dk_16 122 (dk_at dksX6_init_11 9 rfl rfl)
theorem dX6_init_274 : decode cX6_init 274 = .ok (.newarray .short, 2) := dk_188_9 (dk_at dksX6_init_11 11 rfl rfl)
theorem dX6_init_276 : decode cX6_init 276 = .ok (.putfield 69, 3) := dk_181 0 69 (dk_at dksX6_init_11 13 rfl rfl)
theorem dX6_init_279 : decode cX6_init 279 = .ok (.aload_n 0, 1) := dk_42 (dk_at dksX6_init_11 16 rfl rfl)
theorem dX6_init_280 : decode cX6_init 280 = .ok (.bipush 6, 2) := dk_16 6 (dk_at dksX6_init_11 17 rfl rfl)
theorem dX6_init_282 : decode cX6_init 282 = .ok (.newarray .int, 2) := dk_188_10 (dk_at dksX6_init_11 19 rfl rfl)
theorem dX6_init_284 : decode cX6_init 284 = .ok (.putfield 72, 3) := dk_181 0 72 (dk_at dksX6_init_11 21 rfl rfl)
theorem dX6_init_287 : decode cX6_init 287 = .ok (.aload_n 0, 1) := dk_42 (dk_at dksX6_init_12 0 rfl rfl)
theorem dX6_init_288 : decode cX6_init 288 = .ok (.sipush 130, 3) := dk_17 0 130 (dk_at dksX6_init_12 1 rfl rfl)
theorem dX6_init_291 : decode cX6_init 291 = .ok (.newarray .int, 2) := dk_188_10 (dk_at dksX6_init_12 4 rfl rfl)
theorem dX6_init_293 : decode cX6_init 293 = .ok (.putfield 75, 3) := dk_181 0 75 (dk_at dksX6_init_12 6 rfl rfl)
theorem dX6_init_296 : decode cX6_init 296 = .ok (.aload_n 0, 1) := dk_42 (dk_at dksX6_init_12 9 rfl rfl)
theorem dX6_init_297 : decode cX6_init 297 = .ok (.bipush 6, 2) := dk_16 6 (dk_at dksX6_init_12 10 rfl rfl)
theorem dX6_init_299 : decode cX6_init 299 = .ok (.newarray .int, 2) := dk_188_10 (dk_at dksX6_init_12 12 rfl rfl)
theorem dX6_init_301 : decode cX6_init 301 = .ok (.putfield 78, 3) := dk_181 0 78 (dk_at dksX6_init_12 14 rfl rfl)
theorem dX6_init_304 : decode cX6_init 304 = .ok (.aload_n 0, 1) := dk_42 (dk_at dksX6_init_12 17 rfl rfl)
theorem dX6_init_305 : decode cX6_init 305 = .ok (.bipush 6, 2) := dk_16 6 (dk_at dksX6_init_12 18 rfl rfl)
theorem dX6_init_307 : decode cX6_init 307 = .ok (.newarray .int, 2) := dk_188_10 (dk_at dksX6_init_12 20 rfl rfl)
theorem dX6_init_309 : decode cX6_init 309 = .ok (.putfield 81, 3) := dk_181 0 81 (dk_at dksX6_init_13 0 rfl rfl)
theorem dX6_init_312 : decode cX6_init 312 = .ok (.aload_n 0, 1) := dk_42 (dk_at dksX6_init_13 3 rfl rfl)
theorem dX6_init_313 : decode cX6_init 313 = .ok (.bipush 7, 2) := dk_16 7 (dk_at dksX6_init_13 4 rfl rfl)
theorem dX6_init_315 : decode cX6_init 315 = .ok (.newarray .int, 2) := dk_188_10 (dk_at dksX6_init_13 6 rfl rfl)
theorem dX6_init_317 : decode cX6_init 317 = .ok (.putfield 84, 3) := dk_181 0 84 (dk_at dksX6_init_13 8 rfl rfl)
theorem dX6_init_320 : decode cX6_init 320 = .ok (.aload_n 0, 1) := dk_42 (dk_at dksX6_init_13 11 rfl rfl)
theorem dX6_init_321 : decode cX6_init 321 = .ok (.bipush 6, 2) := dk_16 6 (dk_at dksX6_init_13 12 rfl rfl)
theorem dX6_init_323 : decode cX6_init 323 = .ok (.newarray .int, 2) := dk_188_10 (dk_at dksX6_init_13 14 rfl rfl)
theorem dX6_init_325 : decode cX6_init 325 = .ok (.putfield 87, 3) := dk_181 0 87 (dk_at dksX6_init_13 16 rfl rfl)
theorem dX6_init_328 : decode cX6_init 328 = .ok (.aload_n 0, 1) := dk_42 (dk_at dksX6_init_13 19 rfl rfl)
theorem dX6_init_329 : decode cX6_init 329 = .ok (.sipush 175, 3) := dk_17 0 175 (dk_at dksX6_init_13 20 rfl rfl)
theorem dX6_init_332 : decode cX6_init 332 = .ok (.newarray .int, 2) := dk_188_10 (dk_at dksX6_init_14 0 rfl rfl)
theorem dX6_init_334 : decode cX6_init 334 = .ok (.putfield 90, 3) := dk_181 0 90 (dk_at dksX6_init_14 2 rfl rfl)
theorem dX6_init_337 : decode cX6_init 337 = .ok (.aload_n 0, 1) := dk_42 (dk_at dksX6_init_14 5 rfl rfl)
theorem dX6_init_338 : decode cX6_init 338 = .ok (.bipush 78, 2) := dk_16 78 (dk_at dksX6_init_14 6 rfl rfl)
theorem dX6_init_340 : decode cX6_init 340 = .ok (.newarray .int, 2) := dk_188_10 (dk_at dksX6_init_14 8 rfl rfl)
theorem dX6_init_342 : decode cX6_init 342 = .ok (.putfield 93, 3) := dk_181 0 93 (dk_at dksX6_init_14 10 rfl rfl)
theorem dX6_init_345 : decode cX6_init 345 = .ok (.aload_n 0, 1) := dk_42 (dk_at dksX6_init_14 13 rfl rfl)
theorem dX6_init_346 : decode cX6_init 346 = .ok (.bipush 91, 2) := dk_16 91 (dk_at dksX6_init_14 14 rfl rfl)
theorem dX6_init_348 : decode cX6_init 348 = .ok (.newarray .int, 2) := dk_188_10 (dk_at dksX6_init_14 16 rfl rfl)
theorem dX6_init_350 : decode cX6_init 350 = .ok (.putfield 96, 3) := dk_181 0 96 (dk_at dksX6_init_14 18 rfl rfl)
theorem dX6_init_353 : decode cX6_init 353 = .ok (.aload_n 0, 1) := dk_42 (dk_at dksX6_init_14 21 rfl rfl)
theorem dX6_init_354 : decode cX6_init 354 = .ok (.bipush 6, 2) := dk_16 6 (dk_at dksX6_init_14 22 rfl rfl)
theorem dX6_init_356 : decode cX6_init 356 = .ok (.newarray .int, 2) := dk_188_10 (dk_at dksX6_init_15 0 rfl rfl)
theorem dX6_init_358 : decode cX6_init 358 = .ok (.putfield 99, 3) := dk_181 0 99 (dk_at dksX6_init_15 2 rfl rfl)
theorem dX6_init_361 : decode cX6_init 361 = .ok (.aload_n 0, 1) := dk_42 (dk_at dksX6_init_15 5 rfl rfl)
theorem dX6_init_362 : decode cX6_init 362 = .ok (.bipush 6, 2) := dk_16 6 (dk_at dksX6_init_15 6 rfl rfl)
theorem dX6_init_364 : decode cX6_init 364 = .ok (.newarray .int, 2) := dk_188_10 (dk_at dksX6_init_15 8 rfl rfl)
theorem dX6_init_366 : decode cX6_init 366 = .ok (.putfield 102, 3) := dk_181 0 102 (dk_at dksX6_init_15 10 rfl rfl)
theorem dX6_init_369 : decode cX6_init 369 = .ok (.aload_n 0, 1) := dk_42 (dk_at dksX6_init_15 13 rfl rfl)
theorem dX6_init_370 : decode cX6_init 370 = .ok (.bipush 7, 2) := dk_16 7 (dk_at dksX6_init_15 14 rfl rfl)
theorem dX6_init_372 : decode cX6_init 372 = .ok (.newarray .int, 2) := dk_188_10 (dk_at dksX6_init_15 16 rfl rfl)
theorem dX6_init_374 : decode cX6_init 374 = .ok (.putfield 105, 3) := dk_181 0 105 (dk_at dksX6_init_15 18 rfl rfl)
theorem dX6_init_377 : decode cX6_init 377 = .ok (.aload_n 0, 1) := dk_42 (dk_at dksX6_init_15 21 rfl rfl)
theorem dX6_init_378 : decode cX6_init 378 = .ok (.bipush 50, 2) := dk_16 50 (dk_at dksX6_init_15 22 rfl rfl)
theorem dX6_init_380 : decode cX6_init 380 = .ok (.newarray .int, 2) := dk_188_10 (dk_at dksX6_init_16 0 rfl rfl)
theorem dX6_init_382 : decode cX6_init 382 = .ok (.putfield 108, 3) := dk_181 0 108 (dk_at dksX6_init_16 2 rfl rfl)
theorem dX6_init_385 : decode cX6_init 385 = .ok (.aload_n 0, 1) := dk_42 (dk_at dksX6_init_16 5 rfl rfl)
theorem dX6_init_386 : decode cX6_init 386 = .ok (.bipush 24, 2) := dk_16 24 (dk_at dksX6_init_16 6 rfl rfl)
theorem dX6_init_388 : decode cX6_init 388 = .ok (.newarray .int, 2) := dk_188_10 (dk_at dksX6_init_16 8 rfl rfl)
theorem dX6_init_390 : decode cX6_init 390 = .ok (.putfield 111, 3) := dk_181 0 111 (dk_at dksX6_init_16 10 rfl rfl)
theorem dX6_init_393 : decode cX6_init 393 = .ok (.aload_n 0, 1) := dk_42 (dk_at dksX6_init_16 13 rfl rfl)
theorem dX6_init_394 : decode cX6_init 394 = .ok (.bipush 6, 2) := dk_16 6 (dk_at dksX6_init_16 14 rfl rfl)
theorem dX6_init_396 : decode cX6_init 396 = .ok (.newarray .int, 2) := dk_188_10 (dk_at dksX6_init_16 16 rfl rfl)
theorem dX6_init_398 : decode cX6_init 398 = .ok (.dup, 1) := dk_89 (dk_at dksX6_init_16 18 rfl rfl)
theorem dX6_init_399 : decode cX6_init 399 = .ok (.iconst 0, 1) := dk_3 (dk_at dksX6_init_16 19 rfl rfl)
theorem dX6_init_400 : decode cX6_init 400 = .ok (.iconst (-1), 1) := dk_2 (dk_at dksX6_init_16 20 rfl rfl)
theorem dX6_init_401 : decode cX6_init 401 = .ok (.iastore, 1) := dk_79 (dk_at dksX6_init_16 21 rfl rfl)
theorem dX6_init_402 : decode cX6_init 402 = .ok (.dup, 1) := dk_89 (dk_at dksX6_init_16 22 rfl rfl)
theorem dX6_init_403 : decode cX6_init 403 = .ok (.iconst 1, 1) := dk_4 (dk_at dksX6_init_16 23 rfl rfl)
theorem dX6_init_404 : decode cX6_init 404 = .ok (.iconst (-1), 1) := dk_2 (dk_at dksX6_init_17 0 rfl rfl)
theorem dX6_init_405 : decode cX6_init 405 = .ok (.iastore, 1) := dk_79 (dk_at dksX6_init_17 1 rfl rfl)
theorem dX6_init_406 : decode cX6_init 406 = .ok (.dup, 1) := dk_89 (dk_at dksX6_init_17 2 rfl rfl)
theorem dX6_init_407 : decode cX6_init 407 = .ok (.iconst 2, 1) := dk_5 (dk_at dksX6_init_17 3 rfl rfl)
theorem dX6_init_408 : decode cX6_init 408 = .ok (.iconst (-1), 1) := dk_2 (dk_at dksX6_init_17 4 rfl rfl)
theorem dX6_init_409 : decode cX6_init 409 = .ok (.iastore, 1) := dk_79 (dk_at dksX6_init_17 5 rfl rfl)
theorem dX6_init_410 : decode cX6_init 410 = .ok (.dup, 1) := dk_89 (dk_at dksX6_init_17 6 rfl rfl)
theorem dX6_init_411 : decode cX6_init 411 = .ok (.iconst 3, 1) := dk_6 (dk_at dksX6_init_17 7 rfl rfl)
theorem dX6_init_412 : decode cX6_init 412 = .ok (.iconst (-1), 1) := dk_2 (dk_at dksX6_init_17 8 rfl rfl)
theorem dX6_init_413 : decode cX6_init 413 = .ok (.iastore, 1) := dk_79 (dk_at dksX6_init_17 9 rfl rfl)
theorem dX6_init_414 : decode cX6_init 414 = .ok (.dup, 1) := dk_89 (dk_at dksX6_init_17 10 rfl rfl)
theorem dX6_init_415 : decode cX6_init 415 = .ok (.iconst 4, 1) := dk_7 (dk_at dksX6_init_17 11 rfl rfl)
theorem dX6_init_416 : decode cX6_init 416 = .ok (.iconst (-1), 1) := dk_2 (dk_at dksX6_init_17 12 rfl rfl)
theorem dX6_init_417 : decode cX6_init 417 = .ok (.iastore, 1) := dk_79 (dk_at dksX6_init_17 13 rfl rfl)
theorem dX6_init_418 : decode cX6_init 418 = .ok (.dup, 1) := dk_89 (dk_at dksX6_init_17 14 rfl rfl)
theorem dX6_init_419 : decode cX6_init 419 = .ok (.iconst 5, 1) := dk_8 (dk_at dksX6_init_17 15 rfl rfl)
theorem dX6_init_420 : decode cX6_init 420 = .ok (.iconst (-1), 1) := dk_2 (dk_at dksX6_init_17 16 rfl rfl)
theorem dX6_init_421 : decode cX6_init 421 = .ok (.iastore, 1) := dk_79 (dk_at dksX6_init_17 17 rfl rfl)
theorem dX6_init_422 : decode cX6_init 422 = .ok (.putfield 114, 3) := dk_181 0 114 (dk_at dksX6_init_17 18 rfl rfl)
theorem dX6_init_425 : decode cX6_init 425 = .ok (.aload_n 0, 1) := dk_42 (dk_at dksX6_init_17 21 rfl rfl)
theorem dX6_init_426 : decode cX6_init 426 = .ok (.bipush 6, 2) := dk_16 6 (dk_at dksX6_init_17 22 rfl rfl)
theorem dX6_init_428 : decode cX6_init 428 = .ok (.newarray .int, 2) := dk_188_10 (dk_at dksX6_init_18 0 rfl rfl)
theorem dX6_init_430 : decode cX6_init 430 = .ok (.putfield 117, 3) := dk_181 0 117 (dk_at dksX6_init_18 2 rfl rfl)
theorem dX6_init_433 : decode cX6_init 433 = .ok (.aload_n 0, 1) := dk_42 (dk_at dksX6_init_18 5 rfl rfl)
theorem dX6_init_434 : decode cX6_init 434 = .ok (.sipush 360, 3) := dk_17 1 104 (dk_at dksX6_init_18 6 rfl rfl)
theorem dX6_init_437 : decode cX6_init 437 = .ok (.newarray .long, 2) := dk_188_11 (dk_at dksX6_init_18 9 rfl rfl)
theorem dX6_init_439 : decode cX6_init 439 = .ok (.putfield 120, 3) := dk_181 0 120 (dk_at dksX6_init_18 11 rfl rfl)
theorem dX6_init_442 : decode cX6_init 442 = .ok (.aload_n 0, 1) := dk_42 (dk_at dksX6_init_18 14 rfl rfl)
theorem dX6_init_443 : decode cX6_init 443 = .ok (.bipush 60, 2) := dk_16 60 (dk_at dksX6_init_18 15 rfl rfl)
theorem dX6_init_445 : decode cX6_init 445 = .ok (.newarray .long, 2) := dk_188_11 (dk_at dksX6_init_18 17 rfl rfl)
theorem dX6_init_447 : decode cX6_init 447 = .ok (.putfield 124, 3) := dk_181 0 124 (dk_at dksX6_init_18 19 rfl rfl)
theorem dX6_init_450 : decode cX6_init 450 = .ok (.return_, 1) := dk_177 (dk_at dksX6_init_18 22 rfl rfl)
abbrev cX6_place : ByteArray := prog_26_method_7_code
def yX6_place : MethodName := ⟨RX6, "place", "(I)I"⟩
def dkwX6_place_3 : List UInt8 := [100, 172]
abbrev dktX6_place_3 : List UInt8 := dkwX6_place_3 ++ []
def dkwX6_place_2 : List UInt8 := [180, 0, 19, 42, 180, 0, 131, 3, 79, 42, 89, 180, 0, 131, 4, 96, 181, 0, 131, 42, 180, 0, 131, 4]
abbrev dktX6_place_2 : List UInt8 := dkwX6_place_2 ++ dktX6_place_3
def dkwX6_place_1 : List UInt8 := [42, 180, 0, 13, 42, 180, 0, 131, 27, 79, 42, 180, 0, 16, 42, 180, 0, 131, 42, 180, 0, 131, 79, 42]
abbrev dktX6_place_1 : List UInt8 := dkwX6_place_1 ++ dktX6_place_2
def dkwX6_place_0 : List UInt8 := [27, 3, 16, 9, 184, 0, 134, 154, 0, 5, 2, 172, 42, 180, 0, 131, 16, 7, 160, 0, 6, 16, 253, 172]
abbrev dktX6_place_0 : List UInt8 := dkwX6_place_0 ++ dktX6_place_1
theorem dksX6_place_0 : cX6_place.data.toList.drop 0 = dktX6_place_0 := by decide +kernel
theorem dksX6_place_1 : cX6_place.data.toList.drop 24 = dktX6_place_1 := dk_seg dksX6_place_0 24 rfl rfl
theorem dksX6_place_2 : cX6_place.data.toList.drop 48 = dktX6_place_2 := dk_seg dksX6_place_1 24 rfl rfl
theorem dksX6_place_3 : cX6_place.data.toList.drop 72 = dktX6_place_3 := dk_seg dksX6_place_2 24 rfl rfl
theorem dX6_place_0 : decode cX6_place 0 = .ok (.iload_n 1, 1) := dk_27 (dk_at dksX6_place_0 0 rfl rfl)
theorem dX6_place_1 : decode cX6_place 1 = .ok (.iconst 0, 1) := dk_3 (dk_at dksX6_place_0 1 rfl rfl)
theorem dX6_place_2 : decode cX6_place 2 = .ok (.bipush 9, 2) := dk_16 9 (dk_at dksX6_place_0 2 rfl rfl)
theorem dX6_place_4 : decode cX6_place 4 = .ok (.invokestatic 134, 3) := dk_184 0 134 (dk_at dksX6_place_0 4 rfl rfl)
theorem dX6_place_7 : decode cX6_place 7 = .ok (.ifCond .ne 5, 3) := dk_154 0 5 (dk_at dksX6_place_0 7 rfl rfl)
theorem dX6_place_10 : decode cX6_place 10 = .ok (.iconst (-1), 1) := dk_2 (dk_at dksX6_place_0 10 rfl rfl)
theorem dX6_place_11 : decode cX6_place 11 = .ok (.ireturn, 1) := dk_172 (dk_at dksX6_place_0 11 rfl rfl)
theorem dX6_place_12 : decode cX6_place 12 = .ok (.aload_n 0, 1) := dk_42 (dk_at dksX6_place_0 12 rfl rfl)
theorem dX6_place_13 : decode cX6_place 13 = .ok (.getfield 131, 3) := dk_180 0 131 (dk_at dksX6_place_0 13 rfl rfl)
theorem dX6_place_16 : decode cX6_place 16 = .ok (.bipush 7, 2) := dk_16 7 (dk_at dksX6_place_0 16 rfl rfl)
theorem dX6_place_18 : decode cX6_place 18 = .ok (.if_icmp .ne 6, 3) := dk_160 0 6 (dk_at dksX6_place_0 18 rfl rfl)
theorem dX6_place_21 : decode cX6_place 21 = .ok (.bipush (-3), 2) := dk_16 253 (dk_at dksX6_place_0 21 rfl rfl)
theorem dX6_place_23 : decode cX6_place 23 = .ok (.ireturn, 1) := dk_172 (dk_at dksX6_place_0 23 rfl rfl)
theorem dX6_place_24 : decode cX6_place 24 = .ok (.aload_n 0, 1) := dk_42 (dk_at dksX6_place_1 0 rfl rfl)
theorem dX6_place_25 : decode cX6_place 25 = .ok (.getfield 13, 3) := dk_180 0 13 (dk_at dksX6_place_1 1 rfl rfl)
theorem dX6_place_28 : decode cX6_place 28 = .ok (.aload_n 0, 1) := dk_42 (dk_at dksX6_place_1 4 rfl rfl)
theorem dX6_place_29 : decode cX6_place 29 = .ok (.getfield 131, 3) := dk_180 0 131 (dk_at dksX6_place_1 5 rfl rfl)
theorem dX6_place_32 : decode cX6_place 32 = .ok (.iload_n 1, 1) := dk_27 (dk_at dksX6_place_1 8 rfl rfl)
theorem dX6_place_33 : decode cX6_place 33 = .ok (.iastore, 1) := dk_79 (dk_at dksX6_place_1 9 rfl rfl)
theorem dX6_place_34 : decode cX6_place 34 = .ok (.aload_n 0, 1) := dk_42 (dk_at dksX6_place_1 10 rfl rfl)
theorem dX6_place_35 : decode cX6_place 35 = .ok (.getfield 16, 3) := dk_180 0 16 (dk_at dksX6_place_1 11 rfl rfl)
theorem dX6_place_38 : decode cX6_place 38 = .ok (.aload_n 0, 1) := dk_42 (dk_at dksX6_place_1 14 rfl rfl)
theorem dX6_place_39 : decode cX6_place 39 = .ok (.getfield 131, 3) := dk_180 0 131 (dk_at dksX6_place_1 15 rfl rfl)
theorem dX6_place_42 : decode cX6_place 42 = .ok (.aload_n 0, 1) := dk_42 (dk_at dksX6_place_1 18 rfl rfl)
theorem dX6_place_43 : decode cX6_place 43 = .ok (.getfield 131, 3) := dk_180 0 131 (dk_at dksX6_place_1 19 rfl rfl)
theorem dX6_place_46 : decode cX6_place 46 = .ok (.iastore, 1) := dk_79 (dk_at dksX6_place_1 22 rfl rfl)
theorem dX6_place_47 : decode cX6_place 47 = .ok (.aload_n 0, 1) := dk_42 (dk_at dksX6_place_1 23 rfl rfl)
theorem dX6_place_48 : decode cX6_place 48 = .ok (.getfield 19, 3) := dk_180 0 19 (dk_at dksX6_place_2 0 rfl rfl)
theorem dX6_place_51 : decode cX6_place 51 = .ok (.aload_n 0, 1) := dk_42 (dk_at dksX6_place_2 3 rfl rfl)
theorem dX6_place_52 : decode cX6_place 52 = .ok (.getfield 131, 3) := dk_180 0 131 (dk_at dksX6_place_2 4 rfl rfl)
theorem dX6_place_55 : decode cX6_place 55 = .ok (.iconst 0, 1) := dk_3 (dk_at dksX6_place_2 7 rfl rfl)
theorem dX6_place_56 : decode cX6_place 56 = .ok (.iastore, 1) := dk_79 (dk_at dksX6_place_2 8 rfl rfl)
theorem dX6_place_57 : decode cX6_place 57 = .ok (.aload_n 0, 1) := dk_42 (dk_at dksX6_place_2 9 rfl rfl)
theorem dX6_place_58 : decode cX6_place 58 = .ok (.dup, 1) := dk_89 (dk_at dksX6_place_2 10 rfl rfl)
theorem dX6_place_59 : decode cX6_place 59 = .ok (.getfield 131, 3) := dk_180 0 131 (dk_at dksX6_place_2 11 rfl rfl)
theorem dX6_place_62 : decode cX6_place 62 = .ok (.iconst 1, 1) := dk_4 (dk_at dksX6_place_2 14 rfl rfl)
theorem dX6_place_63 : decode cX6_place 63 = .ok (.iadd, 1) := dk_96 (dk_at dksX6_place_2 15 rfl rfl)
theorem dX6_place_64 : decode cX6_place 64 = .ok (.putfield 131, 3) := dk_181 0 131 (dk_at dksX6_place_2 16 rfl rfl)
theorem dX6_place_67 : decode cX6_place 67 = .ok (.aload_n 0, 1) := dk_42 (dk_at dksX6_place_2 19 rfl rfl)
theorem dX6_place_68 : decode cX6_place 68 = .ok (.getfield 131, 3) := dk_180 0 131 (dk_at dksX6_place_2 20 rfl rfl)
theorem dX6_place_71 : decode cX6_place 71 = .ok (.iconst 1, 1) := dk_4 (dk_at dksX6_place_2 23 rfl rfl)
theorem dX6_place_72 : decode cX6_place 72 = .ok (.isub, 1) := dk_100 (dk_at dksX6_place_3 0 rfl rfl)
theorem dX6_place_73 : decode cX6_place 73 = .ok (.ireturn, 1) := dk_172 (dk_at dksX6_place_3 1 rfl rfl)
abbrev cX6_in : ByteArray := prog_26_method_3_code
def yX6_in : MethodName := ⟨RX6, "in", "(III)Z"⟩
def dkwX6_in_0 : List UInt8 := [26, 27, 161, 0, 12, 26, 28, 163, 0, 7, 4, 167, 0, 4, 3, 172]
abbrev dktX6_in_0 : List UInt8 := dkwX6_in_0 ++ []
theorem dksX6_in_0 : cX6_in.data.toList.drop 0 = dktX6_in_0 := by decide +kernel
theorem dX6_in_0 : decode cX6_in 0 = .ok (.iload_n 0, 1) := dk_26 (dk_at dksX6_in_0 0 rfl rfl)
theorem dX6_in_1 : decode cX6_in 1 = .ok (.iload_n 1, 1) := dk_27 (dk_at dksX6_in_0 1 rfl rfl)
theorem dX6_in_2 : decode cX6_in 2 = .ok (.if_icmp .lt 12, 3) := dk_161 0 12 (dk_at dksX6_in_0 2 rfl rfl)
theorem dX6_in_5 : decode cX6_in 5 = .ok (.iload_n 0, 1) := dk_26 (dk_at dksX6_in_0 5 rfl rfl)
theorem dX6_in_6 : decode cX6_in 6 = .ok (.iload_n 2, 1) := dk_28 (dk_at dksX6_in_0 6 rfl rfl)
theorem dX6_in_7 : decode cX6_in 7 = .ok (.if_icmp .gt 7, 3) := dk_163 0 7 (dk_at dksX6_in_0 7 rfl rfl)
theorem dX6_in_10 : decode cX6_in 10 = .ok (.iconst 1, 1) := dk_4 (dk_at dksX6_in_0 10 rfl rfl)
theorem dX6_in_11 : decode cX6_in 11 = .ok (.goto 4, 3) := dk_167 0 4 (dk_at dksX6_in_0 11 rfl rfl)
theorem dX6_in_14 : decode cX6_in 14 = .ok (.iconst 0, 1) := dk_3 (dk_at dksX6_in_0 14 rfl rfl)
theorem dX6_in_15 : decode cX6_in 15 = .ok (.ireturn, 1) := dk_172 (dk_at dksX6_in_0 15 rfl rfl)
abbrev cX6_way : ByteArray := prog_26_method_9_code
def yX6_way : MethodName := ⟨RX6, "way", "(I)I"⟩
def dkwX6_way_4 : List UInt8 := [180, 0, 141, 4, 96, 181, 0, 141, 42, 180, 0, 141, 172]
abbrev dktX6_way_4 : List UInt8 := dkwX6_way_4 ++ []
def dkwX6_way_3 : List UInt8 := [42, 180, 0, 141, 27, 16, 10, 108, 79, 42, 180, 0, 25, 42, 180, 0, 141, 27, 16, 10, 112, 79, 42, 89]
abbrev dktX6_way_3 : List UInt8 := dkwX6_way_3 ++ dktX6_way_4
def dkwX6_way_2 : List UInt8 := [182, 0, 148, 153, 0, 5, 2, 172, 42, 180, 0, 141, 16, 12, 160, 0, 6, 16, 253, 172, 42, 180, 0, 22]
abbrev dktX6_way_2 : List UInt8 := dkwX6_way_2 ++ dktX6_way_3
def dkwX6_way_1 : List UInt8 := [153, 0, 29, 27, 16, 10, 108, 27, 16, 10, 112, 159, 0, 18, 42, 27, 16, 10, 108, 27, 16, 10, 112]
abbrev dktX6_way_1 : List UInt8 := dkwX6_way_1 ++ dktX6_way_2
def dkwX6_way_0 : List UInt8 := [27, 155, 0, 51, 42, 27, 16, 10, 108, 182, 0, 144, 153, 0, 40, 42, 27, 16, 10, 112, 182, 0, 144]
abbrev dktX6_way_0 : List UInt8 := dkwX6_way_0 ++ dktX6_way_1
theorem dksX6_way_0 : cX6_way.data.toList.drop 0 = dktX6_way_0 := by decide +kernel
theorem dksX6_way_1 : cX6_way.data.toList.drop 23 = dktX6_way_1 := dk_seg dksX6_way_0 23 rfl rfl
theorem dksX6_way_2 : cX6_way.data.toList.drop 46 = dktX6_way_2 := dk_seg dksX6_way_1 23 rfl rfl
theorem dksX6_way_3 : cX6_way.data.toList.drop 70 = dktX6_way_3 := dk_seg dksX6_way_2 24 rfl rfl
theorem dksX6_way_4 : cX6_way.data.toList.drop 94 = dktX6_way_4 := dk_seg dksX6_way_3 24 rfl rfl
theorem dX6_way_0 : decode cX6_way 0 = .ok (.iload_n 1, 1) := dk_27 (dk_at dksX6_way_0 0 rfl rfl)
theorem dX6_way_1 : decode cX6_way 1 = .ok (.ifCond .lt 51, 3) := dk_155 0 51 (dk_at dksX6_way_0 1 rfl rfl)
theorem dX6_way_4 : decode cX6_way 4 = .ok (.aload_n 0, 1) := dk_42 (dk_at dksX6_way_0 4 rfl rfl)
theorem dX6_way_5 : decode cX6_way 5 = .ok (.iload_n 1, 1) := dk_27 (dk_at dksX6_way_0 5 rfl rfl)
theorem dX6_way_6 : decode cX6_way 6 = .ok (.bipush 10, 2) := dk_16 10 (dk_at dksX6_way_0 6 rfl rfl)
theorem dX6_way_8 : decode cX6_way 8 = .ok (.idiv, 1) := dk_108 (dk_at dksX6_way_0 8 rfl rfl)
theorem dX6_way_9 : decode cX6_way 9 = .ok (.invokevirtual 144, 3) := dk_182 0 144 (dk_at dksX6_way_0 9 rfl rfl)
theorem dX6_way_12 : decode cX6_way 12 = .ok (.ifCond .eq 40, 3) := dk_153 0 40 (dk_at dksX6_way_0 12 rfl rfl)
theorem dX6_way_15 : decode cX6_way 15 = .ok (.aload_n 0, 1) := dk_42 (dk_at dksX6_way_0 15 rfl rfl)
theorem dX6_way_16 : decode cX6_way 16 = .ok (.iload_n 1, 1) := dk_27 (dk_at dksX6_way_0 16 rfl rfl)
theorem dX6_way_17 : decode cX6_way 17 = .ok (.bipush 10, 2) := dk_16 10 (dk_at dksX6_way_0 17 rfl rfl)
theorem dX6_way_19 : decode cX6_way 19 = .ok (.irem, 1) := dk_112 (dk_at dksX6_way_0 19 rfl rfl)
theorem dX6_way_20 : decode cX6_way 20 = .ok (.invokevirtual 144, 3) := dk_182 0 144 (dk_at dksX6_way_0 20 rfl rfl)
theorem dX6_way_23 : decode cX6_way 23 = .ok (.ifCond .eq 29, 3) := dk_153 0 29 (dk_at dksX6_way_1 0 rfl rfl)
theorem dX6_way_26 : decode cX6_way 26 = .ok (.iload_n 1, 1) := dk_27 (dk_at dksX6_way_1 3 rfl rfl)
theorem dX6_way_27 : decode cX6_way 27 = .ok (.bipush 10, 2) := dk_16 10 (dk_at dksX6_way_1 4 rfl rfl)
theorem dX6_way_29 : decode cX6_way 29 = .ok (.idiv, 1) := dk_108 (dk_at dksX6_way_1 6 rfl rfl)
theorem dX6_way_30 : decode cX6_way 30 = .ok (.iload_n 1, 1) := dk_27 (dk_at dksX6_way_1 7 rfl rfl)
theorem dX6_way_31 : decode cX6_way 31 = .ok (.bipush 10, 2) := dk_16 10 (dk_at dksX6_way_1 8 rfl rfl)
theorem dX6_way_33 : decode cX6_way 33 = .ok (.irem, 1) := dk_112 (dk_at dksX6_way_1 10 rfl rfl)
theorem dX6_way_34 : decode cX6_way 34 = .ok (.if_icmp .eq 18, 3) := dk_159 0 18 (dk_at dksX6_way_1 11 rfl rfl)
theorem dX6_way_37 : decode cX6_way 37 = .ok (.aload_n 0, 1) := dk_42 (dk_at dksX6_way_1 14 rfl rfl)
theorem dX6_way_38 : decode cX6_way 38 = .ok (.iload_n 1, 1) := dk_27 (dk_at dksX6_way_1 15 rfl rfl)
theorem dX6_way_39 : decode cX6_way 39 = .ok (.bipush 10, 2) := dk_16 10 (dk_at dksX6_way_1 16 rfl rfl)
theorem dX6_way_41 : decode cX6_way 41 = .ok (.idiv, 1) := dk_108 (dk_at dksX6_way_1 18 rfl rfl)
theorem dX6_way_42 : decode cX6_way 42 = .ok (.iload_n 1, 1) := dk_27 (dk_at dksX6_way_1 19 rfl rfl)
theorem dX6_way_43 : decode cX6_way 43 = .ok (.bipush 10, 2) := dk_16 10 (dk_at dksX6_way_1 20 rfl rfl)
theorem dX6_way_45 : decode cX6_way 45 = .ok (.irem, 1) := dk_112 (dk_at dksX6_way_1 22 rfl rfl)
theorem dX6_way_46 : decode cX6_way 46 = .ok (.invokevirtual 148, 3) := dk_182 0 148 (dk_at dksX6_way_2 0 rfl rfl)
theorem dX6_way_49 : decode cX6_way 49 = .ok (.ifCond .eq 5, 3) := dk_153 0 5 (dk_at dksX6_way_2 3 rfl rfl)
theorem dX6_way_52 : decode cX6_way 52 = .ok (.iconst (-1), 1) := dk_2 (dk_at dksX6_way_2 6 rfl rfl)
theorem dX6_way_53 : decode cX6_way 53 = .ok (.ireturn, 1) := dk_172 (dk_at dksX6_way_2 7 rfl rfl)
theorem dX6_way_54 : decode cX6_way 54 = .ok (.aload_n 0, 1) := dk_42 (dk_at dksX6_way_2 8 rfl rfl)
theorem dX6_way_55 : decode cX6_way 55 = .ok (.getfield 141, 3) := dk_180 0 141 (dk_at dksX6_way_2 9 rfl rfl)
theorem dX6_way_58 : decode cX6_way 58 = .ok (.bipush 12, 2) := dk_16 12 (dk_at dksX6_way_2 12 rfl rfl)
theorem dX6_way_60 : decode cX6_way 60 = .ok (.if_icmp .ne 6, 3) := dk_160 0 6 (dk_at dksX6_way_2 14 rfl rfl)
theorem dX6_way_63 : decode cX6_way 63 = .ok (.bipush (-3), 2) := dk_16 253 (dk_at dksX6_way_2 17 rfl rfl)
theorem dX6_way_65 : decode cX6_way 65 = .ok (.ireturn, 1) := dk_172 (dk_at dksX6_way_2 19 rfl rfl)
theorem dX6_way_66 : decode cX6_way 66 = .ok (.aload_n 0, 1) := dk_42 (dk_at dksX6_way_2 20 rfl rfl)
theorem dX6_way_67 : decode cX6_way 67 = .ok (.getfield 22, 3) := dk_180 0 22 (dk_at dksX6_way_2 21 rfl rfl)
theorem dX6_way_70 : decode cX6_way 70 = .ok (.aload_n 0, 1) := dk_42 (dk_at dksX6_way_3 0 rfl rfl)
theorem dX6_way_71 : decode cX6_way 71 = .ok (.getfield 141, 3) := dk_180 0 141 (dk_at dksX6_way_3 1 rfl rfl)
theorem dX6_way_74 : decode cX6_way 74 = .ok (.iload_n 1, 1) := dk_27 (dk_at dksX6_way_3 4 rfl rfl)
theorem dX6_way_75 : decode cX6_way 75 = .ok (.bipush 10, 2) := dk_16 10 (dk_at dksX6_way_3 5 rfl rfl)
theorem dX6_way_77 : decode cX6_way 77 = .ok (.idiv, 1) := dk_108 (dk_at dksX6_way_3 7 rfl rfl)
theorem dX6_way_78 : decode cX6_way 78 = .ok (.iastore, 1) := dk_79 (dk_at dksX6_way_3 8 rfl rfl)
theorem dX6_way_79 : decode cX6_way 79 = .ok (.aload_n 0, 1) := dk_42 (dk_at dksX6_way_3 9 rfl rfl)
theorem dX6_way_80 : decode cX6_way 80 = .ok (.getfield 25, 3) := dk_180 0 25 (dk_at dksX6_way_3 10 rfl rfl)
theorem dX6_way_83 : decode cX6_way 83 = .ok (.aload_n 0, 1) := dk_42 (dk_at dksX6_way_3 13 rfl rfl)
theorem dX6_way_84 : decode cX6_way 84 = .ok (.getfield 141, 3) := dk_180 0 141 (dk_at dksX6_way_3 14 rfl rfl)
theorem dX6_way_87 : decode cX6_way 87 = .ok (.iload_n 1, 1) := dk_27 (dk_at dksX6_way_3 17 rfl rfl)
theorem dX6_way_88 : decode cX6_way 88 = .ok (.bipush 10, 2) := dk_16 10 (dk_at dksX6_way_3 18 rfl rfl)
theorem dX6_way_90 : decode cX6_way 90 = .ok (.irem, 1) := dk_112 (dk_at dksX6_way_3 20 rfl rfl)
theorem dX6_way_91 : decode cX6_way 91 = .ok (.iastore, 1) := dk_79 (dk_at dksX6_way_3 21 rfl rfl)
theorem dX6_way_92 : decode cX6_way 92 = .ok (.aload_n 0, 1) := dk_42 (dk_at dksX6_way_3 22 rfl rfl)
theorem dX6_way_93 : decode cX6_way 93 = .ok (.dup, 1) := dk_89 (dk_at dksX6_way_3 23 rfl rfl)
theorem dX6_way_94 : decode cX6_way 94 = .ok (.getfield 141, 3) := dk_180 0 141 (dk_at dksX6_way_4 0 rfl rfl)
theorem dX6_way_97 : decode cX6_way 97 = .ok (.iconst 1, 1) := dk_4 (dk_at dksX6_way_4 3 rfl rfl)
theorem dX6_way_98 : decode cX6_way 98 = .ok (.iadd, 1) := dk_96 (dk_at dksX6_way_4 4 rfl rfl)
theorem dX6_way_99 : decode cX6_way 99 = .ok (.putfield 141, 3) := dk_181 0 141 (dk_at dksX6_way_4 5 rfl rfl)
theorem dX6_way_102 : decode cX6_way 102 = .ok (.aload_n 0, 1) := dk_42 (dk_at dksX6_way_4 8 rfl rfl)
theorem dX6_way_103 : decode cX6_way 103 = .ok (.getfield 141, 3) := dk_180 0 141 (dk_at dksX6_way_4 9 rfl rfl)
theorem dX6_way_106 : decode cX6_way 106 = .ok (.ireturn, 1) := dk_172 (dk_at dksX6_way_4 12 rfl rfl)
abbrev cX6_isPlace : ByteArray := prog_26_method_4_code
def yX6_isPlace : MethodName := ⟨RX6, "isPlace", "(I)Z"⟩
def dkwX6_isPlace_0 : List UInt8 := [27, 3, 42, 180, 0, 131, 4, 100, 184, 0, 134, 172]
abbrev dktX6_isPlace_0 : List UInt8 := dkwX6_isPlace_0 ++ []
theorem dksX6_isPlace_0 : cX6_isPlace.data.toList.drop 0 = dktX6_isPlace_0 := by decide +kernel
theorem dX6_isPlace_0 : decode cX6_isPlace 0 = .ok (.iload_n 1, 1) := dk_27 (dk_at dksX6_isPlace_0 0 rfl rfl)
theorem dX6_isPlace_1 : decode cX6_isPlace 1 = .ok (.iconst 0, 1) := dk_3 (dk_at dksX6_isPlace_0 1 rfl rfl)
theorem dX6_isPlace_2 : decode cX6_isPlace 2 = .ok (.aload_n 0, 1) := dk_42 (dk_at dksX6_isPlace_0 2 rfl rfl)
theorem dX6_isPlace_3 : decode cX6_isPlace 3 = .ok (.getfield 131, 3) := dk_180 0 131 (dk_at dksX6_isPlace_0 3 rfl rfl)
theorem dX6_isPlace_6 : decode cX6_isPlace 6 = .ok (.iconst 1, 1) := dk_4 (dk_at dksX6_isPlace_0 6 rfl rfl)
theorem dX6_isPlace_7 : decode cX6_isPlace 7 = .ok (.isub, 1) := dk_100 (dk_at dksX6_isPlace_0 7 rfl rfl)
theorem dX6_isPlace_8 : decode cX6_isPlace 8 = .ok (.invokestatic 134, 3) := dk_184 0 134 (dk_at dksX6_isPlace_0 8 rfl rfl)
theorem dX6_isPlace_11 : decode cX6_isPlace 11 = .ok (.ireturn, 1) := dk_172 (dk_at dksX6_isPlace_0 11 rfl rfl)
abbrev cX6_isWay : ByteArray := prog_26_method_8_code
def yX6_isWay : MethodName := ⟨RX6, "isWay", "(II)Z"⟩
def dkwX6_isWay_2 : List UInt8 := [160, 0, 5, 4, 172, 132, 3, 1, 167, 255, 203, 3, 172]
abbrev dktX6_isWay_2 : List UInt8 := dkwX6_isWay_2 ++ []
def dkwX6_isWay_1 : List UInt8 := [29, 46, 28, 159, 0, 23, 42, 180, 0, 22, 29, 46, 28, 160, 0, 15, 42, 180, 0, 25, 29, 46, 27]
abbrev dktX6_isWay_1 : List UInt8 := dkwX6_isWay_1 ++ dktX6_isWay_2
def dkwX6_isWay_0 : List UInt8 := [3, 62, 29, 42, 180, 0, 141, 162, 0, 51, 42, 180, 0, 22, 29, 46, 27, 160, 0, 13, 42, 180, 0, 25]
abbrev dktX6_isWay_0 : List UInt8 := dkwX6_isWay_0 ++ dktX6_isWay_1
theorem dksX6_isWay_0 : cX6_isWay.data.toList.drop 0 = dktX6_isWay_0 := by decide +kernel
theorem dksX6_isWay_1 : cX6_isWay.data.toList.drop 24 = dktX6_isWay_1 := dk_seg dksX6_isWay_0 24 rfl rfl
theorem dksX6_isWay_2 : cX6_isWay.data.toList.drop 47 = dktX6_isWay_2 := dk_seg dksX6_isWay_1 23 rfl rfl
theorem dX6_isWay_0 : decode cX6_isWay 0 = .ok (.iconst 0, 1) := dk_3 (dk_at dksX6_isWay_0 0 rfl rfl)
theorem dX6_isWay_1 : decode cX6_isWay 1 = .ok (.istore_n 3, 1) := dk_62 (dk_at dksX6_isWay_0 1 rfl rfl)
theorem dX6_isWay_2 : decode cX6_isWay 2 = .ok (.iload_n 3, 1) := dk_29 (dk_at dksX6_isWay_0 2 rfl rfl)
theorem dX6_isWay_3 : decode cX6_isWay 3 = .ok (.aload_n 0, 1) := dk_42 (dk_at dksX6_isWay_0 3 rfl rfl)
theorem dX6_isWay_4 : decode cX6_isWay 4 = .ok (.getfield 141, 3) := dk_180 0 141 (dk_at dksX6_isWay_0 4 rfl rfl)
theorem dX6_isWay_7 : decode cX6_isWay 7 = .ok (.if_icmp .ge 51, 3) := dk_162 0 51 (dk_at dksX6_isWay_0 7 rfl rfl)
theorem dX6_isWay_10 : decode cX6_isWay 10 = .ok (.aload_n 0, 1) := dk_42 (dk_at dksX6_isWay_0 10 rfl rfl)
theorem dX6_isWay_11 : decode cX6_isWay 11 = .ok (.getfield 22, 3) := dk_180 0 22 (dk_at dksX6_isWay_0 11 rfl rfl)
theorem dX6_isWay_14 : decode cX6_isWay 14 = .ok (.iload_n 3, 1) := dk_29 (dk_at dksX6_isWay_0 14 rfl rfl)
theorem dX6_isWay_15 : decode cX6_isWay 15 = .ok (.iaload, 1) := dk_46 (dk_at dksX6_isWay_0 15 rfl rfl)
theorem dX6_isWay_16 : decode cX6_isWay 16 = .ok (.iload_n 1, 1) := dk_27 (dk_at dksX6_isWay_0 16 rfl rfl)
theorem dX6_isWay_17 : decode cX6_isWay 17 = .ok (.if_icmp .ne 13, 3) := dk_160 0 13 (dk_at dksX6_isWay_0 17 rfl rfl)
theorem dX6_isWay_20 : decode cX6_isWay 20 = .ok (.aload_n 0, 1) := dk_42 (dk_at dksX6_isWay_0 20 rfl rfl)
theorem dX6_isWay_21 : decode cX6_isWay 21 = .ok (.getfield 25, 3) := dk_180 0 25 (dk_at dksX6_isWay_0 21 rfl rfl)
theorem dX6_isWay_24 : decode cX6_isWay 24 = .ok (.iload_n 3, 1) := dk_29 (dk_at dksX6_isWay_1 0 rfl rfl)
theorem dX6_isWay_25 : decode cX6_isWay 25 = .ok (.iaload, 1) := dk_46 (dk_at dksX6_isWay_1 1 rfl rfl)
theorem dX6_isWay_26 : decode cX6_isWay 26 = .ok (.iload_n 2, 1) := dk_28 (dk_at dksX6_isWay_1 2 rfl rfl)
theorem dX6_isWay_27 : decode cX6_isWay 27 = .ok (.if_icmp .eq 23, 3) := dk_159 0 23 (dk_at dksX6_isWay_1 3 rfl rfl)
theorem dX6_isWay_30 : decode cX6_isWay 30 = .ok (.aload_n 0, 1) := dk_42 (dk_at dksX6_isWay_1 6 rfl rfl)
theorem dX6_isWay_31 : decode cX6_isWay 31 = .ok (.getfield 22, 3) := dk_180 0 22 (dk_at dksX6_isWay_1 7 rfl rfl)
theorem dX6_isWay_34 : decode cX6_isWay 34 = .ok (.iload_n 3, 1) := dk_29 (dk_at dksX6_isWay_1 10 rfl rfl)
theorem dX6_isWay_35 : decode cX6_isWay 35 = .ok (.iaload, 1) := dk_46 (dk_at dksX6_isWay_1 11 rfl rfl)
theorem dX6_isWay_36 : decode cX6_isWay 36 = .ok (.iload_n 2, 1) := dk_28 (dk_at dksX6_isWay_1 12 rfl rfl)
theorem dX6_isWay_37 : decode cX6_isWay 37 = .ok (.if_icmp .ne 15, 3) := dk_160 0 15 (dk_at dksX6_isWay_1 13 rfl rfl)
theorem dX6_isWay_40 : decode cX6_isWay 40 = .ok (.aload_n 0, 1) := dk_42 (dk_at dksX6_isWay_1 16 rfl rfl)
theorem dX6_isWay_41 : decode cX6_isWay 41 = .ok (.getfield 25, 3) := dk_180 0 25 (dk_at dksX6_isWay_1 17 rfl rfl)
theorem dX6_isWay_44 : decode cX6_isWay 44 = .ok (.iload_n 3, 1) := dk_29 (dk_at dksX6_isWay_1 20 rfl rfl)
theorem dX6_isWay_45 : decode cX6_isWay 45 = .ok (.iaload, 1) := dk_46 (dk_at dksX6_isWay_1 21 rfl rfl)
theorem dX6_isWay_46 : decode cX6_isWay 46 = .ok (.iload_n 1, 1) := dk_27 (dk_at dksX6_isWay_1 22 rfl rfl)
theorem dX6_isWay_47 : decode cX6_isWay 47 = .ok (.if_icmp .ne 5, 3) := dk_160 0 5 (dk_at dksX6_isWay_2 0 rfl rfl)
theorem dX6_isWay_50 : decode cX6_isWay 50 = .ok (.iconst 1, 1) := dk_4 (dk_at dksX6_isWay_2 3 rfl rfl)
theorem dX6_isWay_51 : decode cX6_isWay 51 = .ok (.ireturn, 1) := dk_172 (dk_at dksX6_isWay_2 4 rfl rfl)
theorem dX6_isWay_52 : decode cX6_isWay 52 = .ok (.iinc 3 1, 3) := dk_132 3 1 (dk_at dksX6_isWay_2 5 rfl rfl)
theorem dX6_isWay_55 : decode cX6_isWay 55 = .ok (.goto (-53), 3) := dk_167 255 203 (dk_at dksX6_isWay_2 8 rfl rfl)
theorem dX6_isWay_58 : decode cX6_isWay 58 = .ok (.iconst 0, 1) := dk_3 (dk_at dksX6_isWay_2 11 rfl rfl)
theorem dX6_isWay_59 : decode cX6_isWay 59 = .ok (.ireturn, 1) := dk_172 (dk_at dksX6_isWay_2 12 rfl rfl)
abbrev cX6_person : ByteArray := prog_26_method_11_code
def yX6_person : MethodName := ⟨RX6, "person", "(II)I"⟩
def dkwX6_person_1 : List UInt8 := [16, 6, 160, 0, 8, 16, 253, 167, 0, 16, 42, 27, 16, 10, 108, 27, 16, 10, 112, 28, 182, 0, 152, 172]
abbrev dktX6_person_1 : List UInt8 := dkwX6_person_1 ++ []
def dkwX6_person_0 : List UInt8 := [27, 3, 16, 99, 184, 0, 134, 153, 0, 11, 42, 28, 182, 0, 144, 154, 0, 5, 2, 172, 42, 180, 0, 138]
abbrev dktX6_person_0 : List UInt8 := dkwX6_person_0 ++ dktX6_person_1
theorem dksX6_person_0 : cX6_person.data.toList.drop 0 = dktX6_person_0 := by decide +kernel
theorem dksX6_person_1 : cX6_person.data.toList.drop 24 = dktX6_person_1 := dk_seg dksX6_person_0 24 rfl rfl
theorem dX6_person_0 : decode cX6_person 0 = .ok (.iload_n 1, 1) := dk_27 (dk_at dksX6_person_0 0 rfl rfl)
theorem dX6_person_1 : decode cX6_person 1 = .ok (.iconst 0, 1) := dk_3 (dk_at dksX6_person_0 1 rfl rfl)
theorem dX6_person_2 : decode cX6_person 2 = .ok (.bipush 99, 2) := dk_16 99 (dk_at dksX6_person_0 2 rfl rfl)
theorem dX6_person_4 : decode cX6_person 4 = .ok (.invokestatic 134, 3) := dk_184 0 134 (dk_at dksX6_person_0 4 rfl rfl)
theorem dX6_person_7 : decode cX6_person 7 = .ok (.ifCond .eq 11, 3) := dk_153 0 11 (dk_at dksX6_person_0 7 rfl rfl)
theorem dX6_person_10 : decode cX6_person 10 = .ok (.aload_n 0, 1) := dk_42 (dk_at dksX6_person_0 10 rfl rfl)
theorem dX6_person_11 : decode cX6_person 11 = .ok (.iload_n 2, 1) := dk_28 (dk_at dksX6_person_0 11 rfl rfl)
theorem dX6_person_12 : decode cX6_person 12 = .ok (.invokevirtual 144, 3) := dk_182 0 144 (dk_at dksX6_person_0 12 rfl rfl)
theorem dX6_person_15 : decode cX6_person 15 = .ok (.ifCond .ne 5, 3) := dk_154 0 5 (dk_at dksX6_person_0 15 rfl rfl)
theorem dX6_person_18 : decode cX6_person 18 = .ok (.iconst (-1), 1) := dk_2 (dk_at dksX6_person_0 18 rfl rfl)
theorem dX6_person_19 : decode cX6_person 19 = .ok (.ireturn, 1) := dk_172 (dk_at dksX6_person_0 19 rfl rfl)
theorem dX6_person_20 : decode cX6_person 20 = .ok (.aload_n 0, 1) := dk_42 (dk_at dksX6_person_0 20 rfl rfl)
theorem dX6_person_21 : decode cX6_person 21 = .ok (.getfield 138, 3) := dk_180 0 138 (dk_at dksX6_person_0 21 rfl rfl)
theorem dX6_person_24 : decode cX6_person 24 = .ok (.bipush 6, 2) := dk_16 6 (dk_at dksX6_person_1 0 rfl rfl)
theorem dX6_person_26 : decode cX6_person 26 = .ok (.if_icmp .ne 8, 3) := dk_160 0 8 (dk_at dksX6_person_1 2 rfl rfl)
theorem dX6_person_29 : decode cX6_person 29 = .ok (.bipush (-3), 2) := dk_16 253 (dk_at dksX6_person_1 5 rfl rfl)
theorem dX6_person_31 : decode cX6_person 31 = .ok (.goto 16, 3) := dk_167 0 16 (dk_at dksX6_person_1 7 rfl rfl)
theorem dX6_person_34 : decode cX6_person 34 = .ok (.aload_n 0, 1) := dk_42 (dk_at dksX6_person_1 10 rfl rfl)
theorem dX6_person_35 : decode cX6_person 35 = .ok (.iload_n 1, 1) := dk_27 (dk_at dksX6_person_1 11 rfl rfl)
theorem dX6_person_36 : decode cX6_person 36 = .ok (.bipush 10, 2) := dk_16 10 (dk_at dksX6_person_1 12 rfl rfl)
theorem dX6_person_38 : decode cX6_person 38 = .ok (.idiv, 1) := dk_108 (dk_at dksX6_person_1 14 rfl rfl)
theorem dX6_person_39 : decode cX6_person 39 = .ok (.iload_n 1, 1) := dk_27 (dk_at dksX6_person_1 15 rfl rfl)
theorem dX6_person_40 : decode cX6_person 40 = .ok (.bipush 10, 2) := dk_16 10 (dk_at dksX6_person_1 16 rfl rfl)
theorem dX6_person_42 : decode cX6_person 42 = .ok (.irem, 1) := dk_112 (dk_at dksX6_person_1 18 rfl rfl)
theorem dX6_person_43 : decode cX6_person 43 = .ok (.iload_n 2, 1) := dk_28 (dk_at dksX6_person_1 19 rfl rfl)
theorem dX6_person_44 : decode cX6_person 44 = .ok (.invokevirtual 152, 3) := dk_182 0 152 (dk_at dksX6_person_1 20 rfl rfl)
theorem dX6_person_47 : decode cX6_person 47 = .ok (.ireturn, 1) := dk_172 (dk_at dksX6_person_1 23 rfl rfl)
abbrev cX6_addPerson : ByteArray := prog_26_method_10_code
def yX6_addPerson : MethodName := ⟨RX6, "addPerson", "(III)I"⟩
def dkwX6_addPerson_2 : List UInt8 := [181, 0, 138, 42, 180, 0, 138, 4, 100, 172]
abbrev dktX6_addPerson_2 : List UInt8 := dkwX6_addPerson_2 ++ []
def dkwX6_addPerson_1 : List UInt8 := [42, 180, 0, 138, 29, 79, 42, 180, 0, 37, 42, 180, 0, 138, 16, 253, 79, 42, 89, 180, 0, 138, 4, 96]
abbrev dktX6_addPerson_1 : List UInt8 := dkwX6_addPerson_1 ++ dktX6_addPerson_2
def dkwX6_addPerson_0 : List UInt8 := [42, 180, 0, 28, 42, 180, 0, 138, 27, 79, 42, 180, 0, 31, 42, 180, 0, 138, 28, 79, 42, 180, 0, 34]
abbrev dktX6_addPerson_0 : List UInt8 := dkwX6_addPerson_0 ++ dktX6_addPerson_1
theorem dksX6_addPerson_0 : cX6_addPerson.data.toList.drop 0 = dktX6_addPerson_0 := by decide +kernel
theorem dksX6_addPerson_1 : cX6_addPerson.data.toList.drop 24 = dktX6_addPerson_1 := dk_seg dksX6_addPerson_0 24 rfl rfl
theorem dksX6_addPerson_2 : cX6_addPerson.data.toList.drop 48 = dktX6_addPerson_2 := dk_seg dksX6_addPerson_1 24 rfl rfl
theorem dX6_addPerson_0 : decode cX6_addPerson 0 = .ok (.aload_n 0, 1) := dk_42 (dk_at dksX6_addPerson_0 0 rfl rfl)
theorem dX6_addPerson_1 : decode cX6_addPerson 1 = .ok (.getfield 28, 3) := dk_180 0 28 (dk_at dksX6_addPerson_0 1 rfl rfl)
theorem dX6_addPerson_4 : decode cX6_addPerson 4 = .ok (.aload_n 0, 1) := dk_42 (dk_at dksX6_addPerson_0 4 rfl rfl)
theorem dX6_addPerson_5 : decode cX6_addPerson 5 = .ok (.getfield 138, 3) := dk_180 0 138 (dk_at dksX6_addPerson_0 5 rfl rfl)
theorem dX6_addPerson_8 : decode cX6_addPerson 8 = .ok (.iload_n 1, 1) := dk_27 (dk_at dksX6_addPerson_0 8 rfl rfl)
theorem dX6_addPerson_9 : decode cX6_addPerson 9 = .ok (.iastore, 1) := dk_79 (dk_at dksX6_addPerson_0 9 rfl rfl)
theorem dX6_addPerson_10 : decode cX6_addPerson 10 = .ok (.aload_n 0, 1) := dk_42 (dk_at dksX6_addPerson_0 10 rfl rfl)
theorem dX6_addPerson_11 : decode cX6_addPerson 11 = .ok (.getfield 31, 3) := dk_180 0 31 (dk_at dksX6_addPerson_0 11 rfl rfl)
theorem dX6_addPerson_14 : decode cX6_addPerson 14 = .ok (.aload_n 0, 1) := dk_42 (dk_at dksX6_addPerson_0 14 rfl rfl)
theorem dX6_addPerson_15 : decode cX6_addPerson 15 = .ok (.getfield 138, 3) := dk_180 0 138 (dk_at dksX6_addPerson_0 15 rfl rfl)
theorem dX6_addPerson_18 : decode cX6_addPerson 18 = .ok (.iload_n 2, 1) := dk_28 (dk_at dksX6_addPerson_0 18 rfl rfl)
theorem dX6_addPerson_19 : decode cX6_addPerson 19 = .ok (.iastore, 1) := dk_79 (dk_at dksX6_addPerson_0 19 rfl rfl)
theorem dX6_addPerson_20 : decode cX6_addPerson 20 = .ok (.aload_n 0, 1) := dk_42 (dk_at dksX6_addPerson_0 20 rfl rfl)
theorem dX6_addPerson_21 : decode cX6_addPerson 21 = .ok (.getfield 34, 3) := dk_180 0 34 (dk_at dksX6_addPerson_0 21 rfl rfl)
theorem dX6_addPerson_24 : decode cX6_addPerson 24 = .ok (.aload_n 0, 1) := dk_42 (dk_at dksX6_addPerson_1 0 rfl rfl)
theorem dX6_addPerson_25 : decode cX6_addPerson 25 = .ok (.getfield 138, 3) := dk_180 0 138 (dk_at dksX6_addPerson_1 1 rfl rfl)
theorem dX6_addPerson_28 : decode cX6_addPerson 28 = .ok (.iload_n 3, 1) := dk_29 (dk_at dksX6_addPerson_1 4 rfl rfl)
theorem dX6_addPerson_29 : decode cX6_addPerson 29 = .ok (.iastore, 1) := dk_79 (dk_at dksX6_addPerson_1 5 rfl rfl)
theorem dX6_addPerson_30 : decode cX6_addPerson 30 = .ok (.aload_n 0, 1) := dk_42 (dk_at dksX6_addPerson_1 6 rfl rfl)
theorem dX6_addPerson_31 : decode cX6_addPerson 31 = .ok (.getfield 37, 3) := dk_180 0 37 (dk_at dksX6_addPerson_1 7 rfl rfl)
theorem dX6_addPerson_34 : decode cX6_addPerson 34 = .ok (.aload_n 0, 1) := dk_42 (dk_at dksX6_addPerson_1 10 rfl rfl)
theorem dX6_addPerson_35 : decode cX6_addPerson 35 = .ok (.getfield 138, 3) := dk_180 0 138 (dk_at dksX6_addPerson_1 11 rfl rfl)
theorem dX6_addPerson_38 : decode cX6_addPerson 38 = .ok (.bipush (-3), 2) := dk_16 253 (dk_at dksX6_addPerson_1 14 rfl rfl)
theorem dX6_addPerson_40 : decode cX6_addPerson 40 = .ok (.iastore, 1) := dk_79 (dk_at dksX6_addPerson_1 16 rfl rfl)
theorem dX6_addPerson_41 : decode cX6_addPerson 41 = .ok (.aload_n 0, 1) := dk_42 (dk_at dksX6_addPerson_1 17 rfl rfl)
theorem dX6_addPerson_42 : decode cX6_addPerson 42 = .ok (.dup, 1) := dk_89 (dk_at dksX6_addPerson_1 18 rfl rfl)
theorem dX6_addPerson_43 : decode cX6_addPerson 43 = .ok (.getfield 138, 3) := dk_180 0 138 (dk_at dksX6_addPerson_1 19 rfl rfl)
theorem dX6_addPerson_46 : decode cX6_addPerson 46 = .ok (.iconst 1, 1) := dk_4 (dk_at dksX6_addPerson_1 22 rfl rfl)
theorem dX6_addPerson_47 : decode cX6_addPerson 47 = .ok (.iadd, 1) := dk_96 (dk_at dksX6_addPerson_1 23 rfl rfl)
theorem dX6_addPerson_48 : decode cX6_addPerson 48 = .ok (.putfield 138, 3) := dk_181 0 138 (dk_at dksX6_addPerson_2 0 rfl rfl)
theorem dX6_addPerson_51 : decode cX6_addPerson 51 = .ok (.aload_n 0, 1) := dk_42 (dk_at dksX6_addPerson_2 3 rfl rfl)
theorem dX6_addPerson_52 : decode cX6_addPerson 52 = .ok (.getfield 138, 3) := dk_180 0 138 (dk_at dksX6_addPerson_2 4 rfl rfl)
theorem dX6_addPerson_55 : decode cX6_addPerson 55 = .ok (.iconst 1, 1) := dk_4 (dk_at dksX6_addPerson_2 7 rfl rfl)
theorem dX6_addPerson_56 : decode cX6_addPerson 56 = .ok (.isub, 1) := dk_100 (dk_at dksX6_addPerson_2 8 rfl rfl)
theorem dX6_addPerson_57 : decode cX6_addPerson 57 = .ok (.ireturn, 1) := dk_172 (dk_at dksX6_addPerson_2 9 rfl rfl)
abbrev cX6_people : ByteArray := prog_26_method_12_code
def yX6_people : MethodName := ⟨RX6, "people", "(III)I"⟩
def dkwX6_people_9 : List UInt8 := [167, 255, 102, 29, 172]
abbrev dktX6_people_9 : List UInt8 := dkwX6_people_9 ++ []
def dkwX6_people_8 : List UInt8 := [21, 7, 4, 96, 47, 136, 42, 180, 0, 120, 21, 7, 5, 96, 47, 136, 182, 0, 152, 87, 132, 4, 1]
abbrev dktX6_people_8 : List UInt8 := dkwX6_people_8 ++ dktX6_people_9
def dkwX6_people_7 : List UInt8 := [47, 136, 182, 0, 144, 154, 0, 6, 21, 4, 172, 42, 42, 180, 0, 120, 21, 7, 47, 136, 42, 180, 0, 120]
abbrev dktX6_people_7 : List UInt8 := dkwX6_people_7 ++ dktX6_people_8
def dkwX6_people_6 : List UInt8 := [21, 7, 4, 96, 47, 136, 3, 16, 9, 184, 0, 134, 153, 0, 20, 42, 42, 180, 0, 120, 21, 7, 5, 96]
abbrev dktX6_people_6 : List UInt8 := dkwX6_people_6 ++ dktX6_people_7
def dkwX6_people_5 : List UInt8 := [54, 7, 42, 180, 0, 120, 21, 7, 47, 136, 3, 16, 9, 184, 0, 134, 153, 0, 39, 42, 180, 0, 120]
abbrev dktX6_people_5 : List UInt8 := dkwX6_people_5 ++ dktX6_people_6
def dkwX6_people_4 : List UInt8 := [156, 0, 12, 42, 180, 0, 138, 16, 6, 160, 0, 6, 21, 4, 172, 16, 60, 27, 104, 22, 5, 136, 96]
abbrev dktX6_people_4 : List UInt8 := dkwX6_people_4 ++ dktX6_people_5
def dkwX6_people_3 : List UInt8 := [55, 5, 22, 5, 9, 148, 155, 0, 29, 22, 5, 20, 0, 159, 97, 42, 180, 0, 117, 27, 46, 133, 148]
abbrev dktX6_people_3 : List UInt8 := dkwX6_people_3 ++ dktX6_people_4
def dkwX6_people_2 : List UInt8 := [46, 2, 160, 0, 5, 3, 172, 3, 54, 4, 21, 4, 29, 162, 0, 154, 28, 133, 6, 21, 4, 104, 133, 97]
abbrev dktX6_people_2 : List UInt8 := dkwX6_people_2 ++ dktX6_people_3
def dkwX6_people_1 : List UInt8 := [46, 2, 159, 0, 17, 42, 180, 0, 114, 27, 46, 16, 254, 159, 0, 6, 16, 244, 172, 42, 180, 0, 114, 27]
abbrev dktX6_people_1 : List UInt8 := dkwX6_people_1 ++ dktX6_people_2
def dkwX6_people_0 : List UInt8 := [27, 184, 0, 156, 153, 0, 13, 29, 4, 16, 6, 184, 0, 134, 154, 0, 5, 2, 172, 42, 180, 0, 114, 27]
abbrev dktX6_people_0 : List UInt8 := dkwX6_people_0 ++ dktX6_people_1
theorem dksX6_people_0 : cX6_people.data.toList.drop 0 = dktX6_people_0 := by decide +kernel
theorem dksX6_people_1 : cX6_people.data.toList.drop 24 = dktX6_people_1 := dk_seg dksX6_people_0 24 rfl rfl
theorem dksX6_people_2 : cX6_people.data.toList.drop 48 = dktX6_people_2 := dk_seg dksX6_people_1 24 rfl rfl
theorem dksX6_people_3 : cX6_people.data.toList.drop 72 = dktX6_people_3 := dk_seg dksX6_people_2 24 rfl rfl
theorem dksX6_people_4 : cX6_people.data.toList.drop 95 = dktX6_people_4 := dk_seg dksX6_people_3 23 rfl rfl
theorem dksX6_people_5 : cX6_people.data.toList.drop 118 = dktX6_people_5 := dk_seg dksX6_people_4 23 rfl rfl
theorem dksX6_people_6 : cX6_people.data.toList.drop 141 = dktX6_people_6 := dk_seg dksX6_people_5 23 rfl rfl
theorem dksX6_people_7 : cX6_people.data.toList.drop 165 = dktX6_people_7 := dk_seg dksX6_people_6 24 rfl rfl
theorem dksX6_people_8 : cX6_people.data.toList.drop 189 = dktX6_people_8 := dk_seg dksX6_people_7 24 rfl rfl
theorem dksX6_people_9 : cX6_people.data.toList.drop 212 = dktX6_people_9 := dk_seg dksX6_people_8 23 rfl rfl
theorem dX6_people_0 : decode cX6_people 0 = .ok (.iload_n 1, 1) := dk_27 (dk_at dksX6_people_0 0 rfl rfl)
theorem dX6_people_1 : decode cX6_people 1 = .ok (.invokestatic 156, 3) := dk_184 0 156 (dk_at dksX6_people_0 1 rfl rfl)
theorem dX6_people_4 : decode cX6_people 4 = .ok (.ifCond .eq 13, 3) := dk_153 0 13 (dk_at dksX6_people_0 4 rfl rfl)
theorem dX6_people_7 : decode cX6_people 7 = .ok (.iload_n 3, 1) := dk_29 (dk_at dksX6_people_0 7 rfl rfl)
theorem dX6_people_8 : decode cX6_people 8 = .ok (.iconst 1, 1) := dk_4 (dk_at dksX6_people_0 8 rfl rfl)
theorem dX6_people_9 : decode cX6_people 9 = .ok (.bipush 6, 2) := dk_16 6 (dk_at dksX6_people_0 9 rfl rfl)
theorem dX6_people_11 : decode cX6_people 11 = .ok (.invokestatic 134, 3) := dk_184 0 134 (dk_at dksX6_people_0 11 rfl rfl)
theorem dX6_people_14 : decode cX6_people 14 = .ok (.ifCond .ne 5, 3) := dk_154 0 5 (dk_at dksX6_people_0 14 rfl rfl)
theorem dX6_people_17 : decode cX6_people 17 = .ok (.iconst (-1), 1) := dk_2 (dk_at dksX6_people_0 17 rfl rfl)
theorem dX6_people_18 : decode cX6_people 18 = .ok (.ireturn, 1) := dk_172 (dk_at dksX6_people_0 18 rfl rfl)
theorem dX6_people_19 : decode cX6_people 19 = .ok (.aload_n 0, 1) := dk_42 (dk_at dksX6_people_0 19 rfl rfl)
theorem dX6_people_20 : decode cX6_people 20 = .ok (.getfield 114, 3) := dk_180 0 114 (dk_at dksX6_people_0 20 rfl rfl)
theorem dX6_people_23 : decode cX6_people 23 = .ok (.iload_n 1, 1) := dk_27 (dk_at dksX6_people_0 23 rfl rfl)
theorem dX6_people_24 : decode cX6_people 24 = .ok (.iaload, 1) := dk_46 (dk_at dksX6_people_1 0 rfl rfl)
theorem dX6_people_25 : decode cX6_people 25 = .ok (.iconst (-1), 1) := dk_2 (dk_at dksX6_people_1 1 rfl rfl)
theorem dX6_people_26 : decode cX6_people 26 = .ok (.if_icmp .eq 17, 3) := dk_159 0 17 (dk_at dksX6_people_1 2 rfl rfl)
theorem dX6_people_29 : decode cX6_people 29 = .ok (.aload_n 0, 1) := dk_42 (dk_at dksX6_people_1 5 rfl rfl)
theorem dX6_people_30 : decode cX6_people 30 = .ok (.getfield 114, 3) := dk_180 0 114 (dk_at dksX6_people_1 6 rfl rfl)
theorem dX6_people_33 : decode cX6_people 33 = .ok (.iload_n 1, 1) := dk_27 (dk_at dksX6_people_1 9 rfl rfl)
theorem dX6_people_34 : decode cX6_people 34 = .ok (.iaload, 1) := dk_46 (dk_at dksX6_people_1 10 rfl rfl)
theorem dX6_people_35 : decode cX6_people 35 = .ok (.bipush (-2), 2) := dk_16 254 (dk_at dksX6_people_1 11 rfl rfl)
theorem dX6_people_37 : decode cX6_people 37 = .ok (.if_icmp .eq 6, 3) := dk_159 0 6 (dk_at dksX6_people_1 13 rfl rfl)
theorem dX6_people_40 : decode cX6_people 40 = .ok (.bipush (-12), 2) := dk_16 244 (dk_at dksX6_people_1 16 rfl rfl)
theorem dX6_people_42 : decode cX6_people 42 = .ok (.ireturn, 1) := dk_172 (dk_at dksX6_people_1 18 rfl rfl)
theorem dX6_people_43 : decode cX6_people 43 = .ok (.aload_n 0, 1) := dk_42 (dk_at dksX6_people_1 19 rfl rfl)
theorem dX6_people_44 : decode cX6_people 44 = .ok (.getfield 114, 3) := dk_180 0 114 (dk_at dksX6_people_1 20 rfl rfl)
theorem dX6_people_47 : decode cX6_people 47 = .ok (.iload_n 1, 1) := dk_27 (dk_at dksX6_people_1 23 rfl rfl)
theorem dX6_people_48 : decode cX6_people 48 = .ok (.iaload, 1) := dk_46 (dk_at dksX6_people_2 0 rfl rfl)
theorem dX6_people_49 : decode cX6_people 49 = .ok (.iconst (-1), 1) := dk_2 (dk_at dksX6_people_2 1 rfl rfl)
theorem dX6_people_50 : decode cX6_people 50 = .ok (.if_icmp .ne 5, 3) := dk_160 0 5 (dk_at dksX6_people_2 2 rfl rfl)
theorem dX6_people_53 : decode cX6_people 53 = .ok (.iconst 0, 1) := dk_3 (dk_at dksX6_people_2 5 rfl rfl)
theorem dX6_people_54 : decode cX6_people 54 = .ok (.ireturn, 1) := dk_172 (dk_at dksX6_people_2 6 rfl rfl)
theorem dX6_people_55 : decode cX6_people 55 = .ok (.iconst 0, 1) := dk_3 (dk_at dksX6_people_2 7 rfl rfl)
theorem dX6_people_56 : decode cX6_people 56 = .ok (.istore 4, 2) := dk_54 4 (dk_at dksX6_people_2 8 rfl rfl)
theorem dX6_people_58 : decode cX6_people 58 = .ok (.iload 4, 2) := dk_21 4 (dk_at dksX6_people_2 10 rfl rfl)
theorem dX6_people_60 : decode cX6_people 60 = .ok (.iload_n 3, 1) := dk_29 (dk_at dksX6_people_2 12 rfl rfl)
theorem dX6_people_61 : decode cX6_people 61 = .ok (.if_icmp .ge 154, 3) := dk_162 0 154 (dk_at dksX6_people_2 13 rfl rfl)
theorem dX6_people_64 : decode cX6_people 64 = .ok (.iload_n 2, 1) := dk_28 (dk_at dksX6_people_2 16 rfl rfl)
theorem dX6_people_65 : decode cX6_people 65 = .ok (.i2l, 1) := dk_133 (dk_at dksX6_people_2 17 rfl rfl)
theorem dX6_people_66 : decode cX6_people 66 = .ok (.iconst 3, 1) := dk_6 (dk_at dksX6_people_2 18 rfl rfl)
theorem dX6_people_67 : decode cX6_people 67 = .ok (.iload 4, 2) := dk_21 4 (dk_at dksX6_people_2 19 rfl rfl)
theorem dX6_people_69 : decode cX6_people 69 = .ok (.imul, 1) := dk_104 (dk_at dksX6_people_2 21 rfl rfl)
theorem dX6_people_70 : decode cX6_people 70 = .ok (.i2l, 1) := dk_133 (dk_at dksX6_people_2 22 rfl rfl)
theorem dX6_people_71 : decode cX6_people 71 = .ok (.ladd, 1) := dk_97 (dk_at dksX6_people_2 23 rfl rfl)
theorem dX6_people_72 : decode cX6_people 72 = .ok (.lstore 5, 2) := dk_55 5 (dk_at dksX6_people_3 0 rfl rfl)
theorem dX6_people_74 : decode cX6_people 74 = .ok (.lload 5, 2) := dk_22 5 (dk_at dksX6_people_3 2 rfl rfl)
theorem dX6_people_76 : decode cX6_people 76 = .ok (.lconst 0, 1) := dk_9 (dk_at dksX6_people_3 4 rfl rfl)
theorem dX6_people_77 : decode cX6_people 77 = .ok (.lcmp, 1) := dk_148 (dk_at dksX6_people_3 5 rfl rfl)
theorem dX6_people_78 : decode cX6_people 78 = .ok (.ifCond .lt 29, 3) := dk_155 0 29 (dk_at dksX6_people_3 6 rfl rfl)
theorem dX6_people_81 : decode cX6_people 81 = .ok (.lload 5, 2) := dk_22 5 (dk_at dksX6_people_3 9 rfl rfl)
theorem dX6_people_83 : decode cX6_people 83 = .ok (.ldc2_w 159, 3) := dk_20 0 159 (dk_at dksX6_people_3 11 rfl rfl)
theorem dX6_people_86 : decode cX6_people 86 = .ok (.ladd, 1) := dk_97 (dk_at dksX6_people_3 14 rfl rfl)
theorem dX6_people_87 : decode cX6_people 87 = .ok (.aload_n 0, 1) := dk_42 (dk_at dksX6_people_3 15 rfl rfl)
theorem dX6_people_88 : decode cX6_people 88 = .ok (.getfield 117, 3) := dk_180 0 117 (dk_at dksX6_people_3 16 rfl rfl)
theorem dX6_people_91 : decode cX6_people 91 = .ok (.iload_n 1, 1) := dk_27 (dk_at dksX6_people_3 19 rfl rfl)
theorem dX6_people_92 : decode cX6_people 92 = .ok (.iaload, 1) := dk_46 (dk_at dksX6_people_3 20 rfl rfl)
theorem dX6_people_93 : decode cX6_people 93 = .ok (.i2l, 1) := dk_133 (dk_at dksX6_people_3 21 rfl rfl)
theorem dX6_people_94 : decode cX6_people 94 = .ok (.lcmp, 1) := dk_148 (dk_at dksX6_people_3 22 rfl rfl)
theorem dX6_people_95 : decode cX6_people 95 = .ok (.ifCond .ge 12, 3) := dk_156 0 12 (dk_at dksX6_people_4 0 rfl rfl)
theorem dX6_people_98 : decode cX6_people 98 = .ok (.aload_n 0, 1) := dk_42 (dk_at dksX6_people_4 3 rfl rfl)
theorem dX6_people_99 : decode cX6_people 99 = .ok (.getfield 138, 3) := dk_180 0 138 (dk_at dksX6_people_4 4 rfl rfl)
theorem dX6_people_102 : decode cX6_people 102 = .ok (.bipush 6, 2) := dk_16 6 (dk_at dksX6_people_4 7 rfl rfl)
theorem dX6_people_104 : decode cX6_people 104 = .ok (.if_icmp .ne 6, 3) := dk_160 0 6 (dk_at dksX6_people_4 9 rfl rfl)
theorem dX6_people_107 : decode cX6_people 107 = .ok (.iload 4, 2) := dk_21 4 (dk_at dksX6_people_4 12 rfl rfl)
theorem dX6_people_109 : decode cX6_people 109 = .ok (.ireturn, 1) := dk_172 (dk_at dksX6_people_4 14 rfl rfl)
theorem dX6_people_110 : decode cX6_people 110 = .ok (.bipush 60, 2) := dk_16 60 (dk_at dksX6_people_4 15 rfl rfl)
theorem dX6_people_112 : decode cX6_people 112 = .ok (.iload_n 1, 1) := dk_27 (dk_at dksX6_people_4 17 rfl rfl)
theorem dX6_people_113 : decode cX6_people 113 = .ok (.imul, 1) := dk_104 (dk_at dksX6_people_4 18 rfl rfl)
theorem dX6_people_114 : decode cX6_people 114 = .ok (.lload 5, 2) := dk_22 5 (dk_at dksX6_people_4 19 rfl rfl)
theorem dX6_people_116 : decode cX6_people 116 = .ok (.l2i, 1) := dk_136 (dk_at dksX6_people_4 21 rfl rfl)
theorem dX6_people_117 : decode cX6_people 117 = .ok (.iadd, 1) := dk_96 (dk_at dksX6_people_4 22 rfl rfl)
theorem dX6_people_118 : decode cX6_people 118 = .ok (.istore 7, 2) := dk_54 7 (dk_at dksX6_people_5 0 rfl rfl)
theorem dX6_people_120 : decode cX6_people 120 = .ok (.aload_n 0, 1) := dk_42 (dk_at dksX6_people_5 2 rfl rfl)
theorem dX6_people_121 : decode cX6_people 121 = .ok (.getfield 120, 3) := dk_180 0 120 (dk_at dksX6_people_5 3 rfl rfl)
theorem dX6_people_124 : decode cX6_people 124 = .ok (.iload 7, 2) := dk_21 7 (dk_at dksX6_people_5 6 rfl rfl)
theorem dX6_people_126 : decode cX6_people 126 = .ok (.laload, 1) := dk_47 (dk_at dksX6_people_5 8 rfl rfl)
theorem dX6_people_127 : decode cX6_people 127 = .ok (.l2i, 1) := dk_136 (dk_at dksX6_people_5 9 rfl rfl)
theorem dX6_people_128 : decode cX6_people 128 = .ok (.iconst 0, 1) := dk_3 (dk_at dksX6_people_5 10 rfl rfl)
theorem dX6_people_129 : decode cX6_people 129 = .ok (.bipush 9, 2) := dk_16 9 (dk_at dksX6_people_5 11 rfl rfl)
theorem dX6_people_131 : decode cX6_people 131 = .ok (.invokestatic 134, 3) := dk_184 0 134 (dk_at dksX6_people_5 13 rfl rfl)
theorem dX6_people_134 : decode cX6_people 134 = .ok (.ifCond .eq 39, 3) := dk_153 0 39 (dk_at dksX6_people_5 16 rfl rfl)
theorem dX6_people_137 : decode cX6_people 137 = .ok (.aload_n 0, 1) := dk_42 (dk_at dksX6_people_5 19 rfl rfl)
theorem dX6_people_138 : decode cX6_people 138 = .ok (.getfield 120, 3) := dk_180 0 120 (dk_at dksX6_people_5 20 rfl rfl)
theorem dX6_people_141 : decode cX6_people 141 = .ok (.iload 7, 2) := dk_21 7 (dk_at dksX6_people_6 0 rfl rfl)
theorem dX6_people_143 : decode cX6_people 143 = .ok (.iconst 1, 1) := dk_4 (dk_at dksX6_people_6 2 rfl rfl)
theorem dX6_people_144 : decode cX6_people 144 = .ok (.iadd, 1) := dk_96 (dk_at dksX6_people_6 3 rfl rfl)
theorem dX6_people_145 : decode cX6_people 145 = .ok (.laload, 1) := dk_47 (dk_at dksX6_people_6 4 rfl rfl)
theorem dX6_people_146 : decode cX6_people 146 = .ok (.l2i, 1) := dk_136 (dk_at dksX6_people_6 5 rfl rfl)
theorem dX6_people_147 : decode cX6_people 147 = .ok (.iconst 0, 1) := dk_3 (dk_at dksX6_people_6 6 rfl rfl)
theorem dX6_people_148 : decode cX6_people 148 = .ok (.bipush 9, 2) := dk_16 9 (dk_at dksX6_people_6 7 rfl rfl)
theorem dX6_people_150 : decode cX6_people 150 = .ok (.invokestatic 134, 3) := dk_184 0 134 (dk_at dksX6_people_6 9 rfl rfl)
theorem dX6_people_153 : decode cX6_people 153 = .ok (.ifCond .eq 20, 3) := dk_153 0 20 (dk_at dksX6_people_6 12 rfl rfl)
theorem dX6_people_156 : decode cX6_people 156 = .ok (.aload_n 0, 1) := dk_42 (dk_at dksX6_people_6 15 rfl rfl)
theorem dX6_people_157 : decode cX6_people 157 = .ok (.aload_n 0, 1) := dk_42 (dk_at dksX6_people_6 16 rfl rfl)
theorem dX6_people_158 : decode cX6_people 158 = .ok (.getfield 120, 3) := dk_180 0 120 (dk_at dksX6_people_6 17 rfl rfl)
theorem dX6_people_161 : decode cX6_people 161 = .ok (.iload 7, 2) := dk_21 7 (dk_at dksX6_people_6 20 rfl rfl)
theorem dX6_people_163 : decode cX6_people 163 = .ok (.iconst 2, 1) := dk_5 (dk_at dksX6_people_6 22 rfl rfl)
theorem dX6_people_164 : decode cX6_people 164 = .ok (.iadd, 1) := dk_96 (dk_at dksX6_people_6 23 rfl rfl)
theorem dX6_people_165 : decode cX6_people 165 = .ok (.laload, 1) := dk_47 (dk_at dksX6_people_7 0 rfl rfl)
theorem dX6_people_166 : decode cX6_people 166 = .ok (.l2i, 1) := dk_136 (dk_at dksX6_people_7 1 rfl rfl)
theorem dX6_people_167 : decode cX6_people 167 = .ok (.invokevirtual 144, 3) := dk_182 0 144 (dk_at dksX6_people_7 2 rfl rfl)
theorem dX6_people_170 : decode cX6_people 170 = .ok (.ifCond .ne 6, 3) := dk_154 0 6 (dk_at dksX6_people_7 5 rfl rfl)
theorem dX6_people_173 : decode cX6_people 173 = .ok (.iload 4, 2) := dk_21 4 (dk_at dksX6_people_7 8 rfl rfl)
theorem dX6_people_175 : decode cX6_people 175 = .ok (.ireturn, 1) := dk_172 (dk_at dksX6_people_7 10 rfl rfl)
theorem dX6_people_176 : decode cX6_people 176 = .ok (.aload_n 0, 1) := dk_42 (dk_at dksX6_people_7 11 rfl rfl)
theorem dX6_people_177 : decode cX6_people 177 = .ok (.aload_n 0, 1) := dk_42 (dk_at dksX6_people_7 12 rfl rfl)
theorem dX6_people_178 : decode cX6_people 178 = .ok (.getfield 120, 3) := dk_180 0 120 (dk_at dksX6_people_7 13 rfl rfl)
theorem dX6_people_181 : decode cX6_people 181 = .ok (.iload 7, 2) := dk_21 7 (dk_at dksX6_people_7 16 rfl rfl)
theorem dX6_people_183 : decode cX6_people 183 = .ok (.laload, 1) := dk_47 (dk_at dksX6_people_7 18 rfl rfl)
theorem dX6_people_184 : decode cX6_people 184 = .ok (.l2i, 1) := dk_136 (dk_at dksX6_people_7 19 rfl rfl)
theorem dX6_people_185 : decode cX6_people 185 = .ok (.aload_n 0, 1) := dk_42 (dk_at dksX6_people_7 20 rfl rfl)
theorem dX6_people_186 : decode cX6_people 186 = .ok (.getfield 120, 3) := dk_180 0 120 (dk_at dksX6_people_7 21 rfl rfl)
theorem dX6_people_189 : decode cX6_people 189 = .ok (.iload 7, 2) := dk_21 7 (dk_at dksX6_people_8 0 rfl rfl)
theorem dX6_people_191 : decode cX6_people 191 = .ok (.iconst 1, 1) := dk_4 (dk_at dksX6_people_8 2 rfl rfl)
theorem dX6_people_192 : decode cX6_people 192 = .ok (.iadd, 1) := dk_96 (dk_at dksX6_people_8 3 rfl rfl)
theorem dX6_people_193 : decode cX6_people 193 = .ok (.laload, 1) := dk_47 (dk_at dksX6_people_8 4 rfl rfl)
theorem dX6_people_194 : decode cX6_people 194 = .ok (.l2i, 1) := dk_136 (dk_at dksX6_people_8 5 rfl rfl)
theorem dX6_people_195 : decode cX6_people 195 = .ok (.aload_n 0, 1) := dk_42 (dk_at dksX6_people_8 6 rfl rfl)
theorem dX6_people_196 : decode cX6_people 196 = .ok (.getfield 120, 3) := dk_180 0 120 (dk_at dksX6_people_8 7 rfl rfl)
theorem dX6_people_199 : decode cX6_people 199 = .ok (.iload 7, 2) := dk_21 7 (dk_at dksX6_people_8 10 rfl rfl)
theorem dX6_people_201 : decode cX6_people 201 = .ok (.iconst 2, 1) := dk_5 (dk_at dksX6_people_8 12 rfl rfl)
theorem dX6_people_202 : decode cX6_people 202 = .ok (.iadd, 1) := dk_96 (dk_at dksX6_people_8 13 rfl rfl)
theorem dX6_people_203 : decode cX6_people 203 = .ok (.laload, 1) := dk_47 (dk_at dksX6_people_8 14 rfl rfl)
theorem dX6_people_204 : decode cX6_people 204 = .ok (.l2i, 1) := dk_136 (dk_at dksX6_people_8 15 rfl rfl)
theorem dX6_people_205 : decode cX6_people 205 = .ok (.invokevirtual 152, 3) := dk_182 0 152 (dk_at dksX6_people_8 16 rfl rfl)
theorem dX6_people_208 : decode cX6_people 208 = .ok (.pop, 1) := dk_87 (dk_at dksX6_people_8 19 rfl rfl)
theorem dX6_people_209 : decode cX6_people 209 = .ok (.iinc 4 1, 3) := dk_132 4 1 (dk_at dksX6_people_8 20 rfl rfl)
theorem dX6_people_212 : decode cX6_people 212 = .ok (.goto (-154), 3) := dk_167 255 102 (dk_at dksX6_people_9 0 rfl rfl)
theorem dX6_people_215 : decode cX6_people 215 = .ok (.iload_n 3, 1) := dk_29 (dk_at dksX6_people_9 3 rfl rfl)
theorem dX6_people_216 : decode cX6_people 216 = .ok (.ireturn, 1) := dk_172 (dk_at dksX6_people_9 4 rfl rfl)
abbrev cX6_isShelf : ByteArray := prog_26_method_94_code
def yX6_isShelf : MethodName := ⟨RX6, "isShelf", "(I)Z"⟩
def dkwX6_isShelf_0 : List UInt8 := [26, 3, 8, 184, 0, 134, 172]
abbrev dktX6_isShelf_0 : List UInt8 := dkwX6_isShelf_0 ++ []
theorem dksX6_isShelf_0 : cX6_isShelf.data.toList.drop 0 = dktX6_isShelf_0 := by decide +kernel
theorem dX6_isShelf_0 : decode cX6_isShelf 0 = .ok (.iload_n 0, 1) := dk_26 (dk_at dksX6_isShelf_0 0 rfl rfl)
theorem dX6_isShelf_1 : decode cX6_isShelf 1 = .ok (.iconst 0, 1) := dk_3 (dk_at dksX6_isShelf_0 1 rfl rfl)
theorem dX6_isShelf_2 : decode cX6_isShelf 2 = .ok (.iconst 5, 1) := dk_8 (dk_at dksX6_isShelf_0 2 rfl rfl)
theorem dX6_isShelf_3 : decode cX6_isShelf 3 = .ok (.invokestatic 134, 3) := dk_184 0 134 (dk_at dksX6_isShelf_0 3 rfl rfl)
theorem dX6_isShelf_6 : decode cX6_isShelf 6 = .ok (.ireturn, 1) := dk_172 (dk_at dksX6_isShelf_0 6 rfl rfl)
abbrev cX6_undo : ByteArray := prog_26_method_16_code
def yX6_undo : MethodName := ⟨RX6, "undo", "()I"⟩
def dkwX6_undo_2 : List UInt8 := [180, 0, 168, 46, 42, 180, 0, 46, 42, 180, 0, 168, 46, 182, 0, 171, 42, 180, 0, 168, 172]
abbrev dktX6_undo_2 : List UInt8 := dkwX6_undo_2 ++ []
def dkwX6_undo_1 : List UInt8 := [180, 0, 165, 4, 96, 181, 0, 165, 42, 42, 180, 0, 40, 42, 180, 0, 168, 46, 42, 180, 0, 43, 42]
abbrev dktX6_undo_1 : List UInt8 := dkwX6_undo_1 ++ dktX6_undo_2
def dkwX6_undo_0 : List UInt8 := [42, 180, 0, 168, 154, 0, 6, 16, 251, 172, 42, 89, 180, 0, 168, 4, 100, 181, 0, 168, 42, 89]
abbrev dktX6_undo_0 : List UInt8 := dkwX6_undo_0 ++ dktX6_undo_1
theorem dksX6_undo_0 : cX6_undo.data.toList.drop 0 = dktX6_undo_0 := by decide +kernel
theorem dksX6_undo_1 : cX6_undo.data.toList.drop 22 = dktX6_undo_1 := dk_seg dksX6_undo_0 22 rfl rfl
theorem dksX6_undo_2 : cX6_undo.data.toList.drop 45 = dktX6_undo_2 := dk_seg dksX6_undo_1 23 rfl rfl
theorem dX6_undo_0 : decode cX6_undo 0 = .ok (.aload_n 0, 1) := dk_42 (dk_at dksX6_undo_0 0 rfl rfl)
theorem dX6_undo_1 : decode cX6_undo 1 = .ok (.getfield 168, 3) := dk_180 0 168 (dk_at dksX6_undo_0 1 rfl rfl)
theorem dX6_undo_4 : decode cX6_undo 4 = .ok (.ifCond .ne 6, 3) := dk_154 0 6 (dk_at dksX6_undo_0 4 rfl rfl)
theorem dX6_undo_7 : decode cX6_undo 7 = .ok (.bipush (-5), 2) := dk_16 251 (dk_at dksX6_undo_0 7 rfl rfl)
theorem dX6_undo_9 : decode cX6_undo 9 = .ok (.ireturn, 1) := dk_172 (dk_at dksX6_undo_0 9 rfl rfl)
theorem dX6_undo_10 : decode cX6_undo 10 = .ok (.aload_n 0, 1) := dk_42 (dk_at dksX6_undo_0 10 rfl rfl)
theorem dX6_undo_11 : decode cX6_undo 11 = .ok (.dup, 1) := dk_89 (dk_at dksX6_undo_0 11 rfl rfl)
theorem dX6_undo_12 : decode cX6_undo 12 = .ok (.getfield 168, 3) := dk_180 0 168 (dk_at dksX6_undo_0 12 rfl rfl)
theorem dX6_undo_15 : decode cX6_undo 15 = .ok (.iconst 1, 1) := dk_4 (dk_at dksX6_undo_0 15 rfl rfl)
theorem dX6_undo_16 : decode cX6_undo 16 = .ok (.isub, 1) := dk_100 (dk_at dksX6_undo_0 16 rfl rfl)
theorem dX6_undo_17 : decode cX6_undo 17 = .ok (.putfield 168, 3) := dk_181 0 168 (dk_at dksX6_undo_0 17 rfl rfl)
theorem dX6_undo_20 : decode cX6_undo 20 = .ok (.aload_n 0, 1) := dk_42 (dk_at dksX6_undo_0 20 rfl rfl)
theorem dX6_undo_21 : decode cX6_undo 21 = .ok (.dup, 1) := dk_89 (dk_at dksX6_undo_0 21 rfl rfl)
theorem dX6_undo_22 : decode cX6_undo 22 = .ok (.getfield 165, 3) := dk_180 0 165 (dk_at dksX6_undo_1 0 rfl rfl)
theorem dX6_undo_25 : decode cX6_undo 25 = .ok (.iconst 1, 1) := dk_4 (dk_at dksX6_undo_1 3 rfl rfl)
theorem dX6_undo_26 : decode cX6_undo 26 = .ok (.iadd, 1) := dk_96 (dk_at dksX6_undo_1 4 rfl rfl)
theorem dX6_undo_27 : decode cX6_undo 27 = .ok (.putfield 165, 3) := dk_181 0 165 (dk_at dksX6_undo_1 5 rfl rfl)
theorem dX6_undo_30 : decode cX6_undo 30 = .ok (.aload_n 0, 1) := dk_42 (dk_at dksX6_undo_1 8 rfl rfl)
theorem dX6_undo_31 : decode cX6_undo 31 = .ok (.aload_n 0, 1) := dk_42 (dk_at dksX6_undo_1 9 rfl rfl)
theorem dX6_undo_32 : decode cX6_undo 32 = .ok (.getfield 40, 3) := dk_180 0 40 (dk_at dksX6_undo_1 10 rfl rfl)
theorem dX6_undo_35 : decode cX6_undo 35 = .ok (.aload_n 0, 1) := dk_42 (dk_at dksX6_undo_1 13 rfl rfl)
theorem dX6_undo_36 : decode cX6_undo 36 = .ok (.getfield 168, 3) := dk_180 0 168 (dk_at dksX6_undo_1 14 rfl rfl)
theorem dX6_undo_39 : decode cX6_undo 39 = .ok (.iaload, 1) := dk_46 (dk_at dksX6_undo_1 17 rfl rfl)
theorem dX6_undo_40 : decode cX6_undo 40 = .ok (.aload_n 0, 1) := dk_42 (dk_at dksX6_undo_1 18 rfl rfl)
theorem dX6_undo_41 : decode cX6_undo 41 = .ok (.getfield 43, 3) := dk_180 0 43 (dk_at dksX6_undo_1 19 rfl rfl)
theorem dX6_undo_44 : decode cX6_undo 44 = .ok (.aload_n 0, 1) := dk_42 (dk_at dksX6_undo_1 22 rfl rfl)
theorem dX6_undo_45 : decode cX6_undo 45 = .ok (.getfield 168, 3) := dk_180 0 168 (dk_at dksX6_undo_2 0 rfl rfl)
theorem dX6_undo_48 : decode cX6_undo 48 = .ok (.iaload, 1) := dk_46 (dk_at dksX6_undo_2 3 rfl rfl)
theorem dX6_undo_49 : decode cX6_undo 49 = .ok (.aload_n 0, 1) := dk_42 (dk_at dksX6_undo_2 4 rfl rfl)
theorem dX6_undo_50 : decode cX6_undo 50 = .ok (.getfield 46, 3) := dk_180 0 46 (dk_at dksX6_undo_2 5 rfl rfl)
theorem dX6_undo_53 : decode cX6_undo 53 = .ok (.aload_n 0, 1) := dk_42 (dk_at dksX6_undo_2 8 rfl rfl)
theorem dX6_undo_54 : decode cX6_undo 54 = .ok (.getfield 168, 3) := dk_180 0 168 (dk_at dksX6_undo_2 9 rfl rfl)
theorem dX6_undo_57 : decode cX6_undo 57 = .ok (.iaload, 1) := dk_46 (dk_at dksX6_undo_2 12 rfl rfl)
theorem dX6_undo_58 : decode cX6_undo 58 = .ok (.invokevirtual 171, 3) := dk_182 0 171 (dk_at dksX6_undo_2 13 rfl rfl)
theorem dX6_undo_61 : decode cX6_undo 61 = .ok (.aload_n 0, 1) := dk_42 (dk_at dksX6_undo_2 16 rfl rfl)
theorem dX6_undo_62 : decode cX6_undo 62 = .ok (.getfield 168, 3) := dk_180 0 168 (dk_at dksX6_undo_2 17 rfl rfl)
theorem dX6_undo_65 : decode cX6_undo 65 = .ok (.ireturn, 1) := dk_172 (dk_at dksX6_undo_2 20 rfl rfl)
abbrev cX6_lays : ByteArray := prog_26_method_14_code
def yX6_lays : MethodName := ⟨RX6, "lays", "(III)V"⟩
def dkwX6_lays_2 : List UInt8 := [28, 29, 79, 177]
abbrev dktX6_lays_2 : List UInt8 := dkwX6_lays_2 ++ []
def dkwX6_lays_1 : List UInt8 := [29, 79, 167, 0, 25, 27, 5, 160, 0, 13, 42, 180, 0, 16, 28, 29, 79, 167, 0, 10, 42, 180, 0, 7]
abbrev dktX6_lays_1 : List UInt8 := dkwX6_lays_1 ++ dktX6_lays_2
def dkwX6_lays_0 : List UInt8 := [27, 154, 0, 13, 42, 180, 0, 31, 28, 29, 79, 167, 0, 40, 27, 4, 160, 0, 13, 42, 180, 0, 13, 28]
abbrev dktX6_lays_0 : List UInt8 := dkwX6_lays_0 ++ dktX6_lays_1
theorem dksX6_lays_0 : cX6_lays.data.toList.drop 0 = dktX6_lays_0 := by decide +kernel
theorem dksX6_lays_1 : cX6_lays.data.toList.drop 24 = dktX6_lays_1 := dk_seg dksX6_lays_0 24 rfl rfl
theorem dksX6_lays_2 : cX6_lays.data.toList.drop 48 = dktX6_lays_2 := dk_seg dksX6_lays_1 24 rfl rfl
theorem dX6_lays_0 : decode cX6_lays 0 = .ok (.iload_n 1, 1) := dk_27 (dk_at dksX6_lays_0 0 rfl rfl)
theorem dX6_lays_1 : decode cX6_lays 1 = .ok (.ifCond .ne 13, 3) := dk_154 0 13 (dk_at dksX6_lays_0 1 rfl rfl)
theorem dX6_lays_4 : decode cX6_lays 4 = .ok (.aload_n 0, 1) := dk_42 (dk_at dksX6_lays_0 4 rfl rfl)
theorem dX6_lays_5 : decode cX6_lays 5 = .ok (.getfield 31, 3) := dk_180 0 31 (dk_at dksX6_lays_0 5 rfl rfl)
theorem dX6_lays_8 : decode cX6_lays 8 = .ok (.iload_n 2, 1) := dk_28 (dk_at dksX6_lays_0 8 rfl rfl)
theorem dX6_lays_9 : decode cX6_lays 9 = .ok (.iload_n 3, 1) := dk_29 (dk_at dksX6_lays_0 9 rfl rfl)
theorem dX6_lays_10 : decode cX6_lays 10 = .ok (.iastore, 1) := dk_79 (dk_at dksX6_lays_0 10 rfl rfl)
theorem dX6_lays_11 : decode cX6_lays 11 = .ok (.goto 40, 3) := dk_167 0 40 (dk_at dksX6_lays_0 11 rfl rfl)
theorem dX6_lays_14 : decode cX6_lays 14 = .ok (.iload_n 1, 1) := dk_27 (dk_at dksX6_lays_0 14 rfl rfl)
theorem dX6_lays_15 : decode cX6_lays 15 = .ok (.iconst 1, 1) := dk_4 (dk_at dksX6_lays_0 15 rfl rfl)
theorem dX6_lays_16 : decode cX6_lays 16 = .ok (.if_icmp .ne 13, 3) := dk_160 0 13 (dk_at dksX6_lays_0 16 rfl rfl)
theorem dX6_lays_19 : decode cX6_lays 19 = .ok (.aload_n 0, 1) := dk_42 (dk_at dksX6_lays_0 19 rfl rfl)
theorem dX6_lays_20 : decode cX6_lays 20 = .ok (.getfield 13, 3) := dk_180 0 13 (dk_at dksX6_lays_0 20 rfl rfl)
theorem dX6_lays_23 : decode cX6_lays 23 = .ok (.iload_n 2, 1) := dk_28 (dk_at dksX6_lays_0 23 rfl rfl)
theorem dX6_lays_24 : decode cX6_lays 24 = .ok (.iload_n 3, 1) := dk_29 (dk_at dksX6_lays_1 0 rfl rfl)
theorem dX6_lays_25 : decode cX6_lays 25 = .ok (.iastore, 1) := dk_79 (dk_at dksX6_lays_1 1 rfl rfl)
theorem dX6_lays_26 : decode cX6_lays 26 = .ok (.goto 25, 3) := dk_167 0 25 (dk_at dksX6_lays_1 2 rfl rfl)
theorem dX6_lays_29 : decode cX6_lays 29 = .ok (.iload_n 1, 1) := dk_27 (dk_at dksX6_lays_1 5 rfl rfl)
theorem dX6_lays_30 : decode cX6_lays 30 = .ok (.iconst 2, 1) := dk_5 (dk_at dksX6_lays_1 6 rfl rfl)
theorem dX6_lays_31 : decode cX6_lays 31 = .ok (.if_icmp .ne 13, 3) := dk_160 0 13 (dk_at dksX6_lays_1 7 rfl rfl)
theorem dX6_lays_34 : decode cX6_lays 34 = .ok (.aload_n 0, 1) := dk_42 (dk_at dksX6_lays_1 10 rfl rfl)
theorem dX6_lays_35 : decode cX6_lays 35 = .ok (.getfield 16, 3) := dk_180 0 16 (dk_at dksX6_lays_1 11 rfl rfl)
theorem dX6_lays_38 : decode cX6_lays 38 = .ok (.iload_n 2, 1) := dk_28 (dk_at dksX6_lays_1 14 rfl rfl)
theorem dX6_lays_39 : decode cX6_lays 39 = .ok (.iload_n 3, 1) := dk_29 (dk_at dksX6_lays_1 15 rfl rfl)
theorem dX6_lays_40 : decode cX6_lays 40 = .ok (.iastore, 1) := dk_79 (dk_at dksX6_lays_1 16 rfl rfl)
theorem dX6_lays_41 : decode cX6_lays 41 = .ok (.goto 10, 3) := dk_167 0 10 (dk_at dksX6_lays_1 17 rfl rfl)
theorem dX6_lays_44 : decode cX6_lays 44 = .ok (.aload_n 0, 1) := dk_42 (dk_at dksX6_lays_1 20 rfl rfl)
theorem dX6_lays_45 : decode cX6_lays 45 = .ok (.getfield 7, 3) := dk_180 0 7 (dk_at dksX6_lays_1 21 rfl rfl)
theorem dX6_lays_48 : decode cX6_lays 48 = .ok (.iload_n 2, 1) := dk_28 (dk_at dksX6_lays_2 0 rfl rfl)
theorem dX6_lays_49 : decode cX6_lays 49 = .ok (.iload_n 3, 1) := dk_29 (dk_at dksX6_lays_2 1 rfl rfl)
theorem dX6_lays_50 : decode cX6_lays 50 = .ok (.iastore, 1) := dk_79 (dk_at dksX6_lays_2 2 rfl rfl)
theorem dX6_lays_51 : decode cX6_lays 51 = .ok (.return_, 1) := dk_177 (dk_at dksX6_lays_2 3 rfl rfl)
abbrev cX6_redo : ByteArray := prog_26_method_17_code
def yX6_redo : MethodName := ⟨RX6, "redo", "()I"⟩
def dkwX6_redo_2 : List UInt8 := [181, 0, 168, 42, 89, 180, 0, 165, 4, 100, 181, 0, 165, 42, 180, 0, 165, 172]
abbrev dktX6_redo_2 : List UInt8 := dkwX6_redo_2 ++ []
def dkwX6_redo_1 : List UInt8 := [42, 180, 0, 168, 46, 42, 180, 0, 49, 42, 180, 0, 168, 46, 182, 0, 171, 42, 89, 180, 0, 168, 4, 96]
abbrev dktX6_redo_1 : List UInt8 := dkwX6_redo_1 ++ dktX6_redo_2
def dkwX6_redo_0 : List UInt8 := [42, 180, 0, 165, 154, 0, 6, 16, 251, 172, 42, 42, 180, 0, 40, 42, 180, 0, 168, 46, 42, 180, 0, 43]
abbrev dktX6_redo_0 : List UInt8 := dkwX6_redo_0 ++ dktX6_redo_1
theorem dksX6_redo_0 : cX6_redo.data.toList.drop 0 = dktX6_redo_0 := by decide +kernel
theorem dksX6_redo_1 : cX6_redo.data.toList.drop 24 = dktX6_redo_1 := dk_seg dksX6_redo_0 24 rfl rfl
theorem dksX6_redo_2 : cX6_redo.data.toList.drop 48 = dktX6_redo_2 := dk_seg dksX6_redo_1 24 rfl rfl
theorem dX6_redo_0 : decode cX6_redo 0 = .ok (.aload_n 0, 1) := dk_42 (dk_at dksX6_redo_0 0 rfl rfl)
theorem dX6_redo_1 : decode cX6_redo 1 = .ok (.getfield 165, 3) := dk_180 0 165 (dk_at dksX6_redo_0 1 rfl rfl)
theorem dX6_redo_4 : decode cX6_redo 4 = .ok (.ifCond .ne 6, 3) := dk_154 0 6 (dk_at dksX6_redo_0 4 rfl rfl)
theorem dX6_redo_7 : decode cX6_redo 7 = .ok (.bipush (-5), 2) := dk_16 251 (dk_at dksX6_redo_0 7 rfl rfl)
theorem dX6_redo_9 : decode cX6_redo 9 = .ok (.ireturn, 1) := dk_172 (dk_at dksX6_redo_0 9 rfl rfl)
theorem dX6_redo_10 : decode cX6_redo 10 = .ok (.aload_n 0, 1) := dk_42 (dk_at dksX6_redo_0 10 rfl rfl)
theorem dX6_redo_11 : decode cX6_redo 11 = .ok (.aload_n 0, 1) := dk_42 (dk_at dksX6_redo_0 11 rfl rfl)
theorem dX6_redo_12 : decode cX6_redo 12 = .ok (.getfield 40, 3) := dk_180 0 40 (dk_at dksX6_redo_0 12 rfl rfl)
theorem dX6_redo_15 : decode cX6_redo 15 = .ok (.aload_n 0, 1) := dk_42 (dk_at dksX6_redo_0 15 rfl rfl)
theorem dX6_redo_16 : decode cX6_redo 16 = .ok (.getfield 168, 3) := dk_180 0 168 (dk_at dksX6_redo_0 16 rfl rfl)
theorem dX6_redo_19 : decode cX6_redo 19 = .ok (.iaload, 1) := dk_46 (dk_at dksX6_redo_0 19 rfl rfl)
theorem dX6_redo_20 : decode cX6_redo 20 = .ok (.aload_n 0, 1) := dk_42 (dk_at dksX6_redo_0 20 rfl rfl)
theorem dX6_redo_21 : decode cX6_redo 21 = .ok (.getfield 43, 3) := dk_180 0 43 (dk_at dksX6_redo_0 21 rfl rfl)
theorem dX6_redo_24 : decode cX6_redo 24 = .ok (.aload_n 0, 1) := dk_42 (dk_at dksX6_redo_1 0 rfl rfl)
theorem dX6_redo_25 : decode cX6_redo 25 = .ok (.getfield 168, 3) := dk_180 0 168 (dk_at dksX6_redo_1 1 rfl rfl)
theorem dX6_redo_28 : decode cX6_redo 28 = .ok (.iaload, 1) := dk_46 (dk_at dksX6_redo_1 4 rfl rfl)
theorem dX6_redo_29 : decode cX6_redo 29 = .ok (.aload_n 0, 1) := dk_42 (dk_at dksX6_redo_1 5 rfl rfl)
theorem dX6_redo_30 : decode cX6_redo 30 = .ok (.getfield 49, 3) := dk_180 0 49 (dk_at dksX6_redo_1 6 rfl rfl)
theorem dX6_redo_33 : decode cX6_redo 33 = .ok (.aload_n 0, 1) := dk_42 (dk_at dksX6_redo_1 9 rfl rfl)
theorem dX6_redo_34 : decode cX6_redo 34 = .ok (.getfield 168, 3) := dk_180 0 168 (dk_at dksX6_redo_1 10 rfl rfl)
theorem dX6_redo_37 : decode cX6_redo 37 = .ok (.iaload, 1) := dk_46 (dk_at dksX6_redo_1 13 rfl rfl)
theorem dX6_redo_38 : decode cX6_redo 38 = .ok (.invokevirtual 171, 3) := dk_182 0 171 (dk_at dksX6_redo_1 14 rfl rfl)
theorem dX6_redo_41 : decode cX6_redo 41 = .ok (.aload_n 0, 1) := dk_42 (dk_at dksX6_redo_1 17 rfl rfl)
theorem dX6_redo_42 : decode cX6_redo 42 = .ok (.dup, 1) := dk_89 (dk_at dksX6_redo_1 18 rfl rfl)
theorem dX6_redo_43 : decode cX6_redo 43 = .ok (.getfield 168, 3) := dk_180 0 168 (dk_at dksX6_redo_1 19 rfl rfl)
theorem dX6_redo_46 : decode cX6_redo 46 = .ok (.iconst 1, 1) := dk_4 (dk_at dksX6_redo_1 22 rfl rfl)
theorem dX6_redo_47 : decode cX6_redo 47 = .ok (.iadd, 1) := dk_96 (dk_at dksX6_redo_1 23 rfl rfl)
theorem dX6_redo_48 : decode cX6_redo 48 = .ok (.putfield 168, 3) := dk_181 0 168 (dk_at dksX6_redo_2 0 rfl rfl)
theorem dX6_redo_51 : decode cX6_redo 51 = .ok (.aload_n 0, 1) := dk_42 (dk_at dksX6_redo_2 3 rfl rfl)
theorem dX6_redo_52 : decode cX6_redo 52 = .ok (.dup, 1) := dk_89 (dk_at dksX6_redo_2 4 rfl rfl)
theorem dX6_redo_53 : decode cX6_redo 53 = .ok (.getfield 165, 3) := dk_180 0 165 (dk_at dksX6_redo_2 5 rfl rfl)
theorem dX6_redo_56 : decode cX6_redo 56 = .ok (.iconst 1, 1) := dk_4 (dk_at dksX6_redo_2 8 rfl rfl)
theorem dX6_redo_57 : decode cX6_redo 57 = .ok (.isub, 1) := dk_100 (dk_at dksX6_redo_2 9 rfl rfl)
theorem dX6_redo_58 : decode cX6_redo 58 = .ok (.putfield 165, 3) := dk_181 0 165 (dk_at dksX6_redo_2 10 rfl rfl)
theorem dX6_redo_61 : decode cX6_redo 61 = .ok (.aload_n 0, 1) := dk_42 (dk_at dksX6_redo_2 13 rfl rfl)
theorem dX6_redo_62 : decode cX6_redo 62 = .ok (.getfield 165, 3) := dk_180 0 165 (dk_at dksX6_redo_2 14 rfl rfl)
theorem dX6_redo_65 : decode cX6_redo 65 = .ok (.ireturn, 1) := dk_172 (dk_at dksX6_redo_2 17 rfl rfl)
abbrev cX6_mend : ByteArray := prog_26_method_18_code
def yX6_mend : MethodName := ⟨RX6, "mend", "(III)I"⟩
def dkwX6_mend_7 : List UInt8 := [167, 0, 4, 2, 172, 2, 172]
abbrev dktX6_mend_7 : List UInt8 := dkwX6_mend_7 ++ []
def dkwX6_mend_6 : List UInt8 := [184, 0, 181, 153, 0, 23, 29, 3, 16, 9, 184, 0, 134, 153, 0, 13, 42, 6, 27, 29, 182, 0, 178]
abbrev dktX6_mend_6 : List UInt8 := dkwX6_mend_6 ++ dktX6_mend_7
def dkwX6_mend_5 : List UInt8 := [3, 16, 6, 184, 0, 134, 153, 0, 13, 42, 5, 27, 29, 182, 0, 178, 167, 0, 4, 2, 172, 27]
abbrev dktX6_mend_5 : List UInt8 := dkwX6_mend_5 ++ dktX6_mend_6
def dkwX6_mend_4 : List UInt8 := [153, 0, 13, 42, 4, 27, 29, 182, 0, 178, 167, 0, 4, 2, 172, 42, 27, 182, 0, 144, 153, 0, 23, 29]
abbrev dktX6_mend_4 : List UInt8 := dkwX6_mend_4 ++ dktX6_mend_5
def dkwX6_mend_3 : List UInt8 := [182, 0, 178, 167, 0, 4, 2, 172, 42, 27, 182, 0, 144, 153, 0, 23, 29, 3, 16, 9, 184, 0, 134]
abbrev dktX6_mend_3 : List UInt8 := dkwX6_mend_3 ++ dktX6_mend_4
def dkwX6_mend_2 : List UInt8 := [42, 27, 182, 0, 175, 153, 0, 23, 29, 3, 16, 9, 184, 0, 134, 153, 0, 13, 42, 3, 27, 29]
abbrev dktX6_mend_2 : List UInt8 := dkwX6_mend_2 ++ dktX6_mend_3
def dkwX6_mend_1 : List UInt8 := [170, 0, 0, 0, 0, 0, 150, 0, 0, 0, 0, 0, 0, 0, 3, 0, 0, 0, 31, 0, 0, 0, 61, 0, 0, 0, 91, 0, 0, 0, 121]
abbrev dktX6_mend_1 : List UInt8 := dkwX6_mend_1 ++ dktX6_mend_2
def dkwX6_mend_0 : List UInt8 := [28]
abbrev dktX6_mend_0 : List UInt8 := dkwX6_mend_0 ++ dktX6_mend_1
theorem dksX6_mend_0 : cX6_mend.data.toList.drop 0 = dktX6_mend_0 := by decide +kernel
theorem dksX6_mend_1 : cX6_mend.data.toList.drop 1 = dktX6_mend_1 := dk_seg dksX6_mend_0 1 rfl rfl
theorem dksX6_mend_2 : cX6_mend.data.toList.drop 32 = dktX6_mend_2 := dk_seg dksX6_mend_1 31 rfl rfl
theorem dksX6_mend_3 : cX6_mend.data.toList.drop 54 = dktX6_mend_3 := dk_seg dksX6_mend_2 22 rfl rfl
theorem dksX6_mend_4 : cX6_mend.data.toList.drop 77 = dktX6_mend_4 := dk_seg dksX6_mend_3 23 rfl rfl
theorem dksX6_mend_5 : cX6_mend.data.toList.drop 101 = dktX6_mend_5 := dk_seg dksX6_mend_4 24 rfl rfl
theorem dksX6_mend_6 : cX6_mend.data.toList.drop 123 = dktX6_mend_6 := dk_seg dksX6_mend_5 22 rfl rfl
theorem dksX6_mend_7 : cX6_mend.data.toList.drop 146 = dktX6_mend_7 := dk_seg dksX6_mend_6 23 rfl rfl
theorem dX6_mend_0 : decode cX6_mend 0 = .ok (.iload_n 2, 1) := dk_28 (dk_at dksX6_mend_0 0 rfl rfl)
theorem dX6_mend_1 : decode cX6_mend 1 = .ok (.tableswitch 150 0 3 #[31, 61, 91, 121], 31) := by decide +kernel
theorem dX6_mend_32 : decode cX6_mend 32 = .ok (.aload_n 0, 1) := dk_42 (dk_at dksX6_mend_2 0 rfl rfl)
theorem dX6_mend_33 : decode cX6_mend 33 = .ok (.iload_n 1, 1) := dk_27 (dk_at dksX6_mend_2 1 rfl rfl)
theorem dX6_mend_34 : decode cX6_mend 34 = .ok (.invokevirtual 175, 3) := dk_182 0 175 (dk_at dksX6_mend_2 2 rfl rfl)
theorem dX6_mend_37 : decode cX6_mend 37 = .ok (.ifCond .eq 23, 3) := dk_153 0 23 (dk_at dksX6_mend_2 5 rfl rfl)
theorem dX6_mend_40 : decode cX6_mend 40 = .ok (.iload_n 3, 1) := dk_29 (dk_at dksX6_mend_2 8 rfl rfl)
theorem dX6_mend_41 : decode cX6_mend 41 = .ok (.iconst 0, 1) := dk_3 (dk_at dksX6_mend_2 9 rfl rfl)
theorem dX6_mend_42 : decode cX6_mend 42 = .ok (.bipush 9, 2) := dk_16 9 (dk_at dksX6_mend_2 10 rfl rfl)
theorem dX6_mend_44 : decode cX6_mend 44 = .ok (.invokestatic 134, 3) := dk_184 0 134 (dk_at dksX6_mend_2 12 rfl rfl)
theorem dX6_mend_47 : decode cX6_mend 47 = .ok (.ifCond .eq 13, 3) := dk_153 0 13 (dk_at dksX6_mend_2 15 rfl rfl)
theorem dX6_mend_50 : decode cX6_mend 50 = .ok (.aload_n 0, 1) := dk_42 (dk_at dksX6_mend_2 18 rfl rfl)
theorem dX6_mend_51 : decode cX6_mend 51 = .ok (.iconst 0, 1) := dk_3 (dk_at dksX6_mend_2 19 rfl rfl)
theorem dX6_mend_52 : decode cX6_mend 52 = .ok (.iload_n 1, 1) := dk_27 (dk_at dksX6_mend_2 20 rfl rfl)
theorem dX6_mend_53 : decode cX6_mend 53 = .ok (.iload_n 3, 1) := dk_29 (dk_at dksX6_mend_2 21 rfl rfl)
theorem dX6_mend_54 : decode cX6_mend 54 = .ok (.invokevirtual 178, 3) := dk_182 0 178 (dk_at dksX6_mend_3 0 rfl rfl)
theorem dX6_mend_57 : decode cX6_mend 57 = .ok (.goto 4, 3) := dk_167 0 4 (dk_at dksX6_mend_3 3 rfl rfl)
theorem dX6_mend_60 : decode cX6_mend 60 = .ok (.iconst (-1), 1) := dk_2 (dk_at dksX6_mend_3 6 rfl rfl)
theorem dX6_mend_61 : decode cX6_mend 61 = .ok (.ireturn, 1) := dk_172 (dk_at dksX6_mend_3 7 rfl rfl)
theorem dX6_mend_62 : decode cX6_mend 62 = .ok (.aload_n 0, 1) := dk_42 (dk_at dksX6_mend_3 8 rfl rfl)
theorem dX6_mend_63 : decode cX6_mend 63 = .ok (.iload_n 1, 1) := dk_27 (dk_at dksX6_mend_3 9 rfl rfl)
theorem dX6_mend_64 : decode cX6_mend 64 = .ok (.invokevirtual 144, 3) := dk_182 0 144 (dk_at dksX6_mend_3 10 rfl rfl)
theorem dX6_mend_67 : decode cX6_mend 67 = .ok (.ifCond .eq 23, 3) := dk_153 0 23 (dk_at dksX6_mend_3 13 rfl rfl)
theorem dX6_mend_70 : decode cX6_mend 70 = .ok (.iload_n 3, 1) := dk_29 (dk_at dksX6_mend_3 16 rfl rfl)
theorem dX6_mend_71 : decode cX6_mend 71 = .ok (.iconst 0, 1) := dk_3 (dk_at dksX6_mend_3 17 rfl rfl)
theorem dX6_mend_72 : decode cX6_mend 72 = .ok (.bipush 9, 2) := dk_16 9 (dk_at dksX6_mend_3 18 rfl rfl)
theorem dX6_mend_74 : decode cX6_mend 74 = .ok (.invokestatic 134, 3) := dk_184 0 134 (dk_at dksX6_mend_3 20 rfl rfl)
theorem dX6_mend_77 : decode cX6_mend 77 = .ok (.ifCond .eq 13, 3) := dk_153 0 13 (dk_at dksX6_mend_4 0 rfl rfl)
theorem dX6_mend_80 : decode cX6_mend 80 = .ok (.aload_n 0, 1) := dk_42 (dk_at dksX6_mend_4 3 rfl rfl)
theorem dX6_mend_81 : decode cX6_mend 81 = .ok (.iconst 1, 1) := dk_4 (dk_at dksX6_mend_4 4 rfl rfl)
theorem dX6_mend_82 : decode cX6_mend 82 = .ok (.iload_n 1, 1) := dk_27 (dk_at dksX6_mend_4 5 rfl rfl)
theorem dX6_mend_83 : decode cX6_mend 83 = .ok (.iload_n 3, 1) := dk_29 (dk_at dksX6_mend_4 6 rfl rfl)
theorem dX6_mend_84 : decode cX6_mend 84 = .ok (.invokevirtual 178, 3) := dk_182 0 178 (dk_at dksX6_mend_4 7 rfl rfl)
theorem dX6_mend_87 : decode cX6_mend 87 = .ok (.goto 4, 3) := dk_167 0 4 (dk_at dksX6_mend_4 10 rfl rfl)
theorem dX6_mend_90 : decode cX6_mend 90 = .ok (.iconst (-1), 1) := dk_2 (dk_at dksX6_mend_4 13 rfl rfl)
theorem dX6_mend_91 : decode cX6_mend 91 = .ok (.ireturn, 1) := dk_172 (dk_at dksX6_mend_4 14 rfl rfl)
theorem dX6_mend_92 : decode cX6_mend 92 = .ok (.aload_n 0, 1) := dk_42 (dk_at dksX6_mend_4 15 rfl rfl)
theorem dX6_mend_93 : decode cX6_mend 93 = .ok (.iload_n 1, 1) := dk_27 (dk_at dksX6_mend_4 16 rfl rfl)
theorem dX6_mend_94 : decode cX6_mend 94 = .ok (.invokevirtual 144, 3) := dk_182 0 144 (dk_at dksX6_mend_4 17 rfl rfl)
theorem dX6_mend_97 : decode cX6_mend 97 = .ok (.ifCond .eq 23, 3) := dk_153 0 23 (dk_at dksX6_mend_4 20 rfl rfl)
theorem dX6_mend_100 : decode cX6_mend 100 = .ok (.iload_n 3, 1) := dk_29 (dk_at dksX6_mend_4 23 rfl rfl)
theorem dX6_mend_101 : decode cX6_mend 101 = .ok (.iconst 0, 1) := dk_3 (dk_at dksX6_mend_5 0 rfl rfl)
theorem dX6_mend_102 : decode cX6_mend 102 = .ok (.bipush 6, 2) := dk_16 6 (dk_at dksX6_mend_5 1 rfl rfl)
theorem dX6_mend_104 : decode cX6_mend 104 = .ok (.invokestatic 134, 3) := dk_184 0 134 (dk_at dksX6_mend_5 3 rfl rfl)
theorem dX6_mend_107 : decode cX6_mend 107 = .ok (.ifCond .eq 13, 3) := dk_153 0 13 (dk_at dksX6_mend_5 6 rfl rfl)
theorem dX6_mend_110 : decode cX6_mend 110 = .ok (.aload_n 0, 1) := dk_42 (dk_at dksX6_mend_5 9 rfl rfl)
theorem dX6_mend_111 : decode cX6_mend 111 = .ok (.iconst 2, 1) := dk_5 (dk_at dksX6_mend_5 10 rfl rfl)
theorem dX6_mend_112 : decode cX6_mend 112 = .ok (.iload_n 1, 1) := dk_27 (dk_at dksX6_mend_5 11 rfl rfl)
theorem dX6_mend_113 : decode cX6_mend 113 = .ok (.iload_n 3, 1) := dk_29 (dk_at dksX6_mend_5 12 rfl rfl)
theorem dX6_mend_114 : decode cX6_mend 114 = .ok (.invokevirtual 178, 3) := dk_182 0 178 (dk_at dksX6_mend_5 13 rfl rfl)
theorem dX6_mend_117 : decode cX6_mend 117 = .ok (.goto 4, 3) := dk_167 0 4 (dk_at dksX6_mend_5 16 rfl rfl)
theorem dX6_mend_120 : decode cX6_mend 120 = .ok (.iconst (-1), 1) := dk_2 (dk_at dksX6_mend_5 19 rfl rfl)
theorem dX6_mend_121 : decode cX6_mend 121 = .ok (.ireturn, 1) := dk_172 (dk_at dksX6_mend_5 20 rfl rfl)
theorem dX6_mend_122 : decode cX6_mend 122 = .ok (.iload_n 1, 1) := dk_27 (dk_at dksX6_mend_5 21 rfl rfl)
theorem dX6_mend_123 : decode cX6_mend 123 = .ok (.invokestatic 181, 3) := dk_184 0 181 (dk_at dksX6_mend_6 0 rfl rfl)
theorem dX6_mend_126 : decode cX6_mend 126 = .ok (.ifCond .eq 23, 3) := dk_153 0 23 (dk_at dksX6_mend_6 3 rfl rfl)
theorem dX6_mend_129 : decode cX6_mend 129 = .ok (.iload_n 3, 1) := dk_29 (dk_at dksX6_mend_6 6 rfl rfl)
theorem dX6_mend_130 : decode cX6_mend 130 = .ok (.iconst 0, 1) := dk_3 (dk_at dksX6_mend_6 7 rfl rfl)
theorem dX6_mend_131 : decode cX6_mend 131 = .ok (.bipush 9, 2) := dk_16 9 (dk_at dksX6_mend_6 8 rfl rfl)
theorem dX6_mend_133 : decode cX6_mend 133 = .ok (.invokestatic 134, 3) := dk_184 0 134 (dk_at dksX6_mend_6 10 rfl rfl)
theorem dX6_mend_136 : decode cX6_mend 136 = .ok (.ifCond .eq 13, 3) := dk_153 0 13 (dk_at dksX6_mend_6 13 rfl rfl)
theorem dX6_mend_139 : decode cX6_mend 139 = .ok (.aload_n 0, 1) := dk_42 (dk_at dksX6_mend_6 16 rfl rfl)
theorem dX6_mend_140 : decode cX6_mend 140 = .ok (.iconst 3, 1) := dk_6 (dk_at dksX6_mend_6 17 rfl rfl)
theorem dX6_mend_141 : decode cX6_mend 141 = .ok (.iload_n 1, 1) := dk_27 (dk_at dksX6_mend_6 18 rfl rfl)
theorem dX6_mend_142 : decode cX6_mend 142 = .ok (.iload_n 3, 1) := dk_29 (dk_at dksX6_mend_6 19 rfl rfl)
theorem dX6_mend_143 : decode cX6_mend 143 = .ok (.invokevirtual 178, 3) := dk_182 0 178 (dk_at dksX6_mend_6 20 rfl rfl)
theorem dX6_mend_146 : decode cX6_mend 146 = .ok (.goto 4, 3) := dk_167 0 4 (dk_at dksX6_mend_7 0 rfl rfl)
theorem dX6_mend_149 : decode cX6_mend 149 = .ok (.iconst (-1), 1) := dk_2 (dk_at dksX6_mend_7 3 rfl rfl)
theorem dX6_mend_150 : decode cX6_mend 150 = .ok (.ireturn, 1) := dk_172 (dk_at dksX6_mend_7 4 rfl rfl)
theorem dX6_mend_151 : decode cX6_mend 151 = .ok (.iconst (-1), 1) := dk_2 (dk_at dksX6_mend_7 5 rfl rfl)
theorem dX6_mend_152 : decode cX6_mend 152 = .ok (.ireturn, 1) := dk_172 (dk_at dksX6_mend_7 6 rfl rfl)
abbrev cX6_isPerson : ByteArray := prog_26_method_5_code
def yX6_isPerson : MethodName := ⟨RX6, "isPerson", "(I)Z"⟩
def dkwX6_isPerson_0 : List UInt8 := [27, 3, 42, 180, 0, 138, 4, 100, 184, 0, 134, 172]
abbrev dktX6_isPerson_0 : List UInt8 := dkwX6_isPerson_0 ++ []
theorem dksX6_isPerson_0 : cX6_isPerson.data.toList.drop 0 = dktX6_isPerson_0 := by decide +kernel
theorem dX6_isPerson_0 : decode cX6_isPerson 0 = .ok (.iload_n 1, 1) := dk_27 (dk_at dksX6_isPerson_0 0 rfl rfl)
theorem dX6_isPerson_1 : decode cX6_isPerson 1 = .ok (.iconst 0, 1) := dk_3 (dk_at dksX6_isPerson_0 1 rfl rfl)
theorem dX6_isPerson_2 : decode cX6_isPerson 2 = .ok (.aload_n 0, 1) := dk_42 (dk_at dksX6_isPerson_0 2 rfl rfl)
theorem dX6_isPerson_3 : decode cX6_isPerson 3 = .ok (.getfield 138, 3) := dk_180 0 138 (dk_at dksX6_isPerson_0 3 rfl rfl)
theorem dX6_isPerson_6 : decode cX6_isPerson 6 = .ok (.iconst 1, 1) := dk_4 (dk_at dksX6_isPerson_0 6 rfl rfl)
theorem dX6_isPerson_7 : decode cX6_isPerson 7 = .ok (.isub, 1) := dk_100 (dk_at dksX6_isPerson_0 7 rfl rfl)
theorem dX6_isPerson_8 : decode cX6_isPerson 8 = .ok (.invokestatic 134, 3) := dk_184 0 134 (dk_at dksX6_isPerson_0 8 rfl rfl)
theorem dX6_isPerson_11 : decode cX6_isPerson 11 = .ok (.ireturn, 1) := dk_172 (dk_at dksX6_isPerson_0 11 rfl rfl)
abbrev cX6_changes : ByteArray := prog_26_method_15_code
def yX6_changes : MethodName := ⟨RX6, "changes", "(III)I"⟩
def dkwX6_changes_7 : List UInt8 := [180, 0, 168, 4, 96, 181, 0, 168, 42, 27, 28, 29, 182, 0, 171, 21, 4, 172]
abbrev dktX6_changes_7 : List UInt8 := dkwX6_changes_7 ++ []
def dkwX6_changes_6 : List UInt8 := [180, 0, 46, 42, 180, 0, 168, 21, 4, 79, 42, 180, 0, 49, 42, 180, 0, 168, 29, 79, 42, 89]
abbrev dktX6_changes_6 : List UInt8 := dkwX6_changes_6 ++ dktX6_changes_7
def dkwX6_changes_5 : List UInt8 := [181, 0, 168, 42, 180, 0, 40, 42, 180, 0, 168, 27, 79, 42, 180, 0, 43, 42, 180, 0, 168, 28, 79, 42]
abbrev dktX6_changes_5 : List UInt8 := dkwX6_changes_5 ++ dktX6_changes_6
def dkwX6_changes_4 : List UInt8 := [4, 100, 42, 180, 0, 49, 21, 5, 46, 79, 132, 5, 1, 167, 255, 182, 42, 89, 180, 0, 168, 4, 100]
abbrev dktX6_changes_4 : List UInt8 := dkwX6_changes_4 ++ dktX6_changes_5
def dkwX6_changes_3 : List UInt8 := [46, 79, 42, 180, 0, 46, 21, 5, 4, 100, 42, 180, 0, 46, 21, 5, 46, 79, 42, 180, 0, 49, 21, 5]
abbrev dktX6_changes_3 : List UInt8 := dkwX6_changes_3 ++ dktX6_changes_4
def dkwX6_changes_2 : List UInt8 := [4, 100, 42, 180, 0, 40, 21, 5, 46, 79, 42, 180, 0, 43, 21, 5, 4, 100, 42, 180, 0, 43, 21, 5]
abbrev dktX6_changes_2 : List UInt8 := dkwX6_changes_2 ++ dktX6_changes_3
def dkwX6_changes_1 : List UInt8 := [180, 0, 168, 16, 40, 160, 0, 93, 4, 54, 5, 21, 5, 16, 40, 162, 0, 73, 42, 180, 0, 40, 21, 5]
abbrev dktX6_changes_1 : List UInt8 := dkwX6_changes_1 ++ dktX6_changes_2
def dkwX6_changes_0 : List UInt8 := [42, 27, 28, 182, 0, 161, 54, 4, 21, 4, 29, 160, 0, 6, 21, 4, 172, 42, 3, 181, 0, 165, 42]
abbrev dktX6_changes_0 : List UInt8 := dkwX6_changes_0 ++ dktX6_changes_1
theorem dksX6_changes_0 : cX6_changes.data.toList.drop 0 = dktX6_changes_0 := by decide +kernel
theorem dksX6_changes_1 : cX6_changes.data.toList.drop 23 = dktX6_changes_1 := dk_seg dksX6_changes_0 23 rfl rfl
theorem dksX6_changes_2 : cX6_changes.data.toList.drop 47 = dktX6_changes_2 := dk_seg dksX6_changes_1 24 rfl rfl
theorem dksX6_changes_3 : cX6_changes.data.toList.drop 71 = dktX6_changes_3 := dk_seg dksX6_changes_2 24 rfl rfl
theorem dksX6_changes_4 : cX6_changes.data.toList.drop 95 = dktX6_changes_4 := dk_seg dksX6_changes_3 24 rfl rfl
theorem dksX6_changes_5 : cX6_changes.data.toList.drop 118 = dktX6_changes_5 := dk_seg dksX6_changes_4 23 rfl rfl
theorem dksX6_changes_6 : cX6_changes.data.toList.drop 142 = dktX6_changes_6 := dk_seg dksX6_changes_5 24 rfl rfl
theorem dksX6_changes_7 : cX6_changes.data.toList.drop 164 = dktX6_changes_7 := dk_seg dksX6_changes_6 22 rfl rfl
theorem dX6_changes_0 : decode cX6_changes 0 = .ok (.aload_n 0, 1) := dk_42 (dk_at dksX6_changes_0 0 rfl rfl)
theorem dX6_changes_1 : decode cX6_changes 1 = .ok (.iload_n 1, 1) := dk_27 (dk_at dksX6_changes_0 1 rfl rfl)
theorem dX6_changes_2 : decode cX6_changes 2 = .ok (.iload_n 2, 1) := dk_28 (dk_at dksX6_changes_0 2 rfl rfl)
theorem dX6_changes_3 : decode cX6_changes 3 = .ok (.invokevirtual 161, 3) := dk_182 0 161 (dk_at dksX6_changes_0 3 rfl rfl)
theorem dX6_changes_6 : decode cX6_changes 6 = .ok (.istore 4, 2) := dk_54 4 (dk_at dksX6_changes_0 6 rfl rfl)
theorem dX6_changes_8 : decode cX6_changes 8 = .ok (.iload 4, 2) := dk_21 4 (dk_at dksX6_changes_0 8 rfl rfl)
theorem dX6_changes_10 : decode cX6_changes 10 = .ok (.iload_n 3, 1) := dk_29 (dk_at dksX6_changes_0 10 rfl rfl)
theorem dX6_changes_11 : decode cX6_changes 11 = .ok (.if_icmp .ne 6, 3) := dk_160 0 6 (dk_at dksX6_changes_0 11 rfl rfl)
theorem dX6_changes_14 : decode cX6_changes 14 = .ok (.iload 4, 2) := dk_21 4 (dk_at dksX6_changes_0 14 rfl rfl)
theorem dX6_changes_16 : decode cX6_changes 16 = .ok (.ireturn, 1) := dk_172 (dk_at dksX6_changes_0 16 rfl rfl)
theorem dX6_changes_17 : decode cX6_changes 17 = .ok (.aload_n 0, 1) := dk_42 (dk_at dksX6_changes_0 17 rfl rfl)
theorem dX6_changes_18 : decode cX6_changes 18 = .ok (.iconst 0, 1) := dk_3 (dk_at dksX6_changes_0 18 rfl rfl)
theorem dX6_changes_19 : decode cX6_changes 19 = .ok (.putfield 165, 3) := dk_181 0 165 (dk_at dksX6_changes_0 19 rfl rfl)
theorem dX6_changes_22 : decode cX6_changes 22 = .ok (.aload_n 0, 1) := dk_42 (dk_at dksX6_changes_0 22 rfl rfl)
theorem dX6_changes_23 : decode cX6_changes 23 = .ok (.getfield 168, 3) := dk_180 0 168 (dk_at dksX6_changes_1 0 rfl rfl)
theorem dX6_changes_26 : decode cX6_changes 26 = .ok (.bipush 40, 2) := dk_16 40 (dk_at dksX6_changes_1 3 rfl rfl)
theorem dX6_changes_28 : decode cX6_changes 28 = .ok (.if_icmp .ne 93, 3) := dk_160 0 93 (dk_at dksX6_changes_1 5 rfl rfl)
theorem dX6_changes_31 : decode cX6_changes 31 = .ok (.iconst 1, 1) := dk_4 (dk_at dksX6_changes_1 8 rfl rfl)
theorem dX6_changes_32 : decode cX6_changes 32 = .ok (.istore 5, 2) := dk_54 5 (dk_at dksX6_changes_1 9 rfl rfl)
theorem dX6_changes_34 : decode cX6_changes 34 = .ok (.iload 5, 2) := dk_21 5 (dk_at dksX6_changes_1 11 rfl rfl)
theorem dX6_changes_36 : decode cX6_changes 36 = .ok (.bipush 40, 2) := dk_16 40 (dk_at dksX6_changes_1 13 rfl rfl)
theorem dX6_changes_38 : decode cX6_changes 38 = .ok (.if_icmp .ge 73, 3) := dk_162 0 73 (dk_at dksX6_changes_1 15 rfl rfl)
theorem dX6_changes_41 : decode cX6_changes 41 = .ok (.aload_n 0, 1) := dk_42 (dk_at dksX6_changes_1 18 rfl rfl)
theorem dX6_changes_42 : decode cX6_changes 42 = .ok (.getfield 40, 3) := dk_180 0 40 (dk_at dksX6_changes_1 19 rfl rfl)
theorem dX6_changes_45 : decode cX6_changes 45 = .ok (.iload 5, 2) := dk_21 5 (dk_at dksX6_changes_1 22 rfl rfl)
theorem dX6_changes_47 : decode cX6_changes 47 = .ok (.iconst 1, 1) := dk_4 (dk_at dksX6_changes_2 0 rfl rfl)
theorem dX6_changes_48 : decode cX6_changes 48 = .ok (.isub, 1) := dk_100 (dk_at dksX6_changes_2 1 rfl rfl)
theorem dX6_changes_49 : decode cX6_changes 49 = .ok (.aload_n 0, 1) := dk_42 (dk_at dksX6_changes_2 2 rfl rfl)
theorem dX6_changes_50 : decode cX6_changes 50 = .ok (.getfield 40, 3) := dk_180 0 40 (dk_at dksX6_changes_2 3 rfl rfl)
theorem dX6_changes_53 : decode cX6_changes 53 = .ok (.iload 5, 2) := dk_21 5 (dk_at dksX6_changes_2 6 rfl rfl)
theorem dX6_changes_55 : decode cX6_changes 55 = .ok (.iaload, 1) := dk_46 (dk_at dksX6_changes_2 8 rfl rfl)
theorem dX6_changes_56 : decode cX6_changes 56 = .ok (.iastore, 1) := dk_79 (dk_at dksX6_changes_2 9 rfl rfl)
theorem dX6_changes_57 : decode cX6_changes 57 = .ok (.aload_n 0, 1) := dk_42 (dk_at dksX6_changes_2 10 rfl rfl)
theorem dX6_changes_58 : decode cX6_changes 58 = .ok (.getfield 43, 3) := dk_180 0 43 (dk_at dksX6_changes_2 11 rfl rfl)
theorem dX6_changes_61 : decode cX6_changes 61 = .ok (.iload 5, 2) := dk_21 5 (dk_at dksX6_changes_2 14 rfl rfl)
theorem dX6_changes_63 : decode cX6_changes 63 = .ok (.iconst 1, 1) := dk_4 (dk_at dksX6_changes_2 16 rfl rfl)
theorem dX6_changes_64 : decode cX6_changes 64 = .ok (.isub, 1) := dk_100 (dk_at dksX6_changes_2 17 rfl rfl)
theorem dX6_changes_65 : decode cX6_changes 65 = .ok (.aload_n 0, 1) := dk_42 (dk_at dksX6_changes_2 18 rfl rfl)
theorem dX6_changes_66 : decode cX6_changes 66 = .ok (.getfield 43, 3) := dk_180 0 43 (dk_at dksX6_changes_2 19 rfl rfl)
theorem dX6_changes_69 : decode cX6_changes 69 = .ok (.iload 5, 2) := dk_21 5 (dk_at dksX6_changes_2 22 rfl rfl)
theorem dX6_changes_71 : decode cX6_changes 71 = .ok (.iaload, 1) := dk_46 (dk_at dksX6_changes_3 0 rfl rfl)
theorem dX6_changes_72 : decode cX6_changes 72 = .ok (.iastore, 1) := dk_79 (dk_at dksX6_changes_3 1 rfl rfl)
theorem dX6_changes_73 : decode cX6_changes 73 = .ok (.aload_n 0, 1) := dk_42 (dk_at dksX6_changes_3 2 rfl rfl)
theorem dX6_changes_74 : decode cX6_changes 74 = .ok (.getfield 46, 3) := dk_180 0 46 (dk_at dksX6_changes_3 3 rfl rfl)
theorem dX6_changes_77 : decode cX6_changes 77 = .ok (.iload 5, 2) := dk_21 5 (dk_at dksX6_changes_3 6 rfl rfl)
theorem dX6_changes_79 : decode cX6_changes 79 = .ok (.iconst 1, 1) := dk_4 (dk_at dksX6_changes_3 8 rfl rfl)
theorem dX6_changes_80 : decode cX6_changes 80 = .ok (.isub, 1) := dk_100 (dk_at dksX6_changes_3 9 rfl rfl)
theorem dX6_changes_81 : decode cX6_changes 81 = .ok (.aload_n 0, 1) := dk_42 (dk_at dksX6_changes_3 10 rfl rfl)
theorem dX6_changes_82 : decode cX6_changes 82 = .ok (.getfield 46, 3) := dk_180 0 46 (dk_at dksX6_changes_3 11 rfl rfl)
theorem dX6_changes_85 : decode cX6_changes 85 = .ok (.iload 5, 2) := dk_21 5 (dk_at dksX6_changes_3 14 rfl rfl)
theorem dX6_changes_87 : decode cX6_changes 87 = .ok (.iaload, 1) := dk_46 (dk_at dksX6_changes_3 16 rfl rfl)
theorem dX6_changes_88 : decode cX6_changes 88 = .ok (.iastore, 1) := dk_79 (dk_at dksX6_changes_3 17 rfl rfl)
theorem dX6_changes_89 : decode cX6_changes 89 = .ok (.aload_n 0, 1) := dk_42 (dk_at dksX6_changes_3 18 rfl rfl)
theorem dX6_changes_90 : decode cX6_changes 90 = .ok (.getfield 49, 3) := dk_180 0 49 (dk_at dksX6_changes_3 19 rfl rfl)
theorem dX6_changes_93 : decode cX6_changes 93 = .ok (.iload 5, 2) := dk_21 5 (dk_at dksX6_changes_3 22 rfl rfl)
theorem dX6_changes_95 : decode cX6_changes 95 = .ok (.iconst 1, 1) := dk_4 (dk_at dksX6_changes_4 0 rfl rfl)
theorem dX6_changes_96 : decode cX6_changes 96 = .ok (.isub, 1) := dk_100 (dk_at dksX6_changes_4 1 rfl rfl)
theorem dX6_changes_97 : decode cX6_changes 97 = .ok (.aload_n 0, 1) := dk_42 (dk_at dksX6_changes_4 2 rfl rfl)
theorem dX6_changes_98 : decode cX6_changes 98 = .ok (.getfield 49, 3) := dk_180 0 49 (dk_at dksX6_changes_4 3 rfl rfl)
theorem dX6_changes_101 : decode cX6_changes 101 = .ok (.iload 5, 2) := dk_21 5 (dk_at dksX6_changes_4 6 rfl rfl)
theorem dX6_changes_103 : decode cX6_changes 103 = .ok (.iaload, 1) := dk_46 (dk_at dksX6_changes_4 8 rfl rfl)
theorem dX6_changes_104 : decode cX6_changes 104 = .ok (.iastore, 1) := dk_79 (dk_at dksX6_changes_4 9 rfl rfl)
theorem dX6_changes_105 : decode cX6_changes 105 = .ok (.iinc 5 1, 3) := dk_132 5 1 (dk_at dksX6_changes_4 10 rfl rfl)
theorem dX6_changes_108 : decode cX6_changes 108 = .ok (.goto (-74), 3) := dk_167 255 182 (dk_at dksX6_changes_4 13 rfl rfl)
theorem dX6_changes_111 : decode cX6_changes 111 = .ok (.aload_n 0, 1) := dk_42 (dk_at dksX6_changes_4 16 rfl rfl)
theorem dX6_changes_112 : decode cX6_changes 112 = .ok (.dup, 1) := dk_89 (dk_at dksX6_changes_4 17 rfl rfl)
theorem dX6_changes_113 : decode cX6_changes 113 = .ok (.getfield 168, 3) := dk_180 0 168 (dk_at dksX6_changes_4 18 rfl rfl)
theorem dX6_changes_116 : decode cX6_changes 116 = .ok (.iconst 1, 1) := dk_4 (dk_at dksX6_changes_4 21 rfl rfl)
theorem dX6_changes_117 : decode cX6_changes 117 = .ok (.isub, 1) := dk_100 (dk_at dksX6_changes_4 22 rfl rfl)
theorem dX6_changes_118 : decode cX6_changes 118 = .ok (.putfield 168, 3) := dk_181 0 168 (dk_at dksX6_changes_5 0 rfl rfl)
theorem dX6_changes_121 : decode cX6_changes 121 = .ok (.aload_n 0, 1) := dk_42 (dk_at dksX6_changes_5 3 rfl rfl)
theorem dX6_changes_122 : decode cX6_changes 122 = .ok (.getfield 40, 3) := dk_180 0 40 (dk_at dksX6_changes_5 4 rfl rfl)
theorem dX6_changes_125 : decode cX6_changes 125 = .ok (.aload_n 0, 1) := dk_42 (dk_at dksX6_changes_5 7 rfl rfl)
theorem dX6_changes_126 : decode cX6_changes 126 = .ok (.getfield 168, 3) := dk_180 0 168 (dk_at dksX6_changes_5 8 rfl rfl)
theorem dX6_changes_129 : decode cX6_changes 129 = .ok (.iload_n 1, 1) := dk_27 (dk_at dksX6_changes_5 11 rfl rfl)
theorem dX6_changes_130 : decode cX6_changes 130 = .ok (.iastore, 1) := dk_79 (dk_at dksX6_changes_5 12 rfl rfl)
theorem dX6_changes_131 : decode cX6_changes 131 = .ok (.aload_n 0, 1) := dk_42 (dk_at dksX6_changes_5 13 rfl rfl)
theorem dX6_changes_132 : decode cX6_changes 132 = .ok (.getfield 43, 3) := dk_180 0 43 (dk_at dksX6_changes_5 14 rfl rfl)
theorem dX6_changes_135 : decode cX6_changes 135 = .ok (.aload_n 0, 1) := dk_42 (dk_at dksX6_changes_5 17 rfl rfl)
theorem dX6_changes_136 : decode cX6_changes 136 = .ok (.getfield 168, 3) := dk_180 0 168 (dk_at dksX6_changes_5 18 rfl rfl)
theorem dX6_changes_139 : decode cX6_changes 139 = .ok (.iload_n 2, 1) := dk_28 (dk_at dksX6_changes_5 21 rfl rfl)
theorem dX6_changes_140 : decode cX6_changes 140 = .ok (.iastore, 1) := dk_79 (dk_at dksX6_changes_5 22 rfl rfl)
theorem dX6_changes_141 : decode cX6_changes 141 = .ok (.aload_n 0, 1) := dk_42 (dk_at dksX6_changes_5 23 rfl rfl)
theorem dX6_changes_142 : decode cX6_changes 142 = .ok (.getfield 46, 3) := dk_180 0 46 (dk_at dksX6_changes_6 0 rfl rfl)
theorem dX6_changes_145 : decode cX6_changes 145 = .ok (.aload_n 0, 1) := dk_42 (dk_at dksX6_changes_6 3 rfl rfl)
theorem dX6_changes_146 : decode cX6_changes 146 = .ok (.getfield 168, 3) := dk_180 0 168 (dk_at dksX6_changes_6 4 rfl rfl)
theorem dX6_changes_149 : decode cX6_changes 149 = .ok (.iload 4, 2) := dk_21 4 (dk_at dksX6_changes_6 7 rfl rfl)
theorem dX6_changes_151 : decode cX6_changes 151 = .ok (.iastore, 1) := dk_79 (dk_at dksX6_changes_6 9 rfl rfl)
theorem dX6_changes_152 : decode cX6_changes 152 = .ok (.aload_n 0, 1) := dk_42 (dk_at dksX6_changes_6 10 rfl rfl)
theorem dX6_changes_153 : decode cX6_changes 153 = .ok (.getfield 49, 3) := dk_180 0 49 (dk_at dksX6_changes_6 11 rfl rfl)
theorem dX6_changes_156 : decode cX6_changes 156 = .ok (.aload_n 0, 1) := dk_42 (dk_at dksX6_changes_6 14 rfl rfl)
theorem dX6_changes_157 : decode cX6_changes 157 = .ok (.getfield 168, 3) := dk_180 0 168 (dk_at dksX6_changes_6 15 rfl rfl)
theorem dX6_changes_160 : decode cX6_changes 160 = .ok (.iload_n 3, 1) := dk_29 (dk_at dksX6_changes_6 18 rfl rfl)
theorem dX6_changes_161 : decode cX6_changes 161 = .ok (.iastore, 1) := dk_79 (dk_at dksX6_changes_6 19 rfl rfl)
theorem dX6_changes_162 : decode cX6_changes 162 = .ok (.aload_n 0, 1) := dk_42 (dk_at dksX6_changes_6 20 rfl rfl)
theorem dX6_changes_163 : decode cX6_changes 163 = .ok (.dup, 1) := dk_89 (dk_at dksX6_changes_6 21 rfl rfl)
theorem dX6_changes_164 : decode cX6_changes 164 = .ok (.getfield 168, 3) := dk_180 0 168 (dk_at dksX6_changes_7 0 rfl rfl)
theorem dX6_changes_167 : decode cX6_changes 167 = .ok (.iconst 1, 1) := dk_4 (dk_at dksX6_changes_7 3 rfl rfl)
theorem dX6_changes_168 : decode cX6_changes 168 = .ok (.iadd, 1) := dk_96 (dk_at dksX6_changes_7 4 rfl rfl)
theorem dX6_changes_169 : decode cX6_changes 169 = .ok (.putfield 168, 3) := dk_181 0 168 (dk_at dksX6_changes_7 5 rfl rfl)
theorem dX6_changes_172 : decode cX6_changes 172 = .ok (.aload_n 0, 1) := dk_42 (dk_at dksX6_changes_7 8 rfl rfl)
theorem dX6_changes_173 : decode cX6_changes 173 = .ok (.iload_n 1, 1) := dk_27 (dk_at dksX6_changes_7 9 rfl rfl)
theorem dX6_changes_174 : decode cX6_changes 174 = .ok (.iload_n 2, 1) := dk_28 (dk_at dksX6_changes_7 10 rfl rfl)
theorem dX6_changes_175 : decode cX6_changes 175 = .ok (.iload_n 3, 1) := dk_29 (dk_at dksX6_changes_7 11 rfl rfl)
theorem dX6_changes_176 : decode cX6_changes 176 = .ok (.invokevirtual 171, 3) := dk_182 0 171 (dk_at dksX6_changes_7 12 rfl rfl)
theorem dX6_changes_179 : decode cX6_changes 179 = .ok (.iload 4, 2) := dk_21 4 (dk_at dksX6_changes_7 15 rfl rfl)
theorem dX6_changes_181 : decode cX6_changes 181 = .ok (.ireturn, 1) := dk_172 (dk_at dksX6_changes_7 17 rfl rfl)
abbrev cX6_valueAt : ByteArray := prog_26_method_13_code
def yX6_valueAt : MethodName := ⟨RX6, "valueAt", "(II)I"⟩
def dkwX6_valueAt_1 : List UInt8 := [167, 0, 23, 27, 5, 160, 0, 12, 42, 180, 0, 16, 28, 46, 167, 0, 9, 42, 180, 0, 7, 28, 46, 172]
abbrev dktX6_valueAt_1 : List UInt8 := dkwX6_valueAt_1 ++ []
def dkwX6_valueAt_0 : List UInt8 := [27, 154, 0, 12, 42, 180, 0, 31, 28, 46, 167, 0, 37, 27, 4, 160, 0, 12, 42, 180, 0, 13, 28, 46]
abbrev dktX6_valueAt_0 : List UInt8 := dkwX6_valueAt_0 ++ dktX6_valueAt_1
theorem dksX6_valueAt_0 : cX6_valueAt.data.toList.drop 0 = dktX6_valueAt_0 := by decide +kernel
theorem dksX6_valueAt_1 : cX6_valueAt.data.toList.drop 24 = dktX6_valueAt_1 := dk_seg dksX6_valueAt_0 24 rfl rfl
theorem dX6_valueAt_0 : decode cX6_valueAt 0 = .ok (.iload_n 1, 1) := dk_27 (dk_at dksX6_valueAt_0 0 rfl rfl)
theorem dX6_valueAt_1 : decode cX6_valueAt 1 = .ok (.ifCond .ne 12, 3) := dk_154 0 12 (dk_at dksX6_valueAt_0 1 rfl rfl)
theorem dX6_valueAt_4 : decode cX6_valueAt 4 = .ok (.aload_n 0, 1) := dk_42 (dk_at dksX6_valueAt_0 4 rfl rfl)
theorem dX6_valueAt_5 : decode cX6_valueAt 5 = .ok (.getfield 31, 3) := dk_180 0 31 (dk_at dksX6_valueAt_0 5 rfl rfl)
theorem dX6_valueAt_8 : decode cX6_valueAt 8 = .ok (.iload_n 2, 1) := dk_28 (dk_at dksX6_valueAt_0 8 rfl rfl)
theorem dX6_valueAt_9 : decode cX6_valueAt 9 = .ok (.iaload, 1) := dk_46 (dk_at dksX6_valueAt_0 9 rfl rfl)
theorem dX6_valueAt_10 : decode cX6_valueAt 10 = .ok (.goto 37, 3) := dk_167 0 37 (dk_at dksX6_valueAt_0 10 rfl rfl)
theorem dX6_valueAt_13 : decode cX6_valueAt 13 = .ok (.iload_n 1, 1) := dk_27 (dk_at dksX6_valueAt_0 13 rfl rfl)
theorem dX6_valueAt_14 : decode cX6_valueAt 14 = .ok (.iconst 1, 1) := dk_4 (dk_at dksX6_valueAt_0 14 rfl rfl)
theorem dX6_valueAt_15 : decode cX6_valueAt 15 = .ok (.if_icmp .ne 12, 3) := dk_160 0 12 (dk_at dksX6_valueAt_0 15 rfl rfl)
theorem dX6_valueAt_18 : decode cX6_valueAt 18 = .ok (.aload_n 0, 1) := dk_42 (dk_at dksX6_valueAt_0 18 rfl rfl)
theorem dX6_valueAt_19 : decode cX6_valueAt 19 = .ok (.getfield 13, 3) := dk_180 0 13 (dk_at dksX6_valueAt_0 19 rfl rfl)
theorem dX6_valueAt_22 : decode cX6_valueAt 22 = .ok (.iload_n 2, 1) := dk_28 (dk_at dksX6_valueAt_0 22 rfl rfl)
theorem dX6_valueAt_23 : decode cX6_valueAt 23 = .ok (.iaload, 1) := dk_46 (dk_at dksX6_valueAt_0 23 rfl rfl)
theorem dX6_valueAt_24 : decode cX6_valueAt 24 = .ok (.goto 23, 3) := dk_167 0 23 (dk_at dksX6_valueAt_1 0 rfl rfl)
theorem dX6_valueAt_27 : decode cX6_valueAt 27 = .ok (.iload_n 1, 1) := dk_27 (dk_at dksX6_valueAt_1 3 rfl rfl)
theorem dX6_valueAt_28 : decode cX6_valueAt 28 = .ok (.iconst 2, 1) := dk_5 (dk_at dksX6_valueAt_1 4 rfl rfl)
theorem dX6_valueAt_29 : decode cX6_valueAt 29 = .ok (.if_icmp .ne 12, 3) := dk_160 0 12 (dk_at dksX6_valueAt_1 5 rfl rfl)
theorem dX6_valueAt_32 : decode cX6_valueAt 32 = .ok (.aload_n 0, 1) := dk_42 (dk_at dksX6_valueAt_1 8 rfl rfl)
theorem dX6_valueAt_33 : decode cX6_valueAt 33 = .ok (.getfield 16, 3) := dk_180 0 16 (dk_at dksX6_valueAt_1 9 rfl rfl)
theorem dX6_valueAt_36 : decode cX6_valueAt 36 = .ok (.iload_n 2, 1) := dk_28 (dk_at dksX6_valueAt_1 12 rfl rfl)
theorem dX6_valueAt_37 : decode cX6_valueAt 37 = .ok (.iaload, 1) := dk_46 (dk_at dksX6_valueAt_1 13 rfl rfl)
theorem dX6_valueAt_38 : decode cX6_valueAt 38 = .ok (.goto 9, 3) := dk_167 0 9 (dk_at dksX6_valueAt_1 14 rfl rfl)
theorem dX6_valueAt_41 : decode cX6_valueAt 41 = .ok (.aload_n 0, 1) := dk_42 (dk_at dksX6_valueAt_1 17 rfl rfl)
theorem dX6_valueAt_42 : decode cX6_valueAt 42 = .ok (.getfield 7, 3) := dk_180 0 7 (dk_at dksX6_valueAt_1 18 rfl rfl)
theorem dX6_valueAt_45 : decode cX6_valueAt 45 = .ok (.iload_n 2, 1) := dk_28 (dk_at dksX6_valueAt_1 21 rfl rfl)
theorem dX6_valueAt_46 : decode cX6_valueAt 46 = .ok (.iaload, 1) := dk_46 (dk_at dksX6_valueAt_1 22 rfl rfl)
theorem dX6_valueAt_47 : decode cX6_valueAt 47 = .ok (.ireturn, 1) := dk_172 (dk_at dksX6_valueAt_1 23 rfl rfl)
abbrev cX6_isHour : ByteArray := prog_26_method_6_code
def yX6_isHour : MethodName := ⟨RX6, "isHour", "(I)Z"⟩
def dkwX6_isHour_0 : List UInt8 := [26, 3, 16, 23, 184, 0, 134, 172]
abbrev dktX6_isHour_0 : List UInt8 := dkwX6_isHour_0 ++ []
theorem dksX6_isHour_0 : cX6_isHour.data.toList.drop 0 = dktX6_isHour_0 := by decide +kernel
theorem dX6_isHour_0 : decode cX6_isHour 0 = .ok (.iload_n 0, 1) := dk_26 (dk_at dksX6_isHour_0 0 rfl rfl)
theorem dX6_isHour_1 : decode cX6_isHour 1 = .ok (.iconst 0, 1) := dk_3 (dk_at dksX6_isHour_0 1 rfl rfl)
theorem dX6_isHour_2 : decode cX6_isHour 2 = .ok (.bipush 23, 2) := dk_16 23 (dk_at dksX6_isHour_0 2 rfl rfl)
theorem dX6_isHour_4 : decode cX6_isHour 4 = .ok (.invokestatic 134, 3) := dk_184 0 134 (dk_at dksX6_isHour_0 4 rfl rfl)
theorem dX6_isHour_7 : decode cX6_isHour 7 = .ok (.ireturn, 1) := dk_172 (dk_at dksX6_isHour_0 7 rfl rfl)
abbrev cX6_feed : ByteArray := prog_26_method_19_code
def yX6_feed : MethodName := ⟨RX6, "feed", "(I)I"⟩
def dkwX6_feed_2 : List UInt8 := [180, 0, 184, 172]
abbrev dktX6_feed_2 : List UInt8 := dkwX6_feed_2 ++ []
def dkwX6_feed_1 : List UInt8 := [172, 42, 180, 0, 52, 42, 180, 0, 184, 27, 145, 84, 42, 89, 180, 0, 184, 4, 96, 181, 0, 184, 42]
abbrev dktX6_feed_1 : List UInt8 := dkwX6_feed_1 ++ dktX6_feed_2
def dkwX6_feed_0 : List UInt8 := [27, 3, 17, 0, 255, 184, 0, 134, 154, 0, 5, 2, 172, 42, 180, 0, 184, 16, 120, 160, 0, 6, 16, 253]
abbrev dktX6_feed_0 : List UInt8 := dkwX6_feed_0 ++ dktX6_feed_1
theorem dksX6_feed_0 : cX6_feed.data.toList.drop 0 = dktX6_feed_0 := by decide +kernel
theorem dksX6_feed_1 : cX6_feed.data.toList.drop 24 = dktX6_feed_1 := dk_seg dksX6_feed_0 24 rfl rfl
theorem dksX6_feed_2 : cX6_feed.data.toList.drop 47 = dktX6_feed_2 := dk_seg dksX6_feed_1 23 rfl rfl
theorem dX6_feed_0 : decode cX6_feed 0 = .ok (.iload_n 1, 1) := dk_27 (dk_at dksX6_feed_0 0 rfl rfl)
theorem dX6_feed_1 : decode cX6_feed 1 = .ok (.iconst 0, 1) := dk_3 (dk_at dksX6_feed_0 1 rfl rfl)
theorem dX6_feed_2 : decode cX6_feed 2 = .ok (.sipush 255, 3) := dk_17 0 255 (dk_at dksX6_feed_0 2 rfl rfl)
theorem dX6_feed_5 : decode cX6_feed 5 = .ok (.invokestatic 134, 3) := dk_184 0 134 (dk_at dksX6_feed_0 5 rfl rfl)
theorem dX6_feed_8 : decode cX6_feed 8 = .ok (.ifCond .ne 5, 3) := dk_154 0 5 (dk_at dksX6_feed_0 8 rfl rfl)
theorem dX6_feed_11 : decode cX6_feed 11 = .ok (.iconst (-1), 1) := dk_2 (dk_at dksX6_feed_0 11 rfl rfl)
theorem dX6_feed_12 : decode cX6_feed 12 = .ok (.ireturn, 1) := dk_172 (dk_at dksX6_feed_0 12 rfl rfl)
theorem dX6_feed_13 : decode cX6_feed 13 = .ok (.aload_n 0, 1) := dk_42 (dk_at dksX6_feed_0 13 rfl rfl)
theorem dX6_feed_14 : decode cX6_feed 14 = .ok (.getfield 184, 3) := dk_180 0 184 (dk_at dksX6_feed_0 14 rfl rfl)
theorem dX6_feed_17 : decode cX6_feed 17 = .ok (.bipush 120, 2) := dk_16 120 (dk_at dksX6_feed_0 17 rfl rfl)
theorem dX6_feed_19 : decode cX6_feed 19 = .ok (.if_icmp .ne 6, 3) := dk_160 0 6 (dk_at dksX6_feed_0 19 rfl rfl)
theorem dX6_feed_22 : decode cX6_feed 22 = .ok (.bipush (-3), 2) := dk_16 253 (dk_at dksX6_feed_0 22 rfl rfl)
theorem dX6_feed_24 : decode cX6_feed 24 = .ok (.ireturn, 1) := dk_172 (dk_at dksX6_feed_1 0 rfl rfl)
theorem dX6_feed_25 : decode cX6_feed 25 = .ok (.aload_n 0, 1) := dk_42 (dk_at dksX6_feed_1 1 rfl rfl)
theorem dX6_feed_26 : decode cX6_feed 26 = .ok (.getfield 52, 3) := dk_180 0 52 (dk_at dksX6_feed_1 2 rfl rfl)
theorem dX6_feed_29 : decode cX6_feed 29 = .ok (.aload_n 0, 1) := dk_42 (dk_at dksX6_feed_1 5 rfl rfl)
theorem dX6_feed_30 : decode cX6_feed 30 = .ok (.getfield 184, 3) := dk_180 0 184 (dk_at dksX6_feed_1 6 rfl rfl)
theorem dX6_feed_33 : decode cX6_feed 33 = .ok (.iload_n 1, 1) := dk_27 (dk_at dksX6_feed_1 9 rfl rfl)
theorem dX6_feed_34 : decode cX6_feed 34 = .ok (.i2b, 1) := dk_145 (dk_at dksX6_feed_1 10 rfl rfl)
theorem dX6_feed_35 : decode cX6_feed 35 = .ok (.bastore, 1) := dk_84 (dk_at dksX6_feed_1 11 rfl rfl)
theorem dX6_feed_36 : decode cX6_feed 36 = .ok (.aload_n 0, 1) := dk_42 (dk_at dksX6_feed_1 12 rfl rfl)
theorem dX6_feed_37 : decode cX6_feed 37 = .ok (.dup, 1) := dk_89 (dk_at dksX6_feed_1 13 rfl rfl)
theorem dX6_feed_38 : decode cX6_feed 38 = .ok (.getfield 184, 3) := dk_180 0 184 (dk_at dksX6_feed_1 14 rfl rfl)
theorem dX6_feed_41 : decode cX6_feed 41 = .ok (.iconst 1, 1) := dk_4 (dk_at dksX6_feed_1 17 rfl rfl)
theorem dX6_feed_42 : decode cX6_feed 42 = .ok (.iadd, 1) := dk_96 (dk_at dksX6_feed_1 18 rfl rfl)
theorem dX6_feed_43 : decode cX6_feed 43 = .ok (.putfield 184, 3) := dk_181 0 184 (dk_at dksX6_feed_1 19 rfl rfl)
theorem dX6_feed_46 : decode cX6_feed 46 = .ok (.aload_n 0, 1) := dk_42 (dk_at dksX6_feed_1 22 rfl rfl)
theorem dX6_feed_47 : decode cX6_feed 47 = .ok (.getfield 184, 3) := dk_180 0 184 (dk_at dksX6_feed_2 0 rfl rfl)
theorem dX6_feed_50 : decode cX6_feed 50 = .ok (.ireturn, 1) := dk_172 (dk_at dksX6_feed_2 3 rfl rfl)
abbrev cX6_law : ByteArray := prog_26_method_37_code
def yX6_law : MethodName := ⟨RX6, "law", "()I"⟩
def dkwX6_law_0 : List UInt8 := [42, 3, 182, 0, 248, 60, 27, 155, 0, 8, 16, 156, 27, 100, 172, 42, 4, 181, 0, 251, 4, 172]
abbrev dktX6_law_0 : List UInt8 := dkwX6_law_0 ++ []
theorem dksX6_law_0 : cX6_law.data.toList.drop 0 = dktX6_law_0 := by decide +kernel
theorem dX6_law_0 : decode cX6_law 0 = .ok (.aload_n 0, 1) := dk_42 (dk_at dksX6_law_0 0 rfl rfl)
theorem dX6_law_1 : decode cX6_law 1 = .ok (.iconst 0, 1) := dk_3 (dk_at dksX6_law_0 1 rfl rfl)
theorem dX6_law_2 : decode cX6_law 2 = .ok (.invokevirtual 248, 3) := dk_182 0 248 (dk_at dksX6_law_0 2 rfl rfl)
theorem dX6_law_5 : decode cX6_law 5 = .ok (.istore_n 1, 1) := dk_60 (dk_at dksX6_law_0 5 rfl rfl)
theorem dX6_law_6 : decode cX6_law 6 = .ok (.iload_n 1, 1) := dk_27 (dk_at dksX6_law_0 6 rfl rfl)
theorem dX6_law_7 : decode cX6_law 7 = .ok (.ifCond .lt 8, 3) := dk_155 0 8 (dk_at dksX6_law_0 7 rfl rfl)
theorem dX6_law_10 : decode cX6_law 10 = .ok (.bipush (-100), 2) := dk_16 156 (dk_at dksX6_law_0 10 rfl rfl)
theorem dX6_law_12 : decode cX6_law 12 = .ok (.iload_n 1, 1) := dk_27 (dk_at dksX6_law_0 12 rfl rfl)
theorem dX6_law_13 : decode cX6_law 13 = .ok (.isub, 1) := dk_100 (dk_at dksX6_law_0 13 rfl rfl)
theorem dX6_law_14 : decode cX6_law 14 = .ok (.ireturn, 1) := dk_172 (dk_at dksX6_law_0 14 rfl rfl)
theorem dX6_law_15 : decode cX6_law 15 = .ok (.aload_n 0, 1) := dk_42 (dk_at dksX6_law_0 15 rfl rfl)
theorem dX6_law_16 : decode cX6_law 16 = .ok (.iconst 1, 1) := dk_4 (dk_at dksX6_law_0 16 rfl rfl)
theorem dX6_law_17 : decode cX6_law 17 = .ok (.putfield 251, 3) := dk_181 0 251 (dk_at dksX6_law_0 17 rfl rfl)
theorem dX6_law_20 : decode cX6_law 20 = .ok (.iconst 1, 1) := dk_4 (dk_at dksX6_law_0 20 rfl rfl)
theorem dX6_law_21 : decode cX6_law 21 = .ok (.ireturn, 1) := dk_172 (dk_at dksX6_law_0 21 rfl rfl)
abbrev cX6_readText : ByteArray := prog_26_method_33_code
def yX6_readText : MethodName := ⟨RX6, "readText", "(I)I"⟩
def dkwX6_readText_9 : List UInt8 := [16, 61, 27, 104, 28, 96, 42, 180, 0, 69, 16, 61, 28, 96, 53, 86, 132, 2, 1, 167, 255, 203, 2, 172]
abbrev dktX6_readText_9 : List UInt8 := dkwX6_readText_9 ++ []
def dkwX6_readText_8 : List UInt8 := [42, 180, 0, 65, 16, 61, 27, 104, 28, 96, 42, 180, 0, 65, 16, 61, 28, 96, 53, 86, 42, 180, 0, 69]
abbrev dktX6_readText_8 : List UInt8 := dkwX6_readText_8 ++ dktX6_readText_9
def dkwX6_readText_7 : List UInt8 := [42, 180, 0, 62, 27, 42, 180, 0, 62, 4, 46, 79, 3, 61, 28, 42, 180, 0, 62, 27, 46, 162, 0, 49]
abbrev dktX6_readText_7 : List UInt8 := dkwX6_readText_7 ++ dktX6_readText_8
def dkwX6_readText_6 : List UInt8 := [17, 0, 130, 27, 104, 28, 96, 42, 180, 0, 59, 17, 0, 130, 28, 96, 46, 79, 132, 2, 1, 167, 255, 201]
abbrev dktX6_readText_6 : List UInt8 := dkwX6_readText_6 ++ dktX6_readText_7
def dkwX6_readText_5 : List UInt8 := [17, 0, 130, 27, 104, 28, 96, 42, 180, 0, 56, 17, 0, 130, 28, 96, 51, 84, 42, 180, 0, 59]
abbrev dktX6_readText_5 : List UInt8 := dkwX6_readText_5 ++ dktX6_readText_6
def dkwX6_readText_4 : List UInt8 := [155, 0, 8, 42, 180, 0, 190, 172, 3, 61, 28, 42, 180, 0, 193, 162, 0, 53, 42, 180, 0, 56]
abbrev dktX6_readText_4 : List UInt8 := dkwX6_readText_4 ++ dktX6_readText_5
def dkwX6_readText_3 : List UInt8 := [180, 0, 187, 42, 180, 0, 184, 162, 0, 7, 42, 182, 0, 199, 42, 3, 181, 0, 184, 42, 180, 0, 190]
abbrev dktX6_readText_3 : List UInt8 := dkwX6_readText_3 ++ dktX6_readText_4
def dkwX6_readText_2 : List UInt8 := [89, 180, 0, 187, 4, 96, 181, 0, 187, 42, 182, 0, 239, 167, 255, 226, 42, 180, 0, 190, 156, 0, 18, 42]
abbrev dktX6_readText_2 : List UInt8 := dkwX6_readText_2 ++ dktX6_readText_3
def dkwX6_readText_1 : List UInt8 := [4, 3, 79, 42, 182, 0, 239, 42, 180, 0, 190, 156, 0, 29, 42, 182, 0, 202, 16, 59, 160, 0, 20, 42]
abbrev dktX6_readText_1 : List UInt8 := dkwX6_readText_1 ++ dktX6_readText_2
def dkwX6_readText_0 : List UInt8 := [42, 3, 181, 0, 187, 42, 2, 181, 0, 190, 42, 3, 181, 0, 196, 42, 3, 181, 0, 193, 42, 180, 0, 62]
abbrev dktX6_readText_0 : List UInt8 := dkwX6_readText_0 ++ dktX6_readText_1
theorem dksX6_readText_0 : cX6_readText.data.toList.drop 0 = dktX6_readText_0 := by decide +kernel
theorem dksX6_readText_1 : cX6_readText.data.toList.drop 24 = dktX6_readText_1 := dk_seg dksX6_readText_0 24 rfl rfl
theorem dksX6_readText_2 : cX6_readText.data.toList.drop 48 = dktX6_readText_2 := dk_seg dksX6_readText_1 24 rfl rfl
theorem dksX6_readText_3 : cX6_readText.data.toList.drop 72 = dktX6_readText_3 := dk_seg dksX6_readText_2 24 rfl rfl
theorem dksX6_readText_4 : cX6_readText.data.toList.drop 95 = dktX6_readText_4 := dk_seg dksX6_readText_3 23 rfl rfl
theorem dksX6_readText_5 : cX6_readText.data.toList.drop 117 = dktX6_readText_5 := dk_seg dksX6_readText_4 22 rfl rfl
theorem dksX6_readText_6 : cX6_readText.data.toList.drop 139 = dktX6_readText_6 := dk_seg dksX6_readText_5 22 rfl rfl
theorem dksX6_readText_7 : cX6_readText.data.toList.drop 163 = dktX6_readText_7 := dk_seg dksX6_readText_6 24 rfl rfl
theorem dksX6_readText_8 : cX6_readText.data.toList.drop 187 = dktX6_readText_8 := dk_seg dksX6_readText_7 24 rfl rfl
theorem dksX6_readText_9 : cX6_readText.data.toList.drop 211 = dktX6_readText_9 := dk_seg dksX6_readText_8 24 rfl rfl
theorem dX6_readText_0 : decode cX6_readText 0 = .ok (.aload_n 0, 1) := dk_42 (dk_at dksX6_readText_0 0 rfl rfl)
theorem dX6_readText_1 : decode cX6_readText 1 = .ok (.iconst 0, 1) := dk_3 (dk_at dksX6_readText_0 1 rfl rfl)
theorem dX6_readText_2 : decode cX6_readText 2 = .ok (.putfield 187, 3) := dk_181 0 187 (dk_at dksX6_readText_0 2 rfl rfl)
theorem dX6_readText_5 : decode cX6_readText 5 = .ok (.aload_n 0, 1) := dk_42 (dk_at dksX6_readText_0 5 rfl rfl)
theorem dX6_readText_6 : decode cX6_readText 6 = .ok (.iconst (-1), 1) := dk_2 (dk_at dksX6_readText_0 6 rfl rfl)
theorem dX6_readText_7 : decode cX6_readText 7 = .ok (.putfield 190, 3) := dk_181 0 190 (dk_at dksX6_readText_0 7 rfl rfl)
theorem dX6_readText_10 : decode cX6_readText 10 = .ok (.aload_n 0, 1) := dk_42 (dk_at dksX6_readText_0 10 rfl rfl)
theorem dX6_readText_11 : decode cX6_readText 11 = .ok (.iconst 0, 1) := dk_3 (dk_at dksX6_readText_0 11 rfl rfl)
theorem dX6_readText_12 : decode cX6_readText 12 = .ok (.putfield 196, 3) := dk_181 0 196 (dk_at dksX6_readText_0 12 rfl rfl)
theorem dX6_readText_15 : decode cX6_readText 15 = .ok (.aload_n 0, 1) := dk_42 (dk_at dksX6_readText_0 15 rfl rfl)
theorem dX6_readText_16 : decode cX6_readText 16 = .ok (.iconst 0, 1) := dk_3 (dk_at dksX6_readText_0 16 rfl rfl)
theorem dX6_readText_17 : decode cX6_readText 17 = .ok (.putfield 193, 3) := dk_181 0 193 (dk_at dksX6_readText_0 17 rfl rfl)
theorem dX6_readText_20 : decode cX6_readText 20 = .ok (.aload_n 0, 1) := dk_42 (dk_at dksX6_readText_0 20 rfl rfl)
theorem dX6_readText_21 : decode cX6_readText 21 = .ok (.getfield 62, 3) := dk_180 0 62 (dk_at dksX6_readText_0 21 rfl rfl)
theorem dX6_readText_24 : decode cX6_readText 24 = .ok (.iconst 1, 1) := dk_4 (dk_at dksX6_readText_1 0 rfl rfl)
theorem dX6_readText_25 : decode cX6_readText 25 = .ok (.iconst 0, 1) := dk_3 (dk_at dksX6_readText_1 1 rfl rfl)
theorem dX6_readText_26 : decode cX6_readText 26 = .ok (.iastore, 1) := dk_79 (dk_at dksX6_readText_1 2 rfl rfl)
theorem dX6_readText_27 : decode cX6_readText 27 = .ok (.aload_n 0, 1) := dk_42 (dk_at dksX6_readText_1 3 rfl rfl)
theorem dX6_readText_28 : decode cX6_readText 28 = .ok (.invokevirtual 239, 3) := dk_182 0 239 (dk_at dksX6_readText_1 4 rfl rfl)
theorem dX6_readText_31 : decode cX6_readText 31 = .ok (.aload_n 0, 1) := dk_42 (dk_at dksX6_readText_1 7 rfl rfl)
theorem dX6_readText_32 : decode cX6_readText 32 = .ok (.getfield 190, 3) := dk_180 0 190 (dk_at dksX6_readText_1 8 rfl rfl)
theorem dX6_readText_35 : decode cX6_readText 35 = .ok (.ifCond .ge 29, 3) := dk_156 0 29 (dk_at dksX6_readText_1 11 rfl rfl)
theorem dX6_readText_38 : decode cX6_readText 38 = .ok (.aload_n 0, 1) := dk_42 (dk_at dksX6_readText_1 14 rfl rfl)
theorem dX6_readText_39 : decode cX6_readText 39 = .ok (.invokevirtual 202, 3) := dk_182 0 202 (dk_at dksX6_readText_1 15 rfl rfl)
theorem dX6_readText_42 : decode cX6_readText 42 = .ok (.bipush 59, 2) := dk_16 59 (dk_at dksX6_readText_1 18 rfl rfl)
theorem dX6_readText_44 : decode cX6_readText 44 = .ok (.if_icmp .ne 20, 3) := dk_160 0 20 (dk_at dksX6_readText_1 20 rfl rfl)
theorem dX6_readText_47 : decode cX6_readText 47 = .ok (.aload_n 0, 1) := dk_42 (dk_at dksX6_readText_1 23 rfl rfl)
theorem dX6_readText_48 : decode cX6_readText 48 = .ok (.dup, 1) := dk_89 (dk_at dksX6_readText_2 0 rfl rfl)
theorem dX6_readText_49 : decode cX6_readText 49 = .ok (.getfield 187, 3) := dk_180 0 187 (dk_at dksX6_readText_2 1 rfl rfl)
theorem dX6_readText_52 : decode cX6_readText 52 = .ok (.iconst 1, 1) := dk_4 (dk_at dksX6_readText_2 4 rfl rfl)
theorem dX6_readText_53 : decode cX6_readText 53 = .ok (.iadd, 1) := dk_96 (dk_at dksX6_readText_2 5 rfl rfl)
theorem dX6_readText_54 : decode cX6_readText 54 = .ok (.putfield 187, 3) := dk_181 0 187 (dk_at dksX6_readText_2 6 rfl rfl)
theorem dX6_readText_57 : decode cX6_readText 57 = .ok (.aload_n 0, 1) := dk_42 (dk_at dksX6_readText_2 9 rfl rfl)
theorem dX6_readText_58 : decode cX6_readText 58 = .ok (.invokevirtual 239, 3) := dk_182 0 239 (dk_at dksX6_readText_2 10 rfl rfl)
theorem dX6_readText_61 : decode cX6_readText 61 = .ok (.goto (-30), 3) := dk_167 255 226 (dk_at dksX6_readText_2 13 rfl rfl)
theorem dX6_readText_64 : decode cX6_readText 64 = .ok (.aload_n 0, 1) := dk_42 (dk_at dksX6_readText_2 16 rfl rfl)
theorem dX6_readText_65 : decode cX6_readText 65 = .ok (.getfield 190, 3) := dk_180 0 190 (dk_at dksX6_readText_2 17 rfl rfl)
theorem dX6_readText_68 : decode cX6_readText 68 = .ok (.ifCond .ge 18, 3) := dk_156 0 18 (dk_at dksX6_readText_2 20 rfl rfl)
theorem dX6_readText_71 : decode cX6_readText 71 = .ok (.aload_n 0, 1) := dk_42 (dk_at dksX6_readText_2 23 rfl rfl)
theorem dX6_readText_72 : decode cX6_readText 72 = .ok (.getfield 187, 3) := dk_180 0 187 (dk_at dksX6_readText_3 0 rfl rfl)
theorem dX6_readText_75 : decode cX6_readText 75 = .ok (.aload_n 0, 1) := dk_42 (dk_at dksX6_readText_3 3 rfl rfl)
theorem dX6_readText_76 : decode cX6_readText 76 = .ok (.getfield 184, 3) := dk_180 0 184 (dk_at dksX6_readText_3 4 rfl rfl)
theorem dX6_readText_79 : decode cX6_readText 79 = .ok (.if_icmp .ge 7, 3) := dk_162 0 7 (dk_at dksX6_readText_3 7 rfl rfl)
theorem dX6_readText_82 : decode cX6_readText 82 = .ok (.aload_n 0, 1) := dk_42 (dk_at dksX6_readText_3 10 rfl rfl)
theorem dX6_readText_83 : decode cX6_readText 83 = .ok (.invokevirtual 199, 3) := dk_182 0 199 (dk_at dksX6_readText_3 11 rfl rfl)
theorem dX6_readText_86 : decode cX6_readText 86 = .ok (.aload_n 0, 1) := dk_42 (dk_at dksX6_readText_3 14 rfl rfl)
theorem dX6_readText_87 : decode cX6_readText 87 = .ok (.iconst 0, 1) := dk_3 (dk_at dksX6_readText_3 15 rfl rfl)
theorem dX6_readText_88 : decode cX6_readText 88 = .ok (.putfield 184, 3) := dk_181 0 184 (dk_at dksX6_readText_3 16 rfl rfl)
theorem dX6_readText_91 : decode cX6_readText 91 = .ok (.aload_n 0, 1) := dk_42 (dk_at dksX6_readText_3 19 rfl rfl)
theorem dX6_readText_92 : decode cX6_readText 92 = .ok (.getfield 190, 3) := dk_180 0 190 (dk_at dksX6_readText_3 20 rfl rfl)
theorem dX6_readText_95 : decode cX6_readText 95 = .ok (.ifCond .lt 8, 3) := dk_155 0 8 (dk_at dksX6_readText_4 0 rfl rfl)
theorem dX6_readText_98 : decode cX6_readText 98 = .ok (.aload_n 0, 1) := dk_42 (dk_at dksX6_readText_4 3 rfl rfl)
theorem dX6_readText_99 : decode cX6_readText 99 = .ok (.getfield 190, 3) := dk_180 0 190 (dk_at dksX6_readText_4 4 rfl rfl)
theorem dX6_readText_102 : decode cX6_readText 102 = .ok (.ireturn, 1) := dk_172 (dk_at dksX6_readText_4 7 rfl rfl)
theorem dX6_readText_103 : decode cX6_readText 103 = .ok (.iconst 0, 1) := dk_3 (dk_at dksX6_readText_4 8 rfl rfl)
theorem dX6_readText_104 : decode cX6_readText 104 = .ok (.istore_n 2, 1) := dk_61 (dk_at dksX6_readText_4 9 rfl rfl)
theorem dX6_readText_105 : decode cX6_readText 105 = .ok (.iload_n 2, 1) := dk_28 (dk_at dksX6_readText_4 10 rfl rfl)
theorem dX6_readText_106 : decode cX6_readText 106 = .ok (.aload_n 0, 1) := dk_42 (dk_at dksX6_readText_4 11 rfl rfl)
theorem dX6_readText_107 : decode cX6_readText 107 = .ok (.getfield 193, 3) := dk_180 0 193 (dk_at dksX6_readText_4 12 rfl rfl)
theorem dX6_readText_110 : decode cX6_readText 110 = .ok (.if_icmp .ge 53, 3) := dk_162 0 53 (dk_at dksX6_readText_4 15 rfl rfl)
theorem dX6_readText_113 : decode cX6_readText 113 = .ok (.aload_n 0, 1) := dk_42 (dk_at dksX6_readText_4 18 rfl rfl)
theorem dX6_readText_114 : decode cX6_readText 114 = .ok (.getfield 56, 3) := dk_180 0 56 (dk_at dksX6_readText_4 19 rfl rfl)
theorem dX6_readText_117 : decode cX6_readText 117 = .ok (.sipush 130, 3) := dk_17 0 130 (dk_at dksX6_readText_5 0 rfl rfl)
theorem dX6_readText_120 : decode cX6_readText 120 = .ok (.iload_n 1, 1) := dk_27 (dk_at dksX6_readText_5 3 rfl rfl)
theorem dX6_readText_121 : decode cX6_readText 121 = .ok (.imul, 1) := dk_104 (dk_at dksX6_readText_5 4 rfl rfl)
theorem dX6_readText_122 : decode cX6_readText 122 = .ok (.iload_n 2, 1) := dk_28 (dk_at dksX6_readText_5 5 rfl rfl)
theorem dX6_readText_123 : decode cX6_readText 123 = .ok (.iadd, 1) := dk_96 (dk_at dksX6_readText_5 6 rfl rfl)
theorem dX6_readText_124 : decode cX6_readText 124 = .ok (.aload_n 0, 1) := dk_42 (dk_at dksX6_readText_5 7 rfl rfl)
theorem dX6_readText_125 : decode cX6_readText 125 = .ok (.getfield 56, 3) := dk_180 0 56 (dk_at dksX6_readText_5 8 rfl rfl)
theorem dX6_readText_128 : decode cX6_readText 128 = .ok (.sipush 130, 3) := dk_17 0 130 (dk_at dksX6_readText_5 11 rfl rfl)
theorem dX6_readText_131 : decode cX6_readText 131 = .ok (.iload_n 2, 1) := dk_28 (dk_at dksX6_readText_5 14 rfl rfl)
theorem dX6_readText_132 : decode cX6_readText 132 = .ok (.iadd, 1) := dk_96 (dk_at dksX6_readText_5 15 rfl rfl)
theorem dX6_readText_133 : decode cX6_readText 133 = .ok (.baload, 1) := dk_51 (dk_at dksX6_readText_5 16 rfl rfl)
theorem dX6_readText_134 : decode cX6_readText 134 = .ok (.bastore, 1) := dk_84 (dk_at dksX6_readText_5 17 rfl rfl)
theorem dX6_readText_135 : decode cX6_readText 135 = .ok (.aload_n 0, 1) := dk_42 (dk_at dksX6_readText_5 18 rfl rfl)
theorem dX6_readText_136 : decode cX6_readText 136 = .ok (.getfield 59, 3) := dk_180 0 59 (dk_at dksX6_readText_5 19 rfl rfl)
theorem dX6_readText_139 : decode cX6_readText 139 = .ok (.sipush 130, 3) := dk_17 0 130 (dk_at dksX6_readText_6 0 rfl rfl)
theorem dX6_readText_142 : decode cX6_readText 142 = .ok (.iload_n 1, 1) := dk_27 (dk_at dksX6_readText_6 3 rfl rfl)
theorem dX6_readText_143 : decode cX6_readText 143 = .ok (.imul, 1) := dk_104 (dk_at dksX6_readText_6 4 rfl rfl)
theorem dX6_readText_144 : decode cX6_readText 144 = .ok (.iload_n 2, 1) := dk_28 (dk_at dksX6_readText_6 5 rfl rfl)
theorem dX6_readText_145 : decode cX6_readText 145 = .ok (.iadd, 1) := dk_96 (dk_at dksX6_readText_6 6 rfl rfl)
theorem dX6_readText_146 : decode cX6_readText 146 = .ok (.aload_n 0, 1) := dk_42 (dk_at dksX6_readText_6 7 rfl rfl)
theorem dX6_readText_147 : decode cX6_readText 147 = .ok (.getfield 59, 3) := dk_180 0 59 (dk_at dksX6_readText_6 8 rfl rfl)
theorem dX6_readText_150 : decode cX6_readText 150 = .ok (.sipush 130, 3) := dk_17 0 130 (dk_at dksX6_readText_6 11 rfl rfl)
theorem dX6_readText_153 : decode cX6_readText 153 = .ok (.iload_n 2, 1) := dk_28 (dk_at dksX6_readText_6 14 rfl rfl)
theorem dX6_readText_154 : decode cX6_readText 154 = .ok (.iadd, 1) := dk_96 (dk_at dksX6_readText_6 15 rfl rfl)
theorem dX6_readText_155 : decode cX6_readText 155 = .ok (.iaload, 1) := dk_46 (dk_at dksX6_readText_6 16 rfl rfl)
theorem dX6_readText_156 : decode cX6_readText 156 = .ok (.iastore, 1) := dk_79 (dk_at dksX6_readText_6 17 rfl rfl)
theorem dX6_readText_157 : decode cX6_readText 157 = .ok (.iinc 2 1, 3) := dk_132 2 1 (dk_at dksX6_readText_6 18 rfl rfl)
theorem dX6_readText_160 : decode cX6_readText 160 = .ok (.goto (-55), 3) := dk_167 255 201 (dk_at dksX6_readText_6 21 rfl rfl)
theorem dX6_readText_163 : decode cX6_readText 163 = .ok (.aload_n 0, 1) := dk_42 (dk_at dksX6_readText_7 0 rfl rfl)
theorem dX6_readText_164 : decode cX6_readText 164 = .ok (.getfield 62, 3) := dk_180 0 62 (dk_at dksX6_readText_7 1 rfl rfl)
theorem dX6_readText_167 : decode cX6_readText 167 = .ok (.iload_n 1, 1) := dk_27 (dk_at dksX6_readText_7 4 rfl rfl)
theorem dX6_readText_168 : decode cX6_readText 168 = .ok (.aload_n 0, 1) := dk_42 (dk_at dksX6_readText_7 5 rfl rfl)
theorem dX6_readText_169 : decode cX6_readText 169 = .ok (.getfield 62, 3) := dk_180 0 62 (dk_at dksX6_readText_7 6 rfl rfl)
theorem dX6_readText_172 : decode cX6_readText 172 = .ok (.iconst 1, 1) := dk_4 (dk_at dksX6_readText_7 9 rfl rfl)
theorem dX6_readText_173 : decode cX6_readText 173 = .ok (.iaload, 1) := dk_46 (dk_at dksX6_readText_7 10 rfl rfl)
theorem dX6_readText_174 : decode cX6_readText 174 = .ok (.iastore, 1) := dk_79 (dk_at dksX6_readText_7 11 rfl rfl)
theorem dX6_readText_175 : decode cX6_readText 175 = .ok (.iconst 0, 1) := dk_3 (dk_at dksX6_readText_7 12 rfl rfl)
theorem dX6_readText_176 : decode cX6_readText 176 = .ok (.istore_n 2, 1) := dk_61 (dk_at dksX6_readText_7 13 rfl rfl)
theorem dX6_readText_177 : decode cX6_readText 177 = .ok (.iload_n 2, 1) := dk_28 (dk_at dksX6_readText_7 14 rfl rfl)
theorem dX6_readText_178 : decode cX6_readText 178 = .ok (.aload_n 0, 1) := dk_42 (dk_at dksX6_readText_7 15 rfl rfl)
theorem dX6_readText_179 : decode cX6_readText 179 = .ok (.getfield 62, 3) := dk_180 0 62 (dk_at dksX6_readText_7 16 rfl rfl)
theorem dX6_readText_182 : decode cX6_readText 182 = .ok (.iload_n 1, 1) := dk_27 (dk_at dksX6_readText_7 19 rfl rfl)
theorem dX6_readText_183 : decode cX6_readText 183 = .ok (.iaload, 1) := dk_46 (dk_at dksX6_readText_7 20 rfl rfl)
theorem dX6_readText_184 : decode cX6_readText 184 = .ok (.if_icmp .ge 49, 3) := dk_162 0 49 (dk_at dksX6_readText_7 21 rfl rfl)
theorem dX6_readText_187 : decode cX6_readText 187 = .ok (.aload_n 0, 1) := dk_42 (dk_at dksX6_readText_8 0 rfl rfl)
theorem dX6_readText_188 : decode cX6_readText 188 = .ok (.getfield 65, 3) := dk_180 0 65 (dk_at dksX6_readText_8 1 rfl rfl)
theorem dX6_readText_191 : decode cX6_readText 191 = .ok (.bipush 61, 2) := dk_16 61 (dk_at dksX6_readText_8 4 rfl rfl)
theorem dX6_readText_193 : decode cX6_readText 193 = .ok (.iload_n 1, 1) := dk_27 (dk_at dksX6_readText_8 6 rfl rfl)
theorem dX6_readText_194 : decode cX6_readText 194 = .ok (.imul, 1) := dk_104 (dk_at dksX6_readText_8 7 rfl rfl)
theorem dX6_readText_195 : decode cX6_readText 195 = .ok (.iload_n 2, 1) := dk_28 (dk_at dksX6_readText_8 8 rfl rfl)
theorem dX6_readText_196 : decode cX6_readText 196 = .ok (.iadd, 1) := dk_96 (dk_at dksX6_readText_8 9 rfl rfl)
theorem dX6_readText_197 : decode cX6_readText 197 = .ok (.aload_n 0, 1) := dk_42 (dk_at dksX6_readText_8 10 rfl rfl)
theorem dX6_readText_198 : decode cX6_readText 198 = .ok (.getfield 65, 3) := dk_180 0 65 (dk_at dksX6_readText_8 11 rfl rfl)
theorem dX6_readText_201 : decode cX6_readText 201 = .ok (.bipush 61, 2) := dk_16 61 (dk_at dksX6_readText_8 14 rfl rfl)
theorem dX6_readText_203 : decode cX6_readText 203 = .ok (.iload_n 2, 1) := dk_28 (dk_at dksX6_readText_8 16 rfl rfl)
theorem dX6_readText_204 : decode cX6_readText 204 = .ok (.iadd, 1) := dk_96 (dk_at dksX6_readText_8 17 rfl rfl)
theorem dX6_readText_205 : decode cX6_readText 205 = .ok (.saload, 1) := dk_53 (dk_at dksX6_readText_8 18 rfl rfl)
theorem dX6_readText_206 : decode cX6_readText 206 = .ok (.sastore, 1) := dk_86 (dk_at dksX6_readText_8 19 rfl rfl)
theorem dX6_readText_207 : decode cX6_readText 207 = .ok (.aload_n 0, 1) := dk_42 (dk_at dksX6_readText_8 20 rfl rfl)
theorem dX6_readText_208 : decode cX6_readText 208 = .ok (.getfield 69, 3) := dk_180 0 69 (dk_at dksX6_readText_8 21 rfl rfl)
theorem dX6_readText_211 : decode cX6_readText 211 = .ok (.bipush 61, 2) := dk_16 61 (dk_at dksX6_readText_9 0 rfl rfl)
theorem dX6_readText_213 : decode cX6_readText 213 = .ok (.iload_n 1, 1) := dk_27 (dk_at dksX6_readText_9 2 rfl rfl)
theorem dX6_readText_214 : decode cX6_readText 214 = .ok (.imul, 1) := dk_104 (dk_at dksX6_readText_9 3 rfl rfl)
theorem dX6_readText_215 : decode cX6_readText 215 = .ok (.iload_n 2, 1) := dk_28 (dk_at dksX6_readText_9 4 rfl rfl)
theorem dX6_readText_216 : decode cX6_readText 216 = .ok (.iadd, 1) := dk_96 (dk_at dksX6_readText_9 5 rfl rfl)
theorem dX6_readText_217 : decode cX6_readText 217 = .ok (.aload_n 0, 1) := dk_42 (dk_at dksX6_readText_9 6 rfl rfl)
theorem dX6_readText_218 : decode cX6_readText 218 = .ok (.getfield 69, 3) := dk_180 0 69 (dk_at dksX6_readText_9 7 rfl rfl)
theorem dX6_readText_221 : decode cX6_readText 221 = .ok (.bipush 61, 2) := dk_16 61 (dk_at dksX6_readText_9 10 rfl rfl)
theorem dX6_readText_223 : decode cX6_readText 223 = .ok (.iload_n 2, 1) := dk_28 (dk_at dksX6_readText_9 12 rfl rfl)
theorem dX6_readText_224 : decode cX6_readText 224 = .ok (.iadd, 1) := dk_96 (dk_at dksX6_readText_9 13 rfl rfl)
theorem dX6_readText_225 : decode cX6_readText 225 = .ok (.saload, 1) := dk_53 (dk_at dksX6_readText_9 14 rfl rfl)
theorem dX6_readText_226 : decode cX6_readText 226 = .ok (.sastore, 1) := dk_86 (dk_at dksX6_readText_9 15 rfl rfl)
theorem dX6_readText_227 : decode cX6_readText 227 = .ok (.iinc 2 1, 3) := dk_132 2 1 (dk_at dksX6_readText_9 16 rfl rfl)
theorem dX6_readText_230 : decode cX6_readText 230 = .ok (.goto (-53), 3) := dk_167 255 203 (dk_at dksX6_readText_9 19 rfl rfl)
theorem dX6_readText_233 : decode cX6_readText 233 = .ok (.iconst (-1), 1) := dk_2 (dk_at dksX6_readText_9 22 rfl rfl)
theorem dX6_readText_234 : decode cX6_readText 234 = .ok (.ireturn, 1) := dk_172 (dk_at dksX6_readText_9 23 rfl rfl)
abbrev cX6_line : ByteArray := prog_26_method_32_code
def yX6_line : MethodName := ⟨RX6, "line", "()V"⟩
def dkwX6_line_3 : List UInt8 := [27, 42, 180, 0, 193, 147, 86, 42, 180, 0, 62, 4, 92, 46, 4, 96, 79, 177]
abbrev dktX6_line_3 : List UInt8 := dkwX6_line_3 ++ []
def dkwX6_line_2 : List UInt8 := [4, 96, 181, 0, 187, 42, 180, 0, 65, 27, 42, 180, 0, 193, 147, 86, 42, 182, 0, 221, 42, 180, 0, 69]
abbrev dktX6_line_2 : List UInt8 := dkwX6_line_2 ++ dktX6_line_3
def dkwX6_line_1 : List UInt8 := [182, 0, 221, 42, 180, 0, 190, 156, 0, 37, 42, 182, 0, 202, 16, 63, 160, 0, 28, 42, 89, 180, 0, 187]
abbrev dktX6_line_1 : List UInt8 := dkwX6_line_1 ++ dktX6_line_2
def dkwX6_line_0 : List UInt8 := [16, 61, 42, 180, 0, 62, 4, 46, 96, 60, 42, 180, 0, 65, 27, 42, 180, 0, 193, 147, 86, 42]
abbrev dktX6_line_0 : List UInt8 := dkwX6_line_0 ++ dktX6_line_1
theorem dksX6_line_0 : cX6_line.data.toList.drop 0 = dktX6_line_0 := by decide +kernel
theorem dksX6_line_1 : cX6_line.data.toList.drop 22 = dktX6_line_1 := dk_seg dksX6_line_0 22 rfl rfl
theorem dksX6_line_2 : cX6_line.data.toList.drop 46 = dktX6_line_2 := dk_seg dksX6_line_1 24 rfl rfl
theorem dksX6_line_3 : cX6_line.data.toList.drop 70 = dktX6_line_3 := dk_seg dksX6_line_2 24 rfl rfl
theorem dX6_line_0 : decode cX6_line 0 = .ok (.bipush 61, 2) := dk_16 61 (dk_at dksX6_line_0 0 rfl rfl)
theorem dX6_line_2 : decode cX6_line 2 = .ok (.aload_n 0, 1) := dk_42 (dk_at dksX6_line_0 2 rfl rfl)
theorem dX6_line_3 : decode cX6_line 3 = .ok (.getfield 62, 3) := dk_180 0 62 (dk_at dksX6_line_0 3 rfl rfl)
theorem dX6_line_6 : decode cX6_line 6 = .ok (.iconst 1, 1) := dk_4 (dk_at dksX6_line_0 6 rfl rfl)
theorem dX6_line_7 : decode cX6_line 7 = .ok (.iaload, 1) := dk_46 (dk_at dksX6_line_0 7 rfl rfl)
theorem dX6_line_8 : decode cX6_line 8 = .ok (.iadd, 1) := dk_96 (dk_at dksX6_line_0 8 rfl rfl)
theorem dX6_line_9 : decode cX6_line 9 = .ok (.istore_n 1, 1) := dk_60 (dk_at dksX6_line_0 9 rfl rfl)
theorem dX6_line_10 : decode cX6_line 10 = .ok (.aload_n 0, 1) := dk_42 (dk_at dksX6_line_0 10 rfl rfl)
theorem dX6_line_11 : decode cX6_line 11 = .ok (.getfield 65, 3) := dk_180 0 65 (dk_at dksX6_line_0 11 rfl rfl)
theorem dX6_line_14 : decode cX6_line 14 = .ok (.iload_n 1, 1) := dk_27 (dk_at dksX6_line_0 14 rfl rfl)
theorem dX6_line_15 : decode cX6_line 15 = .ok (.aload_n 0, 1) := dk_42 (dk_at dksX6_line_0 15 rfl rfl)
theorem dX6_line_16 : decode cX6_line 16 = .ok (.getfield 193, 3) := dk_180 0 193 (dk_at dksX6_line_0 16 rfl rfl)
theorem dX6_line_19 : decode cX6_line 19 = .ok (.i2s, 1) := dk_147 (dk_at dksX6_line_0 19 rfl rfl)
theorem dX6_line_20 : decode cX6_line 20 = .ok (.sastore, 1) := dk_86 (dk_at dksX6_line_0 20 rfl rfl)
theorem dX6_line_21 : decode cX6_line 21 = .ok (.aload_n 0, 1) := dk_42 (dk_at dksX6_line_0 21 rfl rfl)
theorem dX6_line_22 : decode cX6_line 22 = .ok (.invokevirtual 221, 3) := dk_182 0 221 (dk_at dksX6_line_1 0 rfl rfl)
theorem dX6_line_25 : decode cX6_line 25 = .ok (.aload_n 0, 1) := dk_42 (dk_at dksX6_line_1 3 rfl rfl)
theorem dX6_line_26 : decode cX6_line 26 = .ok (.getfield 190, 3) := dk_180 0 190 (dk_at dksX6_line_1 4 rfl rfl)
theorem dX6_line_29 : decode cX6_line 29 = .ok (.ifCond .ge 37, 3) := dk_156 0 37 (dk_at dksX6_line_1 7 rfl rfl)
theorem dX6_line_32 : decode cX6_line 32 = .ok (.aload_n 0, 1) := dk_42 (dk_at dksX6_line_1 10 rfl rfl)
theorem dX6_line_33 : decode cX6_line 33 = .ok (.invokevirtual 202, 3) := dk_182 0 202 (dk_at dksX6_line_1 11 rfl rfl)
theorem dX6_line_36 : decode cX6_line 36 = .ok (.bipush 63, 2) := dk_16 63 (dk_at dksX6_line_1 14 rfl rfl)
theorem dX6_line_38 : decode cX6_line 38 = .ok (.if_icmp .ne 28, 3) := dk_160 0 28 (dk_at dksX6_line_1 16 rfl rfl)
theorem dX6_line_41 : decode cX6_line 41 = .ok (.aload_n 0, 1) := dk_42 (dk_at dksX6_line_1 19 rfl rfl)
theorem dX6_line_42 : decode cX6_line 42 = .ok (.dup, 1) := dk_89 (dk_at dksX6_line_1 20 rfl rfl)
theorem dX6_line_43 : decode cX6_line 43 = .ok (.getfield 187, 3) := dk_180 0 187 (dk_at dksX6_line_1 21 rfl rfl)
theorem dX6_line_46 : decode cX6_line 46 = .ok (.iconst 1, 1) := dk_4 (dk_at dksX6_line_2 0 rfl rfl)
theorem dX6_line_47 : decode cX6_line 47 = .ok (.iadd, 1) := dk_96 (dk_at dksX6_line_2 1 rfl rfl)
theorem dX6_line_48 : decode cX6_line 48 = .ok (.putfield 187, 3) := dk_181 0 187 (dk_at dksX6_line_2 2 rfl rfl)
theorem dX6_line_51 : decode cX6_line 51 = .ok (.aload_n 0, 1) := dk_42 (dk_at dksX6_line_2 5 rfl rfl)
theorem dX6_line_52 : decode cX6_line 52 = .ok (.getfield 65, 3) := dk_180 0 65 (dk_at dksX6_line_2 6 rfl rfl)
theorem dX6_line_55 : decode cX6_line 55 = .ok (.iload_n 1, 1) := dk_27 (dk_at dksX6_line_2 9 rfl rfl)
theorem dX6_line_56 : decode cX6_line 56 = .ok (.aload_n 0, 1) := dk_42 (dk_at dksX6_line_2 10 rfl rfl)
theorem dX6_line_57 : decode cX6_line 57 = .ok (.getfield 193, 3) := dk_180 0 193 (dk_at dksX6_line_2 11 rfl rfl)
theorem dX6_line_60 : decode cX6_line 60 = .ok (.i2s, 1) := dk_147 (dk_at dksX6_line_2 14 rfl rfl)
theorem dX6_line_61 : decode cX6_line 61 = .ok (.sastore, 1) := dk_86 (dk_at dksX6_line_2 15 rfl rfl)
theorem dX6_line_62 : decode cX6_line 62 = .ok (.aload_n 0, 1) := dk_42 (dk_at dksX6_line_2 16 rfl rfl)
theorem dX6_line_63 : decode cX6_line 63 = .ok (.invokevirtual 221, 3) := dk_182 0 221 (dk_at dksX6_line_2 17 rfl rfl)
theorem dX6_line_66 : decode cX6_line 66 = .ok (.aload_n 0, 1) := dk_42 (dk_at dksX6_line_2 20 rfl rfl)
theorem dX6_line_67 : decode cX6_line 67 = .ok (.getfield 69, 3) := dk_180 0 69 (dk_at dksX6_line_2 21 rfl rfl)
theorem dX6_line_70 : decode cX6_line 70 = .ok (.iload_n 1, 1) := dk_27 (dk_at dksX6_line_3 0 rfl rfl)
theorem dX6_line_71 : decode cX6_line 71 = .ok (.aload_n 0, 1) := dk_42 (dk_at dksX6_line_3 1 rfl rfl)
theorem dX6_line_72 : decode cX6_line 72 = .ok (.getfield 193, 3) := dk_180 0 193 (dk_at dksX6_line_3 2 rfl rfl)
theorem dX6_line_75 : decode cX6_line 75 = .ok (.i2s, 1) := dk_147 (dk_at dksX6_line_3 5 rfl rfl)
theorem dX6_line_76 : decode cX6_line 76 = .ok (.sastore, 1) := dk_86 (dk_at dksX6_line_3 6 rfl rfl)
theorem dX6_line_77 : decode cX6_line 77 = .ok (.aload_n 0, 1) := dk_42 (dk_at dksX6_line_3 7 rfl rfl)
theorem dX6_line_78 : decode cX6_line 78 = .ok (.getfield 62, 3) := dk_180 0 62 (dk_at dksX6_line_3 8 rfl rfl)
theorem dX6_line_81 : decode cX6_line 81 = .ok (.iconst 1, 1) := dk_4 (dk_at dksX6_line_3 11 rfl rfl)
theorem dX6_line_82 : decode cX6_line 82 = .ok (.dup2, 1) := dk_92 (dk_at dksX6_line_3 12 rfl rfl)
theorem dX6_line_83 : decode cX6_line 83 = .ok (.iaload, 1) := dk_46 (dk_at dksX6_line_3 13 rfl rfl)
theorem dX6_line_84 : decode cX6_line 84 = .ok (.iconst 1, 1) := dk_4 (dk_at dksX6_line_3 14 rfl rfl)
theorem dX6_line_85 : decode cX6_line 85 = .ok (.iadd, 1) := dk_96 (dk_at dksX6_line_3 15 rfl rfl)
theorem dX6_line_86 : decode cX6_line 86 = .ok (.iastore, 1) := dk_79 (dk_at dksX6_line_3 16 rfl rfl)
theorem dX6_line_87 : decode cX6_line 87 = .ok (.return_, 1) := dk_177 (dk_at dksX6_line_3 17 rfl rfl)
abbrev cX6_either : ByteArray := prog_26_method_31_code
def yX6_either : MethodName := ⟨RX6, "either", "()V"⟩
def dkwX6_either_1 : List UInt8 := [180, 0, 187, 4, 96, 181, 0, 187, 42, 182, 0, 236, 42, 16, 124, 3, 182, 0, 206, 167, 255, 219, 177]
abbrev dktX6_either_1 : List UInt8 := dkwX6_either_1 ++ []
def dkwX6_either_0 : List UInt8 := [42, 182, 0, 236, 42, 180, 0, 190, 156, 0, 36, 42, 182, 0, 202, 16, 124, 160, 0, 27, 42, 89]
abbrev dktX6_either_0 : List UInt8 := dkwX6_either_0 ++ dktX6_either_1
theorem dksX6_either_0 : cX6_either.data.toList.drop 0 = dktX6_either_0 := by decide +kernel
theorem dksX6_either_1 : cX6_either.data.toList.drop 22 = dktX6_either_1 := dk_seg dksX6_either_0 22 rfl rfl
theorem dX6_either_0 : decode cX6_either 0 = .ok (.aload_n 0, 1) := dk_42 (dk_at dksX6_either_0 0 rfl rfl)
theorem dX6_either_1 : decode cX6_either 1 = .ok (.invokevirtual 236, 3) := dk_182 0 236 (dk_at dksX6_either_0 1 rfl rfl)
theorem dX6_either_4 : decode cX6_either 4 = .ok (.aload_n 0, 1) := dk_42 (dk_at dksX6_either_0 4 rfl rfl)
theorem dX6_either_5 : decode cX6_either 5 = .ok (.getfield 190, 3) := dk_180 0 190 (dk_at dksX6_either_0 5 rfl rfl)
theorem dX6_either_8 : decode cX6_either 8 = .ok (.ifCond .ge 36, 3) := dk_156 0 36 (dk_at dksX6_either_0 8 rfl rfl)
theorem dX6_either_11 : decode cX6_either 11 = .ok (.aload_n 0, 1) := dk_42 (dk_at dksX6_either_0 11 rfl rfl)
theorem dX6_either_12 : decode cX6_either 12 = .ok (.invokevirtual 202, 3) := dk_182 0 202 (dk_at dksX6_either_0 12 rfl rfl)
theorem dX6_either_15 : decode cX6_either 15 = .ok (.bipush 124, 2) := dk_16 124 (dk_at dksX6_either_0 15 rfl rfl)
theorem dX6_either_17 : decode cX6_either 17 = .ok (.if_icmp .ne 27, 3) := dk_160 0 27 (dk_at dksX6_either_0 17 rfl rfl)
theorem dX6_either_20 : decode cX6_either 20 = .ok (.aload_n 0, 1) := dk_42 (dk_at dksX6_either_0 20 rfl rfl)
theorem dX6_either_21 : decode cX6_either 21 = .ok (.dup, 1) := dk_89 (dk_at dksX6_either_0 21 rfl rfl)
theorem dX6_either_22 : decode cX6_either 22 = .ok (.getfield 187, 3) := dk_180 0 187 (dk_at dksX6_either_1 0 rfl rfl)
theorem dX6_either_25 : decode cX6_either 25 = .ok (.iconst 1, 1) := dk_4 (dk_at dksX6_either_1 3 rfl rfl)
theorem dX6_either_26 : decode cX6_either 26 = .ok (.iadd, 1) := dk_96 (dk_at dksX6_either_1 4 rfl rfl)
theorem dX6_either_27 : decode cX6_either 27 = .ok (.putfield 187, 3) := dk_181 0 187 (dk_at dksX6_either_1 5 rfl rfl)
theorem dX6_either_30 : decode cX6_either 30 = .ok (.aload_n 0, 1) := dk_42 (dk_at dksX6_either_1 8 rfl rfl)
theorem dX6_either_31 : decode cX6_either 31 = .ok (.invokevirtual 236, 3) := dk_182 0 236 (dk_at dksX6_either_1 9 rfl rfl)
theorem dX6_either_34 : decode cX6_either 34 = .ok (.aload_n 0, 1) := dk_42 (dk_at dksX6_either_1 12 rfl rfl)
theorem dX6_either_35 : decode cX6_either 35 = .ok (.bipush 124, 2) := dk_16 124 (dk_at dksX6_either_1 13 rfl rfl)
theorem dX6_either_37 : decode cX6_either 37 = .ok (.iconst 0, 1) := dk_3 (dk_at dksX6_either_1 15 rfl rfl)
theorem dX6_either_38 : decode cX6_either 38 = .ok (.invokevirtual 206, 3) := dk_182 0 206 (dk_at dksX6_either_1 16 rfl rfl)
theorem dX6_either_41 : decode cX6_either 41 = .ok (.goto (-37), 3) := dk_167 255 219 (dk_at dksX6_either_1 19 rfl rfl)
theorem dX6_either_44 : decode cX6_either 44 = .ok (.return_, 1) := dk_177 (dk_at dksX6_either_1 22 rfl rfl)
abbrev cX6_both : ByteArray := prog_26_method_30_code
def yX6_both : MethodName := ⟨RX6, "both", "()V"⟩
def dkwX6_both_1 : List UInt8 := [180, 0, 187, 4, 96, 181, 0, 187, 42, 182, 0, 233, 42, 16, 38, 3, 182, 0, 206, 167, 255, 219, 177]
abbrev dktX6_both_1 : List UInt8 := dkwX6_both_1 ++ []
def dkwX6_both_0 : List UInt8 := [42, 182, 0, 233, 42, 180, 0, 190, 156, 0, 36, 42, 182, 0, 202, 16, 38, 160, 0, 27, 42, 89]
abbrev dktX6_both_0 : List UInt8 := dkwX6_both_0 ++ dktX6_both_1
theorem dksX6_both_0 : cX6_both.data.toList.drop 0 = dktX6_both_0 := by decide +kernel
theorem dksX6_both_1 : cX6_both.data.toList.drop 22 = dktX6_both_1 := dk_seg dksX6_both_0 22 rfl rfl
theorem dX6_both_0 : decode cX6_both 0 = .ok (.aload_n 0, 1) := dk_42 (dk_at dksX6_both_0 0 rfl rfl)
theorem dX6_both_1 : decode cX6_both 1 = .ok (.invokevirtual 233, 3) := dk_182 0 233 (dk_at dksX6_both_0 1 rfl rfl)
theorem dX6_both_4 : decode cX6_both 4 = .ok (.aload_n 0, 1) := dk_42 (dk_at dksX6_both_0 4 rfl rfl)
theorem dX6_both_5 : decode cX6_both 5 = .ok (.getfield 190, 3) := dk_180 0 190 (dk_at dksX6_both_0 5 rfl rfl)
theorem dX6_both_8 : decode cX6_both 8 = .ok (.ifCond .ge 36, 3) := dk_156 0 36 (dk_at dksX6_both_0 8 rfl rfl)
theorem dX6_both_11 : decode cX6_both 11 = .ok (.aload_n 0, 1) := dk_42 (dk_at dksX6_both_0 11 rfl rfl)
theorem dX6_both_12 : decode cX6_both 12 = .ok (.invokevirtual 202, 3) := dk_182 0 202 (dk_at dksX6_both_0 12 rfl rfl)
theorem dX6_both_15 : decode cX6_both 15 = .ok (.bipush 38, 2) := dk_16 38 (dk_at dksX6_both_0 15 rfl rfl)
theorem dX6_both_17 : decode cX6_both 17 = .ok (.if_icmp .ne 27, 3) := dk_160 0 27 (dk_at dksX6_both_0 17 rfl rfl)
theorem dX6_both_20 : decode cX6_both 20 = .ok (.aload_n 0, 1) := dk_42 (dk_at dksX6_both_0 20 rfl rfl)
theorem dX6_both_21 : decode cX6_both 21 = .ok (.dup, 1) := dk_89 (dk_at dksX6_both_0 21 rfl rfl)
theorem dX6_both_22 : decode cX6_both 22 = .ok (.getfield 187, 3) := dk_180 0 187 (dk_at dksX6_both_1 0 rfl rfl)
theorem dX6_both_25 : decode cX6_both 25 = .ok (.iconst 1, 1) := dk_4 (dk_at dksX6_both_1 3 rfl rfl)
theorem dX6_both_26 : decode cX6_both 26 = .ok (.iadd, 1) := dk_96 (dk_at dksX6_both_1 4 rfl rfl)
theorem dX6_both_27 : decode cX6_both 27 = .ok (.putfield 187, 3) := dk_181 0 187 (dk_at dksX6_both_1 5 rfl rfl)
theorem dX6_both_30 : decode cX6_both 30 = .ok (.aload_n 0, 1) := dk_42 (dk_at dksX6_both_1 8 rfl rfl)
theorem dX6_both_31 : decode cX6_both 31 = .ok (.invokevirtual 233, 3) := dk_182 0 233 (dk_at dksX6_both_1 9 rfl rfl)
theorem dX6_both_34 : decode cX6_both 34 = .ok (.aload_n 0, 1) := dk_42 (dk_at dksX6_both_1 12 rfl rfl)
theorem dX6_both_35 : decode cX6_both 35 = .ok (.bipush 38, 2) := dk_16 38 (dk_at dksX6_both_1 13 rfl rfl)
theorem dX6_both_37 : decode cX6_both 37 = .ok (.iconst 0, 1) := dk_3 (dk_at dksX6_both_1 15 rfl rfl)
theorem dX6_both_38 : decode cX6_both 38 = .ok (.invokevirtual 206, 3) := dk_182 0 206 (dk_at dksX6_both_1 16 rfl rfl)
theorem dX6_both_41 : decode cX6_both 41 = .ok (.goto (-37), 3) := dk_167 255 219 (dk_at dksX6_both_1 19 rfl rfl)
theorem dX6_both_44 : decode cX6_both 44 = .ok (.return_, 1) := dk_177 (dk_at dksX6_both_1 22 rfl rfl)
abbrev cX6_compared : ByteArray := prog_26_method_29_code
def yX6_compared : MethodName := ⟨RX6, "compared", "()V"⟩
def dkwX6_compared_2 : List UInt8 := [182, 0, 230, 42, 27, 3, 182, 0, 206, 177]
abbrev dktX6_compared_2 : List UInt8 := dkwX6_compared_2 ++ []
def dkwX6_compared_1 : List UInt8 := [16, 61, 159, 0, 10, 27, 16, 62, 159, 0, 4, 177, 42, 89, 180, 0, 187, 4, 96, 181, 0, 187, 42]
abbrev dktX6_compared_1 : List UInt8 := dkwX6_compared_1 ++ dktX6_compared_2
def dkwX6_compared_0 : List UInt8 := [42, 182, 0, 230, 42, 182, 0, 202, 60, 42, 180, 0, 190, 156, 0, 21, 27, 16, 60, 159, 0, 16, 27]
abbrev dktX6_compared_0 : List UInt8 := dkwX6_compared_0 ++ dktX6_compared_1
theorem dksX6_compared_0 : cX6_compared.data.toList.drop 0 = dktX6_compared_0 := by decide +kernel
theorem dksX6_compared_1 : cX6_compared.data.toList.drop 23 = dktX6_compared_1 := dk_seg dksX6_compared_0 23 rfl rfl
theorem dksX6_compared_2 : cX6_compared.data.toList.drop 46 = dktX6_compared_2 := dk_seg dksX6_compared_1 23 rfl rfl
theorem dX6_compared_0 : decode cX6_compared 0 = .ok (.aload_n 0, 1) := dk_42 (dk_at dksX6_compared_0 0 rfl rfl)
theorem dX6_compared_1 : decode cX6_compared 1 = .ok (.invokevirtual 230, 3) := dk_182 0 230 (dk_at dksX6_compared_0 1 rfl rfl)
theorem dX6_compared_4 : decode cX6_compared 4 = .ok (.aload_n 0, 1) := dk_42 (dk_at dksX6_compared_0 4 rfl rfl)
theorem dX6_compared_5 : decode cX6_compared 5 = .ok (.invokevirtual 202, 3) := dk_182 0 202 (dk_at dksX6_compared_0 5 rfl rfl)
theorem dX6_compared_8 : decode cX6_compared 8 = .ok (.istore_n 1, 1) := dk_60 (dk_at dksX6_compared_0 8 rfl rfl)
theorem dX6_compared_9 : decode cX6_compared 9 = .ok (.aload_n 0, 1) := dk_42 (dk_at dksX6_compared_0 9 rfl rfl)
theorem dX6_compared_10 : decode cX6_compared 10 = .ok (.getfield 190, 3) := dk_180 0 190 (dk_at dksX6_compared_0 10 rfl rfl)
theorem dX6_compared_13 : decode cX6_compared 13 = .ok (.ifCond .ge 21, 3) := dk_156 0 21 (dk_at dksX6_compared_0 13 rfl rfl)
theorem dX6_compared_16 : decode cX6_compared 16 = .ok (.iload_n 1, 1) := dk_27 (dk_at dksX6_compared_0 16 rfl rfl)
theorem dX6_compared_17 : decode cX6_compared 17 = .ok (.bipush 60, 2) := dk_16 60 (dk_at dksX6_compared_0 17 rfl rfl)
theorem dX6_compared_19 : decode cX6_compared 19 = .ok (.if_icmp .eq 16, 3) := dk_159 0 16 (dk_at dksX6_compared_0 19 rfl rfl)
theorem dX6_compared_22 : decode cX6_compared 22 = .ok (.iload_n 1, 1) := dk_27 (dk_at dksX6_compared_0 22 rfl rfl)
theorem dX6_compared_23 : decode cX6_compared 23 = .ok (.bipush 61, 2) := dk_16 61 (dk_at dksX6_compared_1 0 rfl rfl)
theorem dX6_compared_25 : decode cX6_compared 25 = .ok (.if_icmp .eq 10, 3) := dk_159 0 10 (dk_at dksX6_compared_1 2 rfl rfl)
theorem dX6_compared_28 : decode cX6_compared 28 = .ok (.iload_n 1, 1) := dk_27 (dk_at dksX6_compared_1 5 rfl rfl)
theorem dX6_compared_29 : decode cX6_compared 29 = .ok (.bipush 62, 2) := dk_16 62 (dk_at dksX6_compared_1 6 rfl rfl)
theorem dX6_compared_31 : decode cX6_compared 31 = .ok (.if_icmp .eq 4, 3) := dk_159 0 4 (dk_at dksX6_compared_1 8 rfl rfl)
theorem dX6_compared_34 : decode cX6_compared 34 = .ok (.return_, 1) := dk_177 (dk_at dksX6_compared_1 11 rfl rfl)
theorem dX6_compared_35 : decode cX6_compared 35 = .ok (.aload_n 0, 1) := dk_42 (dk_at dksX6_compared_1 12 rfl rfl)
theorem dX6_compared_36 : decode cX6_compared 36 = .ok (.dup, 1) := dk_89 (dk_at dksX6_compared_1 13 rfl rfl)
theorem dX6_compared_37 : decode cX6_compared 37 = .ok (.getfield 187, 3) := dk_180 0 187 (dk_at dksX6_compared_1 14 rfl rfl)
theorem dX6_compared_40 : decode cX6_compared 40 = .ok (.iconst 1, 1) := dk_4 (dk_at dksX6_compared_1 17 rfl rfl)
theorem dX6_compared_41 : decode cX6_compared 41 = .ok (.iadd, 1) := dk_96 (dk_at dksX6_compared_1 18 rfl rfl)
theorem dX6_compared_42 : decode cX6_compared 42 = .ok (.putfield 187, 3) := dk_181 0 187 (dk_at dksX6_compared_1 19 rfl rfl)
theorem dX6_compared_45 : decode cX6_compared 45 = .ok (.aload_n 0, 1) := dk_42 (dk_at dksX6_compared_1 22 rfl rfl)
theorem dX6_compared_46 : decode cX6_compared 46 = .ok (.invokevirtual 230, 3) := dk_182 0 230 (dk_at dksX6_compared_2 0 rfl rfl)
theorem dX6_compared_49 : decode cX6_compared 49 = .ok (.aload_n 0, 1) := dk_42 (dk_at dksX6_compared_2 3 rfl rfl)
theorem dX6_compared_50 : decode cX6_compared 50 = .ok (.iload_n 1, 1) := dk_27 (dk_at dksX6_compared_2 4 rfl rfl)
theorem dX6_compared_51 : decode cX6_compared 51 = .ok (.iconst 0, 1) := dk_3 (dk_at dksX6_compared_2 5 rfl rfl)
theorem dX6_compared_52 : decode cX6_compared 52 = .ok (.invokevirtual 206, 3) := dk_182 0 206 (dk_at dksX6_compared_2 6 rfl rfl)
theorem dX6_compared_55 : decode cX6_compared 55 = .ok (.return_, 1) := dk_177 (dk_at dksX6_compared_2 9 rfl rfl)
abbrev cX6_sum : ByteArray := prog_26_method_28_code
def yX6_sum : MethodName := ⟨RX6, "sum", "()V"⟩
def dkwX6_sum_2 : List UInt8 := [42, 27, 3, 182, 0, 206, 167, 255, 206, 177]
abbrev dktX6_sum_2 : List UInt8 := dkwX6_sum_2 ++ []
def dkwX6_sum_1 : List UInt8 := [16, 45, 160, 0, 31, 42, 182, 0, 202, 60, 42, 89, 180, 0, 187, 4, 96, 181, 0, 187, 42, 182, 0, 227]
abbrev dktX6_sum_1 : List UInt8 := dkwX6_sum_1 ++ dktX6_sum_2
def dkwX6_sum_0 : List UInt8 := [42, 182, 0, 227, 42, 180, 0, 190, 156, 0, 49, 42, 182, 0, 202, 16, 43, 159, 0, 12, 42, 182, 0, 202]
abbrev dktX6_sum_0 : List UInt8 := dkwX6_sum_0 ++ dktX6_sum_1
theorem dksX6_sum_0 : cX6_sum.data.toList.drop 0 = dktX6_sum_0 := by decide +kernel
theorem dksX6_sum_1 : cX6_sum.data.toList.drop 24 = dktX6_sum_1 := dk_seg dksX6_sum_0 24 rfl rfl
theorem dksX6_sum_2 : cX6_sum.data.toList.drop 48 = dktX6_sum_2 := dk_seg dksX6_sum_1 24 rfl rfl
theorem dX6_sum_0 : decode cX6_sum 0 = .ok (.aload_n 0, 1) := dk_42 (dk_at dksX6_sum_0 0 rfl rfl)
theorem dX6_sum_1 : decode cX6_sum 1 = .ok (.invokevirtual 227, 3) := dk_182 0 227 (dk_at dksX6_sum_0 1 rfl rfl)
theorem dX6_sum_4 : decode cX6_sum 4 = .ok (.aload_n 0, 1) := dk_42 (dk_at dksX6_sum_0 4 rfl rfl)
theorem dX6_sum_5 : decode cX6_sum 5 = .ok (.getfield 190, 3) := dk_180 0 190 (dk_at dksX6_sum_0 5 rfl rfl)
theorem dX6_sum_8 : decode cX6_sum 8 = .ok (.ifCond .ge 49, 3) := dk_156 0 49 (dk_at dksX6_sum_0 8 rfl rfl)
theorem dX6_sum_11 : decode cX6_sum 11 = .ok (.aload_n 0, 1) := dk_42 (dk_at dksX6_sum_0 11 rfl rfl)
theorem dX6_sum_12 : decode cX6_sum 12 = .ok (.invokevirtual 202, 3) := dk_182 0 202 (dk_at dksX6_sum_0 12 rfl rfl)
theorem dX6_sum_15 : decode cX6_sum 15 = .ok (.bipush 43, 2) := dk_16 43 (dk_at dksX6_sum_0 15 rfl rfl)
theorem dX6_sum_17 : decode cX6_sum 17 = .ok (.if_icmp .eq 12, 3) := dk_159 0 12 (dk_at dksX6_sum_0 17 rfl rfl)
theorem dX6_sum_20 : decode cX6_sum 20 = .ok (.aload_n 0, 1) := dk_42 (dk_at dksX6_sum_0 20 rfl rfl)
theorem dX6_sum_21 : decode cX6_sum 21 = .ok (.invokevirtual 202, 3) := dk_182 0 202 (dk_at dksX6_sum_0 21 rfl rfl)
theorem dX6_sum_24 : decode cX6_sum 24 = .ok (.bipush 45, 2) := dk_16 45 (dk_at dksX6_sum_1 0 rfl rfl)
theorem dX6_sum_26 : decode cX6_sum 26 = .ok (.if_icmp .ne 31, 3) := dk_160 0 31 (dk_at dksX6_sum_1 2 rfl rfl)
theorem dX6_sum_29 : decode cX6_sum 29 = .ok (.aload_n 0, 1) := dk_42 (dk_at dksX6_sum_1 5 rfl rfl)
theorem dX6_sum_30 : decode cX6_sum 30 = .ok (.invokevirtual 202, 3) := dk_182 0 202 (dk_at dksX6_sum_1 6 rfl rfl)
theorem dX6_sum_33 : decode cX6_sum 33 = .ok (.istore_n 1, 1) := dk_60 (dk_at dksX6_sum_1 9 rfl rfl)
theorem dX6_sum_34 : decode cX6_sum 34 = .ok (.aload_n 0, 1) := dk_42 (dk_at dksX6_sum_1 10 rfl rfl)
theorem dX6_sum_35 : decode cX6_sum 35 = .ok (.dup, 1) := dk_89 (dk_at dksX6_sum_1 11 rfl rfl)
theorem dX6_sum_36 : decode cX6_sum 36 = .ok (.getfield 187, 3) := dk_180 0 187 (dk_at dksX6_sum_1 12 rfl rfl)
theorem dX6_sum_39 : decode cX6_sum 39 = .ok (.iconst 1, 1) := dk_4 (dk_at dksX6_sum_1 15 rfl rfl)
theorem dX6_sum_40 : decode cX6_sum 40 = .ok (.iadd, 1) := dk_96 (dk_at dksX6_sum_1 16 rfl rfl)
theorem dX6_sum_41 : decode cX6_sum 41 = .ok (.putfield 187, 3) := dk_181 0 187 (dk_at dksX6_sum_1 17 rfl rfl)
theorem dX6_sum_44 : decode cX6_sum 44 = .ok (.aload_n 0, 1) := dk_42 (dk_at dksX6_sum_1 20 rfl rfl)
theorem dX6_sum_45 : decode cX6_sum 45 = .ok (.invokevirtual 227, 3) := dk_182 0 227 (dk_at dksX6_sum_1 21 rfl rfl)
theorem dX6_sum_48 : decode cX6_sum 48 = .ok (.aload_n 0, 1) := dk_42 (dk_at dksX6_sum_2 0 rfl rfl)
theorem dX6_sum_49 : decode cX6_sum 49 = .ok (.iload_n 1, 1) := dk_27 (dk_at dksX6_sum_2 1 rfl rfl)
theorem dX6_sum_50 : decode cX6_sum 50 = .ok (.iconst 0, 1) := dk_3 (dk_at dksX6_sum_2 2 rfl rfl)
theorem dX6_sum_51 : decode cX6_sum 51 = .ok (.invokevirtual 206, 3) := dk_182 0 206 (dk_at dksX6_sum_2 3 rfl rfl)
theorem dX6_sum_54 : decode cX6_sum 54 = .ok (.goto (-50), 3) := dk_167 255 206 (dk_at dksX6_sum_2 6 rfl rfl)
theorem dX6_sum_57 : decode cX6_sum 57 = .ok (.return_, 1) := dk_177 (dk_at dksX6_sum_2 9 rfl rfl)
abbrev cX6_product : ByteArray := prog_26_method_27_code
def yX6_product : MethodName := ⟨RX6, "product", "()V"⟩
def dkwX6_product_2 : List UInt8 := [4, 96, 181, 0, 187, 42, 182, 0, 218, 42, 27, 3, 182, 0, 206, 167, 255, 197, 177]
abbrev dktX6_product_2 : List UInt8 := dkwX6_product_2 ++ []
def dkwX6_product_1 : List UInt8 := [16, 47, 159, 0, 12, 42, 182, 0, 202, 16, 37, 160, 0, 31, 42, 182, 0, 202, 60, 42, 89, 180, 0, 187]
abbrev dktX6_product_1 : List UInt8 := dkwX6_product_1 ++ dktX6_product_2
def dkwX6_product_0 : List UInt8 := [42, 182, 0, 218, 42, 180, 0, 190, 156, 0, 58, 42, 182, 0, 202, 16, 42, 159, 0, 21, 42, 182, 0, 202]
abbrev dktX6_product_0 : List UInt8 := dkwX6_product_0 ++ dktX6_product_1
theorem dksX6_product_0 : cX6_product.data.toList.drop 0 = dktX6_product_0 := by decide +kernel
theorem dksX6_product_1 : cX6_product.data.toList.drop 24 = dktX6_product_1 := dk_seg dksX6_product_0 24 rfl rfl
theorem dksX6_product_2 : cX6_product.data.toList.drop 48 = dktX6_product_2 := dk_seg dksX6_product_1 24 rfl rfl
theorem dX6_product_0 : decode cX6_product 0 = .ok (.aload_n 0, 1) := dk_42 (dk_at dksX6_product_0 0 rfl rfl)
theorem dX6_product_1 : decode cX6_product 1 = .ok (.invokevirtual 218, 3) := dk_182 0 218 (dk_at dksX6_product_0 1 rfl rfl)
theorem dX6_product_4 : decode cX6_product 4 = .ok (.aload_n 0, 1) := dk_42 (dk_at dksX6_product_0 4 rfl rfl)
theorem dX6_product_5 : decode cX6_product 5 = .ok (.getfield 190, 3) := dk_180 0 190 (dk_at dksX6_product_0 5 rfl rfl)
theorem dX6_product_8 : decode cX6_product 8 = .ok (.ifCond .ge 58, 3) := dk_156 0 58 (dk_at dksX6_product_0 8 rfl rfl)
theorem dX6_product_11 : decode cX6_product 11 = .ok (.aload_n 0, 1) := dk_42 (dk_at dksX6_product_0 11 rfl rfl)
theorem dX6_product_12 : decode cX6_product 12 = .ok (.invokevirtual 202, 3) := dk_182 0 202 (dk_at dksX6_product_0 12 rfl rfl)
theorem dX6_product_15 : decode cX6_product 15 = .ok (.bipush 42, 2) := dk_16 42 (dk_at dksX6_product_0 15 rfl rfl)
theorem dX6_product_17 : decode cX6_product 17 = .ok (.if_icmp .eq 21, 3) := dk_159 0 21 (dk_at dksX6_product_0 17 rfl rfl)
theorem dX6_product_20 : decode cX6_product 20 = .ok (.aload_n 0, 1) := dk_42 (dk_at dksX6_product_0 20 rfl rfl)
theorem dX6_product_21 : decode cX6_product 21 = .ok (.invokevirtual 202, 3) := dk_182 0 202 (dk_at dksX6_product_0 21 rfl rfl)
theorem dX6_product_24 : decode cX6_product 24 = .ok (.bipush 47, 2) := dk_16 47 (dk_at dksX6_product_1 0 rfl rfl)
theorem dX6_product_26 : decode cX6_product 26 = .ok (.if_icmp .eq 12, 3) := dk_159 0 12 (dk_at dksX6_product_1 2 rfl rfl)
theorem dX6_product_29 : decode cX6_product 29 = .ok (.aload_n 0, 1) := dk_42 (dk_at dksX6_product_1 5 rfl rfl)
theorem dX6_product_30 : decode cX6_product 30 = .ok (.invokevirtual 202, 3) := dk_182 0 202 (dk_at dksX6_product_1 6 rfl rfl)
theorem dX6_product_33 : decode cX6_product 33 = .ok (.bipush 37, 2) := dk_16 37 (dk_at dksX6_product_1 9 rfl rfl)
theorem dX6_product_35 : decode cX6_product 35 = .ok (.if_icmp .ne 31, 3) := dk_160 0 31 (dk_at dksX6_product_1 11 rfl rfl)
theorem dX6_product_38 : decode cX6_product 38 = .ok (.aload_n 0, 1) := dk_42 (dk_at dksX6_product_1 14 rfl rfl)
theorem dX6_product_39 : decode cX6_product 39 = .ok (.invokevirtual 202, 3) := dk_182 0 202 (dk_at dksX6_product_1 15 rfl rfl)
theorem dX6_product_42 : decode cX6_product 42 = .ok (.istore_n 1, 1) := dk_60 (dk_at dksX6_product_1 18 rfl rfl)
theorem dX6_product_43 : decode cX6_product 43 = .ok (.aload_n 0, 1) := dk_42 (dk_at dksX6_product_1 19 rfl rfl)
theorem dX6_product_44 : decode cX6_product 44 = .ok (.dup, 1) := dk_89 (dk_at dksX6_product_1 20 rfl rfl)
theorem dX6_product_45 : decode cX6_product 45 = .ok (.getfield 187, 3) := dk_180 0 187 (dk_at dksX6_product_1 21 rfl rfl)
theorem dX6_product_48 : decode cX6_product 48 = .ok (.iconst 1, 1) := dk_4 (dk_at dksX6_product_2 0 rfl rfl)
theorem dX6_product_49 : decode cX6_product 49 = .ok (.iadd, 1) := dk_96 (dk_at dksX6_product_2 1 rfl rfl)
theorem dX6_product_50 : decode cX6_product 50 = .ok (.putfield 187, 3) := dk_181 0 187 (dk_at dksX6_product_2 2 rfl rfl)
theorem dX6_product_53 : decode cX6_product 53 = .ok (.aload_n 0, 1) := dk_42 (dk_at dksX6_product_2 5 rfl rfl)
theorem dX6_product_54 : decode cX6_product 54 = .ok (.invokevirtual 218, 3) := dk_182 0 218 (dk_at dksX6_product_2 6 rfl rfl)
theorem dX6_product_57 : decode cX6_product 57 = .ok (.aload_n 0, 1) := dk_42 (dk_at dksX6_product_2 9 rfl rfl)
theorem dX6_product_58 : decode cX6_product 58 = .ok (.iload_n 1, 1) := dk_27 (dk_at dksX6_product_2 10 rfl rfl)
theorem dX6_product_59 : decode cX6_product 59 = .ok (.iconst 0, 1) := dk_3 (dk_at dksX6_product_2 11 rfl rfl)
theorem dX6_product_60 : decode cX6_product 60 = .ok (.invokevirtual 206, 3) := dk_182 0 206 (dk_at dksX6_product_2 12 rfl rfl)
theorem dX6_product_63 : decode cX6_product 63 = .ok (.goto (-59), 3) := dk_167 255 197 (dk_at dksX6_product_2 15 rfl rfl)
theorem dX6_product_66 : decode cX6_product 66 = .ok (.return_, 1) := dk_177 (dk_at dksX6_product_2 18 rfl rfl)
abbrev cX6_operand : ByteArray := prog_26_method_26_code
def yX6_operand : MethodName := ⟨RX6, "operand", "()V"⟩
def dkwX6_operand_6 : List UInt8 := [180, 0, 196, 4, 100, 181, 0, 196, 167, 0, 7, 42, 182, 0, 224, 177]
abbrev dktX6_operand_6 : List UInt8 := dkwX6_operand_6 ++ []
def dkwX6_operand_5 : List UInt8 := [16, 41, 159, 0, 8, 42, 182, 0, 199, 177, 42, 89, 180, 0, 187, 4, 96, 181, 0, 187, 42, 89]
abbrev dktX6_operand_5 : List UInt8 := dkwX6_operand_5 ++ dktX6_operand_6
def dkwX6_operand_4 : List UInt8 := [182, 0, 214, 154, 0, 4, 177, 42, 182, 0, 221, 42, 180, 0, 190, 155, 0, 4, 177, 42, 182, 0, 202]
abbrev dktX6_operand_4 : List UInt8 := dkwX6_operand_4 ++ dktX6_operand_5
def dkwX6_operand_3 : List UInt8 := [16, 33, 160, 0, 7, 6, 167, 0, 4, 7, 3, 182, 0, 206, 167, 0, 70, 27, 16, 40, 160, 0, 60, 42]
abbrev dktX6_operand_3 : List UInt8 := dkwX6_operand_3 ++ dktX6_operand_4
def dkwX6_operand_2 : List UInt8 := [182, 0, 214, 154, 0, 4, 177, 42, 182, 0, 218, 42, 89, 180, 0, 196, 4, 100, 181, 0, 196, 42, 27]
abbrev dktX6_operand_2 : List UInt8 := dkwX6_operand_2 ++ dktX6_operand_3
def dkwX6_operand_1 : List UInt8 := [180, 0, 187, 4, 96, 181, 0, 187, 167, 0, 123, 27, 16, 33, 159, 0, 9, 27, 16, 45, 160, 0, 44, 42]
abbrev dktX6_operand_1 : List UInt8 := dkwX6_operand_1 ++ dktX6_operand_2
def dkwX6_operand_0 : List UInt8 := [42, 182, 0, 202, 60, 27, 184, 0, 210, 155, 0, 25, 42, 5, 27, 184, 0, 210, 182, 0, 206, 42, 89]
abbrev dktX6_operand_0 : List UInt8 := dkwX6_operand_0 ++ dktX6_operand_1
theorem dksX6_operand_0 : cX6_operand.data.toList.drop 0 = dktX6_operand_0 := by decide +kernel
theorem dksX6_operand_1 : cX6_operand.data.toList.drop 23 = dktX6_operand_1 := dk_seg dksX6_operand_0 23 rfl rfl
theorem dksX6_operand_2 : cX6_operand.data.toList.drop 47 = dktX6_operand_2 := dk_seg dksX6_operand_1 24 rfl rfl
theorem dksX6_operand_3 : cX6_operand.data.toList.drop 70 = dktX6_operand_3 := dk_seg dksX6_operand_2 23 rfl rfl
theorem dksX6_operand_4 : cX6_operand.data.toList.drop 94 = dktX6_operand_4 := dk_seg dksX6_operand_3 24 rfl rfl
theorem dksX6_operand_5 : cX6_operand.data.toList.drop 117 = dktX6_operand_5 := dk_seg dksX6_operand_4 23 rfl rfl
theorem dksX6_operand_6 : cX6_operand.data.toList.drop 139 = dktX6_operand_6 := dk_seg dksX6_operand_5 22 rfl rfl
theorem dX6_operand_0 : decode cX6_operand 0 = .ok (.aload_n 0, 1) := dk_42 (dk_at dksX6_operand_0 0 rfl rfl)
theorem dX6_operand_1 : decode cX6_operand 1 = .ok (.invokevirtual 202, 3) := dk_182 0 202 (dk_at dksX6_operand_0 1 rfl rfl)
theorem dX6_operand_4 : decode cX6_operand 4 = .ok (.istore_n 1, 1) := dk_60 (dk_at dksX6_operand_0 4 rfl rfl)
theorem dX6_operand_5 : decode cX6_operand 5 = .ok (.iload_n 1, 1) := dk_27 (dk_at dksX6_operand_0 5 rfl rfl)
theorem dX6_operand_6 : decode cX6_operand 6 = .ok (.invokestatic 210, 3) := dk_184 0 210 (dk_at dksX6_operand_0 6 rfl rfl)
theorem dX6_operand_9 : decode cX6_operand 9 = .ok (.ifCond .lt 25, 3) := dk_155 0 25 (dk_at dksX6_operand_0 9 rfl rfl)
theorem dX6_operand_12 : decode cX6_operand 12 = .ok (.aload_n 0, 1) := dk_42 (dk_at dksX6_operand_0 12 rfl rfl)
theorem dX6_operand_13 : decode cX6_operand 13 = .ok (.iconst 2, 1) := dk_5 (dk_at dksX6_operand_0 13 rfl rfl)
theorem dX6_operand_14 : decode cX6_operand 14 = .ok (.iload_n 1, 1) := dk_27 (dk_at dksX6_operand_0 14 rfl rfl)
theorem dX6_operand_15 : decode cX6_operand 15 = .ok (.invokestatic 210, 3) := dk_184 0 210 (dk_at dksX6_operand_0 15 rfl rfl)
theorem dX6_operand_18 : decode cX6_operand 18 = .ok (.invokevirtual 206, 3) := dk_182 0 206 (dk_at dksX6_operand_0 18 rfl rfl)
theorem dX6_operand_21 : decode cX6_operand 21 = .ok (.aload_n 0, 1) := dk_42 (dk_at dksX6_operand_0 21 rfl rfl)
theorem dX6_operand_22 : decode cX6_operand 22 = .ok (.dup, 1) := dk_89 (dk_at dksX6_operand_0 22 rfl rfl)
theorem dX6_operand_23 : decode cX6_operand 23 = .ok (.getfield 187, 3) := dk_180 0 187 (dk_at dksX6_operand_1 0 rfl rfl)
theorem dX6_operand_26 : decode cX6_operand 26 = .ok (.iconst 1, 1) := dk_4 (dk_at dksX6_operand_1 3 rfl rfl)
theorem dX6_operand_27 : decode cX6_operand 27 = .ok (.iadd, 1) := dk_96 (dk_at dksX6_operand_1 4 rfl rfl)
theorem dX6_operand_28 : decode cX6_operand 28 = .ok (.putfield 187, 3) := dk_181 0 187 (dk_at dksX6_operand_1 5 rfl rfl)
theorem dX6_operand_31 : decode cX6_operand 31 = .ok (.goto 123, 3) := dk_167 0 123 (dk_at dksX6_operand_1 8 rfl rfl)
theorem dX6_operand_34 : decode cX6_operand 34 = .ok (.iload_n 1, 1) := dk_27 (dk_at dksX6_operand_1 11 rfl rfl)
theorem dX6_operand_35 : decode cX6_operand 35 = .ok (.bipush 33, 2) := dk_16 33 (dk_at dksX6_operand_1 12 rfl rfl)
theorem dX6_operand_37 : decode cX6_operand 37 = .ok (.if_icmp .eq 9, 3) := dk_159 0 9 (dk_at dksX6_operand_1 14 rfl rfl)
theorem dX6_operand_40 : decode cX6_operand 40 = .ok (.iload_n 1, 1) := dk_27 (dk_at dksX6_operand_1 17 rfl rfl)
theorem dX6_operand_41 : decode cX6_operand 41 = .ok (.bipush 45, 2) := dk_16 45 (dk_at dksX6_operand_1 18 rfl rfl)
theorem dX6_operand_43 : decode cX6_operand 43 = .ok (.if_icmp .ne 44, 3) := dk_160 0 44 (dk_at dksX6_operand_1 20 rfl rfl)
theorem dX6_operand_46 : decode cX6_operand 46 = .ok (.aload_n 0, 1) := dk_42 (dk_at dksX6_operand_1 23 rfl rfl)
theorem dX6_operand_47 : decode cX6_operand 47 = .ok (.invokevirtual 214, 3) := dk_182 0 214 (dk_at dksX6_operand_2 0 rfl rfl)
theorem dX6_operand_50 : decode cX6_operand 50 = .ok (.ifCond .ne 4, 3) := dk_154 0 4 (dk_at dksX6_operand_2 3 rfl rfl)
theorem dX6_operand_53 : decode cX6_operand 53 = .ok (.return_, 1) := dk_177 (dk_at dksX6_operand_2 6 rfl rfl)
theorem dX6_operand_54 : decode cX6_operand 54 = .ok (.aload_n 0, 1) := dk_42 (dk_at dksX6_operand_2 7 rfl rfl)
theorem dX6_operand_55 : decode cX6_operand 55 = .ok (.invokevirtual 218, 3) := dk_182 0 218 (dk_at dksX6_operand_2 8 rfl rfl)
theorem dX6_operand_58 : decode cX6_operand 58 = .ok (.aload_n 0, 1) := dk_42 (dk_at dksX6_operand_2 11 rfl rfl)
theorem dX6_operand_59 : decode cX6_operand 59 = .ok (.dup, 1) := dk_89 (dk_at dksX6_operand_2 12 rfl rfl)
theorem dX6_operand_60 : decode cX6_operand 60 = .ok (.getfield 196, 3) := dk_180 0 196 (dk_at dksX6_operand_2 13 rfl rfl)
theorem dX6_operand_63 : decode cX6_operand 63 = .ok (.iconst 1, 1) := dk_4 (dk_at dksX6_operand_2 16 rfl rfl)
theorem dX6_operand_64 : decode cX6_operand 64 = .ok (.isub, 1) := dk_100 (dk_at dksX6_operand_2 17 rfl rfl)
theorem dX6_operand_65 : decode cX6_operand 65 = .ok (.putfield 196, 3) := dk_181 0 196 (dk_at dksX6_operand_2 18 rfl rfl)
theorem dX6_operand_68 : decode cX6_operand 68 = .ok (.aload_n 0, 1) := dk_42 (dk_at dksX6_operand_2 21 rfl rfl)
theorem dX6_operand_69 : decode cX6_operand 69 = .ok (.iload_n 1, 1) := dk_27 (dk_at dksX6_operand_2 22 rfl rfl)
theorem dX6_operand_70 : decode cX6_operand 70 = .ok (.bipush 33, 2) := dk_16 33 (dk_at dksX6_operand_3 0 rfl rfl)
theorem dX6_operand_72 : decode cX6_operand 72 = .ok (.if_icmp .ne 7, 3) := dk_160 0 7 (dk_at dksX6_operand_3 2 rfl rfl)
theorem dX6_operand_75 : decode cX6_operand 75 = .ok (.iconst 3, 1) := dk_6 (dk_at dksX6_operand_3 5 rfl rfl)
theorem dX6_operand_76 : decode cX6_operand 76 = .ok (.goto 4, 3) := dk_167 0 4 (dk_at dksX6_operand_3 6 rfl rfl)
theorem dX6_operand_79 : decode cX6_operand 79 = .ok (.iconst 4, 1) := dk_7 (dk_at dksX6_operand_3 9 rfl rfl)
theorem dX6_operand_80 : decode cX6_operand 80 = .ok (.iconst 0, 1) := dk_3 (dk_at dksX6_operand_3 10 rfl rfl)
theorem dX6_operand_81 : decode cX6_operand 81 = .ok (.invokevirtual 206, 3) := dk_182 0 206 (dk_at dksX6_operand_3 11 rfl rfl)
theorem dX6_operand_84 : decode cX6_operand 84 = .ok (.goto 70, 3) := dk_167 0 70 (dk_at dksX6_operand_3 14 rfl rfl)
theorem dX6_operand_87 : decode cX6_operand 87 = .ok (.iload_n 1, 1) := dk_27 (dk_at dksX6_operand_3 17 rfl rfl)
theorem dX6_operand_88 : decode cX6_operand 88 = .ok (.bipush 40, 2) := dk_16 40 (dk_at dksX6_operand_3 18 rfl rfl)
theorem dX6_operand_90 : decode cX6_operand 90 = .ok (.if_icmp .ne 60, 3) := dk_160 0 60 (dk_at dksX6_operand_3 20 rfl rfl)
theorem dX6_operand_93 : decode cX6_operand 93 = .ok (.aload_n 0, 1) := dk_42 (dk_at dksX6_operand_3 23 rfl rfl)
theorem dX6_operand_94 : decode cX6_operand 94 = .ok (.invokevirtual 214, 3) := dk_182 0 214 (dk_at dksX6_operand_4 0 rfl rfl)
theorem dX6_operand_97 : decode cX6_operand 97 = .ok (.ifCond .ne 4, 3) := dk_154 0 4 (dk_at dksX6_operand_4 3 rfl rfl)
theorem dX6_operand_100 : decode cX6_operand 100 = .ok (.return_, 1) := dk_177 (dk_at dksX6_operand_4 6 rfl rfl)
theorem dX6_operand_101 : decode cX6_operand 101 = .ok (.aload_n 0, 1) := dk_42 (dk_at dksX6_operand_4 7 rfl rfl)
theorem dX6_operand_102 : decode cX6_operand 102 = .ok (.invokevirtual 221, 3) := dk_182 0 221 (dk_at dksX6_operand_4 8 rfl rfl)
theorem dX6_operand_105 : decode cX6_operand 105 = .ok (.aload_n 0, 1) := dk_42 (dk_at dksX6_operand_4 11 rfl rfl)
theorem dX6_operand_106 : decode cX6_operand 106 = .ok (.getfield 190, 3) := dk_180 0 190 (dk_at dksX6_operand_4 12 rfl rfl)
theorem dX6_operand_109 : decode cX6_operand 109 = .ok (.ifCond .lt 4, 3) := dk_155 0 4 (dk_at dksX6_operand_4 15 rfl rfl)
theorem dX6_operand_112 : decode cX6_operand 112 = .ok (.return_, 1) := dk_177 (dk_at dksX6_operand_4 18 rfl rfl)
theorem dX6_operand_113 : decode cX6_operand 113 = .ok (.aload_n 0, 1) := dk_42 (dk_at dksX6_operand_4 19 rfl rfl)
theorem dX6_operand_114 : decode cX6_operand 114 = .ok (.invokevirtual 202, 3) := dk_182 0 202 (dk_at dksX6_operand_4 20 rfl rfl)
theorem dX6_operand_117 : decode cX6_operand 117 = .ok (.bipush 41, 2) := dk_16 41 (dk_at dksX6_operand_5 0 rfl rfl)
theorem dX6_operand_119 : decode cX6_operand 119 = .ok (.if_icmp .eq 8, 3) := dk_159 0 8 (dk_at dksX6_operand_5 2 rfl rfl)
theorem dX6_operand_122 : decode cX6_operand 122 = .ok (.aload_n 0, 1) := dk_42 (dk_at dksX6_operand_5 5 rfl rfl)
theorem dX6_operand_123 : decode cX6_operand 123 = .ok (.invokevirtual 199, 3) := dk_182 0 199 (dk_at dksX6_operand_5 6 rfl rfl)
theorem dX6_operand_126 : decode cX6_operand 126 = .ok (.return_, 1) := dk_177 (dk_at dksX6_operand_5 9 rfl rfl)
theorem dX6_operand_127 : decode cX6_operand 127 = .ok (.aload_n 0, 1) := dk_42 (dk_at dksX6_operand_5 10 rfl rfl)
theorem dX6_operand_128 : decode cX6_operand 128 = .ok (.dup, 1) := dk_89 (dk_at dksX6_operand_5 11 rfl rfl)
theorem dX6_operand_129 : decode cX6_operand 129 = .ok (.getfield 187, 3) := dk_180 0 187 (dk_at dksX6_operand_5 12 rfl rfl)
theorem dX6_operand_132 : decode cX6_operand 132 = .ok (.iconst 1, 1) := dk_4 (dk_at dksX6_operand_5 15 rfl rfl)
theorem dX6_operand_133 : decode cX6_operand 133 = .ok (.iadd, 1) := dk_96 (dk_at dksX6_operand_5 16 rfl rfl)
theorem dX6_operand_134 : decode cX6_operand 134 = .ok (.putfield 187, 3) := dk_181 0 187 (dk_at dksX6_operand_5 17 rfl rfl)
theorem dX6_operand_137 : decode cX6_operand 137 = .ok (.aload_n 0, 1) := dk_42 (dk_at dksX6_operand_5 20 rfl rfl)
theorem dX6_operand_138 : decode cX6_operand 138 = .ok (.dup, 1) := dk_89 (dk_at dksX6_operand_5 21 rfl rfl)
theorem dX6_operand_139 : decode cX6_operand 139 = .ok (.getfield 196, 3) := dk_180 0 196 (dk_at dksX6_operand_6 0 rfl rfl)
theorem dX6_operand_142 : decode cX6_operand 142 = .ok (.iconst 1, 1) := dk_4 (dk_at dksX6_operand_6 3 rfl rfl)
theorem dX6_operand_143 : decode cX6_operand 143 = .ok (.isub, 1) := dk_100 (dk_at dksX6_operand_6 4 rfl rfl)
theorem dX6_operand_144 : decode cX6_operand 144 = .ok (.putfield 196, 3) := dk_181 0 196 (dk_at dksX6_operand_6 5 rfl rfl)
theorem dX6_operand_147 : decode cX6_operand 147 = .ok (.goto 7, 3) := dk_167 0 7 (dk_at dksX6_operand_6 8 rfl rfl)
theorem dX6_operand_150 : decode cX6_operand 150 = .ok (.aload_n 0, 1) := dk_42 (dk_at dksX6_operand_6 11 rfl rfl)
theorem dX6_operand_151 : decode cX6_operand 151 = .ok (.invokevirtual 224, 3) := dk_182 0 224 (dk_at dksX6_operand_6 12 rfl rfl)
theorem dX6_operand_154 : decode cX6_operand 154 = .ok (.return_, 1) := dk_177 (dk_at dksX6_operand_6 15 rfl rfl)
abbrev cX6_look : ByteArray := prog_26_method_20_code
def yX6_look : MethodName := ⟨RX6, "look", "()I"⟩
def dkwX6_look_1 : List UInt8 := [172]
abbrev dktX6_look_1 : List UInt8 := dkwX6_look_1 ++ []
def dkwX6_look_0 : List UInt8 := [42, 180, 0, 187, 42, 180, 0, 184, 162, 0, 15, 42, 180, 0, 52, 42, 180, 0, 187, 51, 167, 0, 4, 2]
abbrev dktX6_look_0 : List UInt8 := dkwX6_look_0 ++ dktX6_look_1
theorem dksX6_look_0 : cX6_look.data.toList.drop 0 = dktX6_look_0 := by decide +kernel
theorem dksX6_look_1 : cX6_look.data.toList.drop 24 = dktX6_look_1 := dk_seg dksX6_look_0 24 rfl rfl
theorem dX6_look_0 : decode cX6_look 0 = .ok (.aload_n 0, 1) := dk_42 (dk_at dksX6_look_0 0 rfl rfl)
theorem dX6_look_1 : decode cX6_look 1 = .ok (.getfield 187, 3) := dk_180 0 187 (dk_at dksX6_look_0 1 rfl rfl)
theorem dX6_look_4 : decode cX6_look 4 = .ok (.aload_n 0, 1) := dk_42 (dk_at dksX6_look_0 4 rfl rfl)
theorem dX6_look_5 : decode cX6_look 5 = .ok (.getfield 184, 3) := dk_180 0 184 (dk_at dksX6_look_0 5 rfl rfl)
theorem dX6_look_8 : decode cX6_look 8 = .ok (.if_icmp .ge 15, 3) := dk_162 0 15 (dk_at dksX6_look_0 8 rfl rfl)
theorem dX6_look_11 : decode cX6_look 11 = .ok (.aload_n 0, 1) := dk_42 (dk_at dksX6_look_0 11 rfl rfl)
theorem dX6_look_12 : decode cX6_look 12 = .ok (.getfield 52, 3) := dk_180 0 52 (dk_at dksX6_look_0 12 rfl rfl)
theorem dX6_look_15 : decode cX6_look 15 = .ok (.aload_n 0, 1) := dk_42 (dk_at dksX6_look_0 15 rfl rfl)
theorem dX6_look_16 : decode cX6_look 16 = .ok (.getfield 187, 3) := dk_180 0 187 (dk_at dksX6_look_0 16 rfl rfl)
theorem dX6_look_19 : decode cX6_look 19 = .ok (.baload, 1) := dk_51 (dk_at dksX6_look_0 19 rfl rfl)
theorem dX6_look_20 : decode cX6_look 20 = .ok (.goto 4, 3) := dk_167 0 4 (dk_at dksX6_look_0 20 rfl rfl)
theorem dX6_look_23 : decode cX6_look 23 = .ok (.iconst (-1), 1) := dk_2 (dk_at dksX6_look_0 23 rfl rfl)
theorem dX6_look_24 : decode cX6_look 24 = .ok (.ireturn, 1) := dk_172 (dk_at dksX6_look_1 0 rfl rfl)
abbrev cX6_nameOf : ByteArray := prog_26_method_23_code
def yX6_nameOf : MethodName := ⟨RX6, "nameOf", "(I)I"⟩
def dkwX6_nameOf_2 : List UInt8 := [3, 172, 4, 172, 5, 172, 6, 172, 7, 172, 8, 172, 2, 172]
abbrev dktX6_nameOf_2 : List UInt8 := dkwX6_nameOf_2 ++ []
def dkwX6_nameOf_1 : List UInt8 := [170, 0, 0, 0, 0, 0, 87, 0, 0, 0, 98, 0, 0, 0, 112, 0, 0, 0, 79, 0, 0, 0, 87, 0, 0, 0, 87, 0, 0, 0, 87, 0, 0, 0, 87, 0, 0, 0, 75, 0, 0, 0, 81, 0, 0, 0, 87, 0, 0, 0, 87, 0, 0, 0, 87, 0, 0, 0, 87, 0, 0, 0, 87, 0, 0, 0, 77, 0, 0, 0, 85, 0, 0, 0, 83]
abbrev dktX6_nameOf_1 : List UInt8 := dkwX6_nameOf_1 ++ dktX6_nameOf_2
def dkwX6_nameOf_0 : List UInt8 := [26]
abbrev dktX6_nameOf_0 : List UInt8 := dkwX6_nameOf_0 ++ dktX6_nameOf_1
theorem dksX6_nameOf_0 : cX6_nameOf.data.toList.drop 0 = dktX6_nameOf_0 := by decide +kernel
theorem dksX6_nameOf_1 : cX6_nameOf.data.toList.drop 1 = dktX6_nameOf_1 := dk_seg dksX6_nameOf_0 1 rfl rfl
theorem dksX6_nameOf_2 : cX6_nameOf.data.toList.drop 76 = dktX6_nameOf_2 := dk_seg dksX6_nameOf_1 75 rfl rfl
theorem dX6_nameOf_0 : decode cX6_nameOf 0 = .ok (.iload_n 0, 1) := dk_26 (dk_at dksX6_nameOf_0 0 rfl rfl)
theorem dX6_nameOf_1 : decode cX6_nameOf 1 = .ok (.tableswitch 87 98 112 #[79, 87, 87, 87, 87, 75, 81, 87, 87, 87, 87, 87, 77, 85, 83], 75) := by decide +kernel
theorem dX6_nameOf_76 : decode cX6_nameOf 76 = .ok (.iconst 0, 1) := dk_3 (dk_at dksX6_nameOf_2 0 rfl rfl)
theorem dX6_nameOf_77 : decode cX6_nameOf 77 = .ok (.ireturn, 1) := dk_172 (dk_at dksX6_nameOf_2 1 rfl rfl)
theorem dX6_nameOf_78 : decode cX6_nameOf 78 = .ok (.iconst 1, 1) := dk_4 (dk_at dksX6_nameOf_2 2 rfl rfl)
theorem dX6_nameOf_79 : decode cX6_nameOf 79 = .ok (.ireturn, 1) := dk_172 (dk_at dksX6_nameOf_2 3 rfl rfl)
theorem dX6_nameOf_80 : decode cX6_nameOf 80 = .ok (.iconst 2, 1) := dk_5 (dk_at dksX6_nameOf_2 4 rfl rfl)
theorem dX6_nameOf_81 : decode cX6_nameOf 81 = .ok (.ireturn, 1) := dk_172 (dk_at dksX6_nameOf_2 5 rfl rfl)
theorem dX6_nameOf_82 : decode cX6_nameOf 82 = .ok (.iconst 3, 1) := dk_6 (dk_at dksX6_nameOf_2 6 rfl rfl)
theorem dX6_nameOf_83 : decode cX6_nameOf 83 = .ok (.ireturn, 1) := dk_172 (dk_at dksX6_nameOf_2 7 rfl rfl)
theorem dX6_nameOf_84 : decode cX6_nameOf 84 = .ok (.iconst 4, 1) := dk_7 (dk_at dksX6_nameOf_2 8 rfl rfl)
theorem dX6_nameOf_85 : decode cX6_nameOf 85 = .ok (.ireturn, 1) := dk_172 (dk_at dksX6_nameOf_2 9 rfl rfl)
theorem dX6_nameOf_86 : decode cX6_nameOf 86 = .ok (.iconst 5, 1) := dk_8 (dk_at dksX6_nameOf_2 10 rfl rfl)
theorem dX6_nameOf_87 : decode cX6_nameOf 87 = .ok (.ireturn, 1) := dk_172 (dk_at dksX6_nameOf_2 11 rfl rfl)
theorem dX6_nameOf_88 : decode cX6_nameOf 88 = .ok (.iconst (-1), 1) := dk_2 (dk_at dksX6_nameOf_2 12 rfl rfl)
theorem dX6_nameOf_89 : decode cX6_nameOf 89 = .ok (.ireturn, 1) := dk_172 (dk_at dksX6_nameOf_2 13 rfl rfl)
abbrev cX6_addStep : ByteArray := prog_26_method_22_code
def yX6_addStep : MethodName := ⟨RX6, "addStep", "(II)V"⟩
def dkwX6_addStep_1 : List UInt8 := [180, 0, 193, 96, 28, 79, 42, 89, 180, 0, 193, 4, 96, 181, 0, 193, 177]
abbrev dktX6_addStep_1 : List UInt8 := dkwX6_addStep_1 ++ []
def dkwX6_addStep_0 : List UInt8 := [42, 180, 0, 56, 17, 0, 130, 42, 180, 0, 193, 96, 27, 145, 84, 42, 180, 0, 59, 17, 0, 130, 42]
abbrev dktX6_addStep_0 : List UInt8 := dkwX6_addStep_0 ++ dktX6_addStep_1
theorem dksX6_addStep_0 : cX6_addStep.data.toList.drop 0 = dktX6_addStep_0 := by decide +kernel
theorem dksX6_addStep_1 : cX6_addStep.data.toList.drop 23 = dktX6_addStep_1 := dk_seg dksX6_addStep_0 23 rfl rfl
theorem dX6_addStep_0 : decode cX6_addStep 0 = .ok (.aload_n 0, 1) := dk_42 (dk_at dksX6_addStep_0 0 rfl rfl)
theorem dX6_addStep_1 : decode cX6_addStep 1 = .ok (.getfield 56, 3) := dk_180 0 56 (dk_at dksX6_addStep_0 1 rfl rfl)
theorem dX6_addStep_4 : decode cX6_addStep 4 = .ok (.sipush 130, 3) := dk_17 0 130 (dk_at dksX6_addStep_0 4 rfl rfl)
theorem dX6_addStep_7 : decode cX6_addStep 7 = .ok (.aload_n 0, 1) := dk_42 (dk_at dksX6_addStep_0 7 rfl rfl)
theorem dX6_addStep_8 : decode cX6_addStep 8 = .ok (.getfield 193, 3) := dk_180 0 193 (dk_at dksX6_addStep_0 8 rfl rfl)
theorem dX6_addStep_11 : decode cX6_addStep 11 = .ok (.iadd, 1) := dk_96 (dk_at dksX6_addStep_0 11 rfl rfl)
theorem dX6_addStep_12 : decode cX6_addStep 12 = .ok (.iload_n 1, 1) := dk_27 (dk_at dksX6_addStep_0 12 rfl rfl)
theorem dX6_addStep_13 : decode cX6_addStep 13 = .ok (.i2b, 1) := dk_145 (dk_at dksX6_addStep_0 13 rfl rfl)
theorem dX6_addStep_14 : decode cX6_addStep 14 = .ok (.bastore, 1) := dk_84 (dk_at dksX6_addStep_0 14 rfl rfl)
theorem dX6_addStep_15 : decode cX6_addStep 15 = .ok (.aload_n 0, 1) := dk_42 (dk_at dksX6_addStep_0 15 rfl rfl)
theorem dX6_addStep_16 : decode cX6_addStep 16 = .ok (.getfield 59, 3) := dk_180 0 59 (dk_at dksX6_addStep_0 16 rfl rfl)
theorem dX6_addStep_19 : decode cX6_addStep 19 = .ok (.sipush 130, 3) := dk_17 0 130 (dk_at dksX6_addStep_0 19 rfl rfl)
theorem dX6_addStep_22 : decode cX6_addStep 22 = .ok (.aload_n 0, 1) := dk_42 (dk_at dksX6_addStep_0 22 rfl rfl)
theorem dX6_addStep_23 : decode cX6_addStep 23 = .ok (.getfield 193, 3) := dk_180 0 193 (dk_at dksX6_addStep_1 0 rfl rfl)
theorem dX6_addStep_26 : decode cX6_addStep 26 = .ok (.iadd, 1) := dk_96 (dk_at dksX6_addStep_1 3 rfl rfl)
theorem dX6_addStep_27 : decode cX6_addStep 27 = .ok (.iload_n 2, 1) := dk_28 (dk_at dksX6_addStep_1 4 rfl rfl)
theorem dX6_addStep_28 : decode cX6_addStep 28 = .ok (.iastore, 1) := dk_79 (dk_at dksX6_addStep_1 5 rfl rfl)
theorem dX6_addStep_29 : decode cX6_addStep 29 = .ok (.aload_n 0, 1) := dk_42 (dk_at dksX6_addStep_1 6 rfl rfl)
theorem dX6_addStep_30 : decode cX6_addStep 30 = .ok (.dup, 1) := dk_89 (dk_at dksX6_addStep_1 7 rfl rfl)
theorem dX6_addStep_31 : decode cX6_addStep 31 = .ok (.getfield 193, 3) := dk_180 0 193 (dk_at dksX6_addStep_1 8 rfl rfl)
theorem dX6_addStep_34 : decode cX6_addStep 34 = .ok (.iconst 1, 1) := dk_4 (dk_at dksX6_addStep_1 11 rfl rfl)
theorem dX6_addStep_35 : decode cX6_addStep 35 = .ok (.iadd, 1) := dk_96 (dk_at dksX6_addStep_1 12 rfl rfl)
theorem dX6_addStep_36 : decode cX6_addStep 36 = .ok (.putfield 193, 3) := dk_181 0 193 (dk_at dksX6_addStep_1 13 rfl rfl)
theorem dX6_addStep_39 : decode cX6_addStep 39 = .ok (.return_, 1) := dk_177 (dk_at dksX6_addStep_1 16 rfl rfl)
abbrev cX6_opens : ByteArray := prog_26_method_24_code
def yX6_opens : MethodName := ⟨RX6, "opens", "()Z"⟩
def dkwX6_opens_1 : List UInt8 := [181, 0, 196, 42, 89, 180, 0, 187, 4, 96, 181, 0, 187, 4, 172]
abbrev dktX6_opens_1 : List UInt8 := dkwX6_opens_1 ++ []
def dkwX6_opens_0 : List UInt8 := [42, 180, 0, 196, 16, 6, 160, 0, 9, 42, 182, 0, 199, 3, 172, 42, 89, 180, 0, 196, 4, 96]
abbrev dktX6_opens_0 : List UInt8 := dkwX6_opens_0 ++ dktX6_opens_1
theorem dksX6_opens_0 : cX6_opens.data.toList.drop 0 = dktX6_opens_0 := by decide +kernel
theorem dksX6_opens_1 : cX6_opens.data.toList.drop 22 = dktX6_opens_1 := dk_seg dksX6_opens_0 22 rfl rfl
theorem dX6_opens_0 : decode cX6_opens 0 = .ok (.aload_n 0, 1) := dk_42 (dk_at dksX6_opens_0 0 rfl rfl)
theorem dX6_opens_1 : decode cX6_opens 1 = .ok (.getfield 196, 3) := dk_180 0 196 (dk_at dksX6_opens_0 1 rfl rfl)
theorem dX6_opens_4 : decode cX6_opens 4 = .ok (.bipush 6, 2) := dk_16 6 (dk_at dksX6_opens_0 4 rfl rfl)
theorem dX6_opens_6 : decode cX6_opens 6 = .ok (.if_icmp .ne 9, 3) := dk_160 0 9 (dk_at dksX6_opens_0 6 rfl rfl)
theorem dX6_opens_9 : decode cX6_opens 9 = .ok (.aload_n 0, 1) := dk_42 (dk_at dksX6_opens_0 9 rfl rfl)
theorem dX6_opens_10 : decode cX6_opens 10 = .ok (.invokevirtual 199, 3) := dk_182 0 199 (dk_at dksX6_opens_0 10 rfl rfl)
theorem dX6_opens_13 : decode cX6_opens 13 = .ok (.iconst 0, 1) := dk_3 (dk_at dksX6_opens_0 13 rfl rfl)
theorem dX6_opens_14 : decode cX6_opens 14 = .ok (.ireturn, 1) := dk_172 (dk_at dksX6_opens_0 14 rfl rfl)
theorem dX6_opens_15 : decode cX6_opens 15 = .ok (.aload_n 0, 1) := dk_42 (dk_at dksX6_opens_0 15 rfl rfl)
theorem dX6_opens_16 : decode cX6_opens 16 = .ok (.dup, 1) := dk_89 (dk_at dksX6_opens_0 16 rfl rfl)
theorem dX6_opens_17 : decode cX6_opens 17 = .ok (.getfield 196, 3) := dk_180 0 196 (dk_at dksX6_opens_0 17 rfl rfl)
theorem dX6_opens_20 : decode cX6_opens 20 = .ok (.iconst 1, 1) := dk_4 (dk_at dksX6_opens_0 20 rfl rfl)
theorem dX6_opens_21 : decode cX6_opens 21 = .ok (.iadd, 1) := dk_96 (dk_at dksX6_opens_0 21 rfl rfl)
theorem dX6_opens_22 : decode cX6_opens 22 = .ok (.putfield 196, 3) := dk_181 0 196 (dk_at dksX6_opens_1 0 rfl rfl)
theorem dX6_opens_25 : decode cX6_opens 25 = .ok (.aload_n 0, 1) := dk_42 (dk_at dksX6_opens_1 3 rfl rfl)
theorem dX6_opens_26 : decode cX6_opens 26 = .ok (.dup, 1) := dk_89 (dk_at dksX6_opens_1 4 rfl rfl)
theorem dX6_opens_27 : decode cX6_opens 27 = .ok (.getfield 187, 3) := dk_180 0 187 (dk_at dksX6_opens_1 5 rfl rfl)
theorem dX6_opens_30 : decode cX6_opens 30 = .ok (.iconst 1, 1) := dk_4 (dk_at dksX6_opens_1 8 rfl rfl)
theorem dX6_opens_31 : decode cX6_opens 31 = .ok (.iadd, 1) := dk_96 (dk_at dksX6_opens_1 9 rfl rfl)
theorem dX6_opens_32 : decode cX6_opens 32 = .ok (.putfield 187, 3) := dk_181 0 187 (dk_at dksX6_opens_1 10 rfl rfl)
theorem dX6_opens_35 : decode cX6_opens 35 = .ok (.iconst 1, 1) := dk_4 (dk_at dksX6_opens_1 13 rfl rfl)
theorem dX6_opens_36 : decode cX6_opens 36 = .ok (.ireturn, 1) := dk_172 (dk_at dksX6_opens_1 14 rfl rfl)
abbrev cX6_faulty : ByteArray := prog_26_method_21_code
def yX6_faulty : MethodName := ⟨RX6, "faulty", "()V"⟩
def dkwX6_faulty_0 : List UInt8 := [42, 180, 0, 190, 156, 0, 11, 42, 42, 180, 0, 187, 181, 0, 190, 177]
abbrev dktX6_faulty_0 : List UInt8 := dkwX6_faulty_0 ++ []
theorem dksX6_faulty_0 : cX6_faulty.data.toList.drop 0 = dktX6_faulty_0 := by decide +kernel
theorem dX6_faulty_0 : decode cX6_faulty 0 = .ok (.aload_n 0, 1) := dk_42 (dk_at dksX6_faulty_0 0 rfl rfl)
theorem dX6_faulty_1 : decode cX6_faulty 1 = .ok (.getfield 190, 3) := dk_180 0 190 (dk_at dksX6_faulty_0 1 rfl rfl)
theorem dX6_faulty_4 : decode cX6_faulty 4 = .ok (.ifCond .ge 11, 3) := dk_156 0 11 (dk_at dksX6_faulty_0 4 rfl rfl)
theorem dX6_faulty_7 : decode cX6_faulty 7 = .ok (.aload_n 0, 1) := dk_42 (dk_at dksX6_faulty_0 7 rfl rfl)
theorem dX6_faulty_8 : decode cX6_faulty 8 = .ok (.aload_n 0, 1) := dk_42 (dk_at dksX6_faulty_0 8 rfl rfl)
theorem dX6_faulty_9 : decode cX6_faulty 9 = .ok (.getfield 187, 3) := dk_180 0 187 (dk_at dksX6_faulty_0 9 rfl rfl)
theorem dX6_faulty_12 : decode cX6_faulty 12 = .ok (.putfield 190, 3) := dk_181 0 190 (dk_at dksX6_faulty_0 12 rfl rfl)
theorem dX6_faulty_15 : decode cX6_faulty 15 = .ok (.return_, 1) := dk_177 (dk_at dksX6_faulty_0 15 rfl rfl)
abbrev cX6_figure : ByteArray := prog_26_method_25_code
def yX6_figure : MethodName := ⟨RX6, "figure", "()V"⟩
def dkwX6_figure_3 : List UInt8 := [42, 182, 0, 199, 42, 4, 27, 182, 0, 206, 177]
abbrev dktX6_figure_3 : List UInt8 := dkwX6_figure_3 ++ []
def dkwX6_figure_2 : List UInt8 := [181, 0, 187, 167, 255, 211, 28, 153, 0, 17, 42, 182, 0, 202, 16, 48, 16, 57, 184, 0, 134, 153, 0, 7]
abbrev dktX6_figure_2 : List UInt8 := dkwX6_figure_2 ++ dktX6_figure_3
def dkwX6_figure_1 : List UInt8 := [16, 10, 27, 104, 42, 182, 0, 202, 96, 16, 48, 100, 60, 132, 2, 1, 42, 89, 180, 0, 187, 4, 96]
abbrev dktX6_figure_1 : List UInt8 := dkwX6_figure_1 ++ dktX6_figure_2
def dkwX6_figure_0 : List UInt8 := [3, 60, 3, 61, 28, 7, 162, 0, 46, 42, 182, 0, 202, 16, 48, 16, 57, 184, 0, 134, 153, 0, 32]
abbrev dktX6_figure_0 : List UInt8 := dkwX6_figure_0 ++ dktX6_figure_1
theorem dksX6_figure_0 : cX6_figure.data.toList.drop 0 = dktX6_figure_0 := by decide +kernel
theorem dksX6_figure_1 : cX6_figure.data.toList.drop 23 = dktX6_figure_1 := dk_seg dksX6_figure_0 23 rfl rfl
theorem dksX6_figure_2 : cX6_figure.data.toList.drop 46 = dktX6_figure_2 := dk_seg dksX6_figure_1 23 rfl rfl
theorem dksX6_figure_3 : cX6_figure.data.toList.drop 70 = dktX6_figure_3 := dk_seg dksX6_figure_2 24 rfl rfl
theorem dX6_figure_0 : decode cX6_figure 0 = .ok (.iconst 0, 1) := dk_3 (dk_at dksX6_figure_0 0 rfl rfl)
theorem dX6_figure_1 : decode cX6_figure 1 = .ok (.istore_n 1, 1) := dk_60 (dk_at dksX6_figure_0 1 rfl rfl)
theorem dX6_figure_2 : decode cX6_figure 2 = .ok (.iconst 0, 1) := dk_3 (dk_at dksX6_figure_0 2 rfl rfl)
theorem dX6_figure_3 : decode cX6_figure 3 = .ok (.istore_n 2, 1) := dk_61 (dk_at dksX6_figure_0 3 rfl rfl)
theorem dX6_figure_4 : decode cX6_figure 4 = .ok (.iload_n 2, 1) := dk_28 (dk_at dksX6_figure_0 4 rfl rfl)
theorem dX6_figure_5 : decode cX6_figure 5 = .ok (.iconst 4, 1) := dk_7 (dk_at dksX6_figure_0 5 rfl rfl)
theorem dX6_figure_6 : decode cX6_figure 6 = .ok (.if_icmp .ge 46, 3) := dk_162 0 46 (dk_at dksX6_figure_0 6 rfl rfl)
theorem dX6_figure_9 : decode cX6_figure 9 = .ok (.aload_n 0, 1) := dk_42 (dk_at dksX6_figure_0 9 rfl rfl)
theorem dX6_figure_10 : decode cX6_figure 10 = .ok (.invokevirtual 202, 3) := dk_182 0 202 (dk_at dksX6_figure_0 10 rfl rfl)
theorem dX6_figure_13 : decode cX6_figure 13 = .ok (.bipush 48, 2) := dk_16 48 (dk_at dksX6_figure_0 13 rfl rfl)
theorem dX6_figure_15 : decode cX6_figure 15 = .ok (.bipush 57, 2) := dk_16 57 (dk_at dksX6_figure_0 15 rfl rfl)
theorem dX6_figure_17 : decode cX6_figure 17 = .ok (.invokestatic 134, 3) := dk_184 0 134 (dk_at dksX6_figure_0 17 rfl rfl)
theorem dX6_figure_20 : decode cX6_figure 20 = .ok (.ifCond .eq 32, 3) := dk_153 0 32 (dk_at dksX6_figure_0 20 rfl rfl)
theorem dX6_figure_23 : decode cX6_figure 23 = .ok (.bipush 10, 2) := dk_16 10 (dk_at dksX6_figure_1 0 rfl rfl)
theorem dX6_figure_25 : decode cX6_figure 25 = .ok (.iload_n 1, 1) := dk_27 (dk_at dksX6_figure_1 2 rfl rfl)
theorem dX6_figure_26 : decode cX6_figure 26 = .ok (.imul, 1) := dk_104 (dk_at dksX6_figure_1 3 rfl rfl)
theorem dX6_figure_27 : decode cX6_figure 27 = .ok (.aload_n 0, 1) := dk_42 (dk_at dksX6_figure_1 4 rfl rfl)
theorem dX6_figure_28 : decode cX6_figure 28 = .ok (.invokevirtual 202, 3) := dk_182 0 202 (dk_at dksX6_figure_1 5 rfl rfl)
theorem dX6_figure_31 : decode cX6_figure 31 = .ok (.iadd, 1) := dk_96 (dk_at dksX6_figure_1 8 rfl rfl)
theorem dX6_figure_32 : decode cX6_figure 32 = .ok (.bipush 48, 2) := dk_16 48 (dk_at dksX6_figure_1 9 rfl rfl)
theorem dX6_figure_34 : decode cX6_figure 34 = .ok (.isub, 1) := dk_100 (dk_at dksX6_figure_1 11 rfl rfl)
theorem dX6_figure_35 : decode cX6_figure 35 = .ok (.istore_n 1, 1) := dk_60 (dk_at dksX6_figure_1 12 rfl rfl)
theorem dX6_figure_36 : decode cX6_figure 36 = .ok (.iinc 2 1, 3) := dk_132 2 1 (dk_at dksX6_figure_1 13 rfl rfl)
theorem dX6_figure_39 : decode cX6_figure 39 = .ok (.aload_n 0, 1) := dk_42 (dk_at dksX6_figure_1 16 rfl rfl)
theorem dX6_figure_40 : decode cX6_figure 40 = .ok (.dup, 1) := dk_89 (dk_at dksX6_figure_1 17 rfl rfl)
theorem dX6_figure_41 : decode cX6_figure 41 = .ok (.getfield 187, 3) := dk_180 0 187 (dk_at dksX6_figure_1 18 rfl rfl)
theorem dX6_figure_44 : decode cX6_figure 44 = .ok (.iconst 1, 1) := dk_4 (dk_at dksX6_figure_1 21 rfl rfl)
theorem dX6_figure_45 : decode cX6_figure 45 = .ok (.iadd, 1) := dk_96 (dk_at dksX6_figure_1 22 rfl rfl)
theorem dX6_figure_46 : decode cX6_figure 46 = .ok (.putfield 187, 3) := dk_181 0 187 (dk_at dksX6_figure_2 0 rfl rfl)
theorem dX6_figure_49 : decode cX6_figure 49 = .ok (.goto (-45), 3) := dk_167 255 211 (dk_at dksX6_figure_2 3 rfl rfl)
theorem dX6_figure_52 : decode cX6_figure 52 = .ok (.iload_n 2, 1) := dk_28 (dk_at dksX6_figure_2 6 rfl rfl)
theorem dX6_figure_53 : decode cX6_figure 53 = .ok (.ifCond .eq 17, 3) := dk_153 0 17 (dk_at dksX6_figure_2 7 rfl rfl)
theorem dX6_figure_56 : decode cX6_figure 56 = .ok (.aload_n 0, 1) := dk_42 (dk_at dksX6_figure_2 10 rfl rfl)
theorem dX6_figure_57 : decode cX6_figure 57 = .ok (.invokevirtual 202, 3) := dk_182 0 202 (dk_at dksX6_figure_2 11 rfl rfl)
theorem dX6_figure_60 : decode cX6_figure 60 = .ok (.bipush 48, 2) := dk_16 48 (dk_at dksX6_figure_2 14 rfl rfl)
theorem dX6_figure_62 : decode cX6_figure 62 = .ok (.bipush 57, 2) := dk_16 57 (dk_at dksX6_figure_2 16 rfl rfl)
theorem dX6_figure_64 : decode cX6_figure 64 = .ok (.invokestatic 134, 3) := dk_184 0 134 (dk_at dksX6_figure_2 18 rfl rfl)
theorem dX6_figure_67 : decode cX6_figure 67 = .ok (.ifCond .eq 7, 3) := dk_153 0 7 (dk_at dksX6_figure_2 21 rfl rfl)
theorem dX6_figure_70 : decode cX6_figure 70 = .ok (.aload_n 0, 1) := dk_42 (dk_at dksX6_figure_3 0 rfl rfl)
theorem dX6_figure_71 : decode cX6_figure 71 = .ok (.invokevirtual 199, 3) := dk_182 0 199 (dk_at dksX6_figure_3 1 rfl rfl)
theorem dX6_figure_74 : decode cX6_figure 74 = .ok (.aload_n 0, 1) := dk_42 (dk_at dksX6_figure_3 4 rfl rfl)
theorem dX6_figure_75 : decode cX6_figure 75 = .ok (.iconst 1, 1) := dk_4 (dk_at dksX6_figure_3 5 rfl rfl)
theorem dX6_figure_76 : decode cX6_figure 76 = .ok (.iload_n 1, 1) := dk_27 (dk_at dksX6_figure_3 6 rfl rfl)
theorem dX6_figure_77 : decode cX6_figure 77 = .ok (.invokevirtual 206, 3) := dk_182 0 206 (dk_at dksX6_figure_3 7 rfl rfl)
theorem dX6_figure_80 : decode cX6_figure 80 = .ok (.return_, 1) := dk_177 (dk_at dksX6_figure_3 10 rfl rfl)
abbrev cX6_of : ByteArray := prog_26_method_44_code
def yX6_of : MethodName := ⟨RX6, "of", "(II)I"⟩
def dkwX6_of_8 : List UInt8 := [172, 42, 180, 1, 16, 16, 24, 160, 0, 7, 2, 167, 0, 12, 42, 27, 42, 180, 1, 16, 182, 1, 6, 172]
abbrev dktX6_of_8 : List UInt8 := dkwX6_of_8 ++ []
def dkwX6_of_7 : List UInt8 := [167, 0, 24, 28, 16, 11, 160, 0, 12, 42, 180, 0, 16, 27, 46, 167, 0, 9, 42, 180, 0, 19, 27, 46]
abbrev dktX6_of_7 : List UInt8 := dkwX6_of_7 ++ dktX6_of_8
def dkwX6_of_6 : List UInt8 := [154, 0, 5, 2, 172, 28, 16, 13, 162, 0, 40, 28, 16, 10, 160, 0, 12, 42, 180, 0, 13, 27, 46]
abbrev dktX6_of_6 : List UInt8 := dkwX6_of_6 ++ dktX6_of_7
def dkwX6_of_5 : List UInt8 := [27, 46, 167, 0, 4, 2, 172, 28, 16, 10, 16, 13, 184, 0, 134, 153, 0, 11, 42, 27, 182, 0, 144]
abbrev dktX6_of_5 : List UInt8 := dkwX6_of_5 ++ dktX6_of_6
def dkwX6_of_4 : List UInt8 := [180, 1, 16, 182, 1, 22, 172, 28, 16, 20, 160, 0, 21, 27, 184, 0, 181, 153, 0, 12, 42, 180, 0, 7]
abbrev dktX6_of_4 : List UInt8 := dkwX6_of_4 ++ dktX6_of_5
def dkwX6_of_3 : List UInt8 := [182, 1, 12, 172, 42, 180, 1, 16, 16, 24, 160, 0, 5, 2, 172, 42, 182, 1, 19, 42, 27, 42]
abbrev dktX6_of_3 : List UInt8 := dkwX6_of_3 ++ dktX6_of_4
def dkwX6_of_2 : List UInt8 := [167, 0, 26, 28, 5, 160, 0, 12, 42, 180, 0, 34, 27, 46, 167, 0, 12, 42, 27, 42, 180, 0, 28]
abbrev dktX6_of_2 : List UInt8 := dkwX6_of_2 ++ dktX6_of_3
def dkwX6_of_1 : List UInt8 := [28, 154, 0, 12, 42, 180, 0, 28, 27, 46, 167, 0, 40, 28, 4, 160, 0, 12, 42, 180, 0, 31, 27, 46]
abbrev dktX6_of_1 : List UInt8 := dkwX6_of_1 ++ dktX6_of_2
def dkwX6_of_0 : List UInt8 := [28, 3, 7, 184, 0, 134, 153, 0, 94, 42, 27, 182, 0, 175, 154, 0, 5, 2, 172, 28, 7, 162, 0, 54]
abbrev dktX6_of_0 : List UInt8 := dkwX6_of_0 ++ dktX6_of_1
theorem dksX6_of_0 : cX6_of.data.toList.drop 0 = dktX6_of_0 := by decide +kernel
theorem dksX6_of_1 : cX6_of.data.toList.drop 24 = dktX6_of_1 := dk_seg dksX6_of_0 24 rfl rfl
theorem dksX6_of_2 : cX6_of.data.toList.drop 48 = dktX6_of_2 := dk_seg dksX6_of_1 24 rfl rfl
theorem dksX6_of_3 : cX6_of.data.toList.drop 71 = dktX6_of_3 := dk_seg dksX6_of_2 23 rfl rfl
theorem dksX6_of_4 : cX6_of.data.toList.drop 93 = dktX6_of_4 := dk_seg dksX6_of_3 22 rfl rfl
theorem dksX6_of_5 : cX6_of.data.toList.drop 117 = dktX6_of_5 := dk_seg dksX6_of_4 24 rfl rfl
theorem dksX6_of_6 : cX6_of.data.toList.drop 140 = dktX6_of_6 := dk_seg dksX6_of_5 23 rfl rfl
theorem dksX6_of_7 : cX6_of.data.toList.drop 163 = dktX6_of_7 := dk_seg dksX6_of_6 23 rfl rfl
theorem dksX6_of_8 : cX6_of.data.toList.drop 187 = dktX6_of_8 := dk_seg dksX6_of_7 24 rfl rfl
theorem dX6_of_0 : decode cX6_of 0 = .ok (.iload_n 2, 1) := dk_28 (dk_at dksX6_of_0 0 rfl rfl)
theorem dX6_of_1 : decode cX6_of 1 = .ok (.iconst 0, 1) := dk_3 (dk_at dksX6_of_0 1 rfl rfl)
theorem dX6_of_2 : decode cX6_of 2 = .ok (.iconst 4, 1) := dk_7 (dk_at dksX6_of_0 2 rfl rfl)
theorem dX6_of_3 : decode cX6_of 3 = .ok (.invokestatic 134, 3) := dk_184 0 134 (dk_at dksX6_of_0 3 rfl rfl)
theorem dX6_of_6 : decode cX6_of 6 = .ok (.ifCond .eq 94, 3) := dk_153 0 94 (dk_at dksX6_of_0 6 rfl rfl)
theorem dX6_of_9 : decode cX6_of 9 = .ok (.aload_n 0, 1) := dk_42 (dk_at dksX6_of_0 9 rfl rfl)
theorem dX6_of_10 : decode cX6_of 10 = .ok (.iload_n 1, 1) := dk_27 (dk_at dksX6_of_0 10 rfl rfl)
theorem dX6_of_11 : decode cX6_of 11 = .ok (.invokevirtual 175, 3) := dk_182 0 175 (dk_at dksX6_of_0 11 rfl rfl)
theorem dX6_of_14 : decode cX6_of 14 = .ok (.ifCond .ne 5, 3) := dk_154 0 5 (dk_at dksX6_of_0 14 rfl rfl)
theorem dX6_of_17 : decode cX6_of 17 = .ok (.iconst (-1), 1) := dk_2 (dk_at dksX6_of_0 17 rfl rfl)
theorem dX6_of_18 : decode cX6_of 18 = .ok (.ireturn, 1) := dk_172 (dk_at dksX6_of_0 18 rfl rfl)
theorem dX6_of_19 : decode cX6_of 19 = .ok (.iload_n 2, 1) := dk_28 (dk_at dksX6_of_0 19 rfl rfl)
theorem dX6_of_20 : decode cX6_of 20 = .ok (.iconst 4, 1) := dk_7 (dk_at dksX6_of_0 20 rfl rfl)
theorem dX6_of_21 : decode cX6_of 21 = .ok (.if_icmp .ge 54, 3) := dk_162 0 54 (dk_at dksX6_of_0 21 rfl rfl)
theorem dX6_of_24 : decode cX6_of 24 = .ok (.iload_n 2, 1) := dk_28 (dk_at dksX6_of_1 0 rfl rfl)
theorem dX6_of_25 : decode cX6_of 25 = .ok (.ifCond .ne 12, 3) := dk_154 0 12 (dk_at dksX6_of_1 1 rfl rfl)
theorem dX6_of_28 : decode cX6_of 28 = .ok (.aload_n 0, 1) := dk_42 (dk_at dksX6_of_1 4 rfl rfl)
theorem dX6_of_29 : decode cX6_of 29 = .ok (.getfield 28, 3) := dk_180 0 28 (dk_at dksX6_of_1 5 rfl rfl)
theorem dX6_of_32 : decode cX6_of 32 = .ok (.iload_n 1, 1) := dk_27 (dk_at dksX6_of_1 8 rfl rfl)
theorem dX6_of_33 : decode cX6_of 33 = .ok (.iaload, 1) := dk_46 (dk_at dksX6_of_1 9 rfl rfl)
theorem dX6_of_34 : decode cX6_of 34 = .ok (.goto 40, 3) := dk_167 0 40 (dk_at dksX6_of_1 10 rfl rfl)
theorem dX6_of_37 : decode cX6_of 37 = .ok (.iload_n 2, 1) := dk_28 (dk_at dksX6_of_1 13 rfl rfl)
theorem dX6_of_38 : decode cX6_of 38 = .ok (.iconst 1, 1) := dk_4 (dk_at dksX6_of_1 14 rfl rfl)
theorem dX6_of_39 : decode cX6_of 39 = .ok (.if_icmp .ne 12, 3) := dk_160 0 12 (dk_at dksX6_of_1 15 rfl rfl)
theorem dX6_of_42 : decode cX6_of 42 = .ok (.aload_n 0, 1) := dk_42 (dk_at dksX6_of_1 18 rfl rfl)
theorem dX6_of_43 : decode cX6_of 43 = .ok (.getfield 31, 3) := dk_180 0 31 (dk_at dksX6_of_1 19 rfl rfl)
theorem dX6_of_46 : decode cX6_of 46 = .ok (.iload_n 1, 1) := dk_27 (dk_at dksX6_of_1 22 rfl rfl)
theorem dX6_of_47 : decode cX6_of 47 = .ok (.iaload, 1) := dk_46 (dk_at dksX6_of_1 23 rfl rfl)
theorem dX6_of_48 : decode cX6_of 48 = .ok (.goto 26, 3) := dk_167 0 26 (dk_at dksX6_of_2 0 rfl rfl)
theorem dX6_of_51 : decode cX6_of 51 = .ok (.iload_n 2, 1) := dk_28 (dk_at dksX6_of_2 3 rfl rfl)
theorem dX6_of_52 : decode cX6_of 52 = .ok (.iconst 2, 1) := dk_5 (dk_at dksX6_of_2 4 rfl rfl)
theorem dX6_of_53 : decode cX6_of 53 = .ok (.if_icmp .ne 12, 3) := dk_160 0 12 (dk_at dksX6_of_2 5 rfl rfl)
theorem dX6_of_56 : decode cX6_of 56 = .ok (.aload_n 0, 1) := dk_42 (dk_at dksX6_of_2 8 rfl rfl)
theorem dX6_of_57 : decode cX6_of 57 = .ok (.getfield 34, 3) := dk_180 0 34 (dk_at dksX6_of_2 9 rfl rfl)
theorem dX6_of_60 : decode cX6_of 60 = .ok (.iload_n 1, 1) := dk_27 (dk_at dksX6_of_2 12 rfl rfl)
theorem dX6_of_61 : decode cX6_of 61 = .ok (.iaload, 1) := dk_46 (dk_at dksX6_of_2 13 rfl rfl)
theorem dX6_of_62 : decode cX6_of 62 = .ok (.goto 12, 3) := dk_167 0 12 (dk_at dksX6_of_2 14 rfl rfl)
theorem dX6_of_65 : decode cX6_of 65 = .ok (.aload_n 0, 1) := dk_42 (dk_at dksX6_of_2 17 rfl rfl)
theorem dX6_of_66 : decode cX6_of 66 = .ok (.iload_n 1, 1) := dk_27 (dk_at dksX6_of_2 18 rfl rfl)
theorem dX6_of_67 : decode cX6_of 67 = .ok (.aload_n 0, 1) := dk_42 (dk_at dksX6_of_2 19 rfl rfl)
theorem dX6_of_68 : decode cX6_of 68 = .ok (.getfield 28, 3) := dk_180 0 28 (dk_at dksX6_of_2 20 rfl rfl)
theorem dX6_of_71 : decode cX6_of 71 = .ok (.invokevirtual 268, 3) := dk_182 1 12 (dk_at dksX6_of_3 0 rfl rfl)
theorem dX6_of_74 : decode cX6_of 74 = .ok (.ireturn, 1) := dk_172 (dk_at dksX6_of_3 3 rfl rfl)
theorem dX6_of_75 : decode cX6_of 75 = .ok (.aload_n 0, 1) := dk_42 (dk_at dksX6_of_3 4 rfl rfl)
theorem dX6_of_76 : decode cX6_of 76 = .ok (.getfield 272, 3) := dk_180 1 16 (dk_at dksX6_of_3 5 rfl rfl)
theorem dX6_of_79 : decode cX6_of 79 = .ok (.bipush 24, 2) := dk_16 24 (dk_at dksX6_of_3 8 rfl rfl)
theorem dX6_of_81 : decode cX6_of 81 = .ok (.if_icmp .ne 5, 3) := dk_160 0 5 (dk_at dksX6_of_3 10 rfl rfl)
theorem dX6_of_84 : decode cX6_of 84 = .ok (.iconst (-1), 1) := dk_2 (dk_at dksX6_of_3 13 rfl rfl)
theorem dX6_of_85 : decode cX6_of 85 = .ok (.ireturn, 1) := dk_172 (dk_at dksX6_of_3 14 rfl rfl)
theorem dX6_of_86 : decode cX6_of 86 = .ok (.aload_n 0, 1) := dk_42 (dk_at dksX6_of_3 15 rfl rfl)
theorem dX6_of_87 : decode cX6_of 87 = .ok (.invokevirtual 275, 3) := dk_182 1 19 (dk_at dksX6_of_3 16 rfl rfl)
theorem dX6_of_90 : decode cX6_of 90 = .ok (.aload_n 0, 1) := dk_42 (dk_at dksX6_of_3 19 rfl rfl)
theorem dX6_of_91 : decode cX6_of 91 = .ok (.iload_n 1, 1) := dk_27 (dk_at dksX6_of_3 20 rfl rfl)
theorem dX6_of_92 : decode cX6_of 92 = .ok (.aload_n 0, 1) := dk_42 (dk_at dksX6_of_3 21 rfl rfl)
theorem dX6_of_93 : decode cX6_of 93 = .ok (.getfield 272, 3) := dk_180 1 16 (dk_at dksX6_of_4 0 rfl rfl)
theorem dX6_of_96 : decode cX6_of 96 = .ok (.invokevirtual 278, 3) := dk_182 1 22 (dk_at dksX6_of_4 3 rfl rfl)
theorem dX6_of_99 : decode cX6_of 99 = .ok (.ireturn, 1) := dk_172 (dk_at dksX6_of_4 6 rfl rfl)
theorem dX6_of_100 : decode cX6_of 100 = .ok (.iload_n 2, 1) := dk_28 (dk_at dksX6_of_4 7 rfl rfl)
theorem dX6_of_101 : decode cX6_of 101 = .ok (.bipush 20, 2) := dk_16 20 (dk_at dksX6_of_4 8 rfl rfl)
theorem dX6_of_103 : decode cX6_of 103 = .ok (.if_icmp .ne 21, 3) := dk_160 0 21 (dk_at dksX6_of_4 10 rfl rfl)
theorem dX6_of_106 : decode cX6_of 106 = .ok (.iload_n 1, 1) := dk_27 (dk_at dksX6_of_4 13 rfl rfl)
theorem dX6_of_107 : decode cX6_of 107 = .ok (.invokestatic 181, 3) := dk_184 0 181 (dk_at dksX6_of_4 14 rfl rfl)
theorem dX6_of_110 : decode cX6_of 110 = .ok (.ifCond .eq 12, 3) := dk_153 0 12 (dk_at dksX6_of_4 17 rfl rfl)
theorem dX6_of_113 : decode cX6_of 113 = .ok (.aload_n 0, 1) := dk_42 (dk_at dksX6_of_4 20 rfl rfl)
theorem dX6_of_114 : decode cX6_of 114 = .ok (.getfield 7, 3) := dk_180 0 7 (dk_at dksX6_of_4 21 rfl rfl)
theorem dX6_of_117 : decode cX6_of 117 = .ok (.iload_n 1, 1) := dk_27 (dk_at dksX6_of_5 0 rfl rfl)
theorem dX6_of_118 : decode cX6_of 118 = .ok (.iaload, 1) := dk_46 (dk_at dksX6_of_5 1 rfl rfl)
theorem dX6_of_119 : decode cX6_of 119 = .ok (.goto 4, 3) := dk_167 0 4 (dk_at dksX6_of_5 2 rfl rfl)
theorem dX6_of_122 : decode cX6_of 122 = .ok (.iconst (-1), 1) := dk_2 (dk_at dksX6_of_5 5 rfl rfl)
theorem dX6_of_123 : decode cX6_of 123 = .ok (.ireturn, 1) := dk_172 (dk_at dksX6_of_5 6 rfl rfl)
theorem dX6_of_124 : decode cX6_of 124 = .ok (.iload_n 2, 1) := dk_28 (dk_at dksX6_of_5 7 rfl rfl)
theorem dX6_of_125 : decode cX6_of 125 = .ok (.bipush 10, 2) := dk_16 10 (dk_at dksX6_of_5 8 rfl rfl)
theorem dX6_of_127 : decode cX6_of 127 = .ok (.bipush 13, 2) := dk_16 13 (dk_at dksX6_of_5 10 rfl rfl)
theorem dX6_of_129 : decode cX6_of 129 = .ok (.invokestatic 134, 3) := dk_184 0 134 (dk_at dksX6_of_5 12 rfl rfl)
theorem dX6_of_132 : decode cX6_of 132 = .ok (.ifCond .eq 11, 3) := dk_153 0 11 (dk_at dksX6_of_5 15 rfl rfl)
theorem dX6_of_135 : decode cX6_of 135 = .ok (.aload_n 0, 1) := dk_42 (dk_at dksX6_of_5 18 rfl rfl)
theorem dX6_of_136 : decode cX6_of 136 = .ok (.iload_n 1, 1) := dk_27 (dk_at dksX6_of_5 19 rfl rfl)
theorem dX6_of_137 : decode cX6_of 137 = .ok (.invokevirtual 144, 3) := dk_182 0 144 (dk_at dksX6_of_5 20 rfl rfl)
theorem dX6_of_140 : decode cX6_of 140 = .ok (.ifCond .ne 5, 3) := dk_154 0 5 (dk_at dksX6_of_6 0 rfl rfl)
theorem dX6_of_143 : decode cX6_of 143 = .ok (.iconst (-1), 1) := dk_2 (dk_at dksX6_of_6 3 rfl rfl)
theorem dX6_of_144 : decode cX6_of 144 = .ok (.ireturn, 1) := dk_172 (dk_at dksX6_of_6 4 rfl rfl)
theorem dX6_of_145 : decode cX6_of 145 = .ok (.iload_n 2, 1) := dk_28 (dk_at dksX6_of_6 5 rfl rfl)
theorem dX6_of_146 : decode cX6_of 146 = .ok (.bipush 13, 2) := dk_16 13 (dk_at dksX6_of_6 6 rfl rfl)
theorem dX6_of_148 : decode cX6_of 148 = .ok (.if_icmp .ge 40, 3) := dk_162 0 40 (dk_at dksX6_of_6 8 rfl rfl)
theorem dX6_of_151 : decode cX6_of 151 = .ok (.iload_n 2, 1) := dk_28 (dk_at dksX6_of_6 11 rfl rfl)
theorem dX6_of_152 : decode cX6_of 152 = .ok (.bipush 10, 2) := dk_16 10 (dk_at dksX6_of_6 12 rfl rfl)
theorem dX6_of_154 : decode cX6_of 154 = .ok (.if_icmp .ne 12, 3) := dk_160 0 12 (dk_at dksX6_of_6 14 rfl rfl)
theorem dX6_of_157 : decode cX6_of 157 = .ok (.aload_n 0, 1) := dk_42 (dk_at dksX6_of_6 17 rfl rfl)
theorem dX6_of_158 : decode cX6_of 158 = .ok (.getfield 13, 3) := dk_180 0 13 (dk_at dksX6_of_6 18 rfl rfl)
theorem dX6_of_161 : decode cX6_of 161 = .ok (.iload_n 1, 1) := dk_27 (dk_at dksX6_of_6 21 rfl rfl)
theorem dX6_of_162 : decode cX6_of 162 = .ok (.iaload, 1) := dk_46 (dk_at dksX6_of_6 22 rfl rfl)
theorem dX6_of_163 : decode cX6_of 163 = .ok (.goto 24, 3) := dk_167 0 24 (dk_at dksX6_of_7 0 rfl rfl)
theorem dX6_of_166 : decode cX6_of 166 = .ok (.iload_n 2, 1) := dk_28 (dk_at dksX6_of_7 3 rfl rfl)
theorem dX6_of_167 : decode cX6_of 167 = .ok (.bipush 11, 2) := dk_16 11 (dk_at dksX6_of_7 4 rfl rfl)
theorem dX6_of_169 : decode cX6_of 169 = .ok (.if_icmp .ne 12, 3) := dk_160 0 12 (dk_at dksX6_of_7 6 rfl rfl)
theorem dX6_of_172 : decode cX6_of 172 = .ok (.aload_n 0, 1) := dk_42 (dk_at dksX6_of_7 9 rfl rfl)
theorem dX6_of_173 : decode cX6_of 173 = .ok (.getfield 16, 3) := dk_180 0 16 (dk_at dksX6_of_7 10 rfl rfl)
theorem dX6_of_176 : decode cX6_of 176 = .ok (.iload_n 1, 1) := dk_27 (dk_at dksX6_of_7 13 rfl rfl)
theorem dX6_of_177 : decode cX6_of 177 = .ok (.iaload, 1) := dk_46 (dk_at dksX6_of_7 14 rfl rfl)
theorem dX6_of_178 : decode cX6_of 178 = .ok (.goto 9, 3) := dk_167 0 9 (dk_at dksX6_of_7 15 rfl rfl)
theorem dX6_of_181 : decode cX6_of 181 = .ok (.aload_n 0, 1) := dk_42 (dk_at dksX6_of_7 18 rfl rfl)
theorem dX6_of_182 : decode cX6_of 182 = .ok (.getfield 19, 3) := dk_180 0 19 (dk_at dksX6_of_7 19 rfl rfl)
theorem dX6_of_185 : decode cX6_of 185 = .ok (.iload_n 1, 1) := dk_27 (dk_at dksX6_of_7 22 rfl rfl)
theorem dX6_of_186 : decode cX6_of 186 = .ok (.iaload, 1) := dk_46 (dk_at dksX6_of_7 23 rfl rfl)
theorem dX6_of_187 : decode cX6_of 187 = .ok (.ireturn, 1) := dk_172 (dk_at dksX6_of_8 0 rfl rfl)
theorem dX6_of_188 : decode cX6_of 188 = .ok (.aload_n 0, 1) := dk_42 (dk_at dksX6_of_8 1 rfl rfl)
theorem dX6_of_189 : decode cX6_of 189 = .ok (.getfield 272, 3) := dk_180 1 16 (dk_at dksX6_of_8 2 rfl rfl)
theorem dX6_of_192 : decode cX6_of 192 = .ok (.bipush 24, 2) := dk_16 24 (dk_at dksX6_of_8 5 rfl rfl)
theorem dX6_of_194 : decode cX6_of 194 = .ok (.if_icmp .ne 7, 3) := dk_160 0 7 (dk_at dksX6_of_8 7 rfl rfl)
theorem dX6_of_197 : decode cX6_of 197 = .ok (.iconst (-1), 1) := dk_2 (dk_at dksX6_of_8 10 rfl rfl)
theorem dX6_of_198 : decode cX6_of 198 = .ok (.goto 12, 3) := dk_167 0 12 (dk_at dksX6_of_8 11 rfl rfl)
theorem dX6_of_201 : decode cX6_of 201 = .ok (.aload_n 0, 1) := dk_42 (dk_at dksX6_of_8 14 rfl rfl)
theorem dX6_of_202 : decode cX6_of 202 = .ok (.iload_n 1, 1) := dk_27 (dk_at dksX6_of_8 15 rfl rfl)
theorem dX6_of_203 : decode cX6_of 203 = .ok (.aload_n 0, 1) := dk_42 (dk_at dksX6_of_8 16 rfl rfl)
theorem dX6_of_204 : decode cX6_of 204 = .ok (.getfield 272, 3) := dk_180 1 16 (dk_at dksX6_of_8 17 rfl rfl)
theorem dX6_of_207 : decode cX6_of 207 = .ok (.invokevirtual 262, 3) := dk_182 1 6 (dk_at dksX6_of_8 20 rfl rfl)
theorem dX6_of_210 : decode cX6_of 210 = .ok (.ireturn, 1) := dk_172 (dk_at dksX6_of_8 23 rfl rfl)
abbrev cX6_rankOf : ByteArray := prog_26_method_42_code
def yX6_rankOf : MethodName := ⟨RX6, "rankOf", "(I[I)I"⟩
def dkwX6_rankOf_2 : List UInt8 := [167, 255, 215, 29, 172]
abbrev dktX6_rankOf_2 : List UInt8 := dkwX6_rankOf_2 ++ []
def dkwX6_rankOf_1 : List UInt8 := [44, 21, 4, 46, 44, 27, 46, 160, 0, 12, 21, 4, 27, 162, 0, 6, 132, 3, 1, 132, 4, 1]
abbrev dktX6_rankOf_1 : List UInt8 := dkwX6_rankOf_1 ++ dktX6_rankOf_2
def dkwX6_rankOf_0 : List UInt8 := [3, 62, 3, 54, 4, 21, 4, 42, 180, 0, 138, 162, 0, 38, 44, 21, 4, 46, 44, 27, 46, 163, 0, 19]
abbrev dktX6_rankOf_0 : List UInt8 := dkwX6_rankOf_0 ++ dktX6_rankOf_1
theorem dksX6_rankOf_0 : cX6_rankOf.data.toList.drop 0 = dktX6_rankOf_0 := by decide +kernel
theorem dksX6_rankOf_1 : cX6_rankOf.data.toList.drop 24 = dktX6_rankOf_1 := dk_seg dksX6_rankOf_0 24 rfl rfl
theorem dksX6_rankOf_2 : cX6_rankOf.data.toList.drop 46 = dktX6_rankOf_2 := dk_seg dksX6_rankOf_1 22 rfl rfl
theorem dX6_rankOf_0 : decode cX6_rankOf 0 = .ok (.iconst 0, 1) := dk_3 (dk_at dksX6_rankOf_0 0 rfl rfl)
theorem dX6_rankOf_1 : decode cX6_rankOf 1 = .ok (.istore_n 3, 1) := dk_62 (dk_at dksX6_rankOf_0 1 rfl rfl)
theorem dX6_rankOf_2 : decode cX6_rankOf 2 = .ok (.iconst 0, 1) := dk_3 (dk_at dksX6_rankOf_0 2 rfl rfl)
theorem dX6_rankOf_3 : decode cX6_rankOf 3 = .ok (.istore 4, 2) := dk_54 4 (dk_at dksX6_rankOf_0 3 rfl rfl)
theorem dX6_rankOf_5 : decode cX6_rankOf 5 = .ok (.iload 4, 2) := dk_21 4 (dk_at dksX6_rankOf_0 5 rfl rfl)
theorem dX6_rankOf_7 : decode cX6_rankOf 7 = .ok (.aload_n 0, 1) := dk_42 (dk_at dksX6_rankOf_0 7 rfl rfl)
theorem dX6_rankOf_8 : decode cX6_rankOf 8 = .ok (.getfield 138, 3) := dk_180 0 138 (dk_at dksX6_rankOf_0 8 rfl rfl)
theorem dX6_rankOf_11 : decode cX6_rankOf 11 = .ok (.if_icmp .ge 38, 3) := dk_162 0 38 (dk_at dksX6_rankOf_0 11 rfl rfl)
theorem dX6_rankOf_14 : decode cX6_rankOf 14 = .ok (.aload_n 2, 1) := dk_44 (dk_at dksX6_rankOf_0 14 rfl rfl)
theorem dX6_rankOf_15 : decode cX6_rankOf 15 = .ok (.iload 4, 2) := dk_21 4 (dk_at dksX6_rankOf_0 15 rfl rfl)
theorem dX6_rankOf_17 : decode cX6_rankOf 17 = .ok (.iaload, 1) := dk_46 (dk_at dksX6_rankOf_0 17 rfl rfl)
theorem dX6_rankOf_18 : decode cX6_rankOf 18 = .ok (.aload_n 2, 1) := dk_44 (dk_at dksX6_rankOf_0 18 rfl rfl)
theorem dX6_rankOf_19 : decode cX6_rankOf 19 = .ok (.iload_n 1, 1) := dk_27 (dk_at dksX6_rankOf_0 19 rfl rfl)
theorem dX6_rankOf_20 : decode cX6_rankOf 20 = .ok (.iaload, 1) := dk_46 (dk_at dksX6_rankOf_0 20 rfl rfl)
theorem dX6_rankOf_21 : decode cX6_rankOf 21 = .ok (.if_icmp .gt 19, 3) := dk_163 0 19 (dk_at dksX6_rankOf_0 21 rfl rfl)
theorem dX6_rankOf_24 : decode cX6_rankOf 24 = .ok (.aload_n 2, 1) := dk_44 (dk_at dksX6_rankOf_1 0 rfl rfl)
theorem dX6_rankOf_25 : decode cX6_rankOf 25 = .ok (.iload 4, 2) := dk_21 4 (dk_at dksX6_rankOf_1 1 rfl rfl)
theorem dX6_rankOf_27 : decode cX6_rankOf 27 = .ok (.iaload, 1) := dk_46 (dk_at dksX6_rankOf_1 3 rfl rfl)
theorem dX6_rankOf_28 : decode cX6_rankOf 28 = .ok (.aload_n 2, 1) := dk_44 (dk_at dksX6_rankOf_1 4 rfl rfl)
theorem dX6_rankOf_29 : decode cX6_rankOf 29 = .ok (.iload_n 1, 1) := dk_27 (dk_at dksX6_rankOf_1 5 rfl rfl)
theorem dX6_rankOf_30 : decode cX6_rankOf 30 = .ok (.iaload, 1) := dk_46 (dk_at dksX6_rankOf_1 6 rfl rfl)
theorem dX6_rankOf_31 : decode cX6_rankOf 31 = .ok (.if_icmp .ne 12, 3) := dk_160 0 12 (dk_at dksX6_rankOf_1 7 rfl rfl)
theorem dX6_rankOf_34 : decode cX6_rankOf 34 = .ok (.iload 4, 2) := dk_21 4 (dk_at dksX6_rankOf_1 10 rfl rfl)
theorem dX6_rankOf_36 : decode cX6_rankOf 36 = .ok (.iload_n 1, 1) := dk_27 (dk_at dksX6_rankOf_1 12 rfl rfl)
theorem dX6_rankOf_37 : decode cX6_rankOf 37 = .ok (.if_icmp .ge 6, 3) := dk_162 0 6 (dk_at dksX6_rankOf_1 13 rfl rfl)
theorem dX6_rankOf_40 : decode cX6_rankOf 40 = .ok (.iinc 3 1, 3) := dk_132 3 1 (dk_at dksX6_rankOf_1 16 rfl rfl)
theorem dX6_rankOf_43 : decode cX6_rankOf 43 = .ok (.iinc 4 1, 3) := dk_132 4 1 (dk_at dksX6_rankOf_1 19 rfl rfl)
theorem dX6_rankOf_46 : decode cX6_rankOf 46 = .ok (.goto (-41), 3) := dk_167 255 215 (dk_at dksX6_rankOf_2 0 rfl rfl)
theorem dX6_rankOf_49 : decode cX6_rankOf 49 = .ok (.iload_n 3, 1) := dk_29 (dk_at dksX6_rankOf_2 3 rfl rfl)
theorem dX6_rankOf_50 : decode cX6_rankOf 50 = .ok (.ireturn, 1) := dk_172 (dk_at dksX6_rankOf_2 4 rfl rfl)
abbrev cX6_think : ByteArray := prog_26_method_39_code
def yX6_think : MethodName := ⟨RX6, "think", "()V"⟩
def dkwX6_think_3 : List UInt8 := [132, 1, 1, 167, 255, 233, 177]
abbrev dktX6_think_3 : List UInt8 := dkwX6_think_3 ++ []
def dkwX6_think_2 : List UInt8 := [3, 60, 27, 42, 180, 0, 131, 162, 0, 21, 42, 180, 0, 84, 27, 42, 180, 0, 19, 27, 46, 79]
abbrev dktX6_think_2 : List UInt8 := dkwX6_think_2 ++ dktX6_think_3
def dkwX6_think_1 : List UInt8 := [180, 0, 81, 27, 42, 180, 0, 34, 27, 46, 79, 42, 180, 0, 87, 27, 27, 79, 132, 1, 1, 167, 255, 214]
abbrev dktX6_think_1 : List UInt8 := dkwX6_think_1 ++ dktX6_think_2
def dkwX6_think_0 : List UInt8 := [3, 60, 27, 42, 180, 0, 138, 162, 0, 40, 42, 180, 0, 78, 27, 42, 180, 0, 28, 27, 46, 79, 42]
abbrev dktX6_think_0 : List UInt8 := dkwX6_think_0 ++ dktX6_think_1
theorem dksX6_think_0 : cX6_think.data.toList.drop 0 = dktX6_think_0 := by decide +kernel
theorem dksX6_think_1 : cX6_think.data.toList.drop 23 = dktX6_think_1 := dk_seg dksX6_think_0 23 rfl rfl
theorem dksX6_think_2 : cX6_think.data.toList.drop 47 = dktX6_think_2 := dk_seg dksX6_think_1 24 rfl rfl
theorem dksX6_think_3 : cX6_think.data.toList.drop 69 = dktX6_think_3 := dk_seg dksX6_think_2 22 rfl rfl
theorem dX6_think_0 : decode cX6_think 0 = .ok (.iconst 0, 1) := dk_3 (dk_at dksX6_think_0 0 rfl rfl)
theorem dX6_think_1 : decode cX6_think 1 = .ok (.istore_n 1, 1) := dk_60 (dk_at dksX6_think_0 1 rfl rfl)
theorem dX6_think_2 : decode cX6_think 2 = .ok (.iload_n 1, 1) := dk_27 (dk_at dksX6_think_0 2 rfl rfl)
theorem dX6_think_3 : decode cX6_think 3 = .ok (.aload_n 0, 1) := dk_42 (dk_at dksX6_think_0 3 rfl rfl)
theorem dX6_think_4 : decode cX6_think 4 = .ok (.getfield 138, 3) := dk_180 0 138 (dk_at dksX6_think_0 4 rfl rfl)
theorem dX6_think_7 : decode cX6_think 7 = .ok (.if_icmp .ge 40, 3) := dk_162 0 40 (dk_at dksX6_think_0 7 rfl rfl)
theorem dX6_think_10 : decode cX6_think 10 = .ok (.aload_n 0, 1) := dk_42 (dk_at dksX6_think_0 10 rfl rfl)
theorem dX6_think_11 : decode cX6_think 11 = .ok (.getfield 78, 3) := dk_180 0 78 (dk_at dksX6_think_0 11 rfl rfl)
theorem dX6_think_14 : decode cX6_think 14 = .ok (.iload_n 1, 1) := dk_27 (dk_at dksX6_think_0 14 rfl rfl)
theorem dX6_think_15 : decode cX6_think 15 = .ok (.aload_n 0, 1) := dk_42 (dk_at dksX6_think_0 15 rfl rfl)
theorem dX6_think_16 : decode cX6_think 16 = .ok (.getfield 28, 3) := dk_180 0 28 (dk_at dksX6_think_0 16 rfl rfl)
theorem dX6_think_19 : decode cX6_think 19 = .ok (.iload_n 1, 1) := dk_27 (dk_at dksX6_think_0 19 rfl rfl)
theorem dX6_think_20 : decode cX6_think 20 = .ok (.iaload, 1) := dk_46 (dk_at dksX6_think_0 20 rfl rfl)
theorem dX6_think_21 : decode cX6_think 21 = .ok (.iastore, 1) := dk_79 (dk_at dksX6_think_0 21 rfl rfl)
theorem dX6_think_22 : decode cX6_think 22 = .ok (.aload_n 0, 1) := dk_42 (dk_at dksX6_think_0 22 rfl rfl)
theorem dX6_think_23 : decode cX6_think 23 = .ok (.getfield 81, 3) := dk_180 0 81 (dk_at dksX6_think_1 0 rfl rfl)
theorem dX6_think_26 : decode cX6_think 26 = .ok (.iload_n 1, 1) := dk_27 (dk_at dksX6_think_1 3 rfl rfl)
theorem dX6_think_27 : decode cX6_think 27 = .ok (.aload_n 0, 1) := dk_42 (dk_at dksX6_think_1 4 rfl rfl)
theorem dX6_think_28 : decode cX6_think 28 = .ok (.getfield 34, 3) := dk_180 0 34 (dk_at dksX6_think_1 5 rfl rfl)
theorem dX6_think_31 : decode cX6_think 31 = .ok (.iload_n 1, 1) := dk_27 (dk_at dksX6_think_1 8 rfl rfl)
theorem dX6_think_32 : decode cX6_think 32 = .ok (.iaload, 1) := dk_46 (dk_at dksX6_think_1 9 rfl rfl)
theorem dX6_think_33 : decode cX6_think 33 = .ok (.iastore, 1) := dk_79 (dk_at dksX6_think_1 10 rfl rfl)
theorem dX6_think_34 : decode cX6_think 34 = .ok (.aload_n 0, 1) := dk_42 (dk_at dksX6_think_1 11 rfl rfl)
theorem dX6_think_35 : decode cX6_think 35 = .ok (.getfield 87, 3) := dk_180 0 87 (dk_at dksX6_think_1 12 rfl rfl)
theorem dX6_think_38 : decode cX6_think 38 = .ok (.iload_n 1, 1) := dk_27 (dk_at dksX6_think_1 15 rfl rfl)
theorem dX6_think_39 : decode cX6_think 39 = .ok (.iload_n 1, 1) := dk_27 (dk_at dksX6_think_1 16 rfl rfl)
theorem dX6_think_40 : decode cX6_think 40 = .ok (.iastore, 1) := dk_79 (dk_at dksX6_think_1 17 rfl rfl)
theorem dX6_think_41 : decode cX6_think 41 = .ok (.iinc 1 1, 3) := dk_132 1 1 (dk_at dksX6_think_1 18 rfl rfl)
theorem dX6_think_44 : decode cX6_think 44 = .ok (.goto (-42), 3) := dk_167 255 214 (dk_at dksX6_think_1 21 rfl rfl)
theorem dX6_think_47 : decode cX6_think 47 = .ok (.iconst 0, 1) := dk_3 (dk_at dksX6_think_2 0 rfl rfl)
theorem dX6_think_48 : decode cX6_think 48 = .ok (.istore_n 1, 1) := dk_60 (dk_at dksX6_think_2 1 rfl rfl)
theorem dX6_think_49 : decode cX6_think 49 = .ok (.iload_n 1, 1) := dk_27 (dk_at dksX6_think_2 2 rfl rfl)
theorem dX6_think_50 : decode cX6_think 50 = .ok (.aload_n 0, 1) := dk_42 (dk_at dksX6_think_2 3 rfl rfl)
theorem dX6_think_51 : decode cX6_think 51 = .ok (.getfield 131, 3) := dk_180 0 131 (dk_at dksX6_think_2 4 rfl rfl)
theorem dX6_think_54 : decode cX6_think 54 = .ok (.if_icmp .ge 21, 3) := dk_162 0 21 (dk_at dksX6_think_2 7 rfl rfl)
theorem dX6_think_57 : decode cX6_think 57 = .ok (.aload_n 0, 1) := dk_42 (dk_at dksX6_think_2 10 rfl rfl)
theorem dX6_think_58 : decode cX6_think 58 = .ok (.getfield 84, 3) := dk_180 0 84 (dk_at dksX6_think_2 11 rfl rfl)
theorem dX6_think_61 : decode cX6_think 61 = .ok (.iload_n 1, 1) := dk_27 (dk_at dksX6_think_2 14 rfl rfl)
theorem dX6_think_62 : decode cX6_think 62 = .ok (.aload_n 0, 1) := dk_42 (dk_at dksX6_think_2 15 rfl rfl)
theorem dX6_think_63 : decode cX6_think 63 = .ok (.getfield 19, 3) := dk_180 0 19 (dk_at dksX6_think_2 16 rfl rfl)
theorem dX6_think_66 : decode cX6_think 66 = .ok (.iload_n 1, 1) := dk_27 (dk_at dksX6_think_2 19 rfl rfl)
theorem dX6_think_67 : decode cX6_think 67 = .ok (.iaload, 1) := dk_46 (dk_at dksX6_think_2 20 rfl rfl)
theorem dX6_think_68 : decode cX6_think 68 = .ok (.iastore, 1) := dk_79 (dk_at dksX6_think_2 21 rfl rfl)
theorem dX6_think_69 : decode cX6_think 69 = .ok (.iinc 1 1, 3) := dk_132 1 1 (dk_at dksX6_think_3 0 rfl rfl)
theorem dX6_think_72 : decode cX6_think 72 = .ok (.goto (-23), 3) := dk_167 255 233 (dk_at dksX6_think_3 3 rfl rfl)
theorem dX6_think_75 : decode cX6_think 75 = .ok (.return_, 1) := dk_177 (dk_at dksX6_think_3 6 rfl rfl)
abbrev cX6_falls : ByteArray := prog_26_method_40_code
def yX6_falls : MethodName := ⟨RX6, "falls", "(II)I"⟩
def dkwX6_falls_0 : List UInt8 := [42, 27, 28, 42, 180, 0, 81, 27, 46, 42, 180, 0, 31, 27, 46, 182, 1, 2, 172]
abbrev dktX6_falls_0 : List UInt8 := dkwX6_falls_0 ++ []
theorem dksX6_falls_0 : cX6_falls.data.toList.drop 0 = dktX6_falls_0 := by decide +kernel
theorem dX6_falls_0 : decode cX6_falls 0 = .ok (.aload_n 0, 1) := dk_42 (dk_at dksX6_falls_0 0 rfl rfl)
theorem dX6_falls_1 : decode cX6_falls 1 = .ok (.iload_n 1, 1) := dk_27 (dk_at dksX6_falls_0 1 rfl rfl)
theorem dX6_falls_2 : decode cX6_falls 2 = .ok (.iload_n 2, 1) := dk_28 (dk_at dksX6_falls_0 2 rfl rfl)
theorem dX6_falls_3 : decode cX6_falls 3 = .ok (.aload_n 0, 1) := dk_42 (dk_at dksX6_falls_0 3 rfl rfl)
theorem dX6_falls_4 : decode cX6_falls 4 = .ok (.getfield 81, 3) := dk_180 0 81 (dk_at dksX6_falls_0 4 rfl rfl)
theorem dX6_falls_7 : decode cX6_falls 7 = .ok (.iload_n 1, 1) := dk_27 (dk_at dksX6_falls_0 7 rfl rfl)
theorem dX6_falls_8 : decode cX6_falls 8 = .ok (.iaload, 1) := dk_46 (dk_at dksX6_falls_0 8 rfl rfl)
theorem dX6_falls_9 : decode cX6_falls 9 = .ok (.aload_n 0, 1) := dk_42 (dk_at dksX6_falls_0 9 rfl rfl)
theorem dX6_falls_10 : decode cX6_falls 10 = .ok (.getfield 31, 3) := dk_180 0 31 (dk_at dksX6_falls_0 10 rfl rfl)
theorem dX6_falls_13 : decode cX6_falls 13 = .ok (.iload_n 1, 1) := dk_27 (dk_at dksX6_falls_0 13 rfl rfl)
theorem dX6_falls_14 : decode cX6_falls 14 = .ok (.iaload, 1) := dk_46 (dk_at dksX6_falls_0 14 rfl rfl)
theorem dX6_falls_15 : decode cX6_falls 15 = .ok (.invokevirtual 258, 3) := dk_182 1 2 (dk_at dksX6_falls_0 15 rfl rfl)
theorem dX6_falls_18 : decode cX6_falls 18 = .ok (.ireturn, 1) := dk_172 (dk_at dksX6_falls_0 18 rfl rfl)
abbrev cX6_fallsBy : ByteArray := prog_26_method_41_code
def yX6_fallsBy : MethodName := ⟨RX6, "fallsBy", "(IIII)I"⟩
def dkwX6_fallsBy_6 : List UInt8 := [167, 0, 17, 21, 6, 16, 12, 164, 0, 8, 16, 12, 167, 0, 5, 21, 6, 172]
abbrev dktX6_fallsBy_6 : List UInt8 := dkwX6_fallsBy_6 ++ []
def dkwX6_fallsBy_5 : List UInt8 := [79, 42, 180, 0, 72, 8, 21, 7, 79, 42, 3, 182, 1, 9, 54, 6, 21, 6, 156, 0, 7, 3]
abbrev dktX6_fallsBy_5 : List UInt8 := dkwX6_fallsBy_5 ++ dktX6_fallsBy_6
def dkwX6_fallsBy_4 : List UInt8 := [21, 5, 79, 42, 180, 0, 72, 5, 21, 4, 79, 42, 180, 0, 72, 6, 28, 79, 42, 180, 0, 72, 7, 27]
abbrev dktX6_fallsBy_4 : List UInt8 := dkwX6_fallsBy_4 ++ dktX6_fallsBy_5
def dkwX6_fallsBy_3 : List UInt8 := [132, 8, 1, 167, 255, 224, 42, 180, 0, 72, 3, 42, 29, 28, 182, 1, 6, 79, 42, 180, 0, 72, 4]
abbrev dktX6_fallsBy_3 : List UInt8 := dkwX6_fallsBy_3 ++ dktX6_fallsBy_4
def dkwX6_fallsBy_2 : List UInt8 := [162, 0, 29, 21, 8, 27, 159, 0, 17, 42, 180, 0, 81, 21, 8, 46, 29, 160, 0, 6, 132, 7, 1]
abbrev dktX6_fallsBy_2 : List UInt8 := dkwX6_fallsBy_2 ++ dktX6_fallsBy_3
def dkwX6_fallsBy_1 : List UInt8 := [21, 4, 100, 54, 6, 42, 180, 0, 251, 153, 0, 101, 3, 54, 7, 3, 54, 8, 21, 8, 42, 180, 0, 138]
abbrev dktX6_fallsBy_1 : List UInt8 := dkwX6_fallsBy_1 ++ dktX6_fallsBy_2
def dkwX6_fallsBy_0 : List UInt8 := [42, 180, 0, 78, 27, 46, 54, 5, 21, 5, 154, 0, 5, 3, 172, 42, 29, 28, 182, 1, 6, 21, 5, 96]
abbrev dktX6_fallsBy_0 : List UInt8 := dkwX6_fallsBy_0 ++ dktX6_fallsBy_1
theorem dksX6_fallsBy_0 : cX6_fallsBy.data.toList.drop 0 = dktX6_fallsBy_0 := by decide +kernel
theorem dksX6_fallsBy_1 : cX6_fallsBy.data.toList.drop 24 = dktX6_fallsBy_1 := dk_seg dksX6_fallsBy_0 24 rfl rfl
theorem dksX6_fallsBy_2 : cX6_fallsBy.data.toList.drop 48 = dktX6_fallsBy_2 := dk_seg dksX6_fallsBy_1 24 rfl rfl
theorem dksX6_fallsBy_3 : cX6_fallsBy.data.toList.drop 71 = dktX6_fallsBy_3 := dk_seg dksX6_fallsBy_2 23 rfl rfl
theorem dksX6_fallsBy_4 : cX6_fallsBy.data.toList.drop 94 = dktX6_fallsBy_4 := dk_seg dksX6_fallsBy_3 23 rfl rfl
theorem dksX6_fallsBy_5 : cX6_fallsBy.data.toList.drop 118 = dktX6_fallsBy_5 := dk_seg dksX6_fallsBy_4 24 rfl rfl
theorem dksX6_fallsBy_6 : cX6_fallsBy.data.toList.drop 140 = dktX6_fallsBy_6 := dk_seg dksX6_fallsBy_5 22 rfl rfl
theorem dX6_fallsBy_0 : decode cX6_fallsBy 0 = .ok (.aload_n 0, 1) := dk_42 (dk_at dksX6_fallsBy_0 0 rfl rfl)
theorem dX6_fallsBy_1 : decode cX6_fallsBy 1 = .ok (.getfield 78, 3) := dk_180 0 78 (dk_at dksX6_fallsBy_0 1 rfl rfl)
theorem dX6_fallsBy_4 : decode cX6_fallsBy 4 = .ok (.iload_n 1, 1) := dk_27 (dk_at dksX6_fallsBy_0 4 rfl rfl)
theorem dX6_fallsBy_5 : decode cX6_fallsBy 5 = .ok (.iaload, 1) := dk_46 (dk_at dksX6_fallsBy_0 5 rfl rfl)
theorem dX6_fallsBy_6 : decode cX6_fallsBy 6 = .ok (.istore 5, 2) := dk_54 5 (dk_at dksX6_fallsBy_0 6 rfl rfl)
theorem dX6_fallsBy_8 : decode cX6_fallsBy 8 = .ok (.iload 5, 2) := dk_21 5 (dk_at dksX6_fallsBy_0 8 rfl rfl)
theorem dX6_fallsBy_10 : decode cX6_fallsBy 10 = .ok (.ifCond .ne 5, 3) := dk_154 0 5 (dk_at dksX6_fallsBy_0 10 rfl rfl)
theorem dX6_fallsBy_13 : decode cX6_fallsBy 13 = .ok (.iconst 0, 1) := dk_3 (dk_at dksX6_fallsBy_0 13 rfl rfl)
theorem dX6_fallsBy_14 : decode cX6_fallsBy 14 = .ok (.ireturn, 1) := dk_172 (dk_at dksX6_fallsBy_0 14 rfl rfl)
theorem dX6_fallsBy_15 : decode cX6_fallsBy 15 = .ok (.aload_n 0, 1) := dk_42 (dk_at dksX6_fallsBy_0 15 rfl rfl)
theorem dX6_fallsBy_16 : decode cX6_fallsBy 16 = .ok (.iload_n 3, 1) := dk_29 (dk_at dksX6_fallsBy_0 16 rfl rfl)
theorem dX6_fallsBy_17 : decode cX6_fallsBy 17 = .ok (.iload_n 2, 1) := dk_28 (dk_at dksX6_fallsBy_0 17 rfl rfl)
theorem dX6_fallsBy_18 : decode cX6_fallsBy 18 = .ok (.invokevirtual 262, 3) := dk_182 1 6 (dk_at dksX6_fallsBy_0 18 rfl rfl)
theorem dX6_fallsBy_21 : decode cX6_fallsBy 21 = .ok (.iload 5, 2) := dk_21 5 (dk_at dksX6_fallsBy_0 21 rfl rfl)
theorem dX6_fallsBy_23 : decode cX6_fallsBy 23 = .ok (.iadd, 1) := dk_96 (dk_at dksX6_fallsBy_0 23 rfl rfl)
theorem dX6_fallsBy_24 : decode cX6_fallsBy 24 = .ok (.iload 4, 2) := dk_21 4 (dk_at dksX6_fallsBy_1 0 rfl rfl)
theorem dX6_fallsBy_26 : decode cX6_fallsBy 26 = .ok (.isub, 1) := dk_100 (dk_at dksX6_fallsBy_1 2 rfl rfl)
theorem dX6_fallsBy_27 : decode cX6_fallsBy 27 = .ok (.istore 6, 2) := dk_54 6 (dk_at dksX6_fallsBy_1 3 rfl rfl)
theorem dX6_fallsBy_29 : decode cX6_fallsBy 29 = .ok (.aload_n 0, 1) := dk_42 (dk_at dksX6_fallsBy_1 5 rfl rfl)
theorem dX6_fallsBy_30 : decode cX6_fallsBy 30 = .ok (.getfield 251, 3) := dk_180 0 251 (dk_at dksX6_fallsBy_1 6 rfl rfl)
theorem dX6_fallsBy_33 : decode cX6_fallsBy 33 = .ok (.ifCond .eq 101, 3) := dk_153 0 101 (dk_at dksX6_fallsBy_1 9 rfl rfl)
theorem dX6_fallsBy_36 : decode cX6_fallsBy 36 = .ok (.iconst 0, 1) := dk_3 (dk_at dksX6_fallsBy_1 12 rfl rfl)
theorem dX6_fallsBy_37 : decode cX6_fallsBy 37 = .ok (.istore 7, 2) := dk_54 7 (dk_at dksX6_fallsBy_1 13 rfl rfl)
theorem dX6_fallsBy_39 : decode cX6_fallsBy 39 = .ok (.iconst 0, 1) := dk_3 (dk_at dksX6_fallsBy_1 15 rfl rfl)
theorem dX6_fallsBy_40 : decode cX6_fallsBy 40 = .ok (.istore 8, 2) := dk_54 8 (dk_at dksX6_fallsBy_1 16 rfl rfl)
theorem dX6_fallsBy_42 : decode cX6_fallsBy 42 = .ok (.iload 8, 2) := dk_21 8 (dk_at dksX6_fallsBy_1 18 rfl rfl)
theorem dX6_fallsBy_44 : decode cX6_fallsBy 44 = .ok (.aload_n 0, 1) := dk_42 (dk_at dksX6_fallsBy_1 20 rfl rfl)
theorem dX6_fallsBy_45 : decode cX6_fallsBy 45 = .ok (.getfield 138, 3) := dk_180 0 138 (dk_at dksX6_fallsBy_1 21 rfl rfl)
theorem dX6_fallsBy_48 : decode cX6_fallsBy 48 = .ok (.if_icmp .ge 29, 3) := dk_162 0 29 (dk_at dksX6_fallsBy_2 0 rfl rfl)
theorem dX6_fallsBy_51 : decode cX6_fallsBy 51 = .ok (.iload 8, 2) := dk_21 8 (dk_at dksX6_fallsBy_2 3 rfl rfl)
theorem dX6_fallsBy_53 : decode cX6_fallsBy 53 = .ok (.iload_n 1, 1) := dk_27 (dk_at dksX6_fallsBy_2 5 rfl rfl)
theorem dX6_fallsBy_54 : decode cX6_fallsBy 54 = .ok (.if_icmp .eq 17, 3) := dk_159 0 17 (dk_at dksX6_fallsBy_2 6 rfl rfl)
theorem dX6_fallsBy_57 : decode cX6_fallsBy 57 = .ok (.aload_n 0, 1) := dk_42 (dk_at dksX6_fallsBy_2 9 rfl rfl)
theorem dX6_fallsBy_58 : decode cX6_fallsBy 58 = .ok (.getfield 81, 3) := dk_180 0 81 (dk_at dksX6_fallsBy_2 10 rfl rfl)
theorem dX6_fallsBy_61 : decode cX6_fallsBy 61 = .ok (.iload 8, 2) := dk_21 8 (dk_at dksX6_fallsBy_2 13 rfl rfl)
theorem dX6_fallsBy_63 : decode cX6_fallsBy 63 = .ok (.iaload, 1) := dk_46 (dk_at dksX6_fallsBy_2 15 rfl rfl)
theorem dX6_fallsBy_64 : decode cX6_fallsBy 64 = .ok (.iload_n 3, 1) := dk_29 (dk_at dksX6_fallsBy_2 16 rfl rfl)
theorem dX6_fallsBy_65 : decode cX6_fallsBy 65 = .ok (.if_icmp .ne 6, 3) := dk_160 0 6 (dk_at dksX6_fallsBy_2 17 rfl rfl)
theorem dX6_fallsBy_68 : decode cX6_fallsBy 68 = .ok (.iinc 7 1, 3) := dk_132 7 1 (dk_at dksX6_fallsBy_2 20 rfl rfl)
theorem dX6_fallsBy_71 : decode cX6_fallsBy 71 = .ok (.iinc 8 1, 3) := dk_132 8 1 (dk_at dksX6_fallsBy_3 0 rfl rfl)
theorem dX6_fallsBy_74 : decode cX6_fallsBy 74 = .ok (.goto (-32), 3) := dk_167 255 224 (dk_at dksX6_fallsBy_3 3 rfl rfl)
theorem dX6_fallsBy_77 : decode cX6_fallsBy 77 = .ok (.aload_n 0, 1) := dk_42 (dk_at dksX6_fallsBy_3 6 rfl rfl)
theorem dX6_fallsBy_78 : decode cX6_fallsBy 78 = .ok (.getfield 72, 3) := dk_180 0 72 (dk_at dksX6_fallsBy_3 7 rfl rfl)
theorem dX6_fallsBy_81 : decode cX6_fallsBy 81 = .ok (.iconst 0, 1) := dk_3 (dk_at dksX6_fallsBy_3 10 rfl rfl)
theorem dX6_fallsBy_82 : decode cX6_fallsBy 82 = .ok (.aload_n 0, 1) := dk_42 (dk_at dksX6_fallsBy_3 11 rfl rfl)
theorem dX6_fallsBy_83 : decode cX6_fallsBy 83 = .ok (.iload_n 3, 1) := dk_29 (dk_at dksX6_fallsBy_3 12 rfl rfl)
theorem dX6_fallsBy_84 : decode cX6_fallsBy 84 = .ok (.iload_n 2, 1) := dk_28 (dk_at dksX6_fallsBy_3 13 rfl rfl)
theorem dX6_fallsBy_85 : decode cX6_fallsBy 85 = .ok (.invokevirtual 262, 3) := dk_182 1 6 (dk_at dksX6_fallsBy_3 14 rfl rfl)
theorem dX6_fallsBy_88 : decode cX6_fallsBy 88 = .ok (.iastore, 1) := dk_79 (dk_at dksX6_fallsBy_3 17 rfl rfl)
theorem dX6_fallsBy_89 : decode cX6_fallsBy 89 = .ok (.aload_n 0, 1) := dk_42 (dk_at dksX6_fallsBy_3 18 rfl rfl)
theorem dX6_fallsBy_90 : decode cX6_fallsBy 90 = .ok (.getfield 72, 3) := dk_180 0 72 (dk_at dksX6_fallsBy_3 19 rfl rfl)
theorem dX6_fallsBy_93 : decode cX6_fallsBy 93 = .ok (.iconst 1, 1) := dk_4 (dk_at dksX6_fallsBy_3 22 rfl rfl)
theorem dX6_fallsBy_94 : decode cX6_fallsBy 94 = .ok (.iload 5, 2) := dk_21 5 (dk_at dksX6_fallsBy_4 0 rfl rfl)
theorem dX6_fallsBy_96 : decode cX6_fallsBy 96 = .ok (.iastore, 1) := dk_79 (dk_at dksX6_fallsBy_4 2 rfl rfl)
theorem dX6_fallsBy_97 : decode cX6_fallsBy 97 = .ok (.aload_n 0, 1) := dk_42 (dk_at dksX6_fallsBy_4 3 rfl rfl)
theorem dX6_fallsBy_98 : decode cX6_fallsBy 98 = .ok (.getfield 72, 3) := dk_180 0 72 (dk_at dksX6_fallsBy_4 4 rfl rfl)
theorem dX6_fallsBy_101 : decode cX6_fallsBy 101 = .ok (.iconst 2, 1) := dk_5 (dk_at dksX6_fallsBy_4 7 rfl rfl)
theorem dX6_fallsBy_102 : decode cX6_fallsBy 102 = .ok (.iload 4, 2) := dk_21 4 (dk_at dksX6_fallsBy_4 8 rfl rfl)
theorem dX6_fallsBy_104 : decode cX6_fallsBy 104 = .ok (.iastore, 1) := dk_79 (dk_at dksX6_fallsBy_4 10 rfl rfl)
theorem dX6_fallsBy_105 : decode cX6_fallsBy 105 = .ok (.aload_n 0, 1) := dk_42 (dk_at dksX6_fallsBy_4 11 rfl rfl)
theorem dX6_fallsBy_106 : decode cX6_fallsBy 106 = .ok (.getfield 72, 3) := dk_180 0 72 (dk_at dksX6_fallsBy_4 12 rfl rfl)
theorem dX6_fallsBy_109 : decode cX6_fallsBy 109 = .ok (.iconst 3, 1) := dk_6 (dk_at dksX6_fallsBy_4 15 rfl rfl)
theorem dX6_fallsBy_110 : decode cX6_fallsBy 110 = .ok (.iload_n 2, 1) := dk_28 (dk_at dksX6_fallsBy_4 16 rfl rfl)
theorem dX6_fallsBy_111 : decode cX6_fallsBy 111 = .ok (.iastore, 1) := dk_79 (dk_at dksX6_fallsBy_4 17 rfl rfl)
theorem dX6_fallsBy_112 : decode cX6_fallsBy 112 = .ok (.aload_n 0, 1) := dk_42 (dk_at dksX6_fallsBy_4 18 rfl rfl)
theorem dX6_fallsBy_113 : decode cX6_fallsBy 113 = .ok (.getfield 72, 3) := dk_180 0 72 (dk_at dksX6_fallsBy_4 19 rfl rfl)
theorem dX6_fallsBy_116 : decode cX6_fallsBy 116 = .ok (.iconst 4, 1) := dk_7 (dk_at dksX6_fallsBy_4 22 rfl rfl)
theorem dX6_fallsBy_117 : decode cX6_fallsBy 117 = .ok (.iload_n 1, 1) := dk_27 (dk_at dksX6_fallsBy_4 23 rfl rfl)
theorem dX6_fallsBy_118 : decode cX6_fallsBy 118 = .ok (.iastore, 1) := dk_79 (dk_at dksX6_fallsBy_5 0 rfl rfl)
theorem dX6_fallsBy_119 : decode cX6_fallsBy 119 = .ok (.aload_n 0, 1) := dk_42 (dk_at dksX6_fallsBy_5 1 rfl rfl)
theorem dX6_fallsBy_120 : decode cX6_fallsBy 120 = .ok (.getfield 72, 3) := dk_180 0 72 (dk_at dksX6_fallsBy_5 2 rfl rfl)
theorem dX6_fallsBy_123 : decode cX6_fallsBy 123 = .ok (.iconst 5, 1) := dk_8 (dk_at dksX6_fallsBy_5 5 rfl rfl)
theorem dX6_fallsBy_124 : decode cX6_fallsBy 124 = .ok (.iload 7, 2) := dk_21 7 (dk_at dksX6_fallsBy_5 6 rfl rfl)
theorem dX6_fallsBy_126 : decode cX6_fallsBy 126 = .ok (.iastore, 1) := dk_79 (dk_at dksX6_fallsBy_5 8 rfl rfl)
theorem dX6_fallsBy_127 : decode cX6_fallsBy 127 = .ok (.aload_n 0, 1) := dk_42 (dk_at dksX6_fallsBy_5 9 rfl rfl)
theorem dX6_fallsBy_128 : decode cX6_fallsBy 128 = .ok (.iconst 0, 1) := dk_3 (dk_at dksX6_fallsBy_5 10 rfl rfl)
theorem dX6_fallsBy_129 : decode cX6_fallsBy 129 = .ok (.invokevirtual 265, 3) := dk_182 1 9 (dk_at dksX6_fallsBy_5 11 rfl rfl)
theorem dX6_fallsBy_132 : decode cX6_fallsBy 132 = .ok (.istore 6, 2) := dk_54 6 (dk_at dksX6_fallsBy_5 14 rfl rfl)
theorem dX6_fallsBy_134 : decode cX6_fallsBy 134 = .ok (.iload 6, 2) := dk_21 6 (dk_at dksX6_fallsBy_5 16 rfl rfl)
theorem dX6_fallsBy_136 : decode cX6_fallsBy 136 = .ok (.ifCond .ge 7, 3) := dk_156 0 7 (dk_at dksX6_fallsBy_5 18 rfl rfl)
theorem dX6_fallsBy_139 : decode cX6_fallsBy 139 = .ok (.iconst 0, 1) := dk_3 (dk_at dksX6_fallsBy_5 21 rfl rfl)
theorem dX6_fallsBy_140 : decode cX6_fallsBy 140 = .ok (.goto 17, 3) := dk_167 0 17 (dk_at dksX6_fallsBy_6 0 rfl rfl)
theorem dX6_fallsBy_143 : decode cX6_fallsBy 143 = .ok (.iload 6, 2) := dk_21 6 (dk_at dksX6_fallsBy_6 3 rfl rfl)
theorem dX6_fallsBy_145 : decode cX6_fallsBy 145 = .ok (.bipush 12, 2) := dk_16 12 (dk_at dksX6_fallsBy_6 5 rfl rfl)
theorem dX6_fallsBy_147 : decode cX6_fallsBy 147 = .ok (.if_icmp .le 8, 3) := dk_164 0 8 (dk_at dksX6_fallsBy_6 7 rfl rfl)
theorem dX6_fallsBy_150 : decode cX6_fallsBy 150 = .ok (.bipush 12, 2) := dk_16 12 (dk_at dksX6_fallsBy_6 10 rfl rfl)
theorem dX6_fallsBy_152 : decode cX6_fallsBy 152 = .ok (.goto 5, 3) := dk_167 0 5 (dk_at dksX6_fallsBy_6 12 rfl rfl)
theorem dX6_fallsBy_155 : decode cX6_fallsBy 155 = .ok (.iload 6, 2) := dk_21 6 (dk_at dksX6_fallsBy_6 15 rfl rfl)
theorem dX6_fallsBy_157 : decode cX6_fallsBy 157 = .ok (.ireturn, 1) := dk_172 (dk_at dksX6_fallsBy_6 17 rfl rfl)
abbrev cX6_gustAt : ByteArray := prog_26_method_38_code
def yX6_gustAt : MethodName := ⟨RX6, "gustAt", "(II)I"⟩
def dkwX6_gustAt_1 : List UInt8 := [167, 0, 4, 29, 172]
abbrev dktX6_gustAt_1 : List UInt8 := dkwX6_gustAt_1 ++ []
def dkwX6_gustAt_0 : List UInt8 := [42, 180, 0, 7, 28, 46, 42, 180, 0, 255, 96, 42, 180, 0, 13, 27, 46, 100, 62, 29, 156, 0, 7, 3]
abbrev dktX6_gustAt_0 : List UInt8 := dkwX6_gustAt_0 ++ dktX6_gustAt_1
theorem dksX6_gustAt_0 : cX6_gustAt.data.toList.drop 0 = dktX6_gustAt_0 := by decide +kernel
theorem dksX6_gustAt_1 : cX6_gustAt.data.toList.drop 24 = dktX6_gustAt_1 := dk_seg dksX6_gustAt_0 24 rfl rfl
theorem dX6_gustAt_0 : decode cX6_gustAt 0 = .ok (.aload_n 0, 1) := dk_42 (dk_at dksX6_gustAt_0 0 rfl rfl)
theorem dX6_gustAt_1 : decode cX6_gustAt 1 = .ok (.getfield 7, 3) := dk_180 0 7 (dk_at dksX6_gustAt_0 1 rfl rfl)
theorem dX6_gustAt_4 : decode cX6_gustAt 4 = .ok (.iload_n 2, 1) := dk_28 (dk_at dksX6_gustAt_0 4 rfl rfl)
theorem dX6_gustAt_5 : decode cX6_gustAt 5 = .ok (.iaload, 1) := dk_46 (dk_at dksX6_gustAt_0 5 rfl rfl)
theorem dX6_gustAt_6 : decode cX6_gustAt 6 = .ok (.aload_n 0, 1) := dk_42 (dk_at dksX6_gustAt_0 6 rfl rfl)
theorem dX6_gustAt_7 : decode cX6_gustAt 7 = .ok (.getfield 255, 3) := dk_180 0 255 (dk_at dksX6_gustAt_0 7 rfl rfl)
theorem dX6_gustAt_10 : decode cX6_gustAt 10 = .ok (.iadd, 1) := dk_96 (dk_at dksX6_gustAt_0 10 rfl rfl)
theorem dX6_gustAt_11 : decode cX6_gustAt 11 = .ok (.aload_n 0, 1) := dk_42 (dk_at dksX6_gustAt_0 11 rfl rfl)
theorem dX6_gustAt_12 : decode cX6_gustAt 12 = .ok (.getfield 13, 3) := dk_180 0 13 (dk_at dksX6_gustAt_0 12 rfl rfl)
theorem dX6_gustAt_15 : decode cX6_gustAt 15 = .ok (.iload_n 1, 1) := dk_27 (dk_at dksX6_gustAt_0 15 rfl rfl)
theorem dX6_gustAt_16 : decode cX6_gustAt 16 = .ok (.iaload, 1) := dk_46 (dk_at dksX6_gustAt_0 16 rfl rfl)
theorem dX6_gustAt_17 : decode cX6_gustAt 17 = .ok (.isub, 1) := dk_100 (dk_at dksX6_gustAt_0 17 rfl rfl)
theorem dX6_gustAt_18 : decode cX6_gustAt 18 = .ok (.istore_n 3, 1) := dk_62 (dk_at dksX6_gustAt_0 18 rfl rfl)
theorem dX6_gustAt_19 : decode cX6_gustAt 19 = .ok (.iload_n 3, 1) := dk_29 (dk_at dksX6_gustAt_0 19 rfl rfl)
theorem dX6_gustAt_20 : decode cX6_gustAt 20 = .ok (.ifCond .ge 7, 3) := dk_156 0 7 (dk_at dksX6_gustAt_0 20 rfl rfl)
theorem dX6_gustAt_23 : decode cX6_gustAt 23 = .ok (.iconst 0, 1) := dk_3 (dk_at dksX6_gustAt_0 23 rfl rfl)
theorem dX6_gustAt_24 : decode cX6_gustAt 24 = .ok (.goto 4, 3) := dk_167 0 4 (dk_at dksX6_gustAt_1 0 rfl rfl)
theorem dX6_gustAt_27 : decode cX6_gustAt 27 = .ok (.iload_n 3, 1) := dk_29 (dk_at dksX6_gustAt_1 3 rfl rfl)
theorem dX6_gustAt_28 : decode cX6_gustAt 28 = .ok (.ireturn, 1) := dk_172 (dk_at dksX6_gustAt_1 4 rfl rfl)
abbrev cX6_gives : ByteArray := prog_26_method_36_code
def yX6_gives : MethodName := ⟨RX6, "gives", "(I)I"⟩
def dkwX6_gives_3 : List UInt8 := [61, 132, 3, 1, 167, 255, 188, 3, 172]
abbrev dktX6_gives_3 : List UInt8 := dkwX6_gives_3 ++ []
def dkwX6_gives_2 : List UInt8 := [42, 27, 42, 180, 0, 65, 29, 53, 42, 180, 0, 69, 29, 53, 182, 0, 245, 172, 42, 180, 0, 69, 29, 53]
abbrev dktX6_gives_2 : List UInt8 := dkwX6_gives_2 ++ dktX6_gives_3
def dkwX6_gives_1 : List UInt8 := [180, 0, 65, 29, 53, 28, 159, 0, 18, 42, 27, 28, 42, 180, 0, 65, 29, 53, 182, 0, 245, 153, 0, 21]
abbrev dktX6_gives_1 : List UInt8 := dkwX6_gives_1 ++ dktX6_gives_2
def dkwX6_gives_0 : List UInt8 := [3, 61, 16, 61, 27, 104, 62, 29, 16, 61, 27, 104, 42, 180, 0, 62, 27, 46, 96, 162, 0, 59, 42]
abbrev dktX6_gives_0 : List UInt8 := dkwX6_gives_0 ++ dktX6_gives_1
theorem dksX6_gives_0 : cX6_gives.data.toList.drop 0 = dktX6_gives_0 := by decide +kernel
theorem dksX6_gives_1 : cX6_gives.data.toList.drop 23 = dktX6_gives_1 := dk_seg dksX6_gives_0 23 rfl rfl
theorem dksX6_gives_2 : cX6_gives.data.toList.drop 47 = dktX6_gives_2 := dk_seg dksX6_gives_1 24 rfl rfl
theorem dksX6_gives_3 : cX6_gives.data.toList.drop 71 = dktX6_gives_3 := dk_seg dksX6_gives_2 24 rfl rfl
theorem dX6_gives_0 : decode cX6_gives 0 = .ok (.iconst 0, 1) := dk_3 (dk_at dksX6_gives_0 0 rfl rfl)
theorem dX6_gives_1 : decode cX6_gives 1 = .ok (.istore_n 2, 1) := dk_61 (dk_at dksX6_gives_0 1 rfl rfl)
theorem dX6_gives_2 : decode cX6_gives 2 = .ok (.bipush 61, 2) := dk_16 61 (dk_at dksX6_gives_0 2 rfl rfl)
theorem dX6_gives_4 : decode cX6_gives 4 = .ok (.iload_n 1, 1) := dk_27 (dk_at dksX6_gives_0 4 rfl rfl)
theorem dX6_gives_5 : decode cX6_gives 5 = .ok (.imul, 1) := dk_104 (dk_at dksX6_gives_0 5 rfl rfl)
theorem dX6_gives_6 : decode cX6_gives 6 = .ok (.istore_n 3, 1) := dk_62 (dk_at dksX6_gives_0 6 rfl rfl)
theorem dX6_gives_7 : decode cX6_gives 7 = .ok (.iload_n 3, 1) := dk_29 (dk_at dksX6_gives_0 7 rfl rfl)
theorem dX6_gives_8 : decode cX6_gives 8 = .ok (.bipush 61, 2) := dk_16 61 (dk_at dksX6_gives_0 8 rfl rfl)
theorem dX6_gives_10 : decode cX6_gives 10 = .ok (.iload_n 1, 1) := dk_27 (dk_at dksX6_gives_0 10 rfl rfl)
theorem dX6_gives_11 : decode cX6_gives 11 = .ok (.imul, 1) := dk_104 (dk_at dksX6_gives_0 11 rfl rfl)
theorem dX6_gives_12 : decode cX6_gives 12 = .ok (.aload_n 0, 1) := dk_42 (dk_at dksX6_gives_0 12 rfl rfl)
theorem dX6_gives_13 : decode cX6_gives 13 = .ok (.getfield 62, 3) := dk_180 0 62 (dk_at dksX6_gives_0 13 rfl rfl)
theorem dX6_gives_16 : decode cX6_gives 16 = .ok (.iload_n 1, 1) := dk_27 (dk_at dksX6_gives_0 16 rfl rfl)
theorem dX6_gives_17 : decode cX6_gives 17 = .ok (.iaload, 1) := dk_46 (dk_at dksX6_gives_0 17 rfl rfl)
theorem dX6_gives_18 : decode cX6_gives 18 = .ok (.iadd, 1) := dk_96 (dk_at dksX6_gives_0 18 rfl rfl)
theorem dX6_gives_19 : decode cX6_gives 19 = .ok (.if_icmp .ge 59, 3) := dk_162 0 59 (dk_at dksX6_gives_0 19 rfl rfl)
theorem dX6_gives_22 : decode cX6_gives 22 = .ok (.aload_n 0, 1) := dk_42 (dk_at dksX6_gives_0 22 rfl rfl)
theorem dX6_gives_23 : decode cX6_gives 23 = .ok (.getfield 65, 3) := dk_180 0 65 (dk_at dksX6_gives_1 0 rfl rfl)
theorem dX6_gives_26 : decode cX6_gives 26 = .ok (.iload_n 3, 1) := dk_29 (dk_at dksX6_gives_1 3 rfl rfl)
theorem dX6_gives_27 : decode cX6_gives 27 = .ok (.saload, 1) := dk_53 (dk_at dksX6_gives_1 4 rfl rfl)
theorem dX6_gives_28 : decode cX6_gives 28 = .ok (.iload_n 2, 1) := dk_28 (dk_at dksX6_gives_1 5 rfl rfl)
theorem dX6_gives_29 : decode cX6_gives 29 = .ok (.if_icmp .eq 18, 3) := dk_159 0 18 (dk_at dksX6_gives_1 6 rfl rfl)
theorem dX6_gives_32 : decode cX6_gives 32 = .ok (.aload_n 0, 1) := dk_42 (dk_at dksX6_gives_1 9 rfl rfl)
theorem dX6_gives_33 : decode cX6_gives 33 = .ok (.iload_n 1, 1) := dk_27 (dk_at dksX6_gives_1 10 rfl rfl)
theorem dX6_gives_34 : decode cX6_gives 34 = .ok (.iload_n 2, 1) := dk_28 (dk_at dksX6_gives_1 11 rfl rfl)
theorem dX6_gives_35 : decode cX6_gives 35 = .ok (.aload_n 0, 1) := dk_42 (dk_at dksX6_gives_1 12 rfl rfl)
theorem dX6_gives_36 : decode cX6_gives 36 = .ok (.getfield 65, 3) := dk_180 0 65 (dk_at dksX6_gives_1 13 rfl rfl)
theorem dX6_gives_39 : decode cX6_gives 39 = .ok (.iload_n 3, 1) := dk_29 (dk_at dksX6_gives_1 16 rfl rfl)
theorem dX6_gives_40 : decode cX6_gives 40 = .ok (.saload, 1) := dk_53 (dk_at dksX6_gives_1 17 rfl rfl)
theorem dX6_gives_41 : decode cX6_gives 41 = .ok (.invokevirtual 245, 3) := dk_182 0 245 (dk_at dksX6_gives_1 18 rfl rfl)
theorem dX6_gives_44 : decode cX6_gives 44 = .ok (.ifCond .eq 21, 3) := dk_153 0 21 (dk_at dksX6_gives_1 21 rfl rfl)
theorem dX6_gives_47 : decode cX6_gives 47 = .ok (.aload_n 0, 1) := dk_42 (dk_at dksX6_gives_2 0 rfl rfl)
theorem dX6_gives_48 : decode cX6_gives 48 = .ok (.iload_n 1, 1) := dk_27 (dk_at dksX6_gives_2 1 rfl rfl)
theorem dX6_gives_49 : decode cX6_gives 49 = .ok (.aload_n 0, 1) := dk_42 (dk_at dksX6_gives_2 2 rfl rfl)
theorem dX6_gives_50 : decode cX6_gives 50 = .ok (.getfield 65, 3) := dk_180 0 65 (dk_at dksX6_gives_2 3 rfl rfl)
theorem dX6_gives_53 : decode cX6_gives 53 = .ok (.iload_n 3, 1) := dk_29 (dk_at dksX6_gives_2 6 rfl rfl)
theorem dX6_gives_54 : decode cX6_gives 54 = .ok (.saload, 1) := dk_53 (dk_at dksX6_gives_2 7 rfl rfl)
theorem dX6_gives_55 : decode cX6_gives 55 = .ok (.aload_n 0, 1) := dk_42 (dk_at dksX6_gives_2 8 rfl rfl)
theorem dX6_gives_56 : decode cX6_gives 56 = .ok (.getfield 69, 3) := dk_180 0 69 (dk_at dksX6_gives_2 9 rfl rfl)
theorem dX6_gives_59 : decode cX6_gives 59 = .ok (.iload_n 3, 1) := dk_29 (dk_at dksX6_gives_2 12 rfl rfl)
theorem dX6_gives_60 : decode cX6_gives 60 = .ok (.saload, 1) := dk_53 (dk_at dksX6_gives_2 13 rfl rfl)
theorem dX6_gives_61 : decode cX6_gives 61 = .ok (.invokevirtual 245, 3) := dk_182 0 245 (dk_at dksX6_gives_2 14 rfl rfl)
theorem dX6_gives_64 : decode cX6_gives 64 = .ok (.ireturn, 1) := dk_172 (dk_at dksX6_gives_2 17 rfl rfl)
theorem dX6_gives_65 : decode cX6_gives 65 = .ok (.aload_n 0, 1) := dk_42 (dk_at dksX6_gives_2 18 rfl rfl)
theorem dX6_gives_66 : decode cX6_gives 66 = .ok (.getfield 69, 3) := dk_180 0 69 (dk_at dksX6_gives_2 19 rfl rfl)
theorem dX6_gives_69 : decode cX6_gives 69 = .ok (.iload_n 3, 1) := dk_29 (dk_at dksX6_gives_2 22 rfl rfl)
theorem dX6_gives_70 : decode cX6_gives 70 = .ok (.saload, 1) := dk_53 (dk_at dksX6_gives_2 23 rfl rfl)
theorem dX6_gives_71 : decode cX6_gives 71 = .ok (.istore_n 2, 1) := dk_61 (dk_at dksX6_gives_3 0 rfl rfl)
theorem dX6_gives_72 : decode cX6_gives 72 = .ok (.iinc 3 1, 3) := dk_132 3 1 (dk_at dksX6_gives_3 1 rfl rfl)
theorem dX6_gives_75 : decode cX6_gives 75 = .ok (.goto (-68), 3) := dk_167 255 188 (dk_at dksX6_gives_3 4 rfl rfl)
theorem dX6_gives_78 : decode cX6_gives 78 = .ok (.iconst 0, 1) := dk_3 (dk_at dksX6_gives_3 7 rfl rfl)
theorem dX6_gives_79 : decode cX6_gives 79 = .ok (.ireturn, 1) := dk_172 (dk_at dksX6_gives_3 8 rfl rfl)
abbrev cX6_worked : ByteArray := prog_26_method_35_code
def yX6_worked : MethodName := ⟨RX6, "worked", "(III)I"⟩
def dkwX6_worked_8 : List UInt8 := [167, 255, 83, 42, 180, 0, 75, 3, 46, 172]
abbrev dktX6_worked_8 : List UInt8 := dkwX6_worked_8 ++ []
def dkwX6_worked_7 : List UInt8 := [180, 0, 75, 21, 4, 4, 100, 46, 42, 180, 0, 75, 21, 4, 46, 184, 0, 242, 79, 132, 5, 1]
abbrev dktX6_worked_7 : List UInt8 := dkwX6_worked_7 ++ dktX6_worked_8
def dkwX6_worked_6 : List UInt8 := [21, 4, 4, 100, 46, 116, 79, 167, 0, 36, 132, 4, 255, 42, 180, 0, 75, 21, 4, 4, 100, 21, 6, 42]
abbrev dktX6_worked_6 : List UInt8 := dkwX6_worked_6 ++ dktX6_worked_7
def dkwX6_worked_5 : List UInt8 := [3, 79, 167, 0, 64, 21, 6, 7, 160, 0, 25, 42, 180, 0, 75, 21, 4, 4, 100, 42, 180, 0, 75]
abbrev dktX6_worked_5 : List UInt8 := dkwX6_worked_5 ++ dktX6_worked_6
def dkwX6_worked_4 : List UInt8 := [42, 180, 0, 75, 21, 4, 4, 100, 42, 180, 0, 75, 21, 4, 4, 100, 46, 154, 0, 7, 4, 167, 0, 4]
abbrev dktX6_worked_4 : List UInt8 := dkwX6_worked_4 ++ dktX6_worked_5
def dkwX6_worked_3 : List UInt8 := [180, 0, 72, 42, 180, 0, 59, 21, 5, 46, 46, 79, 132, 4, 1, 167, 0, 99, 21, 6, 6, 160, 0, 32]
abbrev dktX6_worked_3 : List UInt8 := dkwX6_worked_3 ++ dktX6_worked_4
def dkwX6_worked_2 : List UInt8 := [180, 0, 75, 21, 4, 21, 6, 4, 160, 0, 13, 42, 180, 0, 59, 21, 5, 46, 167, 0, 15, 42]
abbrev dktX6_worked_2 : List UInt8 := dkwX6_worked_2 ++ dktX6_worked_3
def dkwX6_worked_1 : List UInt8 := [42, 180, 0, 56, 21, 5, 51, 54, 6, 21, 6, 4, 159, 0, 9, 21, 6, 5, 160, 0, 44, 42]
abbrev dktX6_worked_1 : List UInt8 := dkwX6_worked_1 ++ dktX6_worked_2
def dkwX6_worked_0 : List UInt8 := [3, 54, 4, 17, 0, 130, 27, 104, 28, 96, 54, 5, 21, 5, 17, 0, 130, 27, 104, 29, 96, 162, 0, 167]
abbrev dktX6_worked_0 : List UInt8 := dkwX6_worked_0 ++ dktX6_worked_1
theorem dksX6_worked_0 : cX6_worked.data.toList.drop 0 = dktX6_worked_0 := by decide +kernel
theorem dksX6_worked_1 : cX6_worked.data.toList.drop 24 = dktX6_worked_1 := dk_seg dksX6_worked_0 24 rfl rfl
theorem dksX6_worked_2 : cX6_worked.data.toList.drop 46 = dktX6_worked_2 := dk_seg dksX6_worked_1 22 rfl rfl
theorem dksX6_worked_3 : cX6_worked.data.toList.drop 68 = dktX6_worked_3 := dk_seg dksX6_worked_2 22 rfl rfl
theorem dksX6_worked_4 : cX6_worked.data.toList.drop 92 = dktX6_worked_4 := dk_seg dksX6_worked_3 24 rfl rfl
theorem dksX6_worked_5 : cX6_worked.data.toList.drop 116 = dktX6_worked_5 := dk_seg dksX6_worked_4 24 rfl rfl
theorem dksX6_worked_6 : cX6_worked.data.toList.drop 139 = dktX6_worked_6 := dk_seg dksX6_worked_5 23 rfl rfl
theorem dksX6_worked_7 : cX6_worked.data.toList.drop 163 = dktX6_worked_7 := dk_seg dksX6_worked_6 24 rfl rfl
theorem dksX6_worked_8 : cX6_worked.data.toList.drop 185 = dktX6_worked_8 := dk_seg dksX6_worked_7 22 rfl rfl
theorem dX6_worked_0 : decode cX6_worked 0 = .ok (.iconst 0, 1) := dk_3 (dk_at dksX6_worked_0 0 rfl rfl)
theorem dX6_worked_1 : decode cX6_worked 1 = .ok (.istore 4, 2) := dk_54 4 (dk_at dksX6_worked_0 1 rfl rfl)
theorem dX6_worked_3 : decode cX6_worked 3 = .ok (.sipush 130, 3) := dk_17 0 130 (dk_at dksX6_worked_0 3 rfl rfl)
theorem dX6_worked_6 : decode cX6_worked 6 = .ok (.iload_n 1, 1) := dk_27 (dk_at dksX6_worked_0 6 rfl rfl)
theorem dX6_worked_7 : decode cX6_worked 7 = .ok (.imul, 1) := dk_104 (dk_at dksX6_worked_0 7 rfl rfl)
theorem dX6_worked_8 : decode cX6_worked 8 = .ok (.iload_n 2, 1) := dk_28 (dk_at dksX6_worked_0 8 rfl rfl)
theorem dX6_worked_9 : decode cX6_worked 9 = .ok (.iadd, 1) := dk_96 (dk_at dksX6_worked_0 9 rfl rfl)
theorem dX6_worked_10 : decode cX6_worked 10 = .ok (.istore 5, 2) := dk_54 5 (dk_at dksX6_worked_0 10 rfl rfl)
theorem dX6_worked_12 : decode cX6_worked 12 = .ok (.iload 5, 2) := dk_21 5 (dk_at dksX6_worked_0 12 rfl rfl)
theorem dX6_worked_14 : decode cX6_worked 14 = .ok (.sipush 130, 3) := dk_17 0 130 (dk_at dksX6_worked_0 14 rfl rfl)
theorem dX6_worked_17 : decode cX6_worked 17 = .ok (.iload_n 1, 1) := dk_27 (dk_at dksX6_worked_0 17 rfl rfl)
theorem dX6_worked_18 : decode cX6_worked 18 = .ok (.imul, 1) := dk_104 (dk_at dksX6_worked_0 18 rfl rfl)
theorem dX6_worked_19 : decode cX6_worked 19 = .ok (.iload_n 3, 1) := dk_29 (dk_at dksX6_worked_0 19 rfl rfl)
theorem dX6_worked_20 : decode cX6_worked 20 = .ok (.iadd, 1) := dk_96 (dk_at dksX6_worked_0 20 rfl rfl)
theorem dX6_worked_21 : decode cX6_worked 21 = .ok (.if_icmp .ge 167, 3) := dk_162 0 167 (dk_at dksX6_worked_0 21 rfl rfl)
theorem dX6_worked_24 : decode cX6_worked 24 = .ok (.aload_n 0, 1) := dk_42 (dk_at dksX6_worked_1 0 rfl rfl)
theorem dX6_worked_25 : decode cX6_worked 25 = .ok (.getfield 56, 3) := dk_180 0 56 (dk_at dksX6_worked_1 1 rfl rfl)
theorem dX6_worked_28 : decode cX6_worked 28 = .ok (.iload 5, 2) := dk_21 5 (dk_at dksX6_worked_1 4 rfl rfl)
theorem dX6_worked_30 : decode cX6_worked 30 = .ok (.baload, 1) := dk_51 (dk_at dksX6_worked_1 6 rfl rfl)
theorem dX6_worked_31 : decode cX6_worked 31 = .ok (.istore 6, 2) := dk_54 6 (dk_at dksX6_worked_1 7 rfl rfl)
theorem dX6_worked_33 : decode cX6_worked 33 = .ok (.iload 6, 2) := dk_21 6 (dk_at dksX6_worked_1 9 rfl rfl)
theorem dX6_worked_35 : decode cX6_worked 35 = .ok (.iconst 1, 1) := dk_4 (dk_at dksX6_worked_1 11 rfl rfl)
theorem dX6_worked_36 : decode cX6_worked 36 = .ok (.if_icmp .eq 9, 3) := dk_159 0 9 (dk_at dksX6_worked_1 12 rfl rfl)
theorem dX6_worked_39 : decode cX6_worked 39 = .ok (.iload 6, 2) := dk_21 6 (dk_at dksX6_worked_1 15 rfl rfl)
theorem dX6_worked_41 : decode cX6_worked 41 = .ok (.iconst 2, 1) := dk_5 (dk_at dksX6_worked_1 17 rfl rfl)
theorem dX6_worked_42 : decode cX6_worked 42 = .ok (.if_icmp .ne 44, 3) := dk_160 0 44 (dk_at dksX6_worked_1 18 rfl rfl)
theorem dX6_worked_45 : decode cX6_worked 45 = .ok (.aload_n 0, 1) := dk_42 (dk_at dksX6_worked_1 21 rfl rfl)
theorem dX6_worked_46 : decode cX6_worked 46 = .ok (.getfield 75, 3) := dk_180 0 75 (dk_at dksX6_worked_2 0 rfl rfl)
theorem dX6_worked_49 : decode cX6_worked 49 = .ok (.iload 4, 2) := dk_21 4 (dk_at dksX6_worked_2 3 rfl rfl)
theorem dX6_worked_51 : decode cX6_worked 51 = .ok (.iload 6, 2) := dk_21 6 (dk_at dksX6_worked_2 5 rfl rfl)
theorem dX6_worked_53 : decode cX6_worked 53 = .ok (.iconst 1, 1) := dk_4 (dk_at dksX6_worked_2 7 rfl rfl)
theorem dX6_worked_54 : decode cX6_worked 54 = .ok (.if_icmp .ne 13, 3) := dk_160 0 13 (dk_at dksX6_worked_2 8 rfl rfl)
theorem dX6_worked_57 : decode cX6_worked 57 = .ok (.aload_n 0, 1) := dk_42 (dk_at dksX6_worked_2 11 rfl rfl)
theorem dX6_worked_58 : decode cX6_worked 58 = .ok (.getfield 59, 3) := dk_180 0 59 (dk_at dksX6_worked_2 12 rfl rfl)
theorem dX6_worked_61 : decode cX6_worked 61 = .ok (.iload 5, 2) := dk_21 5 (dk_at dksX6_worked_2 15 rfl rfl)
theorem dX6_worked_63 : decode cX6_worked 63 = .ok (.iaload, 1) := dk_46 (dk_at dksX6_worked_2 17 rfl rfl)
theorem dX6_worked_64 : decode cX6_worked 64 = .ok (.goto 15, 3) := dk_167 0 15 (dk_at dksX6_worked_2 18 rfl rfl)
theorem dX6_worked_67 : decode cX6_worked 67 = .ok (.aload_n 0, 1) := dk_42 (dk_at dksX6_worked_2 21 rfl rfl)
theorem dX6_worked_68 : decode cX6_worked 68 = .ok (.getfield 72, 3) := dk_180 0 72 (dk_at dksX6_worked_3 0 rfl rfl)
theorem dX6_worked_71 : decode cX6_worked 71 = .ok (.aload_n 0, 1) := dk_42 (dk_at dksX6_worked_3 3 rfl rfl)
theorem dX6_worked_72 : decode cX6_worked 72 = .ok (.getfield 59, 3) := dk_180 0 59 (dk_at dksX6_worked_3 4 rfl rfl)
theorem dX6_worked_75 : decode cX6_worked 75 = .ok (.iload 5, 2) := dk_21 5 (dk_at dksX6_worked_3 7 rfl rfl)
theorem dX6_worked_77 : decode cX6_worked 77 = .ok (.iaload, 1) := dk_46 (dk_at dksX6_worked_3 9 rfl rfl)
theorem dX6_worked_78 : decode cX6_worked 78 = .ok (.iaload, 1) := dk_46 (dk_at dksX6_worked_3 10 rfl rfl)
theorem dX6_worked_79 : decode cX6_worked 79 = .ok (.iastore, 1) := dk_79 (dk_at dksX6_worked_3 11 rfl rfl)
theorem dX6_worked_80 : decode cX6_worked 80 = .ok (.iinc 4 1, 3) := dk_132 4 1 (dk_at dksX6_worked_3 12 rfl rfl)
theorem dX6_worked_83 : decode cX6_worked 83 = .ok (.goto 99, 3) := dk_167 0 99 (dk_at dksX6_worked_3 15 rfl rfl)
theorem dX6_worked_86 : decode cX6_worked 86 = .ok (.iload 6, 2) := dk_21 6 (dk_at dksX6_worked_3 18 rfl rfl)
theorem dX6_worked_88 : decode cX6_worked 88 = .ok (.iconst 3, 1) := dk_6 (dk_at dksX6_worked_3 20 rfl rfl)
theorem dX6_worked_89 : decode cX6_worked 89 = .ok (.if_icmp .ne 32, 3) := dk_160 0 32 (dk_at dksX6_worked_3 21 rfl rfl)
theorem dX6_worked_92 : decode cX6_worked 92 = .ok (.aload_n 0, 1) := dk_42 (dk_at dksX6_worked_4 0 rfl rfl)
theorem dX6_worked_93 : decode cX6_worked 93 = .ok (.getfield 75, 3) := dk_180 0 75 (dk_at dksX6_worked_4 1 rfl rfl)
theorem dX6_worked_96 : decode cX6_worked 96 = .ok (.iload 4, 2) := dk_21 4 (dk_at dksX6_worked_4 4 rfl rfl)
theorem dX6_worked_98 : decode cX6_worked 98 = .ok (.iconst 1, 1) := dk_4 (dk_at dksX6_worked_4 6 rfl rfl)
theorem dX6_worked_99 : decode cX6_worked 99 = .ok (.isub, 1) := dk_100 (dk_at dksX6_worked_4 7 rfl rfl)
theorem dX6_worked_100 : decode cX6_worked 100 = .ok (.aload_n 0, 1) := dk_42 (dk_at dksX6_worked_4 8 rfl rfl)
theorem dX6_worked_101 : decode cX6_worked 101 = .ok (.getfield 75, 3) := dk_180 0 75 (dk_at dksX6_worked_4 9 rfl rfl)
theorem dX6_worked_104 : decode cX6_worked 104 = .ok (.iload 4, 2) := dk_21 4 (dk_at dksX6_worked_4 12 rfl rfl)
theorem dX6_worked_106 : decode cX6_worked 106 = .ok (.iconst 1, 1) := dk_4 (dk_at dksX6_worked_4 14 rfl rfl)
theorem dX6_worked_107 : decode cX6_worked 107 = .ok (.isub, 1) := dk_100 (dk_at dksX6_worked_4 15 rfl rfl)
theorem dX6_worked_108 : decode cX6_worked 108 = .ok (.iaload, 1) := dk_46 (dk_at dksX6_worked_4 16 rfl rfl)
theorem dX6_worked_109 : decode cX6_worked 109 = .ok (.ifCond .ne 7, 3) := dk_154 0 7 (dk_at dksX6_worked_4 17 rfl rfl)
theorem dX6_worked_112 : decode cX6_worked 112 = .ok (.iconst 1, 1) := dk_4 (dk_at dksX6_worked_4 20 rfl rfl)
theorem dX6_worked_113 : decode cX6_worked 113 = .ok (.goto 4, 3) := dk_167 0 4 (dk_at dksX6_worked_4 21 rfl rfl)
theorem dX6_worked_116 : decode cX6_worked 116 = .ok (.iconst 0, 1) := dk_3 (dk_at dksX6_worked_5 0 rfl rfl)
theorem dX6_worked_117 : decode cX6_worked 117 = .ok (.iastore, 1) := dk_79 (dk_at dksX6_worked_5 1 rfl rfl)
theorem dX6_worked_118 : decode cX6_worked 118 = .ok (.goto 64, 3) := dk_167 0 64 (dk_at dksX6_worked_5 2 rfl rfl)
theorem dX6_worked_121 : decode cX6_worked 121 = .ok (.iload 6, 2) := dk_21 6 (dk_at dksX6_worked_5 5 rfl rfl)
theorem dX6_worked_123 : decode cX6_worked 123 = .ok (.iconst 4, 1) := dk_7 (dk_at dksX6_worked_5 7 rfl rfl)
theorem dX6_worked_124 : decode cX6_worked 124 = .ok (.if_icmp .ne 25, 3) := dk_160 0 25 (dk_at dksX6_worked_5 8 rfl rfl)
theorem dX6_worked_127 : decode cX6_worked 127 = .ok (.aload_n 0, 1) := dk_42 (dk_at dksX6_worked_5 11 rfl rfl)
theorem dX6_worked_128 : decode cX6_worked 128 = .ok (.getfield 75, 3) := dk_180 0 75 (dk_at dksX6_worked_5 12 rfl rfl)
theorem dX6_worked_131 : decode cX6_worked 131 = .ok (.iload 4, 2) := dk_21 4 (dk_at dksX6_worked_5 15 rfl rfl)
theorem dX6_worked_133 : decode cX6_worked 133 = .ok (.iconst 1, 1) := dk_4 (dk_at dksX6_worked_5 17 rfl rfl)
theorem dX6_worked_134 : decode cX6_worked 134 = .ok (.isub, 1) := dk_100 (dk_at dksX6_worked_5 18 rfl rfl)
theorem dX6_worked_135 : decode cX6_worked 135 = .ok (.aload_n 0, 1) := dk_42 (dk_at dksX6_worked_5 19 rfl rfl)
theorem dX6_worked_136 : decode cX6_worked 136 = .ok (.getfield 75, 3) := dk_180 0 75 (dk_at dksX6_worked_5 20 rfl rfl)
theorem dX6_worked_139 : decode cX6_worked 139 = .ok (.iload 4, 2) := dk_21 4 (dk_at dksX6_worked_6 0 rfl rfl)
theorem dX6_worked_141 : decode cX6_worked 141 = .ok (.iconst 1, 1) := dk_4 (dk_at dksX6_worked_6 2 rfl rfl)
theorem dX6_worked_142 : decode cX6_worked 142 = .ok (.isub, 1) := dk_100 (dk_at dksX6_worked_6 3 rfl rfl)
theorem dX6_worked_143 : decode cX6_worked 143 = .ok (.iaload, 1) := dk_46 (dk_at dksX6_worked_6 4 rfl rfl)
theorem dX6_worked_144 : decode cX6_worked 144 = .ok (.ineg, 1) := dk_116 (dk_at dksX6_worked_6 5 rfl rfl)
theorem dX6_worked_145 : decode cX6_worked 145 = .ok (.iastore, 1) := dk_79 (dk_at dksX6_worked_6 6 rfl rfl)
theorem dX6_worked_146 : decode cX6_worked 146 = .ok (.goto 36, 3) := dk_167 0 36 (dk_at dksX6_worked_6 7 rfl rfl)
theorem dX6_worked_149 : decode cX6_worked 149 = .ok (.iinc 4 (-1), 3) := dk_132 4 255 (dk_at dksX6_worked_6 10 rfl rfl)
theorem dX6_worked_152 : decode cX6_worked 152 = .ok (.aload_n 0, 1) := dk_42 (dk_at dksX6_worked_6 13 rfl rfl)
theorem dX6_worked_153 : decode cX6_worked 153 = .ok (.getfield 75, 3) := dk_180 0 75 (dk_at dksX6_worked_6 14 rfl rfl)
theorem dX6_worked_156 : decode cX6_worked 156 = .ok (.iload 4, 2) := dk_21 4 (dk_at dksX6_worked_6 17 rfl rfl)
theorem dX6_worked_158 : decode cX6_worked 158 = .ok (.iconst 1, 1) := dk_4 (dk_at dksX6_worked_6 19 rfl rfl)
theorem dX6_worked_159 : decode cX6_worked 159 = .ok (.isub, 1) := dk_100 (dk_at dksX6_worked_6 20 rfl rfl)
theorem dX6_worked_160 : decode cX6_worked 160 = .ok (.iload 6, 2) := dk_21 6 (dk_at dksX6_worked_6 21 rfl rfl)
theorem dX6_worked_162 : decode cX6_worked 162 = .ok (.aload_n 0, 1) := dk_42 (dk_at dksX6_worked_6 23 rfl rfl)
theorem dX6_worked_163 : decode cX6_worked 163 = .ok (.getfield 75, 3) := dk_180 0 75 (dk_at dksX6_worked_7 0 rfl rfl)
theorem dX6_worked_166 : decode cX6_worked 166 = .ok (.iload 4, 2) := dk_21 4 (dk_at dksX6_worked_7 3 rfl rfl)
theorem dX6_worked_168 : decode cX6_worked 168 = .ok (.iconst 1, 1) := dk_4 (dk_at dksX6_worked_7 5 rfl rfl)
theorem dX6_worked_169 : decode cX6_worked 169 = .ok (.isub, 1) := dk_100 (dk_at dksX6_worked_7 6 rfl rfl)
theorem dX6_worked_170 : decode cX6_worked 170 = .ok (.iaload, 1) := dk_46 (dk_at dksX6_worked_7 7 rfl rfl)
theorem dX6_worked_171 : decode cX6_worked 171 = .ok (.aload_n 0, 1) := dk_42 (dk_at dksX6_worked_7 8 rfl rfl)
theorem dX6_worked_172 : decode cX6_worked 172 = .ok (.getfield 75, 3) := dk_180 0 75 (dk_at dksX6_worked_7 9 rfl rfl)
theorem dX6_worked_175 : decode cX6_worked 175 = .ok (.iload 4, 2) := dk_21 4 (dk_at dksX6_worked_7 12 rfl rfl)
theorem dX6_worked_177 : decode cX6_worked 177 = .ok (.iaload, 1) := dk_46 (dk_at dksX6_worked_7 14 rfl rfl)
theorem dX6_worked_178 : decode cX6_worked 178 = .ok (.invokestatic 242, 3) := dk_184 0 242 (dk_at dksX6_worked_7 15 rfl rfl)
theorem dX6_worked_181 : decode cX6_worked 181 = .ok (.iastore, 1) := dk_79 (dk_at dksX6_worked_7 18 rfl rfl)
theorem dX6_worked_182 : decode cX6_worked 182 = .ok (.iinc 5 1, 3) := dk_132 5 1 (dk_at dksX6_worked_7 19 rfl rfl)
theorem dX6_worked_185 : decode cX6_worked 185 = .ok (.goto (-173), 3) := dk_167 255 83 (dk_at dksX6_worked_8 0 rfl rfl)
theorem dX6_worked_188 : decode cX6_worked 188 = .ok (.aload_n 0, 1) := dk_42 (dk_at dksX6_worked_8 3 rfl rfl)
theorem dX6_worked_189 : decode cX6_worked 189 = .ok (.getfield 75, 3) := dk_180 0 75 (dk_at dksX6_worked_8 4 rfl rfl)
theorem dX6_worked_192 : decode cX6_worked 192 = .ok (.iconst 0, 1) := dk_3 (dk_at dksX6_worked_8 7 rfl rfl)
theorem dX6_worked_193 : decode cX6_worked 193 = .ok (.iaload, 1) := dk_46 (dk_at dksX6_worked_8 8 rfl rfl)
theorem dX6_worked_194 : decode cX6_worked 194 = .ok (.ireturn, 1) := dk_172 (dk_at dksX6_worked_8 9 rfl rfl)
abbrev cX6_twoOf : ByteArray := prog_26_method_34_code
def yX6_twoOf : MethodName := ⟨RX6, "twoOf", "(III)I"⟩
def dkwX6_twoOf_6 : List UInt8 := [4, 167, 0, 4, 3, 172, 27, 154, 0, 7, 28, 153, 0, 7, 4, 167, 0, 4, 3, 172]
abbrev dktX6_twoOf_6 : List UInt8 := dkwX6_twoOf_6 ++ []
def dkwX6_twoOf_5 : List UInt8 := [167, 0, 4, 3, 172, 27, 28, 164, 0, 7, 4, 167, 0, 4, 3, 172, 27, 153, 0, 11, 28, 153, 0, 7]
abbrev dktX6_twoOf_5 : List UInt8 := dkwX6_twoOf_5 ++ dktX6_twoOf_6
def dkwX6_twoOf_4 : List UInt8 := [167, 0, 6, 27, 28, 112, 172, 27, 28, 162, 0, 7, 4, 167, 0, 4, 3, 172, 27, 28, 160, 0, 7, 4]
abbrev dktX6_twoOf_4 : List UInt8 := dkwX6_twoOf_4 ++ dktX6_twoOf_5
def dkwX6_twoOf_3 : List UInt8 := [160, 0, 8, 27, 116, 167, 0, 6, 27, 28, 108, 172, 28, 153, 0, 8, 28, 2, 160, 0, 7, 3]
abbrev dktX6_twoOf_3 : List UInt8 := dkwX6_twoOf_3 ++ dktX6_twoOf_4
def dkwX6_twoOf_2 : List UInt8 := [27, 28, 96, 172, 27, 28, 100, 172, 27, 28, 104, 172, 28, 154, 0, 7, 3, 167, 0, 16, 28, 2]
abbrev dktX6_twoOf_2 : List UInt8 := dkwX6_twoOf_2 ++ dktX6_twoOf_3
def dkwX6_twoOf_1 : List UInt8 := [170, 0, 0, 0, 0, 0, 217, 0, 0, 0, 37, 0, 0, 0, 62, 0, 0, 0, 153, 0, 0, 0, 203, 0, 0, 0, 217, 0, 0, 0, 217, 0, 0, 0, 217, 0, 0, 0, 127, 0, 0, 0, 119, 0, 0, 0, 217, 0, 0, 0, 123, 0, 0, 0, 217, 0, 0, 0, 131, 0, 0, 0, 217, 0, 0, 0, 217, 0, 0, 0, 217, 0, 0, 0, 217, 0, 0, 0, 217, 0, 0, 0, 217, 0, 0, 0, 217, 0, 0, 0, 217, 0, 0, 0, 217, 0, 0, 0, 217, 0, 0, 0, 217, 0, 0, 0, 217, 0, 0, 0, 170, 0, 0, 0, 181, 0, 0, 0, 192]
abbrev dktX6_twoOf_1 : List UInt8 := dkwX6_twoOf_1 ++ dktX6_twoOf_2
def dkwX6_twoOf_0 : List UInt8 := [26]
abbrev dktX6_twoOf_0 : List UInt8 := dkwX6_twoOf_0 ++ dktX6_twoOf_1
theorem dksX6_twoOf_0 : cX6_twoOf.data.toList.drop 0 = dktX6_twoOf_0 := by decide +kernel
theorem dksX6_twoOf_1 : cX6_twoOf.data.toList.drop 1 = dktX6_twoOf_1 := dk_seg dksX6_twoOf_0 1 rfl rfl
theorem dksX6_twoOf_2 : cX6_twoOf.data.toList.drop 120 = dktX6_twoOf_2 := dk_seg dksX6_twoOf_1 119 rfl rfl
theorem dksX6_twoOf_3 : cX6_twoOf.data.toList.drop 142 = dktX6_twoOf_3 := dk_seg dksX6_twoOf_2 22 rfl rfl
theorem dksX6_twoOf_4 : cX6_twoOf.data.toList.drop 164 = dktX6_twoOf_4 := dk_seg dksX6_twoOf_3 22 rfl rfl
theorem dksX6_twoOf_5 : cX6_twoOf.data.toList.drop 188 = dktX6_twoOf_5 := dk_seg dksX6_twoOf_4 24 rfl rfl
theorem dksX6_twoOf_6 : cX6_twoOf.data.toList.drop 212 = dktX6_twoOf_6 := dk_seg dksX6_twoOf_5 24 rfl rfl
theorem dX6_twoOf_0 : decode cX6_twoOf 0 = .ok (.iload_n 0, 1) := dk_26 (dk_at dksX6_twoOf_0 0 rfl rfl)
theorem dX6_twoOf_1 : decode cX6_twoOf 1 = .ok (.tableswitch 217 37 62 #[153, 203, 217, 217, 217, 127, 119, 217, 123, 217, 131, 217, 217, 217, 217, 217, 217, 217, 217, 217, 217, 217, 217, 170, 181, 192], 119) := by decide +kernel
theorem dX6_twoOf_120 : decode cX6_twoOf 120 = .ok (.iload_n 1, 1) := dk_27 (dk_at dksX6_twoOf_2 0 rfl rfl)
theorem dX6_twoOf_121 : decode cX6_twoOf 121 = .ok (.iload_n 2, 1) := dk_28 (dk_at dksX6_twoOf_2 1 rfl rfl)
theorem dX6_twoOf_122 : decode cX6_twoOf 122 = .ok (.iadd, 1) := dk_96 (dk_at dksX6_twoOf_2 2 rfl rfl)
theorem dX6_twoOf_123 : decode cX6_twoOf 123 = .ok (.ireturn, 1) := dk_172 (dk_at dksX6_twoOf_2 3 rfl rfl)
theorem dX6_twoOf_124 : decode cX6_twoOf 124 = .ok (.iload_n 1, 1) := dk_27 (dk_at dksX6_twoOf_2 4 rfl rfl)
theorem dX6_twoOf_125 : decode cX6_twoOf 125 = .ok (.iload_n 2, 1) := dk_28 (dk_at dksX6_twoOf_2 5 rfl rfl)
theorem dX6_twoOf_126 : decode cX6_twoOf 126 = .ok (.isub, 1) := dk_100 (dk_at dksX6_twoOf_2 6 rfl rfl)
theorem dX6_twoOf_127 : decode cX6_twoOf 127 = .ok (.ireturn, 1) := dk_172 (dk_at dksX6_twoOf_2 7 rfl rfl)
theorem dX6_twoOf_128 : decode cX6_twoOf 128 = .ok (.iload_n 1, 1) := dk_27 (dk_at dksX6_twoOf_2 8 rfl rfl)
theorem dX6_twoOf_129 : decode cX6_twoOf 129 = .ok (.iload_n 2, 1) := dk_28 (dk_at dksX6_twoOf_2 9 rfl rfl)
theorem dX6_twoOf_130 : decode cX6_twoOf 130 = .ok (.imul, 1) := dk_104 (dk_at dksX6_twoOf_2 10 rfl rfl)
theorem dX6_twoOf_131 : decode cX6_twoOf 131 = .ok (.ireturn, 1) := dk_172 (dk_at dksX6_twoOf_2 11 rfl rfl)
theorem dX6_twoOf_132 : decode cX6_twoOf 132 = .ok (.iload_n 2, 1) := dk_28 (dk_at dksX6_twoOf_2 12 rfl rfl)
theorem dX6_twoOf_133 : decode cX6_twoOf 133 = .ok (.ifCond .ne 7, 3) := dk_154 0 7 (dk_at dksX6_twoOf_2 13 rfl rfl)
theorem dX6_twoOf_136 : decode cX6_twoOf 136 = .ok (.iconst 0, 1) := dk_3 (dk_at dksX6_twoOf_2 16 rfl rfl)
theorem dX6_twoOf_137 : decode cX6_twoOf 137 = .ok (.goto 16, 3) := dk_167 0 16 (dk_at dksX6_twoOf_2 17 rfl rfl)
theorem dX6_twoOf_140 : decode cX6_twoOf 140 = .ok (.iload_n 2, 1) := dk_28 (dk_at dksX6_twoOf_2 20 rfl rfl)
theorem dX6_twoOf_141 : decode cX6_twoOf 141 = .ok (.iconst (-1), 1) := dk_2 (dk_at dksX6_twoOf_2 21 rfl rfl)
theorem dX6_twoOf_142 : decode cX6_twoOf 142 = .ok (.if_icmp .ne 8, 3) := dk_160 0 8 (dk_at dksX6_twoOf_3 0 rfl rfl)
theorem dX6_twoOf_145 : decode cX6_twoOf 145 = .ok (.iload_n 1, 1) := dk_27 (dk_at dksX6_twoOf_3 3 rfl rfl)
theorem dX6_twoOf_146 : decode cX6_twoOf 146 = .ok (.ineg, 1) := dk_116 (dk_at dksX6_twoOf_3 4 rfl rfl)
theorem dX6_twoOf_147 : decode cX6_twoOf 147 = .ok (.goto 6, 3) := dk_167 0 6 (dk_at dksX6_twoOf_3 5 rfl rfl)
theorem dX6_twoOf_150 : decode cX6_twoOf 150 = .ok (.iload_n 1, 1) := dk_27 (dk_at dksX6_twoOf_3 8 rfl rfl)
theorem dX6_twoOf_151 : decode cX6_twoOf 151 = .ok (.iload_n 2, 1) := dk_28 (dk_at dksX6_twoOf_3 9 rfl rfl)
theorem dX6_twoOf_152 : decode cX6_twoOf 152 = .ok (.idiv, 1) := dk_108 (dk_at dksX6_twoOf_3 10 rfl rfl)
theorem dX6_twoOf_153 : decode cX6_twoOf 153 = .ok (.ireturn, 1) := dk_172 (dk_at dksX6_twoOf_3 11 rfl rfl)
theorem dX6_twoOf_154 : decode cX6_twoOf 154 = .ok (.iload_n 2, 1) := dk_28 (dk_at dksX6_twoOf_3 12 rfl rfl)
theorem dX6_twoOf_155 : decode cX6_twoOf 155 = .ok (.ifCond .eq 8, 3) := dk_153 0 8 (dk_at dksX6_twoOf_3 13 rfl rfl)
theorem dX6_twoOf_158 : decode cX6_twoOf 158 = .ok (.iload_n 2, 1) := dk_28 (dk_at dksX6_twoOf_3 16 rfl rfl)
theorem dX6_twoOf_159 : decode cX6_twoOf 159 = .ok (.iconst (-1), 1) := dk_2 (dk_at dksX6_twoOf_3 17 rfl rfl)
theorem dX6_twoOf_160 : decode cX6_twoOf 160 = .ok (.if_icmp .ne 7, 3) := dk_160 0 7 (dk_at dksX6_twoOf_3 18 rfl rfl)
theorem dX6_twoOf_163 : decode cX6_twoOf 163 = .ok (.iconst 0, 1) := dk_3 (dk_at dksX6_twoOf_3 21 rfl rfl)
theorem dX6_twoOf_164 : decode cX6_twoOf 164 = .ok (.goto 6, 3) := dk_167 0 6 (dk_at dksX6_twoOf_4 0 rfl rfl)
theorem dX6_twoOf_167 : decode cX6_twoOf 167 = .ok (.iload_n 1, 1) := dk_27 (dk_at dksX6_twoOf_4 3 rfl rfl)
theorem dX6_twoOf_168 : decode cX6_twoOf 168 = .ok (.iload_n 2, 1) := dk_28 (dk_at dksX6_twoOf_4 4 rfl rfl)
theorem dX6_twoOf_169 : decode cX6_twoOf 169 = .ok (.irem, 1) := dk_112 (dk_at dksX6_twoOf_4 5 rfl rfl)
theorem dX6_twoOf_170 : decode cX6_twoOf 170 = .ok (.ireturn, 1) := dk_172 (dk_at dksX6_twoOf_4 6 rfl rfl)
theorem dX6_twoOf_171 : decode cX6_twoOf 171 = .ok (.iload_n 1, 1) := dk_27 (dk_at dksX6_twoOf_4 7 rfl rfl)
theorem dX6_twoOf_172 : decode cX6_twoOf 172 = .ok (.iload_n 2, 1) := dk_28 (dk_at dksX6_twoOf_4 8 rfl rfl)
theorem dX6_twoOf_173 : decode cX6_twoOf 173 = .ok (.if_icmp .ge 7, 3) := dk_162 0 7 (dk_at dksX6_twoOf_4 9 rfl rfl)
theorem dX6_twoOf_176 : decode cX6_twoOf 176 = .ok (.iconst 1, 1) := dk_4 (dk_at dksX6_twoOf_4 12 rfl rfl)
theorem dX6_twoOf_177 : decode cX6_twoOf 177 = .ok (.goto 4, 3) := dk_167 0 4 (dk_at dksX6_twoOf_4 13 rfl rfl)
theorem dX6_twoOf_180 : decode cX6_twoOf 180 = .ok (.iconst 0, 1) := dk_3 (dk_at dksX6_twoOf_4 16 rfl rfl)
theorem dX6_twoOf_181 : decode cX6_twoOf 181 = .ok (.ireturn, 1) := dk_172 (dk_at dksX6_twoOf_4 17 rfl rfl)
theorem dX6_twoOf_182 : decode cX6_twoOf 182 = .ok (.iload_n 1, 1) := dk_27 (dk_at dksX6_twoOf_4 18 rfl rfl)
theorem dX6_twoOf_183 : decode cX6_twoOf 183 = .ok (.iload_n 2, 1) := dk_28 (dk_at dksX6_twoOf_4 19 rfl rfl)
theorem dX6_twoOf_184 : decode cX6_twoOf 184 = .ok (.if_icmp .ne 7, 3) := dk_160 0 7 (dk_at dksX6_twoOf_4 20 rfl rfl)
theorem dX6_twoOf_187 : decode cX6_twoOf 187 = .ok (.iconst 1, 1) := dk_4 (dk_at dksX6_twoOf_4 23 rfl rfl)
theorem dX6_twoOf_188 : decode cX6_twoOf 188 = .ok (.goto 4, 3) := dk_167 0 4 (dk_at dksX6_twoOf_5 0 rfl rfl)
theorem dX6_twoOf_191 : decode cX6_twoOf 191 = .ok (.iconst 0, 1) := dk_3 (dk_at dksX6_twoOf_5 3 rfl rfl)
theorem dX6_twoOf_192 : decode cX6_twoOf 192 = .ok (.ireturn, 1) := dk_172 (dk_at dksX6_twoOf_5 4 rfl rfl)
theorem dX6_twoOf_193 : decode cX6_twoOf 193 = .ok (.iload_n 1, 1) := dk_27 (dk_at dksX6_twoOf_5 5 rfl rfl)
theorem dX6_twoOf_194 : decode cX6_twoOf 194 = .ok (.iload_n 2, 1) := dk_28 (dk_at dksX6_twoOf_5 6 rfl rfl)
theorem dX6_twoOf_195 : decode cX6_twoOf 195 = .ok (.if_icmp .le 7, 3) := dk_164 0 7 (dk_at dksX6_twoOf_5 7 rfl rfl)
theorem dX6_twoOf_198 : decode cX6_twoOf 198 = .ok (.iconst 1, 1) := dk_4 (dk_at dksX6_twoOf_5 10 rfl rfl)
theorem dX6_twoOf_199 : decode cX6_twoOf 199 = .ok (.goto 4, 3) := dk_167 0 4 (dk_at dksX6_twoOf_5 11 rfl rfl)
theorem dX6_twoOf_202 : decode cX6_twoOf 202 = .ok (.iconst 0, 1) := dk_3 (dk_at dksX6_twoOf_5 14 rfl rfl)
theorem dX6_twoOf_203 : decode cX6_twoOf 203 = .ok (.ireturn, 1) := dk_172 (dk_at dksX6_twoOf_5 15 rfl rfl)
theorem dX6_twoOf_204 : decode cX6_twoOf 204 = .ok (.iload_n 1, 1) := dk_27 (dk_at dksX6_twoOf_5 16 rfl rfl)
theorem dX6_twoOf_205 : decode cX6_twoOf 205 = .ok (.ifCond .eq 11, 3) := dk_153 0 11 (dk_at dksX6_twoOf_5 17 rfl rfl)
theorem dX6_twoOf_208 : decode cX6_twoOf 208 = .ok (.iload_n 2, 1) := dk_28 (dk_at dksX6_twoOf_5 20 rfl rfl)
theorem dX6_twoOf_209 : decode cX6_twoOf 209 = .ok (.ifCond .eq 7, 3) := dk_153 0 7 (dk_at dksX6_twoOf_5 21 rfl rfl)
theorem dX6_twoOf_212 : decode cX6_twoOf 212 = .ok (.iconst 1, 1) := dk_4 (dk_at dksX6_twoOf_6 0 rfl rfl)
theorem dX6_twoOf_213 : decode cX6_twoOf 213 = .ok (.goto 4, 3) := dk_167 0 4 (dk_at dksX6_twoOf_6 1 rfl rfl)
theorem dX6_twoOf_216 : decode cX6_twoOf 216 = .ok (.iconst 0, 1) := dk_3 (dk_at dksX6_twoOf_6 4 rfl rfl)
theorem dX6_twoOf_217 : decode cX6_twoOf 217 = .ok (.ireturn, 1) := dk_172 (dk_at dksX6_twoOf_6 5 rfl rfl)
theorem dX6_twoOf_218 : decode cX6_twoOf 218 = .ok (.iload_n 1, 1) := dk_27 (dk_at dksX6_twoOf_6 6 rfl rfl)
theorem dX6_twoOf_219 : decode cX6_twoOf 219 = .ok (.ifCond .ne 7, 3) := dk_154 0 7 (dk_at dksX6_twoOf_6 7 rfl rfl)
theorem dX6_twoOf_222 : decode cX6_twoOf 222 = .ok (.iload_n 2, 1) := dk_28 (dk_at dksX6_twoOf_6 10 rfl rfl)
theorem dX6_twoOf_223 : decode cX6_twoOf 223 = .ok (.ifCond .eq 7, 3) := dk_153 0 7 (dk_at dksX6_twoOf_6 11 rfl rfl)
theorem dX6_twoOf_226 : decode cX6_twoOf 226 = .ok (.iconst 1, 1) := dk_4 (dk_at dksX6_twoOf_6 14 rfl rfl)
theorem dX6_twoOf_227 : decode cX6_twoOf 227 = .ok (.goto 4, 3) := dk_167 0 4 (dk_at dksX6_twoOf_6 15 rfl rfl)
theorem dX6_twoOf_230 : decode cX6_twoOf 230 = .ok (.iconst 0, 1) := dk_3 (dk_at dksX6_twoOf_6 18 rfl rfl)
theorem dX6_twoOf_231 : decode cX6_twoOf 231 = .ok (.ireturn, 1) := dk_172 (dk_at dksX6_twoOf_6 19 rfl rfl)
abbrev cX6_go : ByteArray := prog_26_method_49_code
def yX6_go : MethodName := ⟨RX6, "go", "(II)I"⟩
def dkwX6_go_6 : List UInt8 := [180, 0, 84, 21, 4, 46, 79, 132, 4, 1, 167, 255, 230, 29, 172]
abbrev dktX6_go_6 : List UInt8 := dkwX6_go_6 ++ []
def dkwX6_go_5 : List UInt8 := [167, 255, 216, 3, 54, 4, 21, 4, 42, 180, 0, 131, 162, 0, 23, 42, 180, 0, 19, 21, 4, 42]
abbrev dktX6_go_5 : List UInt8 := dkwX6_go_5 ++ dktX6_go_6
def dkwX6_go_4 : List UInt8 := [180, 0, 78, 21, 4, 46, 79, 42, 180, 0, 37, 21, 4, 42, 180, 0, 87, 21, 4, 46, 79, 132, 4, 1]
abbrev dktX6_go_4 : List UInt8 := dkwX6_go_4 ++ dktX6_go_5
def dkwX6_go_3 : List UInt8 := [28, 96, 181, 1, 16, 3, 54, 4, 21, 4, 42, 180, 0, 138, 162, 0, 37, 42, 180, 0, 28, 21, 4, 42]
abbrev dktX6_go_3 : List UInt8 := dkwX6_go_3 ++ dktX6_go_4
def dkwX6_go_2 : List UInt8 := [42, 42, 180, 1, 16, 21, 4, 96, 182, 1, 39, 96, 62, 132, 4, 1, 167, 255, 233, 42, 89, 180, 1, 16]
abbrev dktX6_go_2 : List UInt8 := dkwX6_go_2 ++ dktX6_go_3
def dkwX6_go_1 : List UInt8 := [16, 251, 172, 42, 182, 1, 19, 42, 27, 181, 1, 31, 3, 62, 3, 54, 4, 21, 4, 28, 162, 0, 23, 29]
abbrev dktX6_go_1 : List UInt8 := dkwX6_go_1 ++ dktX6_go_2
def dkwX6_go_0 : List UInt8 := [28, 4, 16, 24, 184, 0, 134, 154, 0, 5, 2, 172, 42, 180, 1, 16, 28, 96, 16, 24, 164, 0, 6]
abbrev dktX6_go_0 : List UInt8 := dkwX6_go_0 ++ dktX6_go_1
theorem dksX6_go_0 : cX6_go.data.toList.drop 0 = dktX6_go_0 := by decide +kernel
theorem dksX6_go_1 : cX6_go.data.toList.drop 23 = dktX6_go_1 := dk_seg dksX6_go_0 23 rfl rfl
theorem dksX6_go_2 : cX6_go.data.toList.drop 47 = dktX6_go_2 := dk_seg dksX6_go_1 24 rfl rfl
theorem dksX6_go_3 : cX6_go.data.toList.drop 71 = dktX6_go_3 := dk_seg dksX6_go_2 24 rfl rfl
theorem dksX6_go_4 : cX6_go.data.toList.drop 95 = dktX6_go_4 := dk_seg dksX6_go_3 24 rfl rfl
theorem dksX6_go_5 : cX6_go.data.toList.drop 119 = dktX6_go_5 := dk_seg dksX6_go_4 24 rfl rfl
theorem dksX6_go_6 : cX6_go.data.toList.drop 141 = dktX6_go_6 := dk_seg dksX6_go_5 22 rfl rfl
theorem dX6_go_0 : decode cX6_go 0 = .ok (.iload_n 2, 1) := dk_28 (dk_at dksX6_go_0 0 rfl rfl)
theorem dX6_go_1 : decode cX6_go 1 = .ok (.iconst 1, 1) := dk_4 (dk_at dksX6_go_0 1 rfl rfl)
theorem dX6_go_2 : decode cX6_go 2 = .ok (.bipush 24, 2) := dk_16 24 (dk_at dksX6_go_0 2 rfl rfl)
theorem dX6_go_4 : decode cX6_go 4 = .ok (.invokestatic 134, 3) := dk_184 0 134 (dk_at dksX6_go_0 4 rfl rfl)
theorem dX6_go_7 : decode cX6_go 7 = .ok (.ifCond .ne 5, 3) := dk_154 0 5 (dk_at dksX6_go_0 7 rfl rfl)
theorem dX6_go_10 : decode cX6_go 10 = .ok (.iconst (-1), 1) := dk_2 (dk_at dksX6_go_0 10 rfl rfl)
theorem dX6_go_11 : decode cX6_go 11 = .ok (.ireturn, 1) := dk_172 (dk_at dksX6_go_0 11 rfl rfl)
theorem dX6_go_12 : decode cX6_go 12 = .ok (.aload_n 0, 1) := dk_42 (dk_at dksX6_go_0 12 rfl rfl)
theorem dX6_go_13 : decode cX6_go 13 = .ok (.getfield 272, 3) := dk_180 1 16 (dk_at dksX6_go_0 13 rfl rfl)
theorem dX6_go_16 : decode cX6_go 16 = .ok (.iload_n 2, 1) := dk_28 (dk_at dksX6_go_0 16 rfl rfl)
theorem dX6_go_17 : decode cX6_go 17 = .ok (.iadd, 1) := dk_96 (dk_at dksX6_go_0 17 rfl rfl)
theorem dX6_go_18 : decode cX6_go 18 = .ok (.bipush 24, 2) := dk_16 24 (dk_at dksX6_go_0 18 rfl rfl)
theorem dX6_go_20 : decode cX6_go 20 = .ok (.if_icmp .le 6, 3) := dk_164 0 6 (dk_at dksX6_go_0 20 rfl rfl)
theorem dX6_go_23 : decode cX6_go 23 = .ok (.bipush (-5), 2) := dk_16 251 (dk_at dksX6_go_1 0 rfl rfl)
theorem dX6_go_25 : decode cX6_go 25 = .ok (.ireturn, 1) := dk_172 (dk_at dksX6_go_1 2 rfl rfl)
theorem dX6_go_26 : decode cX6_go 26 = .ok (.aload_n 0, 1) := dk_42 (dk_at dksX6_go_1 3 rfl rfl)
theorem dX6_go_27 : decode cX6_go 27 = .ok (.invokevirtual 275, 3) := dk_182 1 19 (dk_at dksX6_go_1 4 rfl rfl)
theorem dX6_go_30 : decode cX6_go 30 = .ok (.aload_n 0, 1) := dk_42 (dk_at dksX6_go_1 7 rfl rfl)
theorem dX6_go_31 : decode cX6_go 31 = .ok (.iload_n 1, 1) := dk_27 (dk_at dksX6_go_1 8 rfl rfl)
theorem dX6_go_32 : decode cX6_go 32 = .ok (.putfield 287, 3) := dk_181 1 31 (dk_at dksX6_go_1 9 rfl rfl)
theorem dX6_go_35 : decode cX6_go 35 = .ok (.iconst 0, 1) := dk_3 (dk_at dksX6_go_1 12 rfl rfl)
theorem dX6_go_36 : decode cX6_go 36 = .ok (.istore_n 3, 1) := dk_62 (dk_at dksX6_go_1 13 rfl rfl)
theorem dX6_go_37 : decode cX6_go 37 = .ok (.iconst 0, 1) := dk_3 (dk_at dksX6_go_1 14 rfl rfl)
theorem dX6_go_38 : decode cX6_go 38 = .ok (.istore 4, 2) := dk_54 4 (dk_at dksX6_go_1 15 rfl rfl)
theorem dX6_go_40 : decode cX6_go 40 = .ok (.iload 4, 2) := dk_21 4 (dk_at dksX6_go_1 17 rfl rfl)
theorem dX6_go_42 : decode cX6_go 42 = .ok (.iload_n 2, 1) := dk_28 (dk_at dksX6_go_1 19 rfl rfl)
theorem dX6_go_43 : decode cX6_go 43 = .ok (.if_icmp .ge 23, 3) := dk_162 0 23 (dk_at dksX6_go_1 20 rfl rfl)
theorem dX6_go_46 : decode cX6_go 46 = .ok (.iload_n 3, 1) := dk_29 (dk_at dksX6_go_1 23 rfl rfl)
theorem dX6_go_47 : decode cX6_go 47 = .ok (.aload_n 0, 1) := dk_42 (dk_at dksX6_go_2 0 rfl rfl)
theorem dX6_go_48 : decode cX6_go 48 = .ok (.aload_n 0, 1) := dk_42 (dk_at dksX6_go_2 1 rfl rfl)
theorem dX6_go_49 : decode cX6_go 49 = .ok (.getfield 272, 3) := dk_180 1 16 (dk_at dksX6_go_2 2 rfl rfl)
theorem dX6_go_52 : decode cX6_go 52 = .ok (.iload 4, 2) := dk_21 4 (dk_at dksX6_go_2 5 rfl rfl)
theorem dX6_go_54 : decode cX6_go 54 = .ok (.iadd, 1) := dk_96 (dk_at dksX6_go_2 7 rfl rfl)
theorem dX6_go_55 : decode cX6_go 55 = .ok (.invokevirtual 295, 3) := dk_182 1 39 (dk_at dksX6_go_2 8 rfl rfl)
theorem dX6_go_58 : decode cX6_go 58 = .ok (.iadd, 1) := dk_96 (dk_at dksX6_go_2 11 rfl rfl)
theorem dX6_go_59 : decode cX6_go 59 = .ok (.istore_n 3, 1) := dk_62 (dk_at dksX6_go_2 12 rfl rfl)
theorem dX6_go_60 : decode cX6_go 60 = .ok (.iinc 4 1, 3) := dk_132 4 1 (dk_at dksX6_go_2 13 rfl rfl)
theorem dX6_go_63 : decode cX6_go 63 = .ok (.goto (-23), 3) := dk_167 255 233 (dk_at dksX6_go_2 16 rfl rfl)
theorem dX6_go_66 : decode cX6_go 66 = .ok (.aload_n 0, 1) := dk_42 (dk_at dksX6_go_2 19 rfl rfl)
theorem dX6_go_67 : decode cX6_go 67 = .ok (.dup, 1) := dk_89 (dk_at dksX6_go_2 20 rfl rfl)
theorem dX6_go_68 : decode cX6_go 68 = .ok (.getfield 272, 3) := dk_180 1 16 (dk_at dksX6_go_2 21 rfl rfl)
theorem dX6_go_71 : decode cX6_go 71 = .ok (.iload_n 2, 1) := dk_28 (dk_at dksX6_go_3 0 rfl rfl)
theorem dX6_go_72 : decode cX6_go 72 = .ok (.iadd, 1) := dk_96 (dk_at dksX6_go_3 1 rfl rfl)
theorem dX6_go_73 : decode cX6_go 73 = .ok (.putfield 272, 3) := dk_181 1 16 (dk_at dksX6_go_3 2 rfl rfl)
theorem dX6_go_76 : decode cX6_go 76 = .ok (.iconst 0, 1) := dk_3 (dk_at dksX6_go_3 5 rfl rfl)
theorem dX6_go_77 : decode cX6_go 77 = .ok (.istore 4, 2) := dk_54 4 (dk_at dksX6_go_3 6 rfl rfl)
theorem dX6_go_79 : decode cX6_go 79 = .ok (.iload 4, 2) := dk_21 4 (dk_at dksX6_go_3 8 rfl rfl)
theorem dX6_go_81 : decode cX6_go 81 = .ok (.aload_n 0, 1) := dk_42 (dk_at dksX6_go_3 10 rfl rfl)
theorem dX6_go_82 : decode cX6_go 82 = .ok (.getfield 138, 3) := dk_180 0 138 (dk_at dksX6_go_3 11 rfl rfl)
theorem dX6_go_85 : decode cX6_go 85 = .ok (.if_icmp .ge 37, 3) := dk_162 0 37 (dk_at dksX6_go_3 14 rfl rfl)
theorem dX6_go_88 : decode cX6_go 88 = .ok (.aload_n 0, 1) := dk_42 (dk_at dksX6_go_3 17 rfl rfl)
theorem dX6_go_89 : decode cX6_go 89 = .ok (.getfield 28, 3) := dk_180 0 28 (dk_at dksX6_go_3 18 rfl rfl)
theorem dX6_go_92 : decode cX6_go 92 = .ok (.iload 4, 2) := dk_21 4 (dk_at dksX6_go_3 21 rfl rfl)
theorem dX6_go_94 : decode cX6_go 94 = .ok (.aload_n 0, 1) := dk_42 (dk_at dksX6_go_3 23 rfl rfl)
theorem dX6_go_95 : decode cX6_go 95 = .ok (.getfield 78, 3) := dk_180 0 78 (dk_at dksX6_go_4 0 rfl rfl)
theorem dX6_go_98 : decode cX6_go 98 = .ok (.iload 4, 2) := dk_21 4 (dk_at dksX6_go_4 3 rfl rfl)
theorem dX6_go_100 : decode cX6_go 100 = .ok (.iaload, 1) := dk_46 (dk_at dksX6_go_4 5 rfl rfl)
theorem dX6_go_101 : decode cX6_go 101 = .ok (.iastore, 1) := dk_79 (dk_at dksX6_go_4 6 rfl rfl)
theorem dX6_go_102 : decode cX6_go 102 = .ok (.aload_n 0, 1) := dk_42 (dk_at dksX6_go_4 7 rfl rfl)
theorem dX6_go_103 : decode cX6_go 103 = .ok (.getfield 37, 3) := dk_180 0 37 (dk_at dksX6_go_4 8 rfl rfl)
theorem dX6_go_106 : decode cX6_go 106 = .ok (.iload 4, 2) := dk_21 4 (dk_at dksX6_go_4 11 rfl rfl)
theorem dX6_go_108 : decode cX6_go 108 = .ok (.aload_n 0, 1) := dk_42 (dk_at dksX6_go_4 13 rfl rfl)
theorem dX6_go_109 : decode cX6_go 109 = .ok (.getfield 87, 3) := dk_180 0 87 (dk_at dksX6_go_4 14 rfl rfl)
theorem dX6_go_112 : decode cX6_go 112 = .ok (.iload 4, 2) := dk_21 4 (dk_at dksX6_go_4 17 rfl rfl)
theorem dX6_go_114 : decode cX6_go 114 = .ok (.iaload, 1) := dk_46 (dk_at dksX6_go_4 19 rfl rfl)
theorem dX6_go_115 : decode cX6_go 115 = .ok (.iastore, 1) := dk_79 (dk_at dksX6_go_4 20 rfl rfl)
theorem dX6_go_116 : decode cX6_go 116 = .ok (.iinc 4 1, 3) := dk_132 4 1 (dk_at dksX6_go_4 21 rfl rfl)
theorem dX6_go_119 : decode cX6_go 119 = .ok (.goto (-40), 3) := dk_167 255 216 (dk_at dksX6_go_5 0 rfl rfl)
theorem dX6_go_122 : decode cX6_go 122 = .ok (.iconst 0, 1) := dk_3 (dk_at dksX6_go_5 3 rfl rfl)
theorem dX6_go_123 : decode cX6_go 123 = .ok (.istore 4, 2) := dk_54 4 (dk_at dksX6_go_5 4 rfl rfl)
theorem dX6_go_125 : decode cX6_go 125 = .ok (.iload 4, 2) := dk_21 4 (dk_at dksX6_go_5 6 rfl rfl)
theorem dX6_go_127 : decode cX6_go 127 = .ok (.aload_n 0, 1) := dk_42 (dk_at dksX6_go_5 8 rfl rfl)
theorem dX6_go_128 : decode cX6_go 128 = .ok (.getfield 131, 3) := dk_180 0 131 (dk_at dksX6_go_5 9 rfl rfl)
theorem dX6_go_131 : decode cX6_go 131 = .ok (.if_icmp .ge 23, 3) := dk_162 0 23 (dk_at dksX6_go_5 12 rfl rfl)
theorem dX6_go_134 : decode cX6_go 134 = .ok (.aload_n 0, 1) := dk_42 (dk_at dksX6_go_5 15 rfl rfl)
theorem dX6_go_135 : decode cX6_go 135 = .ok (.getfield 19, 3) := dk_180 0 19 (dk_at dksX6_go_5 16 rfl rfl)
theorem dX6_go_138 : decode cX6_go 138 = .ok (.iload 4, 2) := dk_21 4 (dk_at dksX6_go_5 19 rfl rfl)
theorem dX6_go_140 : decode cX6_go 140 = .ok (.aload_n 0, 1) := dk_42 (dk_at dksX6_go_5 21 rfl rfl)
theorem dX6_go_141 : decode cX6_go 141 = .ok (.getfield 84, 3) := dk_180 0 84 (dk_at dksX6_go_6 0 rfl rfl)
theorem dX6_go_144 : decode cX6_go 144 = .ok (.iload 4, 2) := dk_21 4 (dk_at dksX6_go_6 3 rfl rfl)
theorem dX6_go_146 : decode cX6_go 146 = .ok (.iaload, 1) := dk_46 (dk_at dksX6_go_6 5 rfl rfl)
theorem dX6_go_147 : decode cX6_go 147 = .ok (.iastore, 1) := dk_79 (dk_at dksX6_go_6 6 rfl rfl)
theorem dX6_go_148 : decode cX6_go 148 = .ok (.iinc 4 1, 3) := dk_132 4 1 (dk_at dksX6_go_6 7 rfl rfl)
theorem dX6_go_151 : decode cX6_go 151 = .ok (.goto (-26), 3) := dk_167 255 230 (dk_at dksX6_go_6 10 rfl rfl)
theorem dX6_go_154 : decode cX6_go 154 = .ok (.iload_n 3, 1) := dk_29 (dk_at dksX6_go_6 13 rfl rfl)
theorem dX6_go_155 : decode cX6_go 155 = .ok (.ireturn, 1) := dk_172 (dk_at dksX6_go_6 14 rfl rfl)
abbrev cX6_goHour : ByteArray := prog_26_method_48_code
def yX6_goHour : MethodName := ⟨RX6, "goHour", "(I)I"⟩
def dkwX6_goHour_3 : List UInt8 := [167, 0, 11, 42, 29, 182, 1, 35, 132, 2, 1, 132, 3, 1, 167, 255, 180, 28, 172]
abbrev dktX6_goHour_3 : List UInt8 := dkwX6_goHour_3 ++ []
def dkwX6_goHour_2 : List UInt8 := [181, 1, 31, 42, 180, 1, 31, 16, 8, 124, 16, 12, 112, 42, 29, 27, 182, 1, 22, 161, 0, 6]
abbrev dktX6_goHour_2 : List UInt8 := dkwX6_goHour_2 ++ dktX6_goHour_3
def dkwX6_goHour_1 : List UInt8 := [180, 0, 78, 29, 46, 154, 0, 6, 167, 0, 49, 42, 42, 180, 1, 31, 19, 1, 34, 104, 17, 48, 57, 96]
abbrev dktX6_goHour_1 : List UInt8 := dkwX6_goHour_1 ++ dktX6_goHour_2
def dkwX6_goHour_0 : List UInt8 := [42, 182, 1, 28, 3, 61, 3, 62, 29, 42, 180, 0, 138, 162, 0, 74, 42, 180, 0, 87, 29, 29, 79, 42]
abbrev dktX6_goHour_0 : List UInt8 := dkwX6_goHour_0 ++ dktX6_goHour_1
theorem dksX6_goHour_0 : cX6_goHour.data.toList.drop 0 = dktX6_goHour_0 := by decide +kernel
theorem dksX6_goHour_1 : cX6_goHour.data.toList.drop 24 = dktX6_goHour_1 := dk_seg dksX6_goHour_0 24 rfl rfl
theorem dksX6_goHour_2 : cX6_goHour.data.toList.drop 48 = dktX6_goHour_2 := dk_seg dksX6_goHour_1 24 rfl rfl
theorem dksX6_goHour_3 : cX6_goHour.data.toList.drop 70 = dktX6_goHour_3 := dk_seg dksX6_goHour_2 22 rfl rfl
theorem dX6_goHour_0 : decode cX6_goHour 0 = .ok (.aload_n 0, 1) := dk_42 (dk_at dksX6_goHour_0 0 rfl rfl)
theorem dX6_goHour_1 : decode cX6_goHour 1 = .ok (.invokevirtual 284, 3) := dk_182 1 28 (dk_at dksX6_goHour_0 1 rfl rfl)
theorem dX6_goHour_4 : decode cX6_goHour 4 = .ok (.iconst 0, 1) := dk_3 (dk_at dksX6_goHour_0 4 rfl rfl)
theorem dX6_goHour_5 : decode cX6_goHour 5 = .ok (.istore_n 2, 1) := dk_61 (dk_at dksX6_goHour_0 5 rfl rfl)
theorem dX6_goHour_6 : decode cX6_goHour 6 = .ok (.iconst 0, 1) := dk_3 (dk_at dksX6_goHour_0 6 rfl rfl)
theorem dX6_goHour_7 : decode cX6_goHour 7 = .ok (.istore_n 3, 1) := dk_62 (dk_at dksX6_goHour_0 7 rfl rfl)
theorem dX6_goHour_8 : decode cX6_goHour 8 = .ok (.iload_n 3, 1) := dk_29 (dk_at dksX6_goHour_0 8 rfl rfl)
theorem dX6_goHour_9 : decode cX6_goHour 9 = .ok (.aload_n 0, 1) := dk_42 (dk_at dksX6_goHour_0 9 rfl rfl)
theorem dX6_goHour_10 : decode cX6_goHour 10 = .ok (.getfield 138, 3) := dk_180 0 138 (dk_at dksX6_goHour_0 10 rfl rfl)
theorem dX6_goHour_13 : decode cX6_goHour 13 = .ok (.if_icmp .ge 74, 3) := dk_162 0 74 (dk_at dksX6_goHour_0 13 rfl rfl)
theorem dX6_goHour_16 : decode cX6_goHour 16 = .ok (.aload_n 0, 1) := dk_42 (dk_at dksX6_goHour_0 16 rfl rfl)
theorem dX6_goHour_17 : decode cX6_goHour 17 = .ok (.getfield 87, 3) := dk_180 0 87 (dk_at dksX6_goHour_0 17 rfl rfl)
theorem dX6_goHour_20 : decode cX6_goHour 20 = .ok (.iload_n 3, 1) := dk_29 (dk_at dksX6_goHour_0 20 rfl rfl)
theorem dX6_goHour_21 : decode cX6_goHour 21 = .ok (.iload_n 3, 1) := dk_29 (dk_at dksX6_goHour_0 21 rfl rfl)
theorem dX6_goHour_22 : decode cX6_goHour 22 = .ok (.iastore, 1) := dk_79 (dk_at dksX6_goHour_0 22 rfl rfl)
theorem dX6_goHour_23 : decode cX6_goHour 23 = .ok (.aload_n 0, 1) := dk_42 (dk_at dksX6_goHour_0 23 rfl rfl)
theorem dX6_goHour_24 : decode cX6_goHour 24 = .ok (.getfield 78, 3) := dk_180 0 78 (dk_at dksX6_goHour_1 0 rfl rfl)
theorem dX6_goHour_27 : decode cX6_goHour 27 = .ok (.iload_n 3, 1) := dk_29 (dk_at dksX6_goHour_1 3 rfl rfl)
theorem dX6_goHour_28 : decode cX6_goHour 28 = .ok (.iaload, 1) := dk_46 (dk_at dksX6_goHour_1 4 rfl rfl)
theorem dX6_goHour_29 : decode cX6_goHour 29 = .ok (.ifCond .ne 6, 3) := dk_154 0 6 (dk_at dksX6_goHour_1 5 rfl rfl)
theorem dX6_goHour_32 : decode cX6_goHour 32 = .ok (.goto 49, 3) := dk_167 0 49 (dk_at dksX6_goHour_1 8 rfl rfl)
theorem dX6_goHour_35 : decode cX6_goHour 35 = .ok (.aload_n 0, 1) := dk_42 (dk_at dksX6_goHour_1 11 rfl rfl)
theorem dX6_goHour_36 : decode cX6_goHour 36 = .ok (.aload_n 0, 1) := dk_42 (dk_at dksX6_goHour_1 12 rfl rfl)
theorem dX6_goHour_37 : decode cX6_goHour 37 = .ok (.getfield 287, 3) := dk_180 1 31 (dk_at dksX6_goHour_1 13 rfl rfl)
theorem dX6_goHour_40 : decode cX6_goHour 40 = .ok (.ldc_w 290, 3) := dk_19 1 34 (dk_at dksX6_goHour_1 16 rfl rfl)
theorem dX6_goHour_43 : decode cX6_goHour 43 = .ok (.imul, 1) := dk_104 (dk_at dksX6_goHour_1 19 rfl rfl)
theorem dX6_goHour_44 : decode cX6_goHour 44 = .ok (.sipush 12345, 3) := dk_17 48 57 (dk_at dksX6_goHour_1 20 rfl rfl)
theorem dX6_goHour_47 : decode cX6_goHour 47 = .ok (.iadd, 1) := dk_96 (dk_at dksX6_goHour_1 23 rfl rfl)
theorem dX6_goHour_48 : decode cX6_goHour 48 = .ok (.putfield 287, 3) := dk_181 1 31 (dk_at dksX6_goHour_2 0 rfl rfl)
theorem dX6_goHour_51 : decode cX6_goHour 51 = .ok (.aload_n 0, 1) := dk_42 (dk_at dksX6_goHour_2 3 rfl rfl)
theorem dX6_goHour_52 : decode cX6_goHour 52 = .ok (.getfield 287, 3) := dk_180 1 31 (dk_at dksX6_goHour_2 4 rfl rfl)
theorem dX6_goHour_55 : decode cX6_goHour 55 = .ok (.bipush 8, 2) := dk_16 8 (dk_at dksX6_goHour_2 7 rfl rfl)
theorem dX6_goHour_57 : decode cX6_goHour 57 = .ok (.iushr, 1) := dk_124 (dk_at dksX6_goHour_2 9 rfl rfl)
theorem dX6_goHour_58 : decode cX6_goHour 58 = .ok (.bipush 12, 2) := dk_16 12 (dk_at dksX6_goHour_2 10 rfl rfl)
theorem dX6_goHour_60 : decode cX6_goHour 60 = .ok (.irem, 1) := dk_112 (dk_at dksX6_goHour_2 12 rfl rfl)
theorem dX6_goHour_61 : decode cX6_goHour 61 = .ok (.aload_n 0, 1) := dk_42 (dk_at dksX6_goHour_2 13 rfl rfl)
theorem dX6_goHour_62 : decode cX6_goHour 62 = .ok (.iload_n 3, 1) := dk_29 (dk_at dksX6_goHour_2 14 rfl rfl)
theorem dX6_goHour_63 : decode cX6_goHour 63 = .ok (.iload_n 1, 1) := dk_27 (dk_at dksX6_goHour_2 15 rfl rfl)
theorem dX6_goHour_64 : decode cX6_goHour 64 = .ok (.invokevirtual 278, 3) := dk_182 1 22 (dk_at dksX6_goHour_2 16 rfl rfl)
theorem dX6_goHour_67 : decode cX6_goHour 67 = .ok (.if_icmp .lt 6, 3) := dk_161 0 6 (dk_at dksX6_goHour_2 19 rfl rfl)
theorem dX6_goHour_70 : decode cX6_goHour 70 = .ok (.goto 11, 3) := dk_167 0 11 (dk_at dksX6_goHour_3 0 rfl rfl)
theorem dX6_goHour_73 : decode cX6_goHour 73 = .ok (.aload_n 0, 1) := dk_42 (dk_at dksX6_goHour_3 3 rfl rfl)
theorem dX6_goHour_74 : decode cX6_goHour 74 = .ok (.iload_n 3, 1) := dk_29 (dk_at dksX6_goHour_3 4 rfl rfl)
theorem dX6_goHour_75 : decode cX6_goHour 75 = .ok (.invokevirtual 291, 3) := dk_182 1 35 (dk_at dksX6_goHour_3 5 rfl rfl)
theorem dX6_goHour_78 : decode cX6_goHour 78 = .ok (.iinc 2 1, 3) := dk_132 2 1 (dk_at dksX6_goHour_3 8 rfl rfl)
theorem dX6_goHour_81 : decode cX6_goHour 81 = .ok (.iinc 3 1, 3) := dk_132 3 1 (dk_at dksX6_goHour_3 11 rfl rfl)
theorem dX6_goHour_84 : decode cX6_goHour 84 = .ok (.goto (-76), 3) := dk_167 255 180 (dk_at dksX6_goHour_3 14 rfl rfl)
theorem dX6_goHour_87 : decode cX6_goHour 87 = .ok (.iload_n 2, 1) := dk_28 (dk_at dksX6_goHour_3 17 rfl rfl)
theorem dX6_goHour_88 : decode cX6_goHour 88 = .ok (.ireturn, 1) := dk_172 (dk_at dksX6_goHour_3 18 rfl rfl)
abbrev cX6_takeUp : ByteArray := prog_26_method_45_code
def yX6_takeUp : MethodName := ⟨RX6, "takeUp", "()V"⟩
def dkwX6_takeUp_2 : List UInt8 := [27, 46, 92, 46, 4, 100, 79, 42, 180, 0, 78, 27, 92, 46, 4, 96, 79, 132, 1, 1, 167, 255, 192, 177]
abbrev dktX6_takeUp_2 : List UInt8 := dkwX6_takeUp_2 ++ []
def dkwX6_takeUp_1 : List UInt8 := [180, 0, 84, 42, 180, 0, 81, 27, 46, 46, 154, 0, 6, 167, 0, 28, 42, 180, 0, 84, 42, 180, 0, 81]
abbrev dktX6_takeUp_1 : List UInt8 := dkwX6_takeUp_1 ++ dktX6_takeUp_2
def dkwX6_takeUp_0 : List UInt8 := [3, 60, 27, 42, 180, 0, 138, 162, 0, 62, 42, 180, 0, 78, 27, 46, 16, 9, 159, 0, 45, 42]
abbrev dktX6_takeUp_0 : List UInt8 := dkwX6_takeUp_0 ++ dktX6_takeUp_1
theorem dksX6_takeUp_0 : cX6_takeUp.data.toList.drop 0 = dktX6_takeUp_0 := by decide +kernel
theorem dksX6_takeUp_1 : cX6_takeUp.data.toList.drop 22 = dktX6_takeUp_1 := dk_seg dksX6_takeUp_0 22 rfl rfl
theorem dksX6_takeUp_2 : cX6_takeUp.data.toList.drop 46 = dktX6_takeUp_2 := dk_seg dksX6_takeUp_1 24 rfl rfl
theorem dX6_takeUp_0 : decode cX6_takeUp 0 = .ok (.iconst 0, 1) := dk_3 (dk_at dksX6_takeUp_0 0 rfl rfl)
theorem dX6_takeUp_1 : decode cX6_takeUp 1 = .ok (.istore_n 1, 1) := dk_60 (dk_at dksX6_takeUp_0 1 rfl rfl)
theorem dX6_takeUp_2 : decode cX6_takeUp 2 = .ok (.iload_n 1, 1) := dk_27 (dk_at dksX6_takeUp_0 2 rfl rfl)
theorem dX6_takeUp_3 : decode cX6_takeUp 3 = .ok (.aload_n 0, 1) := dk_42 (dk_at dksX6_takeUp_0 3 rfl rfl)
theorem dX6_takeUp_4 : decode cX6_takeUp 4 = .ok (.getfield 138, 3) := dk_180 0 138 (dk_at dksX6_takeUp_0 4 rfl rfl)
theorem dX6_takeUp_7 : decode cX6_takeUp 7 = .ok (.if_icmp .ge 62, 3) := dk_162 0 62 (dk_at dksX6_takeUp_0 7 rfl rfl)
theorem dX6_takeUp_10 : decode cX6_takeUp 10 = .ok (.aload_n 0, 1) := dk_42 (dk_at dksX6_takeUp_0 10 rfl rfl)
theorem dX6_takeUp_11 : decode cX6_takeUp 11 = .ok (.getfield 78, 3) := dk_180 0 78 (dk_at dksX6_takeUp_0 11 rfl rfl)
theorem dX6_takeUp_14 : decode cX6_takeUp 14 = .ok (.iload_n 1, 1) := dk_27 (dk_at dksX6_takeUp_0 14 rfl rfl)
theorem dX6_takeUp_15 : decode cX6_takeUp 15 = .ok (.iaload, 1) := dk_46 (dk_at dksX6_takeUp_0 15 rfl rfl)
theorem dX6_takeUp_16 : decode cX6_takeUp 16 = .ok (.bipush 9, 2) := dk_16 9 (dk_at dksX6_takeUp_0 16 rfl rfl)
theorem dX6_takeUp_18 : decode cX6_takeUp 18 = .ok (.if_icmp .eq 45, 3) := dk_159 0 45 (dk_at dksX6_takeUp_0 18 rfl rfl)
theorem dX6_takeUp_21 : decode cX6_takeUp 21 = .ok (.aload_n 0, 1) := dk_42 (dk_at dksX6_takeUp_0 21 rfl rfl)
theorem dX6_takeUp_22 : decode cX6_takeUp 22 = .ok (.getfield 84, 3) := dk_180 0 84 (dk_at dksX6_takeUp_1 0 rfl rfl)
theorem dX6_takeUp_25 : decode cX6_takeUp 25 = .ok (.aload_n 0, 1) := dk_42 (dk_at dksX6_takeUp_1 3 rfl rfl)
theorem dX6_takeUp_26 : decode cX6_takeUp 26 = .ok (.getfield 81, 3) := dk_180 0 81 (dk_at dksX6_takeUp_1 4 rfl rfl)
theorem dX6_takeUp_29 : decode cX6_takeUp 29 = .ok (.iload_n 1, 1) := dk_27 (dk_at dksX6_takeUp_1 7 rfl rfl)
theorem dX6_takeUp_30 : decode cX6_takeUp 30 = .ok (.iaload, 1) := dk_46 (dk_at dksX6_takeUp_1 8 rfl rfl)
theorem dX6_takeUp_31 : decode cX6_takeUp 31 = .ok (.iaload, 1) := dk_46 (dk_at dksX6_takeUp_1 9 rfl rfl)
theorem dX6_takeUp_32 : decode cX6_takeUp 32 = .ok (.ifCond .ne 6, 3) := dk_154 0 6 (dk_at dksX6_takeUp_1 10 rfl rfl)
theorem dX6_takeUp_35 : decode cX6_takeUp 35 = .ok (.goto 28, 3) := dk_167 0 28 (dk_at dksX6_takeUp_1 13 rfl rfl)
theorem dX6_takeUp_38 : decode cX6_takeUp 38 = .ok (.aload_n 0, 1) := dk_42 (dk_at dksX6_takeUp_1 16 rfl rfl)
theorem dX6_takeUp_39 : decode cX6_takeUp 39 = .ok (.getfield 84, 3) := dk_180 0 84 (dk_at dksX6_takeUp_1 17 rfl rfl)
theorem dX6_takeUp_42 : decode cX6_takeUp 42 = .ok (.aload_n 0, 1) := dk_42 (dk_at dksX6_takeUp_1 20 rfl rfl)
theorem dX6_takeUp_43 : decode cX6_takeUp 43 = .ok (.getfield 81, 3) := dk_180 0 81 (dk_at dksX6_takeUp_1 21 rfl rfl)
theorem dX6_takeUp_46 : decode cX6_takeUp 46 = .ok (.iload_n 1, 1) := dk_27 (dk_at dksX6_takeUp_2 0 rfl rfl)
theorem dX6_takeUp_47 : decode cX6_takeUp 47 = .ok (.iaload, 1) := dk_46 (dk_at dksX6_takeUp_2 1 rfl rfl)
theorem dX6_takeUp_48 : decode cX6_takeUp 48 = .ok (.dup2, 1) := dk_92 (dk_at dksX6_takeUp_2 2 rfl rfl)
theorem dX6_takeUp_49 : decode cX6_takeUp 49 = .ok (.iaload, 1) := dk_46 (dk_at dksX6_takeUp_2 3 rfl rfl)
theorem dX6_takeUp_50 : decode cX6_takeUp 50 = .ok (.iconst 1, 1) := dk_4 (dk_at dksX6_takeUp_2 4 rfl rfl)
theorem dX6_takeUp_51 : decode cX6_takeUp 51 = .ok (.isub, 1) := dk_100 (dk_at dksX6_takeUp_2 5 rfl rfl)
theorem dX6_takeUp_52 : decode cX6_takeUp 52 = .ok (.iastore, 1) := dk_79 (dk_at dksX6_takeUp_2 6 rfl rfl)
theorem dX6_takeUp_53 : decode cX6_takeUp 53 = .ok (.aload_n 0, 1) := dk_42 (dk_at dksX6_takeUp_2 7 rfl rfl)
theorem dX6_takeUp_54 : decode cX6_takeUp 54 = .ok (.getfield 78, 3) := dk_180 0 78 (dk_at dksX6_takeUp_2 8 rfl rfl)
theorem dX6_takeUp_57 : decode cX6_takeUp 57 = .ok (.iload_n 1, 1) := dk_27 (dk_at dksX6_takeUp_2 11 rfl rfl)
theorem dX6_takeUp_58 : decode cX6_takeUp 58 = .ok (.dup2, 1) := dk_92 (dk_at dksX6_takeUp_2 12 rfl rfl)
theorem dX6_takeUp_59 : decode cX6_takeUp 59 = .ok (.iaload, 1) := dk_46 (dk_at dksX6_takeUp_2 13 rfl rfl)
theorem dX6_takeUp_60 : decode cX6_takeUp 60 = .ok (.iconst 1, 1) := dk_4 (dk_at dksX6_takeUp_2 14 rfl rfl)
theorem dX6_takeUp_61 : decode cX6_takeUp 61 = .ok (.iadd, 1) := dk_96 (dk_at dksX6_takeUp_2 15 rfl rfl)
theorem dX6_takeUp_62 : decode cX6_takeUp 62 = .ok (.iastore, 1) := dk_79 (dk_at dksX6_takeUp_2 16 rfl rfl)
theorem dX6_takeUp_63 : decode cX6_takeUp 63 = .ok (.iinc 1 1, 3) := dk_132 1 1 (dk_at dksX6_takeUp_2 17 rfl rfl)
theorem dX6_takeUp_66 : decode cX6_takeUp 66 = .ok (.goto (-64), 3) := dk_167 255 192 (dk_at dksX6_takeUp_2 20 rfl rfl)
theorem dX6_takeUp_69 : decode cX6_takeUp 69 = .ok (.return_, 1) := dk_177 (dk_at dksX6_takeUp_2 23 rfl rfl)
abbrev cX6_fall : ByteArray := prog_26_method_47_code
def yX6_fall : MethodName := ⟨RX6, "fall", "(I)V"⟩
def dkwX6_fall_3 : List UInt8 := [92, 46, 4, 96, 79, 42, 180, 0, 87, 27, 16, 254, 79, 177]
abbrev dktX6_fall_3 : List UInt8 := dkwX6_fall_3 ++ []
def dkwX6_fall_2 : List UInt8 := [46, 62, 42, 180, 0, 84, 42, 29, 182, 0, 144, 153, 0, 7, 29, 167, 0, 9, 42, 180, 0, 81, 27, 46]
abbrev dktX6_fall_2 : List UInt8 := dkwX6_fall_2 ++ dktX6_fall_3
def dkwX6_fall_1 : List UInt8 := [28, 92, 46, 4, 96, 79, 42, 180, 0, 87, 27, 28, 79, 177, 42, 180, 0, 16, 42, 180, 0, 81, 27, 46]
abbrev dktX6_fall_1 : List UInt8 := dkwX6_fall_1 ++ dktX6_fall_2
def dkwX6_fall_0 : List UInt8 := [42, 27, 182, 1, 25, 61, 42, 180, 0, 78, 27, 92, 46, 4, 100, 79, 28, 155, 0, 21, 42, 180, 0, 78]
abbrev dktX6_fall_0 : List UInt8 := dkwX6_fall_0 ++ dktX6_fall_1
theorem dksX6_fall_0 : cX6_fall.data.toList.drop 0 = dktX6_fall_0 := by decide +kernel
theorem dksX6_fall_1 : cX6_fall.data.toList.drop 24 = dktX6_fall_1 := dk_seg dksX6_fall_0 24 rfl rfl
theorem dksX6_fall_2 : cX6_fall.data.toList.drop 48 = dktX6_fall_2 := dk_seg dksX6_fall_1 24 rfl rfl
theorem dksX6_fall_3 : cX6_fall.data.toList.drop 72 = dktX6_fall_3 := dk_seg dksX6_fall_2 24 rfl rfl
theorem dX6_fall_0 : decode cX6_fall 0 = .ok (.aload_n 0, 1) := dk_42 (dk_at dksX6_fall_0 0 rfl rfl)
theorem dX6_fall_1 : decode cX6_fall 1 = .ok (.iload_n 1, 1) := dk_27 (dk_at dksX6_fall_0 1 rfl rfl)
theorem dX6_fall_2 : decode cX6_fall 2 = .ok (.invokevirtual 281, 3) := dk_182 1 25 (dk_at dksX6_fall_0 2 rfl rfl)
theorem dX6_fall_5 : decode cX6_fall 5 = .ok (.istore_n 2, 1) := dk_61 (dk_at dksX6_fall_0 5 rfl rfl)
theorem dX6_fall_6 : decode cX6_fall 6 = .ok (.aload_n 0, 1) := dk_42 (dk_at dksX6_fall_0 6 rfl rfl)
theorem dX6_fall_7 : decode cX6_fall 7 = .ok (.getfield 78, 3) := dk_180 0 78 (dk_at dksX6_fall_0 7 rfl rfl)
theorem dX6_fall_10 : decode cX6_fall 10 = .ok (.iload_n 1, 1) := dk_27 (dk_at dksX6_fall_0 10 rfl rfl)
theorem dX6_fall_11 : decode cX6_fall 11 = .ok (.dup2, 1) := dk_92 (dk_at dksX6_fall_0 11 rfl rfl)
theorem dX6_fall_12 : decode cX6_fall 12 = .ok (.iaload, 1) := dk_46 (dk_at dksX6_fall_0 12 rfl rfl)
theorem dX6_fall_13 : decode cX6_fall 13 = .ok (.iconst 1, 1) := dk_4 (dk_at dksX6_fall_0 13 rfl rfl)
theorem dX6_fall_14 : decode cX6_fall 14 = .ok (.isub, 1) := dk_100 (dk_at dksX6_fall_0 14 rfl rfl)
theorem dX6_fall_15 : decode cX6_fall 15 = .ok (.iastore, 1) := dk_79 (dk_at dksX6_fall_0 15 rfl rfl)
theorem dX6_fall_16 : decode cX6_fall 16 = .ok (.iload_n 2, 1) := dk_28 (dk_at dksX6_fall_0 16 rfl rfl)
theorem dX6_fall_17 : decode cX6_fall 17 = .ok (.ifCond .lt 21, 3) := dk_155 0 21 (dk_at dksX6_fall_0 17 rfl rfl)
theorem dX6_fall_20 : decode cX6_fall 20 = .ok (.aload_n 0, 1) := dk_42 (dk_at dksX6_fall_0 20 rfl rfl)
theorem dX6_fall_21 : decode cX6_fall 21 = .ok (.getfield 78, 3) := dk_180 0 78 (dk_at dksX6_fall_0 21 rfl rfl)
theorem dX6_fall_24 : decode cX6_fall 24 = .ok (.iload_n 2, 1) := dk_28 (dk_at dksX6_fall_1 0 rfl rfl)
theorem dX6_fall_25 : decode cX6_fall 25 = .ok (.dup2, 1) := dk_92 (dk_at dksX6_fall_1 1 rfl rfl)
theorem dX6_fall_26 : decode cX6_fall 26 = .ok (.iaload, 1) := dk_46 (dk_at dksX6_fall_1 2 rfl rfl)
theorem dX6_fall_27 : decode cX6_fall 27 = .ok (.iconst 1, 1) := dk_4 (dk_at dksX6_fall_1 3 rfl rfl)
theorem dX6_fall_28 : decode cX6_fall 28 = .ok (.iadd, 1) := dk_96 (dk_at dksX6_fall_1 4 rfl rfl)
theorem dX6_fall_29 : decode cX6_fall 29 = .ok (.iastore, 1) := dk_79 (dk_at dksX6_fall_1 5 rfl rfl)
theorem dX6_fall_30 : decode cX6_fall 30 = .ok (.aload_n 0, 1) := dk_42 (dk_at dksX6_fall_1 6 rfl rfl)
theorem dX6_fall_31 : decode cX6_fall 31 = .ok (.getfield 87, 3) := dk_180 0 87 (dk_at dksX6_fall_1 7 rfl rfl)
theorem dX6_fall_34 : decode cX6_fall 34 = .ok (.iload_n 1, 1) := dk_27 (dk_at dksX6_fall_1 10 rfl rfl)
theorem dX6_fall_35 : decode cX6_fall 35 = .ok (.iload_n 2, 1) := dk_28 (dk_at dksX6_fall_1 11 rfl rfl)
theorem dX6_fall_36 : decode cX6_fall 36 = .ok (.iastore, 1) := dk_79 (dk_at dksX6_fall_1 12 rfl rfl)
theorem dX6_fall_37 : decode cX6_fall 37 = .ok (.return_, 1) := dk_177 (dk_at dksX6_fall_1 13 rfl rfl)
theorem dX6_fall_38 : decode cX6_fall 38 = .ok (.aload_n 0, 1) := dk_42 (dk_at dksX6_fall_1 14 rfl rfl)
theorem dX6_fall_39 : decode cX6_fall 39 = .ok (.getfield 16, 3) := dk_180 0 16 (dk_at dksX6_fall_1 15 rfl rfl)
theorem dX6_fall_42 : decode cX6_fall 42 = .ok (.aload_n 0, 1) := dk_42 (dk_at dksX6_fall_1 18 rfl rfl)
theorem dX6_fall_43 : decode cX6_fall 43 = .ok (.getfield 81, 3) := dk_180 0 81 (dk_at dksX6_fall_1 19 rfl rfl)
theorem dX6_fall_46 : decode cX6_fall 46 = .ok (.iload_n 1, 1) := dk_27 (dk_at dksX6_fall_1 22 rfl rfl)
theorem dX6_fall_47 : decode cX6_fall 47 = .ok (.iaload, 1) := dk_46 (dk_at dksX6_fall_1 23 rfl rfl)
theorem dX6_fall_48 : decode cX6_fall 48 = .ok (.iaload, 1) := dk_46 (dk_at dksX6_fall_2 0 rfl rfl)
theorem dX6_fall_49 : decode cX6_fall 49 = .ok (.istore_n 3, 1) := dk_62 (dk_at dksX6_fall_2 1 rfl rfl)
theorem dX6_fall_50 : decode cX6_fall 50 = .ok (.aload_n 0, 1) := dk_42 (dk_at dksX6_fall_2 2 rfl rfl)
theorem dX6_fall_51 : decode cX6_fall 51 = .ok (.getfield 84, 3) := dk_180 0 84 (dk_at dksX6_fall_2 3 rfl rfl)
theorem dX6_fall_54 : decode cX6_fall 54 = .ok (.aload_n 0, 1) := dk_42 (dk_at dksX6_fall_2 6 rfl rfl)
theorem dX6_fall_55 : decode cX6_fall 55 = .ok (.iload_n 3, 1) := dk_29 (dk_at dksX6_fall_2 7 rfl rfl)
theorem dX6_fall_56 : decode cX6_fall 56 = .ok (.invokevirtual 144, 3) := dk_182 0 144 (dk_at dksX6_fall_2 8 rfl rfl)
theorem dX6_fall_59 : decode cX6_fall 59 = .ok (.ifCond .eq 7, 3) := dk_153 0 7 (dk_at dksX6_fall_2 11 rfl rfl)
theorem dX6_fall_62 : decode cX6_fall 62 = .ok (.iload_n 3, 1) := dk_29 (dk_at dksX6_fall_2 14 rfl rfl)
theorem dX6_fall_63 : decode cX6_fall 63 = .ok (.goto 9, 3) := dk_167 0 9 (dk_at dksX6_fall_2 15 rfl rfl)
theorem dX6_fall_66 : decode cX6_fall 66 = .ok (.aload_n 0, 1) := dk_42 (dk_at dksX6_fall_2 18 rfl rfl)
theorem dX6_fall_67 : decode cX6_fall 67 = .ok (.getfield 81, 3) := dk_180 0 81 (dk_at dksX6_fall_2 19 rfl rfl)
theorem dX6_fall_70 : decode cX6_fall 70 = .ok (.iload_n 1, 1) := dk_27 (dk_at dksX6_fall_2 22 rfl rfl)
theorem dX6_fall_71 : decode cX6_fall 71 = .ok (.iaload, 1) := dk_46 (dk_at dksX6_fall_2 23 rfl rfl)
theorem dX6_fall_72 : decode cX6_fall 72 = .ok (.dup2, 1) := dk_92 (dk_at dksX6_fall_3 0 rfl rfl)
theorem dX6_fall_73 : decode cX6_fall 73 = .ok (.iaload, 1) := dk_46 (dk_at dksX6_fall_3 1 rfl rfl)
theorem dX6_fall_74 : decode cX6_fall 74 = .ok (.iconst 1, 1) := dk_4 (dk_at dksX6_fall_3 2 rfl rfl)
theorem dX6_fall_75 : decode cX6_fall 75 = .ok (.iadd, 1) := dk_96 (dk_at dksX6_fall_3 3 rfl rfl)
theorem dX6_fall_76 : decode cX6_fall 76 = .ok (.iastore, 1) := dk_79 (dk_at dksX6_fall_3 4 rfl rfl)
theorem dX6_fall_77 : decode cX6_fall 77 = .ok (.aload_n 0, 1) := dk_42 (dk_at dksX6_fall_3 5 rfl rfl)
theorem dX6_fall_78 : decode cX6_fall 78 = .ok (.getfield 87, 3) := dk_180 0 87 (dk_at dksX6_fall_3 6 rfl rfl)
theorem dX6_fall_81 : decode cX6_fall 81 = .ok (.iload_n 1, 1) := dk_27 (dk_at dksX6_fall_3 9 rfl rfl)
theorem dX6_fall_82 : decode cX6_fall 82 = .ok (.bipush (-2), 2) := dk_16 254 (dk_at dksX6_fall_3 10 rfl rfl)
theorem dX6_fall_84 : decode cX6_fall 84 = .ok (.iastore, 1) := dk_79 (dk_at dksX6_fall_3 12 rfl rfl)
theorem dX6_fall_85 : decode cX6_fall 85 = .ok (.return_, 1) := dk_177 (dk_at dksX6_fall_3 13 rfl rfl)
abbrev cX6_catcher : ByteArray := prog_26_method_46_code
def yX6_catcher : MethodName := ⟨RX6, "catcher", "(I)I"⟩
def dkwX6_catcher_5 : List UInt8 := [132, 3, 1, 167, 255, 222, 2, 172]
abbrev dktX6_catcher_5 : List UInt8 := dkwX6_catcher_5 ++ []
def dkwX6_catcher_4 : List UInt8 := [42, 180, 0, 81, 29, 46, 28, 160, 0, 16, 42, 180, 0, 78, 29, 46, 16, 9, 162, 0, 5, 29, 172]
abbrev dktX6_catcher_4 : List UInt8 := dkwX6_catcher_4 ++ dktX6_catcher_5
def dkwX6_catcher_3 : List UInt8 := [46, 159, 0, 11, 42, 28, 182, 0, 144, 154, 0, 5, 2, 172, 3, 62, 29, 42, 180, 0, 138, 162, 0, 32]
abbrev dktX6_catcher_3 : List UInt8 := dkwX6_catcher_3 ++ dktX6_catcher_4
def dkwX6_catcher_2 : List UInt8 := [132, 2, 1, 167, 255, 208, 42, 180, 0, 16, 42, 180, 0, 81, 27, 46, 46, 61, 28, 42, 180, 0, 81, 27]
abbrev dktX6_catcher_2 : List UInt8 := dkwX6_catcher_2 ++ dktX6_catcher_3
def dkwX6_catcher_1 : List UInt8 := [46, 42, 180, 0, 81, 27, 46, 160, 0, 16, 42, 180, 0, 78, 29, 46, 16, 9, 162, 0, 5, 29, 172]
abbrev dktX6_catcher_1 : List UInt8 := dkwX6_catcher_1 ++ dktX6_catcher_2
def dkwX6_catcher_0 : List UInt8 := [4, 61, 28, 42, 180, 0, 138, 162, 0, 46, 27, 28, 96, 42, 180, 0, 138, 112, 62, 42, 180, 0, 81, 29]
abbrev dktX6_catcher_0 : List UInt8 := dkwX6_catcher_0 ++ dktX6_catcher_1
theorem dksX6_catcher_0 : cX6_catcher.data.toList.drop 0 = dktX6_catcher_0 := by decide +kernel
theorem dksX6_catcher_1 : cX6_catcher.data.toList.drop 24 = dktX6_catcher_1 := dk_seg dksX6_catcher_0 24 rfl rfl
theorem dksX6_catcher_2 : cX6_catcher.data.toList.drop 47 = dktX6_catcher_2 := dk_seg dksX6_catcher_1 23 rfl rfl
theorem dksX6_catcher_3 : cX6_catcher.data.toList.drop 71 = dktX6_catcher_3 := dk_seg dksX6_catcher_2 24 rfl rfl
theorem dksX6_catcher_4 : cX6_catcher.data.toList.drop 95 = dktX6_catcher_4 := dk_seg dksX6_catcher_3 24 rfl rfl
theorem dksX6_catcher_5 : cX6_catcher.data.toList.drop 118 = dktX6_catcher_5 := dk_seg dksX6_catcher_4 23 rfl rfl
theorem dX6_catcher_0 : decode cX6_catcher 0 = .ok (.iconst 1, 1) := dk_4 (dk_at dksX6_catcher_0 0 rfl rfl)
theorem dX6_catcher_1 : decode cX6_catcher 1 = .ok (.istore_n 2, 1) := dk_61 (dk_at dksX6_catcher_0 1 rfl rfl)
theorem dX6_catcher_2 : decode cX6_catcher 2 = .ok (.iload_n 2, 1) := dk_28 (dk_at dksX6_catcher_0 2 rfl rfl)
theorem dX6_catcher_3 : decode cX6_catcher 3 = .ok (.aload_n 0, 1) := dk_42 (dk_at dksX6_catcher_0 3 rfl rfl)
theorem dX6_catcher_4 : decode cX6_catcher 4 = .ok (.getfield 138, 3) := dk_180 0 138 (dk_at dksX6_catcher_0 4 rfl rfl)
theorem dX6_catcher_7 : decode cX6_catcher 7 = .ok (.if_icmp .ge 46, 3) := dk_162 0 46 (dk_at dksX6_catcher_0 7 rfl rfl)
theorem dX6_catcher_10 : decode cX6_catcher 10 = .ok (.iload_n 1, 1) := dk_27 (dk_at dksX6_catcher_0 10 rfl rfl)
theorem dX6_catcher_11 : decode cX6_catcher 11 = .ok (.iload_n 2, 1) := dk_28 (dk_at dksX6_catcher_0 11 rfl rfl)
theorem dX6_catcher_12 : decode cX6_catcher 12 = .ok (.iadd, 1) := dk_96 (dk_at dksX6_catcher_0 12 rfl rfl)
theorem dX6_catcher_13 : decode cX6_catcher 13 = .ok (.aload_n 0, 1) := dk_42 (dk_at dksX6_catcher_0 13 rfl rfl)
theorem dX6_catcher_14 : decode cX6_catcher 14 = .ok (.getfield 138, 3) := dk_180 0 138 (dk_at dksX6_catcher_0 14 rfl rfl)
theorem dX6_catcher_17 : decode cX6_catcher 17 = .ok (.irem, 1) := dk_112 (dk_at dksX6_catcher_0 17 rfl rfl)
theorem dX6_catcher_18 : decode cX6_catcher 18 = .ok (.istore_n 3, 1) := dk_62 (dk_at dksX6_catcher_0 18 rfl rfl)
theorem dX6_catcher_19 : decode cX6_catcher 19 = .ok (.aload_n 0, 1) := dk_42 (dk_at dksX6_catcher_0 19 rfl rfl)
theorem dX6_catcher_20 : decode cX6_catcher 20 = .ok (.getfield 81, 3) := dk_180 0 81 (dk_at dksX6_catcher_0 20 rfl rfl)
theorem dX6_catcher_23 : decode cX6_catcher 23 = .ok (.iload_n 3, 1) := dk_29 (dk_at dksX6_catcher_0 23 rfl rfl)
theorem dX6_catcher_24 : decode cX6_catcher 24 = .ok (.iaload, 1) := dk_46 (dk_at dksX6_catcher_1 0 rfl rfl)
theorem dX6_catcher_25 : decode cX6_catcher 25 = .ok (.aload_n 0, 1) := dk_42 (dk_at dksX6_catcher_1 1 rfl rfl)
theorem dX6_catcher_26 : decode cX6_catcher 26 = .ok (.getfield 81, 3) := dk_180 0 81 (dk_at dksX6_catcher_1 2 rfl rfl)
theorem dX6_catcher_29 : decode cX6_catcher 29 = .ok (.iload_n 1, 1) := dk_27 (dk_at dksX6_catcher_1 5 rfl rfl)
theorem dX6_catcher_30 : decode cX6_catcher 30 = .ok (.iaload, 1) := dk_46 (dk_at dksX6_catcher_1 6 rfl rfl)
theorem dX6_catcher_31 : decode cX6_catcher 31 = .ok (.if_icmp .ne 16, 3) := dk_160 0 16 (dk_at dksX6_catcher_1 7 rfl rfl)
theorem dX6_catcher_34 : decode cX6_catcher 34 = .ok (.aload_n 0, 1) := dk_42 (dk_at dksX6_catcher_1 10 rfl rfl)
theorem dX6_catcher_35 : decode cX6_catcher 35 = .ok (.getfield 78, 3) := dk_180 0 78 (dk_at dksX6_catcher_1 11 rfl rfl)
theorem dX6_catcher_38 : decode cX6_catcher 38 = .ok (.iload_n 3, 1) := dk_29 (dk_at dksX6_catcher_1 14 rfl rfl)
theorem dX6_catcher_39 : decode cX6_catcher 39 = .ok (.iaload, 1) := dk_46 (dk_at dksX6_catcher_1 15 rfl rfl)
theorem dX6_catcher_40 : decode cX6_catcher 40 = .ok (.bipush 9, 2) := dk_16 9 (dk_at dksX6_catcher_1 16 rfl rfl)
theorem dX6_catcher_42 : decode cX6_catcher 42 = .ok (.if_icmp .ge 5, 3) := dk_162 0 5 (dk_at dksX6_catcher_1 18 rfl rfl)
theorem dX6_catcher_45 : decode cX6_catcher 45 = .ok (.iload_n 3, 1) := dk_29 (dk_at dksX6_catcher_1 21 rfl rfl)
theorem dX6_catcher_46 : decode cX6_catcher 46 = .ok (.ireturn, 1) := dk_172 (dk_at dksX6_catcher_1 22 rfl rfl)
theorem dX6_catcher_47 : decode cX6_catcher 47 = .ok (.iinc 2 1, 3) := dk_132 2 1 (dk_at dksX6_catcher_2 0 rfl rfl)
theorem dX6_catcher_50 : decode cX6_catcher 50 = .ok (.goto (-48), 3) := dk_167 255 208 (dk_at dksX6_catcher_2 3 rfl rfl)
theorem dX6_catcher_53 : decode cX6_catcher 53 = .ok (.aload_n 0, 1) := dk_42 (dk_at dksX6_catcher_2 6 rfl rfl)
theorem dX6_catcher_54 : decode cX6_catcher 54 = .ok (.getfield 16, 3) := dk_180 0 16 (dk_at dksX6_catcher_2 7 rfl rfl)
theorem dX6_catcher_57 : decode cX6_catcher 57 = .ok (.aload_n 0, 1) := dk_42 (dk_at dksX6_catcher_2 10 rfl rfl)
theorem dX6_catcher_58 : decode cX6_catcher 58 = .ok (.getfield 81, 3) := dk_180 0 81 (dk_at dksX6_catcher_2 11 rfl rfl)
theorem dX6_catcher_61 : decode cX6_catcher 61 = .ok (.iload_n 1, 1) := dk_27 (dk_at dksX6_catcher_2 14 rfl rfl)
theorem dX6_catcher_62 : decode cX6_catcher 62 = .ok (.iaload, 1) := dk_46 (dk_at dksX6_catcher_2 15 rfl rfl)
theorem dX6_catcher_63 : decode cX6_catcher 63 = .ok (.iaload, 1) := dk_46 (dk_at dksX6_catcher_2 16 rfl rfl)
theorem dX6_catcher_64 : decode cX6_catcher 64 = .ok (.istore_n 2, 1) := dk_61 (dk_at dksX6_catcher_2 17 rfl rfl)
theorem dX6_catcher_65 : decode cX6_catcher 65 = .ok (.iload_n 2, 1) := dk_28 (dk_at dksX6_catcher_2 18 rfl rfl)
theorem dX6_catcher_66 : decode cX6_catcher 66 = .ok (.aload_n 0, 1) := dk_42 (dk_at dksX6_catcher_2 19 rfl rfl)
theorem dX6_catcher_67 : decode cX6_catcher 67 = .ok (.getfield 81, 3) := dk_180 0 81 (dk_at dksX6_catcher_2 20 rfl rfl)
theorem dX6_catcher_70 : decode cX6_catcher 70 = .ok (.iload_n 1, 1) := dk_27 (dk_at dksX6_catcher_2 23 rfl rfl)
theorem dX6_catcher_71 : decode cX6_catcher 71 = .ok (.iaload, 1) := dk_46 (dk_at dksX6_catcher_3 0 rfl rfl)
theorem dX6_catcher_72 : decode cX6_catcher 72 = .ok (.if_icmp .eq 11, 3) := dk_159 0 11 (dk_at dksX6_catcher_3 1 rfl rfl)
theorem dX6_catcher_75 : decode cX6_catcher 75 = .ok (.aload_n 0, 1) := dk_42 (dk_at dksX6_catcher_3 4 rfl rfl)
theorem dX6_catcher_76 : decode cX6_catcher 76 = .ok (.iload_n 2, 1) := dk_28 (dk_at dksX6_catcher_3 5 rfl rfl)
theorem dX6_catcher_77 : decode cX6_catcher 77 = .ok (.invokevirtual 144, 3) := dk_182 0 144 (dk_at dksX6_catcher_3 6 rfl rfl)
theorem dX6_catcher_80 : decode cX6_catcher 80 = .ok (.ifCond .ne 5, 3) := dk_154 0 5 (dk_at dksX6_catcher_3 9 rfl rfl)
theorem dX6_catcher_83 : decode cX6_catcher 83 = .ok (.iconst (-1), 1) := dk_2 (dk_at dksX6_catcher_3 12 rfl rfl)
theorem dX6_catcher_84 : decode cX6_catcher 84 = .ok (.ireturn, 1) := dk_172 (dk_at dksX6_catcher_3 13 rfl rfl)
theorem dX6_catcher_85 : decode cX6_catcher 85 = .ok (.iconst 0, 1) := dk_3 (dk_at dksX6_catcher_3 14 rfl rfl)
theorem dX6_catcher_86 : decode cX6_catcher 86 = .ok (.istore_n 3, 1) := dk_62 (dk_at dksX6_catcher_3 15 rfl rfl)
theorem dX6_catcher_87 : decode cX6_catcher 87 = .ok (.iload_n 3, 1) := dk_29 (dk_at dksX6_catcher_3 16 rfl rfl)
theorem dX6_catcher_88 : decode cX6_catcher 88 = .ok (.aload_n 0, 1) := dk_42 (dk_at dksX6_catcher_3 17 rfl rfl)
theorem dX6_catcher_89 : decode cX6_catcher 89 = .ok (.getfield 138, 3) := dk_180 0 138 (dk_at dksX6_catcher_3 18 rfl rfl)
theorem dX6_catcher_92 : decode cX6_catcher 92 = .ok (.if_icmp .ge 32, 3) := dk_162 0 32 (dk_at dksX6_catcher_3 21 rfl rfl)
theorem dX6_catcher_95 : decode cX6_catcher 95 = .ok (.aload_n 0, 1) := dk_42 (dk_at dksX6_catcher_4 0 rfl rfl)
theorem dX6_catcher_96 : decode cX6_catcher 96 = .ok (.getfield 81, 3) := dk_180 0 81 (dk_at dksX6_catcher_4 1 rfl rfl)
theorem dX6_catcher_99 : decode cX6_catcher 99 = .ok (.iload_n 3, 1) := dk_29 (dk_at dksX6_catcher_4 4 rfl rfl)
theorem dX6_catcher_100 : decode cX6_catcher 100 = .ok (.iaload, 1) := dk_46 (dk_at dksX6_catcher_4 5 rfl rfl)
theorem dX6_catcher_101 : decode cX6_catcher 101 = .ok (.iload_n 2, 1) := dk_28 (dk_at dksX6_catcher_4 6 rfl rfl)
theorem dX6_catcher_102 : decode cX6_catcher 102 = .ok (.if_icmp .ne 16, 3) := dk_160 0 16 (dk_at dksX6_catcher_4 7 rfl rfl)
theorem dX6_catcher_105 : decode cX6_catcher 105 = .ok (.aload_n 0, 1) := dk_42 (dk_at dksX6_catcher_4 10 rfl rfl)
theorem dX6_catcher_106 : decode cX6_catcher 106 = .ok (.getfield 78, 3) := dk_180 0 78 (dk_at dksX6_catcher_4 11 rfl rfl)
theorem dX6_catcher_109 : decode cX6_catcher 109 = .ok (.iload_n 3, 1) := dk_29 (dk_at dksX6_catcher_4 14 rfl rfl)
theorem dX6_catcher_110 : decode cX6_catcher 110 = .ok (.iaload, 1) := dk_46 (dk_at dksX6_catcher_4 15 rfl rfl)
theorem dX6_catcher_111 : decode cX6_catcher 111 = .ok (.bipush 9, 2) := dk_16 9 (dk_at dksX6_catcher_4 16 rfl rfl)
theorem dX6_catcher_113 : decode cX6_catcher 113 = .ok (.if_icmp .ge 5, 3) := dk_162 0 5 (dk_at dksX6_catcher_4 18 rfl rfl)
theorem dX6_catcher_116 : decode cX6_catcher 116 = .ok (.iload_n 3, 1) := dk_29 (dk_at dksX6_catcher_4 21 rfl rfl)
theorem dX6_catcher_117 : decode cX6_catcher 117 = .ok (.ireturn, 1) := dk_172 (dk_at dksX6_catcher_4 22 rfl rfl)
theorem dX6_catcher_118 : decode cX6_catcher 118 = .ok (.iinc 3 1, 3) := dk_132 3 1 (dk_at dksX6_catcher_5 0 rfl rfl)
theorem dX6_catcher_121 : decode cX6_catcher 121 = .ok (.goto (-34), 3) := dk_167 255 222 (dk_at dksX6_catcher_5 3 rfl rfl)
theorem dX6_catcher_124 : decode cX6_catcher 124 = .ok (.iconst (-1), 1) := dk_2 (dk_at dksX6_catcher_5 6 rfl rfl)
theorem dX6_catcher_125 : decode cX6_catcher 125 = .ok (.ireturn, 1) := dk_172 (dk_at dksX6_catcher_5 7 rfl rfl)
abbrev cX6_move : ByteArray := prog_26_method_50_code
def yX6_move : MethodName := ⟨RX6, "move", "(II)I"⟩
def dkwX6_move_1 : List UInt8 := [46, 28, 182, 0, 148, 154, 0, 6, 16, 254, 172, 42, 180, 0, 34, 27, 28, 79, 28, 172]
abbrev dktX6_move_1 : List UInt8 := dkwX6_move_1 ++ []
def dkwX6_move_0 : List UInt8 := [42, 27, 182, 0, 175, 153, 0, 11, 42, 28, 182, 0, 144, 154, 0, 5, 2, 172, 42, 42, 180, 0, 34, 27]
abbrev dktX6_move_0 : List UInt8 := dkwX6_move_0 ++ dktX6_move_1
theorem dksX6_move_0 : cX6_move.data.toList.drop 0 = dktX6_move_0 := by decide +kernel
theorem dksX6_move_1 : cX6_move.data.toList.drop 24 = dktX6_move_1 := dk_seg dksX6_move_0 24 rfl rfl
theorem dX6_move_0 : decode cX6_move 0 = .ok (.aload_n 0, 1) := dk_42 (dk_at dksX6_move_0 0 rfl rfl)
theorem dX6_move_1 : decode cX6_move 1 = .ok (.iload_n 1, 1) := dk_27 (dk_at dksX6_move_0 1 rfl rfl)
theorem dX6_move_2 : decode cX6_move 2 = .ok (.invokevirtual 175, 3) := dk_182 0 175 (dk_at dksX6_move_0 2 rfl rfl)
theorem dX6_move_5 : decode cX6_move 5 = .ok (.ifCond .eq 11, 3) := dk_153 0 11 (dk_at dksX6_move_0 5 rfl rfl)
theorem dX6_move_8 : decode cX6_move 8 = .ok (.aload_n 0, 1) := dk_42 (dk_at dksX6_move_0 8 rfl rfl)
theorem dX6_move_9 : decode cX6_move 9 = .ok (.iload_n 2, 1) := dk_28 (dk_at dksX6_move_0 9 rfl rfl)
theorem dX6_move_10 : decode cX6_move 10 = .ok (.invokevirtual 144, 3) := dk_182 0 144 (dk_at dksX6_move_0 10 rfl rfl)
theorem dX6_move_13 : decode cX6_move 13 = .ok (.ifCond .ne 5, 3) := dk_154 0 5 (dk_at dksX6_move_0 13 rfl rfl)
theorem dX6_move_16 : decode cX6_move 16 = .ok (.iconst (-1), 1) := dk_2 (dk_at dksX6_move_0 16 rfl rfl)
theorem dX6_move_17 : decode cX6_move 17 = .ok (.ireturn, 1) := dk_172 (dk_at dksX6_move_0 17 rfl rfl)
theorem dX6_move_18 : decode cX6_move 18 = .ok (.aload_n 0, 1) := dk_42 (dk_at dksX6_move_0 18 rfl rfl)
theorem dX6_move_19 : decode cX6_move 19 = .ok (.aload_n 0, 1) := dk_42 (dk_at dksX6_move_0 19 rfl rfl)
theorem dX6_move_20 : decode cX6_move 20 = .ok (.getfield 34, 3) := dk_180 0 34 (dk_at dksX6_move_0 20 rfl rfl)
theorem dX6_move_23 : decode cX6_move 23 = .ok (.iload_n 1, 1) := dk_27 (dk_at dksX6_move_0 23 rfl rfl)
theorem dX6_move_24 : decode cX6_move 24 = .ok (.iaload, 1) := dk_46 (dk_at dksX6_move_1 0 rfl rfl)
theorem dX6_move_25 : decode cX6_move 25 = .ok (.iload_n 2, 1) := dk_28 (dk_at dksX6_move_1 1 rfl rfl)
theorem dX6_move_26 : decode cX6_move 26 = .ok (.invokevirtual 148, 3) := dk_182 0 148 (dk_at dksX6_move_1 2 rfl rfl)
theorem dX6_move_29 : decode cX6_move 29 = .ok (.ifCond .ne 6, 3) := dk_154 0 6 (dk_at dksX6_move_1 5 rfl rfl)
theorem dX6_move_32 : decode cX6_move 32 = .ok (.bipush (-2), 2) := dk_16 254 (dk_at dksX6_move_1 8 rfl rfl)
theorem dX6_move_34 : decode cX6_move 34 = .ok (.ireturn, 1) := dk_172 (dk_at dksX6_move_1 10 rfl rfl)
theorem dX6_move_35 : decode cX6_move 35 = .ok (.aload_n 0, 1) := dk_42 (dk_at dksX6_move_1 11 rfl rfl)
theorem dX6_move_36 : decode cX6_move 36 = .ok (.getfield 34, 3) := dk_180 0 34 (dk_at dksX6_move_1 12 rfl rfl)
theorem dX6_move_39 : decode cX6_move 39 = .ok (.iload_n 1, 1) := dk_27 (dk_at dksX6_move_1 15 rfl rfl)
theorem dX6_move_40 : decode cX6_move 40 = .ok (.iload_n 2, 1) := dk_28 (dk_at dksX6_move_1 16 rfl rfl)
theorem dX6_move_41 : decode cX6_move 41 = .ok (.iastore, 1) := dk_79 (dk_at dksX6_move_1 17 rfl rfl)
theorem dX6_move_42 : decode cX6_move 42 = .ok (.iload_n 2, 1) := dk_28 (dk_at dksX6_move_1 18 rfl rfl)
theorem dX6_move_43 : decode cX6_move 43 = .ok (.ireturn, 1) := dk_172 (dk_at dksX6_move_1 19 rfl rfl)
abbrev cX6_lay : ByteArray := prog_26_method_51_code
def yX6_lay : MethodName := ⟨RX6, "lay", "(I)I"⟩
def dkwX6_lay_1 : List UInt8 := [42, 180, 0, 19, 27, 92, 46, 4, 96, 79, 42, 180, 0, 19, 27, 46, 172]
abbrev dktX6_lay_1 : List UInt8 := dkwX6_lay_1 ++ []
def dkwX6_lay_0 : List UInt8 := [42, 27, 182, 0, 144, 154, 0, 5, 2, 172, 42, 180, 0, 19, 27, 46, 16, 99, 161, 0, 6, 16, 253, 172]
abbrev dktX6_lay_0 : List UInt8 := dkwX6_lay_0 ++ dktX6_lay_1
theorem dksX6_lay_0 : cX6_lay.data.toList.drop 0 = dktX6_lay_0 := by decide +kernel
theorem dksX6_lay_1 : cX6_lay.data.toList.drop 24 = dktX6_lay_1 := dk_seg dksX6_lay_0 24 rfl rfl
theorem dX6_lay_0 : decode cX6_lay 0 = .ok (.aload_n 0, 1) := dk_42 (dk_at dksX6_lay_0 0 rfl rfl)
theorem dX6_lay_1 : decode cX6_lay 1 = .ok (.iload_n 1, 1) := dk_27 (dk_at dksX6_lay_0 1 rfl rfl)
theorem dX6_lay_2 : decode cX6_lay 2 = .ok (.invokevirtual 144, 3) := dk_182 0 144 (dk_at dksX6_lay_0 2 rfl rfl)
theorem dX6_lay_5 : decode cX6_lay 5 = .ok (.ifCond .ne 5, 3) := dk_154 0 5 (dk_at dksX6_lay_0 5 rfl rfl)
theorem dX6_lay_8 : decode cX6_lay 8 = .ok (.iconst (-1), 1) := dk_2 (dk_at dksX6_lay_0 8 rfl rfl)
theorem dX6_lay_9 : decode cX6_lay 9 = .ok (.ireturn, 1) := dk_172 (dk_at dksX6_lay_0 9 rfl rfl)
theorem dX6_lay_10 : decode cX6_lay 10 = .ok (.aload_n 0, 1) := dk_42 (dk_at dksX6_lay_0 10 rfl rfl)
theorem dX6_lay_11 : decode cX6_lay 11 = .ok (.getfield 19, 3) := dk_180 0 19 (dk_at dksX6_lay_0 11 rfl rfl)
theorem dX6_lay_14 : decode cX6_lay 14 = .ok (.iload_n 1, 1) := dk_27 (dk_at dksX6_lay_0 14 rfl rfl)
theorem dX6_lay_15 : decode cX6_lay 15 = .ok (.iaload, 1) := dk_46 (dk_at dksX6_lay_0 15 rfl rfl)
theorem dX6_lay_16 : decode cX6_lay 16 = .ok (.bipush 99, 2) := dk_16 99 (dk_at dksX6_lay_0 16 rfl rfl)
theorem dX6_lay_18 : decode cX6_lay 18 = .ok (.if_icmp .lt 6, 3) := dk_161 0 6 (dk_at dksX6_lay_0 18 rfl rfl)
theorem dX6_lay_21 : decode cX6_lay 21 = .ok (.bipush (-3), 2) := dk_16 253 (dk_at dksX6_lay_0 21 rfl rfl)
theorem dX6_lay_23 : decode cX6_lay 23 = .ok (.ireturn, 1) := dk_172 (dk_at dksX6_lay_0 23 rfl rfl)
theorem dX6_lay_24 : decode cX6_lay 24 = .ok (.aload_n 0, 1) := dk_42 (dk_at dksX6_lay_1 0 rfl rfl)
theorem dX6_lay_25 : decode cX6_lay 25 = .ok (.getfield 19, 3) := dk_180 0 19 (dk_at dksX6_lay_1 1 rfl rfl)
theorem dX6_lay_28 : decode cX6_lay 28 = .ok (.iload_n 1, 1) := dk_27 (dk_at dksX6_lay_1 4 rfl rfl)
theorem dX6_lay_29 : decode cX6_lay 29 = .ok (.dup2, 1) := dk_92 (dk_at dksX6_lay_1 5 rfl rfl)
theorem dX6_lay_30 : decode cX6_lay 30 = .ok (.iaload, 1) := dk_46 (dk_at dksX6_lay_1 6 rfl rfl)
theorem dX6_lay_31 : decode cX6_lay 31 = .ok (.iconst 1, 1) := dk_4 (dk_at dksX6_lay_1 7 rfl rfl)
theorem dX6_lay_32 : decode cX6_lay 32 = .ok (.iadd, 1) := dk_96 (dk_at dksX6_lay_1 8 rfl rfl)
theorem dX6_lay_33 : decode cX6_lay 33 = .ok (.iastore, 1) := dk_79 (dk_at dksX6_lay_1 9 rfl rfl)
theorem dX6_lay_34 : decode cX6_lay 34 = .ok (.aload_n 0, 1) := dk_42 (dk_at dksX6_lay_1 10 rfl rfl)
theorem dX6_lay_35 : decode cX6_lay 35 = .ok (.getfield 19, 3) := dk_180 0 19 (dk_at dksX6_lay_1 11 rfl rfl)
theorem dX6_lay_38 : decode cX6_lay 38 = .ok (.iload_n 1, 1) := dk_27 (dk_at dksX6_lay_1 14 rfl rfl)
theorem dX6_lay_39 : decode cX6_lay 39 = .ok (.iaload, 1) := dk_46 (dk_at dksX6_lay_1 15 rfl rfl)
theorem dX6_lay_40 : decode cX6_lay 40 = .ok (.ireturn, 1) := dk_172 (dk_at dksX6_lay_1 16 rfl rfl)
abbrev cX6_commands : ByteArray := prog_26_method_52_code
def yX6_commands : MethodName := ⟨RX6, "commands", "()I"⟩
def dkwX6_commands_0 : List UInt8 := [42, 180, 0, 138, 154, 0, 8, 16, 251, 167, 0, 11, 42, 42, 180, 0, 28, 182, 1, 42, 172]
abbrev dktX6_commands_0 : List UInt8 := dkwX6_commands_0 ++ []
theorem dksX6_commands_0 : cX6_commands.data.toList.drop 0 = dktX6_commands_0 := by decide +kernel
theorem dX6_commands_0 : decode cX6_commands 0 = .ok (.aload_n 0, 1) := dk_42 (dk_at dksX6_commands_0 0 rfl rfl)
theorem dX6_commands_1 : decode cX6_commands 1 = .ok (.getfield 138, 3) := dk_180 0 138 (dk_at dksX6_commands_0 1 rfl rfl)
theorem dX6_commands_4 : decode cX6_commands 4 = .ok (.ifCond .ne 8, 3) := dk_154 0 8 (dk_at dksX6_commands_0 4 rfl rfl)
theorem dX6_commands_7 : decode cX6_commands 7 = .ok (.bipush (-5), 2) := dk_16 251 (dk_at dksX6_commands_0 7 rfl rfl)
theorem dX6_commands_9 : decode cX6_commands 9 = .ok (.goto 11, 3) := dk_167 0 11 (dk_at dksX6_commands_0 9 rfl rfl)
theorem dX6_commands_12 : decode cX6_commands 12 = .ok (.aload_n 0, 1) := dk_42 (dk_at dksX6_commands_0 12 rfl rfl)
theorem dX6_commands_13 : decode cX6_commands 13 = .ok (.aload_n 0, 1) := dk_42 (dk_at dksX6_commands_0 13 rfl rfl)
theorem dX6_commands_14 : decode cX6_commands 14 = .ok (.getfield 28, 3) := dk_180 0 28 (dk_at dksX6_commands_0 14 rfl rfl)
theorem dX6_commands_17 : decode cX6_commands 17 = .ok (.invokevirtual 298, 3) := dk_182 1 42 (dk_at dksX6_commands_0 17 rfl rfl)
theorem dX6_commands_20 : decode cX6_commands 20 = .ok (.ireturn, 1) := dk_172 (dk_at dksX6_commands_0 20 rfl rfl)
abbrev cX6_firstOf : ByteArray := prog_26_method_43_code
def yX6_firstOf : MethodName := ⟨RX6, "firstOf", "([I)I"⟩
def dkwX6_firstOf_1 : List UInt8 := [167, 255, 234, 2, 172]
abbrev dktX6_firstOf_1 : List UInt8 := dkwX6_firstOf_1 ++ []
def dkwX6_firstOf_0 : List UInt8 := [3, 61, 28, 42, 180, 0, 138, 162, 0, 20, 42, 28, 43, 182, 1, 12, 154, 0, 5, 28, 172, 132, 2, 1]
abbrev dktX6_firstOf_0 : List UInt8 := dkwX6_firstOf_0 ++ dktX6_firstOf_1
theorem dksX6_firstOf_0 : cX6_firstOf.data.toList.drop 0 = dktX6_firstOf_0 := by decide +kernel
theorem dksX6_firstOf_1 : cX6_firstOf.data.toList.drop 24 = dktX6_firstOf_1 := dk_seg dksX6_firstOf_0 24 rfl rfl
theorem dX6_firstOf_0 : decode cX6_firstOf 0 = .ok (.iconst 0, 1) := dk_3 (dk_at dksX6_firstOf_0 0 rfl rfl)
theorem dX6_firstOf_1 : decode cX6_firstOf 1 = .ok (.istore_n 2, 1) := dk_61 (dk_at dksX6_firstOf_0 1 rfl rfl)
theorem dX6_firstOf_2 : decode cX6_firstOf 2 = .ok (.iload_n 2, 1) := dk_28 (dk_at dksX6_firstOf_0 2 rfl rfl)
theorem dX6_firstOf_3 : decode cX6_firstOf 3 = .ok (.aload_n 0, 1) := dk_42 (dk_at dksX6_firstOf_0 3 rfl rfl)
theorem dX6_firstOf_4 : decode cX6_firstOf 4 = .ok (.getfield 138, 3) := dk_180 0 138 (dk_at dksX6_firstOf_0 4 rfl rfl)
theorem dX6_firstOf_7 : decode cX6_firstOf 7 = .ok (.if_icmp .ge 20, 3) := dk_162 0 20 (dk_at dksX6_firstOf_0 7 rfl rfl)
theorem dX6_firstOf_10 : decode cX6_firstOf 10 = .ok (.aload_n 0, 1) := dk_42 (dk_at dksX6_firstOf_0 10 rfl rfl)
theorem dX6_firstOf_11 : decode cX6_firstOf 11 = .ok (.iload_n 2, 1) := dk_28 (dk_at dksX6_firstOf_0 11 rfl rfl)
theorem dX6_firstOf_12 : decode cX6_firstOf 12 = .ok (.aload_n 1, 1) := dk_43 (dk_at dksX6_firstOf_0 12 rfl rfl)
theorem dX6_firstOf_13 : decode cX6_firstOf 13 = .ok (.invokevirtual 268, 3) := dk_182 1 12 (dk_at dksX6_firstOf_0 13 rfl rfl)
theorem dX6_firstOf_16 : decode cX6_firstOf 16 = .ok (.ifCond .ne 5, 3) := dk_154 0 5 (dk_at dksX6_firstOf_0 16 rfl rfl)
theorem dX6_firstOf_19 : decode cX6_firstOf 19 = .ok (.iload_n 2, 1) := dk_28 (dk_at dksX6_firstOf_0 19 rfl rfl)
theorem dX6_firstOf_20 : decode cX6_firstOf 20 = .ok (.ireturn, 1) := dk_172 (dk_at dksX6_firstOf_0 20 rfl rfl)
theorem dX6_firstOf_21 : decode cX6_firstOf 21 = .ok (.iinc 2 1, 3) := dk_132 2 1 (dk_at dksX6_firstOf_0 21 rfl rfl)
theorem dX6_firstOf_24 : decode cX6_firstOf 24 = .ok (.goto (-22), 3) := dk_167 255 234 (dk_at dksX6_firstOf_1 0 rfl rfl)
theorem dX6_firstOf_27 : decode cX6_firstOf 27 = .ok (.iconst (-1), 1) := dk_2 (dk_at dksX6_firstOf_1 3 rfl rfl)
theorem dX6_firstOf_28 : decode cX6_firstOf 28 = .ok (.ireturn, 1) := dk_172 (dk_at dksX6_firstOf_1 4 rfl rfl)
abbrev cX6_led : ByteArray := prog_26_method_53_code
def yX6_led : MethodName := ⟨RX6, "led", "(I)I"⟩
def dkwX6_led_1 : List UInt8 := [167, 0, 9, 42, 180, 0, 37, 27, 46, 172]
abbrev dktX6_led_1 : List UInt8 := dkwX6_led_1 ++ []
def dkwX6_led_0 : List UInt8 := [42, 27, 182, 0, 175, 154, 0, 5, 2, 172, 42, 180, 0, 37, 27, 46, 16, 253, 160, 0, 8, 16, 251]
abbrev dktX6_led_0 : List UInt8 := dkwX6_led_0 ++ dktX6_led_1
theorem dksX6_led_0 : cX6_led.data.toList.drop 0 = dktX6_led_0 := by decide +kernel
theorem dksX6_led_1 : cX6_led.data.toList.drop 23 = dktX6_led_1 := dk_seg dksX6_led_0 23 rfl rfl
theorem dX6_led_0 : decode cX6_led 0 = .ok (.aload_n 0, 1) := dk_42 (dk_at dksX6_led_0 0 rfl rfl)
theorem dX6_led_1 : decode cX6_led 1 = .ok (.iload_n 1, 1) := dk_27 (dk_at dksX6_led_0 1 rfl rfl)
theorem dX6_led_2 : decode cX6_led 2 = .ok (.invokevirtual 175, 3) := dk_182 0 175 (dk_at dksX6_led_0 2 rfl rfl)
theorem dX6_led_5 : decode cX6_led 5 = .ok (.ifCond .ne 5, 3) := dk_154 0 5 (dk_at dksX6_led_0 5 rfl rfl)
theorem dX6_led_8 : decode cX6_led 8 = .ok (.iconst (-1), 1) := dk_2 (dk_at dksX6_led_0 8 rfl rfl)
theorem dX6_led_9 : decode cX6_led 9 = .ok (.ireturn, 1) := dk_172 (dk_at dksX6_led_0 9 rfl rfl)
theorem dX6_led_10 : decode cX6_led 10 = .ok (.aload_n 0, 1) := dk_42 (dk_at dksX6_led_0 10 rfl rfl)
theorem dX6_led_11 : decode cX6_led 11 = .ok (.getfield 37, 3) := dk_180 0 37 (dk_at dksX6_led_0 11 rfl rfl)
theorem dX6_led_14 : decode cX6_led 14 = .ok (.iload_n 1, 1) := dk_27 (dk_at dksX6_led_0 14 rfl rfl)
theorem dX6_led_15 : decode cX6_led 15 = .ok (.iaload, 1) := dk_46 (dk_at dksX6_led_0 15 rfl rfl)
theorem dX6_led_16 : decode cX6_led 16 = .ok (.bipush (-3), 2) := dk_16 253 (dk_at dksX6_led_0 16 rfl rfl)
theorem dX6_led_18 : decode cX6_led 18 = .ok (.if_icmp .ne 8, 3) := dk_160 0 8 (dk_at dksX6_led_0 18 rfl rfl)
theorem dX6_led_21 : decode cX6_led 21 = .ok (.bipush (-5), 2) := dk_16 251 (dk_at dksX6_led_0 21 rfl rfl)
theorem dX6_led_23 : decode cX6_led 23 = .ok (.goto 9, 3) := dk_167 0 9 (dk_at dksX6_led_1 0 rfl rfl)
theorem dX6_led_26 : decode cX6_led 26 = .ok (.aload_n 0, 1) := dk_42 (dk_at dksX6_led_1 3 rfl rfl)
theorem dX6_led_27 : decode cX6_led 27 = .ok (.getfield 37, 3) := dk_180 0 37 (dk_at dksX6_led_1 4 rfl rfl)
theorem dX6_led_30 : decode cX6_led 30 = .ok (.iload_n 1, 1) := dk_27 (dk_at dksX6_led_1 7 rfl rfl)
theorem dX6_led_31 : decode cX6_led 31 = .ok (.iaload, 1) := dk_46 (dk_at dksX6_led_1 8 rfl rfl)
theorem dX6_led_32 : decode cX6_led 32 = .ok (.ireturn, 1) := dk_172 (dk_at dksX6_led_1 9 rfl rfl)
abbrev cX6_risk : ByteArray := prog_26_method_57_code
def yX6_risk : MethodName := ⟨RX6, "risk", "(II)I"⟩
def dkwX6_risk_2 : List UInt8 := [160, 0, 8, 16, 254, 167, 0, 4, 29, 172]
abbrev dktX6_risk_2 : List UInt8 := dkwX6_risk_2 ++ []
def dkwX6_risk_1 : List UInt8 := [42, 180, 0, 90, 16, 7, 42, 180, 1, 16, 104, 42, 180, 0, 34, 27, 46, 96, 46, 62, 29, 19, 1, 46]
abbrev dktX6_risk_1 : List UInt8 := dkwX6_risk_1 ++ dktX6_risk_2
def dkwX6_risk_0 : List UInt8 := [42, 27, 28, 182, 1, 50, 154, 0, 5, 2, 172, 42, 27, 28, 16, 100, 108, 28, 16, 100, 112, 182, 1, 53]
abbrev dktX6_risk_0 : List UInt8 := dkwX6_risk_0 ++ dktX6_risk_1
theorem dksX6_risk_0 : cX6_risk.data.toList.drop 0 = dktX6_risk_0 := by decide +kernel
theorem dksX6_risk_1 : cX6_risk.data.toList.drop 24 = dktX6_risk_1 := dk_seg dksX6_risk_0 24 rfl rfl
theorem dksX6_risk_2 : cX6_risk.data.toList.drop 48 = dktX6_risk_2 := dk_seg dksX6_risk_1 24 rfl rfl
theorem dX6_risk_0 : decode cX6_risk 0 = .ok (.aload_n 0, 1) := dk_42 (dk_at dksX6_risk_0 0 rfl rfl)
theorem dX6_risk_1 : decode cX6_risk 1 = .ok (.iload_n 1, 1) := dk_27 (dk_at dksX6_risk_0 1 rfl rfl)
theorem dX6_risk_2 : decode cX6_risk 2 = .ok (.iload_n 2, 1) := dk_28 (dk_at dksX6_risk_0 2 rfl rfl)
theorem dX6_risk_3 : decode cX6_risk 3 = .ok (.invokevirtual 306, 3) := dk_182 1 50 (dk_at dksX6_risk_0 3 rfl rfl)
theorem dX6_risk_6 : decode cX6_risk 6 = .ok (.ifCond .ne 5, 3) := dk_154 0 5 (dk_at dksX6_risk_0 6 rfl rfl)
theorem dX6_risk_9 : decode cX6_risk 9 = .ok (.iconst (-1), 1) := dk_2 (dk_at dksX6_risk_0 9 rfl rfl)
theorem dX6_risk_10 : decode cX6_risk 10 = .ok (.ireturn, 1) := dk_172 (dk_at dksX6_risk_0 10 rfl rfl)
theorem dX6_risk_11 : decode cX6_risk 11 = .ok (.aload_n 0, 1) := dk_42 (dk_at dksX6_risk_0 11 rfl rfl)
theorem dX6_risk_12 : decode cX6_risk 12 = .ok (.iload_n 1, 1) := dk_27 (dk_at dksX6_risk_0 12 rfl rfl)
theorem dX6_risk_13 : decode cX6_risk 13 = .ok (.iload_n 2, 1) := dk_28 (dk_at dksX6_risk_0 13 rfl rfl)
theorem dX6_risk_14 : decode cX6_risk 14 = .ok (.bipush 100, 2) := dk_16 100 (dk_at dksX6_risk_0 14 rfl rfl)
theorem dX6_risk_16 : decode cX6_risk 16 = .ok (.idiv, 1) := dk_108 (dk_at dksX6_risk_0 16 rfl rfl)
theorem dX6_risk_17 : decode cX6_risk 17 = .ok (.iload_n 2, 1) := dk_28 (dk_at dksX6_risk_0 17 rfl rfl)
theorem dX6_risk_18 : decode cX6_risk 18 = .ok (.bipush 100, 2) := dk_16 100 (dk_at dksX6_risk_0 18 rfl rfl)
theorem dX6_risk_20 : decode cX6_risk 20 = .ok (.irem, 1) := dk_112 (dk_at dksX6_risk_0 20 rfl rfl)
theorem dX6_risk_21 : decode cX6_risk 21 = .ok (.invokevirtual 309, 3) := dk_182 1 53 (dk_at dksX6_risk_0 21 rfl rfl)
theorem dX6_risk_24 : decode cX6_risk 24 = .ok (.aload_n 0, 1) := dk_42 (dk_at dksX6_risk_1 0 rfl rfl)
theorem dX6_risk_25 : decode cX6_risk 25 = .ok (.getfield 90, 3) := dk_180 0 90 (dk_at dksX6_risk_1 1 rfl rfl)
theorem dX6_risk_28 : decode cX6_risk 28 = .ok (.bipush 7, 2) := dk_16 7 (dk_at dksX6_risk_1 4 rfl rfl)
theorem dX6_risk_30 : decode cX6_risk 30 = .ok (.aload_n 0, 1) := dk_42 (dk_at dksX6_risk_1 6 rfl rfl)
theorem dX6_risk_31 : decode cX6_risk 31 = .ok (.getfield 272, 3) := dk_180 1 16 (dk_at dksX6_risk_1 7 rfl rfl)
theorem dX6_risk_34 : decode cX6_risk 34 = .ok (.imul, 1) := dk_104 (dk_at dksX6_risk_1 10 rfl rfl)
theorem dX6_risk_35 : decode cX6_risk 35 = .ok (.aload_n 0, 1) := dk_42 (dk_at dksX6_risk_1 11 rfl rfl)
theorem dX6_risk_36 : decode cX6_risk 36 = .ok (.getfield 34, 3) := dk_180 0 34 (dk_at dksX6_risk_1 12 rfl rfl)
theorem dX6_risk_39 : decode cX6_risk 39 = .ok (.iload_n 1, 1) := dk_27 (dk_at dksX6_risk_1 15 rfl rfl)
theorem dX6_risk_40 : decode cX6_risk 40 = .ok (.iaload, 1) := dk_46 (dk_at dksX6_risk_1 16 rfl rfl)
theorem dX6_risk_41 : decode cX6_risk 41 = .ok (.iadd, 1) := dk_96 (dk_at dksX6_risk_1 17 rfl rfl)
theorem dX6_risk_42 : decode cX6_risk 42 = .ok (.iaload, 1) := dk_46 (dk_at dksX6_risk_1 18 rfl rfl)
theorem dX6_risk_43 : decode cX6_risk 43 = .ok (.istore_n 3, 1) := dk_62 (dk_at dksX6_risk_1 19 rfl rfl)
theorem dX6_risk_44 : decode cX6_risk 44 = .ok (.iload_n 3, 1) := dk_29 (dk_at dksX6_risk_1 20 rfl rfl)
theorem dX6_risk_45 : decode cX6_risk 45 = .ok (.ldc_w 302, 3) := dk_19 1 46 (dk_at dksX6_risk_1 21 rfl rfl)
theorem dX6_risk_48 : decode cX6_risk 48 = .ok (.if_icmp .ne 8, 3) := dk_160 0 8 (dk_at dksX6_risk_2 0 rfl rfl)
theorem dX6_risk_51 : decode cX6_risk 51 = .ok (.bipush (-2), 2) := dk_16 254 (dk_at dksX6_risk_2 3 rfl rfl)
theorem dX6_risk_53 : decode cX6_risk 53 = .ok (.goto 4, 3) := dk_167 0 4 (dk_at dksX6_risk_2 5 rfl rfl)
theorem dX6_risk_56 : decode cX6_risk 56 = .ok (.iload_n 3, 1) := dk_29 (dk_at dksX6_risk_2 8 rfl rfl)
theorem dX6_risk_57 : decode cX6_risk 57 = .ok (.ireturn, 1) := dk_172 (dk_at dksX6_risk_2 9 rfl rfl)
abbrev cX6_isWalk : ByteArray := prog_26_method_56_code
def yX6_isWalk : MethodName := ⟨RX6, "isWalk", "(II)Z"⟩
def dkwX6_isWalk_1 : List UInt8 := [16, 100, 112, 42, 180, 1, 16, 16, 23, 184, 0, 134, 153, 0, 7, 4, 167, 0, 4, 3, 172]
abbrev dktX6_isWalk_1 : List UInt8 := dkwX6_isWalk_1 ++ []
def dkwX6_isWalk_0 : List UInt8 := [28, 155, 0, 42, 42, 27, 182, 0, 175, 153, 0, 34, 42, 28, 16, 100, 108, 182, 0, 144, 153, 0, 23, 28]
abbrev dktX6_isWalk_0 : List UInt8 := dkwX6_isWalk_0 ++ dktX6_isWalk_1
theorem dksX6_isWalk_0 : cX6_isWalk.data.toList.drop 0 = dktX6_isWalk_0 := by decide +kernel
theorem dksX6_isWalk_1 : cX6_isWalk.data.toList.drop 24 = dktX6_isWalk_1 := dk_seg dksX6_isWalk_0 24 rfl rfl
theorem dX6_isWalk_0 : decode cX6_isWalk 0 = .ok (.iload_n 2, 1) := dk_28 (dk_at dksX6_isWalk_0 0 rfl rfl)
theorem dX6_isWalk_1 : decode cX6_isWalk 1 = .ok (.ifCond .lt 42, 3) := dk_155 0 42 (dk_at dksX6_isWalk_0 1 rfl rfl)
theorem dX6_isWalk_4 : decode cX6_isWalk 4 = .ok (.aload_n 0, 1) := dk_42 (dk_at dksX6_isWalk_0 4 rfl rfl)
theorem dX6_isWalk_5 : decode cX6_isWalk 5 = .ok (.iload_n 1, 1) := dk_27 (dk_at dksX6_isWalk_0 5 rfl rfl)
theorem dX6_isWalk_6 : decode cX6_isWalk 6 = .ok (.invokevirtual 175, 3) := dk_182 0 175 (dk_at dksX6_isWalk_0 6 rfl rfl)
theorem dX6_isWalk_9 : decode cX6_isWalk 9 = .ok (.ifCond .eq 34, 3) := dk_153 0 34 (dk_at dksX6_isWalk_0 9 rfl rfl)
theorem dX6_isWalk_12 : decode cX6_isWalk 12 = .ok (.aload_n 0, 1) := dk_42 (dk_at dksX6_isWalk_0 12 rfl rfl)
theorem dX6_isWalk_13 : decode cX6_isWalk 13 = .ok (.iload_n 2, 1) := dk_28 (dk_at dksX6_isWalk_0 13 rfl rfl)
theorem dX6_isWalk_14 : decode cX6_isWalk 14 = .ok (.bipush 100, 2) := dk_16 100 (dk_at dksX6_isWalk_0 14 rfl rfl)
theorem dX6_isWalk_16 : decode cX6_isWalk 16 = .ok (.idiv, 1) := dk_108 (dk_at dksX6_isWalk_0 16 rfl rfl)
theorem dX6_isWalk_17 : decode cX6_isWalk 17 = .ok (.invokevirtual 144, 3) := dk_182 0 144 (dk_at dksX6_isWalk_0 17 rfl rfl)
theorem dX6_isWalk_20 : decode cX6_isWalk 20 = .ok (.ifCond .eq 23, 3) := dk_153 0 23 (dk_at dksX6_isWalk_0 20 rfl rfl)
theorem dX6_isWalk_23 : decode cX6_isWalk 23 = .ok (.iload_n 2, 1) := dk_28 (dk_at dksX6_isWalk_0 23 rfl rfl)
theorem dX6_isWalk_24 : decode cX6_isWalk 24 = .ok (.bipush 100, 2) := dk_16 100 (dk_at dksX6_isWalk_1 0 rfl rfl)
theorem dX6_isWalk_26 : decode cX6_isWalk 26 = .ok (.irem, 1) := dk_112 (dk_at dksX6_isWalk_1 2 rfl rfl)
theorem dX6_isWalk_27 : decode cX6_isWalk 27 = .ok (.aload_n 0, 1) := dk_42 (dk_at dksX6_isWalk_1 3 rfl rfl)
theorem dX6_isWalk_28 : decode cX6_isWalk 28 = .ok (.getfield 272, 3) := dk_180 1 16 (dk_at dksX6_isWalk_1 4 rfl rfl)
theorem dX6_isWalk_31 : decode cX6_isWalk 31 = .ok (.bipush 23, 2) := dk_16 23 (dk_at dksX6_isWalk_1 7 rfl rfl)
theorem dX6_isWalk_33 : decode cX6_isWalk 33 = .ok (.invokestatic 134, 3) := dk_184 0 134 (dk_at dksX6_isWalk_1 9 rfl rfl)
theorem dX6_isWalk_36 : decode cX6_isWalk 36 = .ok (.ifCond .eq 7, 3) := dk_153 0 7 (dk_at dksX6_isWalk_1 12 rfl rfl)
theorem dX6_isWalk_39 : decode cX6_isWalk 39 = .ok (.iconst 1, 1) := dk_4 (dk_at dksX6_isWalk_1 15 rfl rfl)
theorem dX6_isWalk_40 : decode cX6_isWalk 40 = .ok (.goto 4, 3) := dk_167 0 4 (dk_at dksX6_isWalk_1 16 rfl rfl)
theorem dX6_isWalk_43 : decode cX6_isWalk 43 = .ok (.iconst 0, 1) := dk_3 (dk_at dksX6_isWalk_1 19 rfl rfl)
theorem dX6_isWalk_44 : decode cX6_isWalk 44 = .ok (.ireturn, 1) := dk_172 (dk_at dksX6_isWalk_1 20 rfl rfl)
abbrev cX6_findRisk : ByteArray := prog_26_method_55_code
def yX6_findRisk : MethodName := ⟨RX6, "findRisk", "(III)V"⟩
def dkwX6_findRisk_9 : List UInt8 := [167, 255, 110, 177]
abbrev dktX6_findRisk_9 : List UInt8 := dkwX6_findRisk_9 ++ []
def dkwX6_findRisk_8 : List UInt8 := [21, 5, 42, 180, 0, 31, 27, 46, 182, 1, 2, 96, 79, 132, 5, 1, 167, 255, 128, 132, 4, 255]
abbrev dktX6_findRisk_8 : List UInt8 := dkwX6_findRisk_8 ++ dktX6_findRisk_9
def dkwX6_findRisk_7 : List UInt8 := [21, 5, 96, 21, 6, 19, 1, 46, 160, 0, 9, 19, 1, 46, 167, 0, 21, 21, 6, 42, 27, 21, 4]
abbrev dktX6_findRisk_7 : List UInt8 := dkwX6_findRisk_7 ++ dktX6_findRisk_8
def dkwX6_findRisk_6 : List UInt8 := [4, 96, 104, 21, 7, 96, 46, 54, 6, 132, 7, 1, 167, 255, 196, 42, 180, 0, 90, 16, 7, 21, 4, 104]
abbrev dktX6_findRisk_6 : List UInt8 := dkwX6_findRisk_6 ++ dktX6_findRisk_7
def dkwX6_findRisk_5 : List UInt8 := [16, 7, 21, 4, 4, 96, 104, 21, 7, 96, 46, 21, 6, 162, 0, 20, 42, 180, 0, 90, 16, 7, 21, 4]
abbrev dktX6_findRisk_5 : List UInt8 := dkwX6_findRisk_5 ++ dktX6_findRisk_6
def dkwX6_findRisk_4 : List UInt8 := [21, 7, 42, 180, 0, 131, 162, 0, 57, 42, 21, 5, 21, 7, 182, 1, 47, 153, 0, 40, 42, 180, 0, 90]
abbrev dktX6_findRisk_4 : List UInt8 := dkwX6_findRisk_4 ++ dktX6_findRisk_5
def dkwX6_findRisk_3 : List UInt8 := [161, 0, 143, 3, 54, 5, 21, 5, 42, 180, 0, 131, 162, 0, 125, 19, 1, 46, 54, 6, 3, 54, 7]
abbrev dktX6_findRisk_3 : List UInt8 := dkwX6_findRisk_3 ++ dktX6_findRisk_4
def dkwX6_findRisk_2 : List UInt8 := [167, 0, 6, 19, 1, 46, 79, 132, 4, 1, 167, 255, 206, 29, 4, 100, 54, 4, 21, 4, 42, 180, 1, 16]
abbrev dktX6_findRisk_2 : List UInt8 := dkwX6_findRisk_2 ++ dktX6_findRisk_3
def dkwX6_findRisk_1 : List UInt8 := [21, 4, 96, 21, 4, 28, 160, 0, 20, 42, 27, 29, 21, 4, 42, 180, 0, 31, 27, 46, 182, 1, 2]
abbrev dktX6_findRisk_1 : List UInt8 := dkwX6_findRisk_1 ++ dktX6_findRisk_2
def dkwX6_findRisk_0 : List UInt8 := [42, 182, 1, 19, 3, 54, 4, 21, 4, 42, 180, 0, 131, 162, 0, 47, 42, 180, 0, 90, 16, 7, 29, 104]
abbrev dktX6_findRisk_0 : List UInt8 := dkwX6_findRisk_0 ++ dktX6_findRisk_1
theorem dksX6_findRisk_0 : cX6_findRisk.data.toList.drop 0 = dktX6_findRisk_0 := by decide +kernel
theorem dksX6_findRisk_1 : cX6_findRisk.data.toList.drop 24 = dktX6_findRisk_1 := dk_seg dksX6_findRisk_0 24 rfl rfl
theorem dksX6_findRisk_2 : cX6_findRisk.data.toList.drop 47 = dktX6_findRisk_2 := dk_seg dksX6_findRisk_1 23 rfl rfl
theorem dksX6_findRisk_3 : cX6_findRisk.data.toList.drop 71 = dktX6_findRisk_3 := dk_seg dksX6_findRisk_2 24 rfl rfl
theorem dksX6_findRisk_4 : cX6_findRisk.data.toList.drop 94 = dktX6_findRisk_4 := dk_seg dksX6_findRisk_3 23 rfl rfl
theorem dksX6_findRisk_5 : cX6_findRisk.data.toList.drop 118 = dktX6_findRisk_5 := dk_seg dksX6_findRisk_4 24 rfl rfl
theorem dksX6_findRisk_6 : cX6_findRisk.data.toList.drop 142 = dktX6_findRisk_6 := dk_seg dksX6_findRisk_5 24 rfl rfl
theorem dksX6_findRisk_7 : cX6_findRisk.data.toList.drop 166 = dktX6_findRisk_7 := dk_seg dksX6_findRisk_6 24 rfl rfl
theorem dksX6_findRisk_8 : cX6_findRisk.data.toList.drop 189 = dktX6_findRisk_8 := dk_seg dksX6_findRisk_7 23 rfl rfl
theorem dksX6_findRisk_9 : cX6_findRisk.data.toList.drop 211 = dktX6_findRisk_9 := dk_seg dksX6_findRisk_8 22 rfl rfl
theorem dX6_findRisk_0 : decode cX6_findRisk 0 = .ok (.aload_n 0, 1) := dk_42 (dk_at dksX6_findRisk_0 0 rfl rfl)
theorem dX6_findRisk_1 : decode cX6_findRisk 1 = .ok (.invokevirtual 275, 3) := dk_182 1 19 (dk_at dksX6_findRisk_0 1 rfl rfl)
theorem dX6_findRisk_4 : decode cX6_findRisk 4 = .ok (.iconst 0, 1) := dk_3 (dk_at dksX6_findRisk_0 4 rfl rfl)
theorem dX6_findRisk_5 : decode cX6_findRisk 5 = .ok (.istore 4, 2) := dk_54 4 (dk_at dksX6_findRisk_0 5 rfl rfl)
theorem dX6_findRisk_7 : decode cX6_findRisk 7 = .ok (.iload 4, 2) := dk_21 4 (dk_at dksX6_findRisk_0 7 rfl rfl)
theorem dX6_findRisk_9 : decode cX6_findRisk 9 = .ok (.aload_n 0, 1) := dk_42 (dk_at dksX6_findRisk_0 9 rfl rfl)
theorem dX6_findRisk_10 : decode cX6_findRisk 10 = .ok (.getfield 131, 3) := dk_180 0 131 (dk_at dksX6_findRisk_0 10 rfl rfl)
theorem dX6_findRisk_13 : decode cX6_findRisk 13 = .ok (.if_icmp .ge 47, 3) := dk_162 0 47 (dk_at dksX6_findRisk_0 13 rfl rfl)
theorem dX6_findRisk_16 : decode cX6_findRisk 16 = .ok (.aload_n 0, 1) := dk_42 (dk_at dksX6_findRisk_0 16 rfl rfl)
theorem dX6_findRisk_17 : decode cX6_findRisk 17 = .ok (.getfield 90, 3) := dk_180 0 90 (dk_at dksX6_findRisk_0 17 rfl rfl)
theorem dX6_findRisk_20 : decode cX6_findRisk 20 = .ok (.bipush 7, 2) := dk_16 7 (dk_at dksX6_findRisk_0 20 rfl rfl)
theorem dX6_findRisk_22 : decode cX6_findRisk 22 = .ok (.iload_n 3, 1) := dk_29 (dk_at dksX6_findRisk_0 22 rfl rfl)
theorem dX6_findRisk_23 : decode cX6_findRisk 23 = .ok (.imul, 1) := dk_104 (dk_at dksX6_findRisk_0 23 rfl rfl)
theorem dX6_findRisk_24 : decode cX6_findRisk 24 = .ok (.iload 4, 2) := dk_21 4 (dk_at dksX6_findRisk_1 0 rfl rfl)
theorem dX6_findRisk_26 : decode cX6_findRisk 26 = .ok (.iadd, 1) := dk_96 (dk_at dksX6_findRisk_1 2 rfl rfl)
theorem dX6_findRisk_27 : decode cX6_findRisk 27 = .ok (.iload 4, 2) := dk_21 4 (dk_at dksX6_findRisk_1 3 rfl rfl)
theorem dX6_findRisk_29 : decode cX6_findRisk 29 = .ok (.iload_n 2, 1) := dk_28 (dk_at dksX6_findRisk_1 5 rfl rfl)
theorem dX6_findRisk_30 : decode cX6_findRisk 30 = .ok (.if_icmp .ne 20, 3) := dk_160 0 20 (dk_at dksX6_findRisk_1 6 rfl rfl)
theorem dX6_findRisk_33 : decode cX6_findRisk 33 = .ok (.aload_n 0, 1) := dk_42 (dk_at dksX6_findRisk_1 9 rfl rfl)
theorem dX6_findRisk_34 : decode cX6_findRisk 34 = .ok (.iload_n 1, 1) := dk_27 (dk_at dksX6_findRisk_1 10 rfl rfl)
theorem dX6_findRisk_35 : decode cX6_findRisk 35 = .ok (.iload_n 3, 1) := dk_29 (dk_at dksX6_findRisk_1 11 rfl rfl)
theorem dX6_findRisk_36 : decode cX6_findRisk 36 = .ok (.iload 4, 2) := dk_21 4 (dk_at dksX6_findRisk_1 12 rfl rfl)
theorem dX6_findRisk_38 : decode cX6_findRisk 38 = .ok (.aload_n 0, 1) := dk_42 (dk_at dksX6_findRisk_1 14 rfl rfl)
theorem dX6_findRisk_39 : decode cX6_findRisk 39 = .ok (.getfield 31, 3) := dk_180 0 31 (dk_at dksX6_findRisk_1 15 rfl rfl)
theorem dX6_findRisk_42 : decode cX6_findRisk 42 = .ok (.iload_n 1, 1) := dk_27 (dk_at dksX6_findRisk_1 18 rfl rfl)
theorem dX6_findRisk_43 : decode cX6_findRisk 43 = .ok (.iaload, 1) := dk_46 (dk_at dksX6_findRisk_1 19 rfl rfl)
theorem dX6_findRisk_44 : decode cX6_findRisk 44 = .ok (.invokevirtual 258, 3) := dk_182 1 2 (dk_at dksX6_findRisk_1 20 rfl rfl)
theorem dX6_findRisk_47 : decode cX6_findRisk 47 = .ok (.goto 6, 3) := dk_167 0 6 (dk_at dksX6_findRisk_2 0 rfl rfl)
theorem dX6_findRisk_50 : decode cX6_findRisk 50 = .ok (.ldc_w 302, 3) := dk_19 1 46 (dk_at dksX6_findRisk_2 3 rfl rfl)
theorem dX6_findRisk_53 : decode cX6_findRisk 53 = .ok (.iastore, 1) := dk_79 (dk_at dksX6_findRisk_2 6 rfl rfl)
theorem dX6_findRisk_54 : decode cX6_findRisk 54 = .ok (.iinc 4 1, 3) := dk_132 4 1 (dk_at dksX6_findRisk_2 7 rfl rfl)
theorem dX6_findRisk_57 : decode cX6_findRisk 57 = .ok (.goto (-50), 3) := dk_167 255 206 (dk_at dksX6_findRisk_2 10 rfl rfl)
theorem dX6_findRisk_60 : decode cX6_findRisk 60 = .ok (.iload_n 3, 1) := dk_29 (dk_at dksX6_findRisk_2 13 rfl rfl)
theorem dX6_findRisk_61 : decode cX6_findRisk 61 = .ok (.iconst 1, 1) := dk_4 (dk_at dksX6_findRisk_2 14 rfl rfl)
theorem dX6_findRisk_62 : decode cX6_findRisk 62 = .ok (.isub, 1) := dk_100 (dk_at dksX6_findRisk_2 15 rfl rfl)
theorem dX6_findRisk_63 : decode cX6_findRisk 63 = .ok (.istore 4, 2) := dk_54 4 (dk_at dksX6_findRisk_2 16 rfl rfl)
theorem dX6_findRisk_65 : decode cX6_findRisk 65 = .ok (.iload 4, 2) := dk_21 4 (dk_at dksX6_findRisk_2 18 rfl rfl)
theorem dX6_findRisk_67 : decode cX6_findRisk 67 = .ok (.aload_n 0, 1) := dk_42 (dk_at dksX6_findRisk_2 20 rfl rfl)
theorem dX6_findRisk_68 : decode cX6_findRisk 68 = .ok (.getfield 272, 3) := dk_180 1 16 (dk_at dksX6_findRisk_2 21 rfl rfl)
theorem dX6_findRisk_71 : decode cX6_findRisk 71 = .ok (.if_icmp .lt 143, 3) := dk_161 0 143 (dk_at dksX6_findRisk_3 0 rfl rfl)
theorem dX6_findRisk_74 : decode cX6_findRisk 74 = .ok (.iconst 0, 1) := dk_3 (dk_at dksX6_findRisk_3 3 rfl rfl)
theorem dX6_findRisk_75 : decode cX6_findRisk 75 = .ok (.istore 5, 2) := dk_54 5 (dk_at dksX6_findRisk_3 4 rfl rfl)
theorem dX6_findRisk_77 : decode cX6_findRisk 77 = .ok (.iload 5, 2) := dk_21 5 (dk_at dksX6_findRisk_3 6 rfl rfl)
theorem dX6_findRisk_79 : decode cX6_findRisk 79 = .ok (.aload_n 0, 1) := dk_42 (dk_at dksX6_findRisk_3 8 rfl rfl)
theorem dX6_findRisk_80 : decode cX6_findRisk 80 = .ok (.getfield 131, 3) := dk_180 0 131 (dk_at dksX6_findRisk_3 9 rfl rfl)
theorem dX6_findRisk_83 : decode cX6_findRisk 83 = .ok (.if_icmp .ge 125, 3) := dk_162 0 125 (dk_at dksX6_findRisk_3 12 rfl rfl)
theorem dX6_findRisk_86 : decode cX6_findRisk 86 = .ok (.ldc_w 302, 3) := dk_19 1 46 (dk_at dksX6_findRisk_3 15 rfl rfl)
theorem dX6_findRisk_89 : decode cX6_findRisk 89 = .ok (.istore 6, 2) := dk_54 6 (dk_at dksX6_findRisk_3 18 rfl rfl)
theorem dX6_findRisk_91 : decode cX6_findRisk 91 = .ok (.iconst 0, 1) := dk_3 (dk_at dksX6_findRisk_3 20 rfl rfl)
theorem dX6_findRisk_92 : decode cX6_findRisk 92 = .ok (.istore 7, 2) := dk_54 7 (dk_at dksX6_findRisk_3 21 rfl rfl)
theorem dX6_findRisk_94 : decode cX6_findRisk 94 = .ok (.iload 7, 2) := dk_21 7 (dk_at dksX6_findRisk_4 0 rfl rfl)
theorem dX6_findRisk_96 : decode cX6_findRisk 96 = .ok (.aload_n 0, 1) := dk_42 (dk_at dksX6_findRisk_4 2 rfl rfl)
theorem dX6_findRisk_97 : decode cX6_findRisk 97 = .ok (.getfield 131, 3) := dk_180 0 131 (dk_at dksX6_findRisk_4 3 rfl rfl)
theorem dX6_findRisk_100 : decode cX6_findRisk 100 = .ok (.if_icmp .ge 57, 3) := dk_162 0 57 (dk_at dksX6_findRisk_4 6 rfl rfl)
theorem dX6_findRisk_103 : decode cX6_findRisk 103 = .ok (.aload_n 0, 1) := dk_42 (dk_at dksX6_findRisk_4 9 rfl rfl)
theorem dX6_findRisk_104 : decode cX6_findRisk 104 = .ok (.iload 5, 2) := dk_21 5 (dk_at dksX6_findRisk_4 10 rfl rfl)
theorem dX6_findRisk_106 : decode cX6_findRisk 106 = .ok (.iload 7, 2) := dk_21 7 (dk_at dksX6_findRisk_4 12 rfl rfl)
theorem dX6_findRisk_108 : decode cX6_findRisk 108 = .ok (.invokevirtual 303, 3) := dk_182 1 47 (dk_at dksX6_findRisk_4 14 rfl rfl)
theorem dX6_findRisk_111 : decode cX6_findRisk 111 = .ok (.ifCond .eq 40, 3) := dk_153 0 40 (dk_at dksX6_findRisk_4 17 rfl rfl)
theorem dX6_findRisk_114 : decode cX6_findRisk 114 = .ok (.aload_n 0, 1) := dk_42 (dk_at dksX6_findRisk_4 20 rfl rfl)
theorem dX6_findRisk_115 : decode cX6_findRisk 115 = .ok (.getfield 90, 3) := dk_180 0 90 (dk_at dksX6_findRisk_4 21 rfl rfl)
theorem dX6_findRisk_118 : decode cX6_findRisk 118 = .ok (.bipush 7, 2) := dk_16 7 (dk_at dksX6_findRisk_5 0 rfl rfl)
theorem dX6_findRisk_120 : decode cX6_findRisk 120 = .ok (.iload 4, 2) := dk_21 4 (dk_at dksX6_findRisk_5 2 rfl rfl)
theorem dX6_findRisk_122 : decode cX6_findRisk 122 = .ok (.iconst 1, 1) := dk_4 (dk_at dksX6_findRisk_5 4 rfl rfl)
theorem dX6_findRisk_123 : decode cX6_findRisk 123 = .ok (.iadd, 1) := dk_96 (dk_at dksX6_findRisk_5 5 rfl rfl)
theorem dX6_findRisk_124 : decode cX6_findRisk 124 = .ok (.imul, 1) := dk_104 (dk_at dksX6_findRisk_5 6 rfl rfl)
theorem dX6_findRisk_125 : decode cX6_findRisk 125 = .ok (.iload 7, 2) := dk_21 7 (dk_at dksX6_findRisk_5 7 rfl rfl)
theorem dX6_findRisk_127 : decode cX6_findRisk 127 = .ok (.iadd, 1) := dk_96 (dk_at dksX6_findRisk_5 9 rfl rfl)
theorem dX6_findRisk_128 : decode cX6_findRisk 128 = .ok (.iaload, 1) := dk_46 (dk_at dksX6_findRisk_5 10 rfl rfl)
theorem dX6_findRisk_129 : decode cX6_findRisk 129 = .ok (.iload 6, 2) := dk_21 6 (dk_at dksX6_findRisk_5 11 rfl rfl)
theorem dX6_findRisk_131 : decode cX6_findRisk 131 = .ok (.if_icmp .ge 20, 3) := dk_162 0 20 (dk_at dksX6_findRisk_5 13 rfl rfl)
theorem dX6_findRisk_134 : decode cX6_findRisk 134 = .ok (.aload_n 0, 1) := dk_42 (dk_at dksX6_findRisk_5 16 rfl rfl)
theorem dX6_findRisk_135 : decode cX6_findRisk 135 = .ok (.getfield 90, 3) := dk_180 0 90 (dk_at dksX6_findRisk_5 17 rfl rfl)
theorem dX6_findRisk_138 : decode cX6_findRisk 138 = .ok (.bipush 7, 2) := dk_16 7 (dk_at dksX6_findRisk_5 20 rfl rfl)
theorem dX6_findRisk_140 : decode cX6_findRisk 140 = .ok (.iload 4, 2) := dk_21 4 (dk_at dksX6_findRisk_5 22 rfl rfl)
theorem dX6_findRisk_142 : decode cX6_findRisk 142 = .ok (.iconst 1, 1) := dk_4 (dk_at dksX6_findRisk_6 0 rfl rfl)
theorem dX6_findRisk_143 : decode cX6_findRisk 143 = .ok (.iadd, 1) := dk_96 (dk_at dksX6_findRisk_6 1 rfl rfl)
theorem dX6_findRisk_144 : decode cX6_findRisk 144 = .ok (.imul, 1) := dk_104 (dk_at dksX6_findRisk_6 2 rfl rfl)
theorem dX6_findRisk_145 : decode cX6_findRisk 145 = .ok (.iload 7, 2) := dk_21 7 (dk_at dksX6_findRisk_6 3 rfl rfl)
theorem dX6_findRisk_147 : decode cX6_findRisk 147 = .ok (.iadd, 1) := dk_96 (dk_at dksX6_findRisk_6 5 rfl rfl)
theorem dX6_findRisk_148 : decode cX6_findRisk 148 = .ok (.iaload, 1) := dk_46 (dk_at dksX6_findRisk_6 6 rfl rfl)
theorem dX6_findRisk_149 : decode cX6_findRisk 149 = .ok (.istore 6, 2) := dk_54 6 (dk_at dksX6_findRisk_6 7 rfl rfl)
theorem dX6_findRisk_151 : decode cX6_findRisk 151 = .ok (.iinc 7 1, 3) := dk_132 7 1 (dk_at dksX6_findRisk_6 9 rfl rfl)
theorem dX6_findRisk_154 : decode cX6_findRisk 154 = .ok (.goto (-60), 3) := dk_167 255 196 (dk_at dksX6_findRisk_6 12 rfl rfl)
theorem dX6_findRisk_157 : decode cX6_findRisk 157 = .ok (.aload_n 0, 1) := dk_42 (dk_at dksX6_findRisk_6 15 rfl rfl)
theorem dX6_findRisk_158 : decode cX6_findRisk 158 = .ok (.getfield 90, 3) := dk_180 0 90 (dk_at dksX6_findRisk_6 16 rfl rfl)
theorem dX6_findRisk_161 : decode cX6_findRisk 161 = .ok (.bipush 7, 2) := dk_16 7 (dk_at dksX6_findRisk_6 19 rfl rfl)
theorem dX6_findRisk_163 : decode cX6_findRisk 163 = .ok (.iload 4, 2) := dk_21 4 (dk_at dksX6_findRisk_6 21 rfl rfl)
theorem dX6_findRisk_165 : decode cX6_findRisk 165 = .ok (.imul, 1) := dk_104 (dk_at dksX6_findRisk_6 23 rfl rfl)
theorem dX6_findRisk_166 : decode cX6_findRisk 166 = .ok (.iload 5, 2) := dk_21 5 (dk_at dksX6_findRisk_7 0 rfl rfl)
theorem dX6_findRisk_168 : decode cX6_findRisk 168 = .ok (.iadd, 1) := dk_96 (dk_at dksX6_findRisk_7 2 rfl rfl)
theorem dX6_findRisk_169 : decode cX6_findRisk 169 = .ok (.iload 6, 2) := dk_21 6 (dk_at dksX6_findRisk_7 3 rfl rfl)
theorem dX6_findRisk_171 : decode cX6_findRisk 171 = .ok (.ldc_w 302, 3) := dk_19 1 46 (dk_at dksX6_findRisk_7 5 rfl rfl)
theorem dX6_findRisk_174 : decode cX6_findRisk 174 = .ok (.if_icmp .ne 9, 3) := dk_160 0 9 (dk_at dksX6_findRisk_7 8 rfl rfl)
theorem dX6_findRisk_177 : decode cX6_findRisk 177 = .ok (.ldc_w 302, 3) := dk_19 1 46 (dk_at dksX6_findRisk_7 11 rfl rfl)
theorem dX6_findRisk_180 : decode cX6_findRisk 180 = .ok (.goto 21, 3) := dk_167 0 21 (dk_at dksX6_findRisk_7 14 rfl rfl)
theorem dX6_findRisk_183 : decode cX6_findRisk 183 = .ok (.iload 6, 2) := dk_21 6 (dk_at dksX6_findRisk_7 17 rfl rfl)
theorem dX6_findRisk_185 : decode cX6_findRisk 185 = .ok (.aload_n 0, 1) := dk_42 (dk_at dksX6_findRisk_7 19 rfl rfl)
theorem dX6_findRisk_186 : decode cX6_findRisk 186 = .ok (.iload_n 1, 1) := dk_27 (dk_at dksX6_findRisk_7 20 rfl rfl)
theorem dX6_findRisk_187 : decode cX6_findRisk 187 = .ok (.iload 4, 2) := dk_21 4 (dk_at dksX6_findRisk_7 21 rfl rfl)
theorem dX6_findRisk_189 : decode cX6_findRisk 189 = .ok (.iload 5, 2) := dk_21 5 (dk_at dksX6_findRisk_8 0 rfl rfl)
theorem dX6_findRisk_191 : decode cX6_findRisk 191 = .ok (.aload_n 0, 1) := dk_42 (dk_at dksX6_findRisk_8 2 rfl rfl)
theorem dX6_findRisk_192 : decode cX6_findRisk 192 = .ok (.getfield 31, 3) := dk_180 0 31 (dk_at dksX6_findRisk_8 3 rfl rfl)
theorem dX6_findRisk_195 : decode cX6_findRisk 195 = .ok (.iload_n 1, 1) := dk_27 (dk_at dksX6_findRisk_8 6 rfl rfl)
theorem dX6_findRisk_196 : decode cX6_findRisk 196 = .ok (.iaload, 1) := dk_46 (dk_at dksX6_findRisk_8 7 rfl rfl)
theorem dX6_findRisk_197 : decode cX6_findRisk 197 = .ok (.invokevirtual 258, 3) := dk_182 1 2 (dk_at dksX6_findRisk_8 8 rfl rfl)
theorem dX6_findRisk_200 : decode cX6_findRisk 200 = .ok (.iadd, 1) := dk_96 (dk_at dksX6_findRisk_8 11 rfl rfl)
theorem dX6_findRisk_201 : decode cX6_findRisk 201 = .ok (.iastore, 1) := dk_79 (dk_at dksX6_findRisk_8 12 rfl rfl)
theorem dX6_findRisk_202 : decode cX6_findRisk 202 = .ok (.iinc 5 1, 3) := dk_132 5 1 (dk_at dksX6_findRisk_8 13 rfl rfl)
theorem dX6_findRisk_205 : decode cX6_findRisk 205 = .ok (.goto (-128), 3) := dk_167 255 128 (dk_at dksX6_findRisk_8 16 rfl rfl)
theorem dX6_findRisk_208 : decode cX6_findRisk 208 = .ok (.iinc 4 (-1), 3) := dk_132 4 255 (dk_at dksX6_findRisk_8 19 rfl rfl)
theorem dX6_findRisk_211 : decode cX6_findRisk 211 = .ok (.goto (-146), 3) := dk_167 255 110 (dk_at dksX6_findRisk_9 0 rfl rfl)
theorem dX6_findRisk_214 : decode cX6_findRisk 214 = .ok (.return_, 1) := dk_177 (dk_at dksX6_findRisk_9 3 rfl rfl)
abbrev cX6_mayGo : ByteArray := prog_26_method_54_code
def yX6_mayGo : MethodName := ⟨RX6, "mayGo", "(II)Z"⟩
def dkwX6_mayGo_0 : List UInt8 := [27, 28, 159, 0, 12, 42, 27, 28, 182, 0, 148, 153, 0, 7, 4, 167, 0, 4, 3, 172]
abbrev dktX6_mayGo_0 : List UInt8 := dkwX6_mayGo_0 ++ []
theorem dksX6_mayGo_0 : cX6_mayGo.data.toList.drop 0 = dktX6_mayGo_0 := by decide +kernel
theorem dX6_mayGo_0 : decode cX6_mayGo 0 = .ok (.iload_n 1, 1) := dk_27 (dk_at dksX6_mayGo_0 0 rfl rfl)
theorem dX6_mayGo_1 : decode cX6_mayGo 1 = .ok (.iload_n 2, 1) := dk_28 (dk_at dksX6_mayGo_0 1 rfl rfl)
theorem dX6_mayGo_2 : decode cX6_mayGo 2 = .ok (.if_icmp .eq 12, 3) := dk_159 0 12 (dk_at dksX6_mayGo_0 2 rfl rfl)
theorem dX6_mayGo_5 : decode cX6_mayGo 5 = .ok (.aload_n 0, 1) := dk_42 (dk_at dksX6_mayGo_0 5 rfl rfl)
theorem dX6_mayGo_6 : decode cX6_mayGo 6 = .ok (.iload_n 1, 1) := dk_27 (dk_at dksX6_mayGo_0 6 rfl rfl)
theorem dX6_mayGo_7 : decode cX6_mayGo 7 = .ok (.iload_n 2, 1) := dk_28 (dk_at dksX6_mayGo_0 7 rfl rfl)
theorem dX6_mayGo_8 : decode cX6_mayGo 8 = .ok (.invokevirtual 148, 3) := dk_182 0 148 (dk_at dksX6_mayGo_0 8 rfl rfl)
theorem dX6_mayGo_11 : decode cX6_mayGo 11 = .ok (.ifCond .eq 7, 3) := dk_153 0 7 (dk_at dksX6_mayGo_0 11 rfl rfl)
theorem dX6_mayGo_14 : decode cX6_mayGo 14 = .ok (.iconst 1, 1) := dk_4 (dk_at dksX6_mayGo_0 14 rfl rfl)
theorem dX6_mayGo_15 : decode cX6_mayGo 15 = .ok (.goto 4, 3) := dk_167 0 4 (dk_at dksX6_mayGo_0 15 rfl rfl)
theorem dX6_mayGo_18 : decode cX6_mayGo 18 = .ok (.iconst 0, 1) := dk_3 (dk_at dksX6_mayGo_0 18 rfl rfl)
theorem dX6_mayGo_19 : decode cX6_mayGo 19 = .ok (.ireturn, 1) := dk_172 (dk_at dksX6_mayGo_0 19 rfl rfl)
abbrev cX6_walk : ByteArray := prog_26_method_58_code
def yX6_walk : MethodName := ⟨RX6, "walk", "(III)I"⟩
def dkwX6_walk_6 : List UInt8 := [21, 6, 159, 0, 9, 132, 7, 1, 167, 255, 222, 21, 7, 54, 4, 132, 5, 1, 167, 255, 172, 21, 4, 172]
abbrev dktX6_walk_6 : List UInt8 := dkwX6_walk_6 ++ []
def dkwX6_walk_5 : List UInt8 := [21, 7, 182, 1, 47, 153, 0, 23, 42, 180, 0, 90, 16, 7, 21, 5, 4, 96, 104, 21, 7, 96, 46]
abbrev dktX6_walk_5 : List UInt8 := dkwX6_walk_5 ++ dktX6_walk_6
def dkwX6_walk_4 : List UInt8 := [42, 27, 21, 5, 21, 4, 42, 180, 0, 31, 27, 46, 182, 1, 2, 100, 54, 6, 3, 54, 7, 42, 21, 4]
abbrev dktX6_walk_4 : List UInt8 := dkwX6_walk_4 ++ dktX6_walk_5
def dkwX6_walk_3 : List UInt8 := [180, 1, 16, 54, 5, 21, 5, 29, 162, 0, 84, 42, 180, 0, 90, 16, 7, 21, 5, 104, 21, 4, 96, 46]
abbrev dktX6_walk_3 : List UInt8 := dkwX6_walk_3 ++ dktX6_walk_4
def dkwX6_walk_2 : List UInt8 := [180, 0, 90, 16, 7, 42, 180, 1, 16, 104, 21, 4, 96, 46, 19, 1, 46, 160, 0, 6, 16, 254, 172, 42]
abbrev dktX6_walk_2 : List UInt8 := dkwX6_walk_2 ++ dktX6_walk_3
def dkwX6_walk_1 : List UInt8 := [2, 172, 42, 27, 28, 16, 100, 108, 28, 16, 100, 112, 182, 1, 53, 42, 180, 0, 34, 27, 46, 54, 4, 42]
abbrev dktX6_walk_1 : List UInt8 := dkwX6_walk_1 ++ dktX6_walk_2
def dkwX6_walk_0 : List UInt8 := [42, 27, 28, 182, 1, 50, 153, 0, 18, 29, 42, 180, 1, 16, 28, 16, 100, 112, 184, 0, 134, 154, 0, 5]
abbrev dktX6_walk_0 : List UInt8 := dkwX6_walk_0 ++ dktX6_walk_1
theorem dksX6_walk_0 : cX6_walk.data.toList.drop 0 = dktX6_walk_0 := by decide +kernel
theorem dksX6_walk_1 : cX6_walk.data.toList.drop 24 = dktX6_walk_1 := dk_seg dksX6_walk_0 24 rfl rfl
theorem dksX6_walk_2 : cX6_walk.data.toList.drop 48 = dktX6_walk_2 := dk_seg dksX6_walk_1 24 rfl rfl
theorem dksX6_walk_3 : cX6_walk.data.toList.drop 72 = dktX6_walk_3 := dk_seg dksX6_walk_2 24 rfl rfl
theorem dksX6_walk_4 : cX6_walk.data.toList.drop 96 = dktX6_walk_4 := dk_seg dksX6_walk_3 24 rfl rfl
theorem dksX6_walk_5 : cX6_walk.data.toList.drop 120 = dktX6_walk_5 := dk_seg dksX6_walk_4 24 rfl rfl
theorem dksX6_walk_6 : cX6_walk.data.toList.drop 143 = dktX6_walk_6 := dk_seg dksX6_walk_5 23 rfl rfl
theorem dX6_walk_0 : decode cX6_walk 0 = .ok (.aload_n 0, 1) := dk_42 (dk_at dksX6_walk_0 0 rfl rfl)
theorem dX6_walk_1 : decode cX6_walk 1 = .ok (.iload_n 1, 1) := dk_27 (dk_at dksX6_walk_0 1 rfl rfl)
theorem dX6_walk_2 : decode cX6_walk 2 = .ok (.iload_n 2, 1) := dk_28 (dk_at dksX6_walk_0 2 rfl rfl)
theorem dX6_walk_3 : decode cX6_walk 3 = .ok (.invokevirtual 306, 3) := dk_182 1 50 (dk_at dksX6_walk_0 3 rfl rfl)
theorem dX6_walk_6 : decode cX6_walk 6 = .ok (.ifCond .eq 18, 3) := dk_153 0 18 (dk_at dksX6_walk_0 6 rfl rfl)
theorem dX6_walk_9 : decode cX6_walk 9 = .ok (.iload_n 3, 1) := dk_29 (dk_at dksX6_walk_0 9 rfl rfl)
theorem dX6_walk_10 : decode cX6_walk 10 = .ok (.aload_n 0, 1) := dk_42 (dk_at dksX6_walk_0 10 rfl rfl)
theorem dX6_walk_11 : decode cX6_walk 11 = .ok (.getfield 272, 3) := dk_180 1 16 (dk_at dksX6_walk_0 11 rfl rfl)
theorem dX6_walk_14 : decode cX6_walk 14 = .ok (.iload_n 2, 1) := dk_28 (dk_at dksX6_walk_0 14 rfl rfl)
theorem dX6_walk_15 : decode cX6_walk 15 = .ok (.bipush 100, 2) := dk_16 100 (dk_at dksX6_walk_0 15 rfl rfl)
theorem dX6_walk_17 : decode cX6_walk 17 = .ok (.irem, 1) := dk_112 (dk_at dksX6_walk_0 17 rfl rfl)
theorem dX6_walk_18 : decode cX6_walk 18 = .ok (.invokestatic 134, 3) := dk_184 0 134 (dk_at dksX6_walk_0 18 rfl rfl)
theorem dX6_walk_21 : decode cX6_walk 21 = .ok (.ifCond .ne 5, 3) := dk_154 0 5 (dk_at dksX6_walk_0 21 rfl rfl)
theorem dX6_walk_24 : decode cX6_walk 24 = .ok (.iconst (-1), 1) := dk_2 (dk_at dksX6_walk_1 0 rfl rfl)
theorem dX6_walk_25 : decode cX6_walk 25 = .ok (.ireturn, 1) := dk_172 (dk_at dksX6_walk_1 1 rfl rfl)
theorem dX6_walk_26 : decode cX6_walk 26 = .ok (.aload_n 0, 1) := dk_42 (dk_at dksX6_walk_1 2 rfl rfl)
theorem dX6_walk_27 : decode cX6_walk 27 = .ok (.iload_n 1, 1) := dk_27 (dk_at dksX6_walk_1 3 rfl rfl)
theorem dX6_walk_28 : decode cX6_walk 28 = .ok (.iload_n 2, 1) := dk_28 (dk_at dksX6_walk_1 4 rfl rfl)
theorem dX6_walk_29 : decode cX6_walk 29 = .ok (.bipush 100, 2) := dk_16 100 (dk_at dksX6_walk_1 5 rfl rfl)
theorem dX6_walk_31 : decode cX6_walk 31 = .ok (.idiv, 1) := dk_108 (dk_at dksX6_walk_1 7 rfl rfl)
theorem dX6_walk_32 : decode cX6_walk 32 = .ok (.iload_n 2, 1) := dk_28 (dk_at dksX6_walk_1 8 rfl rfl)
theorem dX6_walk_33 : decode cX6_walk 33 = .ok (.bipush 100, 2) := dk_16 100 (dk_at dksX6_walk_1 9 rfl rfl)
theorem dX6_walk_35 : decode cX6_walk 35 = .ok (.irem, 1) := dk_112 (dk_at dksX6_walk_1 11 rfl rfl)
theorem dX6_walk_36 : decode cX6_walk 36 = .ok (.invokevirtual 309, 3) := dk_182 1 53 (dk_at dksX6_walk_1 12 rfl rfl)
theorem dX6_walk_39 : decode cX6_walk 39 = .ok (.aload_n 0, 1) := dk_42 (dk_at dksX6_walk_1 15 rfl rfl)
theorem dX6_walk_40 : decode cX6_walk 40 = .ok (.getfield 34, 3) := dk_180 0 34 (dk_at dksX6_walk_1 16 rfl rfl)
theorem dX6_walk_43 : decode cX6_walk 43 = .ok (.iload_n 1, 1) := dk_27 (dk_at dksX6_walk_1 19 rfl rfl)
theorem dX6_walk_44 : decode cX6_walk 44 = .ok (.iaload, 1) := dk_46 (dk_at dksX6_walk_1 20 rfl rfl)
theorem dX6_walk_45 : decode cX6_walk 45 = .ok (.istore 4, 2) := dk_54 4 (dk_at dksX6_walk_1 21 rfl rfl)
theorem dX6_walk_47 : decode cX6_walk 47 = .ok (.aload_n 0, 1) := dk_42 (dk_at dksX6_walk_1 23 rfl rfl)
theorem dX6_walk_48 : decode cX6_walk 48 = .ok (.getfield 90, 3) := dk_180 0 90 (dk_at dksX6_walk_2 0 rfl rfl)
theorem dX6_walk_51 : decode cX6_walk 51 = .ok (.bipush 7, 2) := dk_16 7 (dk_at dksX6_walk_2 3 rfl rfl)
theorem dX6_walk_53 : decode cX6_walk 53 = .ok (.aload_n 0, 1) := dk_42 (dk_at dksX6_walk_2 5 rfl rfl)
theorem dX6_walk_54 : decode cX6_walk 54 = .ok (.getfield 272, 3) := dk_180 1 16 (dk_at dksX6_walk_2 6 rfl rfl)
theorem dX6_walk_57 : decode cX6_walk 57 = .ok (.imul, 1) := dk_104 (dk_at dksX6_walk_2 9 rfl rfl)
theorem dX6_walk_58 : decode cX6_walk 58 = .ok (.iload 4, 2) := dk_21 4 (dk_at dksX6_walk_2 10 rfl rfl)
theorem dX6_walk_60 : decode cX6_walk 60 = .ok (.iadd, 1) := dk_96 (dk_at dksX6_walk_2 12 rfl rfl)
theorem dX6_walk_61 : decode cX6_walk 61 = .ok (.iaload, 1) := dk_46 (dk_at dksX6_walk_2 13 rfl rfl)
theorem dX6_walk_62 : decode cX6_walk 62 = .ok (.ldc_w 302, 3) := dk_19 1 46 (dk_at dksX6_walk_2 14 rfl rfl)
theorem dX6_walk_65 : decode cX6_walk 65 = .ok (.if_icmp .ne 6, 3) := dk_160 0 6 (dk_at dksX6_walk_2 17 rfl rfl)
theorem dX6_walk_68 : decode cX6_walk 68 = .ok (.bipush (-2), 2) := dk_16 254 (dk_at dksX6_walk_2 20 rfl rfl)
theorem dX6_walk_70 : decode cX6_walk 70 = .ok (.ireturn, 1) := dk_172 (dk_at dksX6_walk_2 22 rfl rfl)
theorem dX6_walk_71 : decode cX6_walk 71 = .ok (.aload_n 0, 1) := dk_42 (dk_at dksX6_walk_2 23 rfl rfl)
theorem dX6_walk_72 : decode cX6_walk 72 = .ok (.getfield 272, 3) := dk_180 1 16 (dk_at dksX6_walk_3 0 rfl rfl)
theorem dX6_walk_75 : decode cX6_walk 75 = .ok (.istore 5, 2) := dk_54 5 (dk_at dksX6_walk_3 3 rfl rfl)
theorem dX6_walk_77 : decode cX6_walk 77 = .ok (.iload 5, 2) := dk_21 5 (dk_at dksX6_walk_3 5 rfl rfl)
theorem dX6_walk_79 : decode cX6_walk 79 = .ok (.iload_n 3, 1) := dk_29 (dk_at dksX6_walk_3 7 rfl rfl)
theorem dX6_walk_80 : decode cX6_walk 80 = .ok (.if_icmp .ge 84, 3) := dk_162 0 84 (dk_at dksX6_walk_3 8 rfl rfl)
theorem dX6_walk_83 : decode cX6_walk 83 = .ok (.aload_n 0, 1) := dk_42 (dk_at dksX6_walk_3 11 rfl rfl)
theorem dX6_walk_84 : decode cX6_walk 84 = .ok (.getfield 90, 3) := dk_180 0 90 (dk_at dksX6_walk_3 12 rfl rfl)
theorem dX6_walk_87 : decode cX6_walk 87 = .ok (.bipush 7, 2) := dk_16 7 (dk_at dksX6_walk_3 15 rfl rfl)
theorem dX6_walk_89 : decode cX6_walk 89 = .ok (.iload 5, 2) := dk_21 5 (dk_at dksX6_walk_3 17 rfl rfl)
theorem dX6_walk_91 : decode cX6_walk 91 = .ok (.imul, 1) := dk_104 (dk_at dksX6_walk_3 19 rfl rfl)
theorem dX6_walk_92 : decode cX6_walk 92 = .ok (.iload 4, 2) := dk_21 4 (dk_at dksX6_walk_3 20 rfl rfl)
theorem dX6_walk_94 : decode cX6_walk 94 = .ok (.iadd, 1) := dk_96 (dk_at dksX6_walk_3 22 rfl rfl)
theorem dX6_walk_95 : decode cX6_walk 95 = .ok (.iaload, 1) := dk_46 (dk_at dksX6_walk_3 23 rfl rfl)
theorem dX6_walk_96 : decode cX6_walk 96 = .ok (.aload_n 0, 1) := dk_42 (dk_at dksX6_walk_4 0 rfl rfl)
theorem dX6_walk_97 : decode cX6_walk 97 = .ok (.iload_n 1, 1) := dk_27 (dk_at dksX6_walk_4 1 rfl rfl)
theorem dX6_walk_98 : decode cX6_walk 98 = .ok (.iload 5, 2) := dk_21 5 (dk_at dksX6_walk_4 2 rfl rfl)
theorem dX6_walk_100 : decode cX6_walk 100 = .ok (.iload 4, 2) := dk_21 4 (dk_at dksX6_walk_4 4 rfl rfl)
theorem dX6_walk_102 : decode cX6_walk 102 = .ok (.aload_n 0, 1) := dk_42 (dk_at dksX6_walk_4 6 rfl rfl)
theorem dX6_walk_103 : decode cX6_walk 103 = .ok (.getfield 31, 3) := dk_180 0 31 (dk_at dksX6_walk_4 7 rfl rfl)
theorem dX6_walk_106 : decode cX6_walk 106 = .ok (.iload_n 1, 1) := dk_27 (dk_at dksX6_walk_4 10 rfl rfl)
theorem dX6_walk_107 : decode cX6_walk 107 = .ok (.iaload, 1) := dk_46 (dk_at dksX6_walk_4 11 rfl rfl)
theorem dX6_walk_108 : decode cX6_walk 108 = .ok (.invokevirtual 258, 3) := dk_182 1 2 (dk_at dksX6_walk_4 12 rfl rfl)
theorem dX6_walk_111 : decode cX6_walk 111 = .ok (.isub, 1) := dk_100 (dk_at dksX6_walk_4 15 rfl rfl)
theorem dX6_walk_112 : decode cX6_walk 112 = .ok (.istore 6, 2) := dk_54 6 (dk_at dksX6_walk_4 16 rfl rfl)
theorem dX6_walk_114 : decode cX6_walk 114 = .ok (.iconst 0, 1) := dk_3 (dk_at dksX6_walk_4 18 rfl rfl)
theorem dX6_walk_115 : decode cX6_walk 115 = .ok (.istore 7, 2) := dk_54 7 (dk_at dksX6_walk_4 19 rfl rfl)
theorem dX6_walk_117 : decode cX6_walk 117 = .ok (.aload_n 0, 1) := dk_42 (dk_at dksX6_walk_4 21 rfl rfl)
theorem dX6_walk_118 : decode cX6_walk 118 = .ok (.iload 4, 2) := dk_21 4 (dk_at dksX6_walk_4 22 rfl rfl)
theorem dX6_walk_120 : decode cX6_walk 120 = .ok (.iload 7, 2) := dk_21 7 (dk_at dksX6_walk_5 0 rfl rfl)
theorem dX6_walk_122 : decode cX6_walk 122 = .ok (.invokevirtual 303, 3) := dk_182 1 47 (dk_at dksX6_walk_5 2 rfl rfl)
theorem dX6_walk_125 : decode cX6_walk 125 = .ok (.ifCond .eq 23, 3) := dk_153 0 23 (dk_at dksX6_walk_5 5 rfl rfl)
theorem dX6_walk_128 : decode cX6_walk 128 = .ok (.aload_n 0, 1) := dk_42 (dk_at dksX6_walk_5 8 rfl rfl)
theorem dX6_walk_129 : decode cX6_walk 129 = .ok (.getfield 90, 3) := dk_180 0 90 (dk_at dksX6_walk_5 9 rfl rfl)
theorem dX6_walk_132 : decode cX6_walk 132 = .ok (.bipush 7, 2) := dk_16 7 (dk_at dksX6_walk_5 12 rfl rfl)
theorem dX6_walk_134 : decode cX6_walk 134 = .ok (.iload 5, 2) := dk_21 5 (dk_at dksX6_walk_5 14 rfl rfl)
theorem dX6_walk_136 : decode cX6_walk 136 = .ok (.iconst 1, 1) := dk_4 (dk_at dksX6_walk_5 16 rfl rfl)
theorem dX6_walk_137 : decode cX6_walk 137 = .ok (.iadd, 1) := dk_96 (dk_at dksX6_walk_5 17 rfl rfl)
theorem dX6_walk_138 : decode cX6_walk 138 = .ok (.imul, 1) := dk_104 (dk_at dksX6_walk_5 18 rfl rfl)
theorem dX6_walk_139 : decode cX6_walk 139 = .ok (.iload 7, 2) := dk_21 7 (dk_at dksX6_walk_5 19 rfl rfl)
theorem dX6_walk_141 : decode cX6_walk 141 = .ok (.iadd, 1) := dk_96 (dk_at dksX6_walk_5 21 rfl rfl)
theorem dX6_walk_142 : decode cX6_walk 142 = .ok (.iaload, 1) := dk_46 (dk_at dksX6_walk_5 22 rfl rfl)
theorem dX6_walk_143 : decode cX6_walk 143 = .ok (.iload 6, 2) := dk_21 6 (dk_at dksX6_walk_6 0 rfl rfl)
theorem dX6_walk_145 : decode cX6_walk 145 = .ok (.if_icmp .eq 9, 3) := dk_159 0 9 (dk_at dksX6_walk_6 2 rfl rfl)
theorem dX6_walk_148 : decode cX6_walk 148 = .ok (.iinc 7 1, 3) := dk_132 7 1 (dk_at dksX6_walk_6 5 rfl rfl)
theorem dX6_walk_151 : decode cX6_walk 151 = .ok (.goto (-34), 3) := dk_167 255 222 (dk_at dksX6_walk_6 8 rfl rfl)
theorem dX6_walk_154 : decode cX6_walk 154 = .ok (.iload 7, 2) := dk_21 7 (dk_at dksX6_walk_6 11 rfl rfl)
theorem dX6_walk_156 : decode cX6_walk 156 = .ok (.istore 4, 2) := dk_54 4 (dk_at dksX6_walk_6 13 rfl rfl)
theorem dX6_walk_158 : decode cX6_walk 158 = .ok (.iinc 5 1, 3) := dk_132 5 1 (dk_at dksX6_walk_6 15 rfl rfl)
theorem dX6_walk_161 : decode cX6_walk 161 = .ok (.goto (-84), 3) := dk_167 255 172 (dk_at dksX6_walk_6 18 rfl rfl)
theorem dX6_walk_164 : decode cX6_walk 164 = .ok (.iload 4, 2) := dk_21 4 (dk_at dksX6_walk_6 21 rfl rfl)
theorem dX6_walk_166 : decode cX6_walk 166 = .ok (.ireturn, 1) := dk_172 (dk_at dksX6_walk_6 23 rfl rfl)
abbrev cX6_chance : ByteArray := prog_26_method_66_code
def yX6_chance : MethodName := ⟨RX6, "chance", "(III)J"⟩
def dkwX6_chance_2 : List UInt8 := [28, 42, 180, 0, 34, 27, 46, 182, 1, 95, 42, 42, 180, 1, 62, 28, 29, 182, 1, 98, 173]
abbrev dktX6_chance_2 : List UInt8 := dkwX6_chance_2 ++ []
def dkwX6_chance_1 : List UInt8 := [154, 0, 7, 20, 1, 91, 173, 42, 180, 1, 16, 28, 96, 16, 24, 164, 0, 7, 20, 1, 93, 173, 42, 27]
abbrev dktX6_chance_1 : List UInt8 := dkwX6_chance_1 ++ dktX6_chance_2
def dkwX6_chance_0 : List UInt8 := [42, 27, 182, 0, 175, 153, 0, 21, 28, 3, 5, 184, 0, 134, 153, 0, 12, 29, 3, 4, 184, 0, 134]
abbrev dktX6_chance_0 : List UInt8 := dkwX6_chance_0 ++ dktX6_chance_1
theorem dksX6_chance_0 : cX6_chance.data.toList.drop 0 = dktX6_chance_0 := by decide +kernel
theorem dksX6_chance_1 : cX6_chance.data.toList.drop 23 = dktX6_chance_1 := dk_seg dksX6_chance_0 23 rfl rfl
theorem dksX6_chance_2 : cX6_chance.data.toList.drop 47 = dktX6_chance_2 := dk_seg dksX6_chance_1 24 rfl rfl
theorem dX6_chance_0 : decode cX6_chance 0 = .ok (.aload_n 0, 1) := dk_42 (dk_at dksX6_chance_0 0 rfl rfl)
theorem dX6_chance_1 : decode cX6_chance 1 = .ok (.iload_n 1, 1) := dk_27 (dk_at dksX6_chance_0 1 rfl rfl)
theorem dX6_chance_2 : decode cX6_chance 2 = .ok (.invokevirtual 175, 3) := dk_182 0 175 (dk_at dksX6_chance_0 2 rfl rfl)
theorem dX6_chance_5 : decode cX6_chance 5 = .ok (.ifCond .eq 21, 3) := dk_153 0 21 (dk_at dksX6_chance_0 5 rfl rfl)
theorem dX6_chance_8 : decode cX6_chance 8 = .ok (.iload_n 2, 1) := dk_28 (dk_at dksX6_chance_0 8 rfl rfl)
theorem dX6_chance_9 : decode cX6_chance 9 = .ok (.iconst 0, 1) := dk_3 (dk_at dksX6_chance_0 9 rfl rfl)
theorem dX6_chance_10 : decode cX6_chance 10 = .ok (.iconst 2, 1) := dk_5 (dk_at dksX6_chance_0 10 rfl rfl)
theorem dX6_chance_11 : decode cX6_chance 11 = .ok (.invokestatic 134, 3) := dk_184 0 134 (dk_at dksX6_chance_0 11 rfl rfl)
theorem dX6_chance_14 : decode cX6_chance 14 = .ok (.ifCond .eq 12, 3) := dk_153 0 12 (dk_at dksX6_chance_0 14 rfl rfl)
theorem dX6_chance_17 : decode cX6_chance 17 = .ok (.iload_n 3, 1) := dk_29 (dk_at dksX6_chance_0 17 rfl rfl)
theorem dX6_chance_18 : decode cX6_chance 18 = .ok (.iconst 0, 1) := dk_3 (dk_at dksX6_chance_0 18 rfl rfl)
theorem dX6_chance_19 : decode cX6_chance 19 = .ok (.iconst 1, 1) := dk_4 (dk_at dksX6_chance_0 19 rfl rfl)
theorem dX6_chance_20 : decode cX6_chance 20 = .ok (.invokestatic 134, 3) := dk_184 0 134 (dk_at dksX6_chance_0 20 rfl rfl)
theorem dX6_chance_23 : decode cX6_chance 23 = .ok (.ifCond .ne 7, 3) := dk_154 0 7 (dk_at dksX6_chance_1 0 rfl rfl)
theorem dX6_chance_26 : decode cX6_chance 26 = .ok (.ldc2_w 347, 3) := dk_20 1 91 (dk_at dksX6_chance_1 3 rfl rfl)
theorem dX6_chance_29 : decode cX6_chance 29 = .ok (.lreturn, 1) := dk_173 (dk_at dksX6_chance_1 6 rfl rfl)
theorem dX6_chance_30 : decode cX6_chance 30 = .ok (.aload_n 0, 1) := dk_42 (dk_at dksX6_chance_1 7 rfl rfl)
theorem dX6_chance_31 : decode cX6_chance 31 = .ok (.getfield 272, 3) := dk_180 1 16 (dk_at dksX6_chance_1 8 rfl rfl)
theorem dX6_chance_34 : decode cX6_chance 34 = .ok (.iload_n 2, 1) := dk_28 (dk_at dksX6_chance_1 11 rfl rfl)
theorem dX6_chance_35 : decode cX6_chance 35 = .ok (.iadd, 1) := dk_96 (dk_at dksX6_chance_1 12 rfl rfl)
theorem dX6_chance_36 : decode cX6_chance 36 = .ok (.bipush 24, 2) := dk_16 24 (dk_at dksX6_chance_1 13 rfl rfl)
theorem dX6_chance_38 : decode cX6_chance 38 = .ok (.if_icmp .le 7, 3) := dk_164 0 7 (dk_at dksX6_chance_1 15 rfl rfl)
theorem dX6_chance_41 : decode cX6_chance 41 = .ok (.ldc2_w 349, 3) := dk_20 1 93 (dk_at dksX6_chance_1 18 rfl rfl)
theorem dX6_chance_44 : decode cX6_chance 44 = .ok (.lreturn, 1) := dk_173 (dk_at dksX6_chance_1 21 rfl rfl)
theorem dX6_chance_45 : decode cX6_chance 45 = .ok (.aload_n 0, 1) := dk_42 (dk_at dksX6_chance_1 22 rfl rfl)
theorem dX6_chance_46 : decode cX6_chance 46 = .ok (.iload_n 1, 1) := dk_27 (dk_at dksX6_chance_1 23 rfl rfl)
theorem dX6_chance_47 : decode cX6_chance 47 = .ok (.iload_n 2, 1) := dk_28 (dk_at dksX6_chance_2 0 rfl rfl)
theorem dX6_chance_48 : decode cX6_chance 48 = .ok (.aload_n 0, 1) := dk_42 (dk_at dksX6_chance_2 1 rfl rfl)
theorem dX6_chance_49 : decode cX6_chance 49 = .ok (.getfield 34, 3) := dk_180 0 34 (dk_at dksX6_chance_2 2 rfl rfl)
theorem dX6_chance_52 : decode cX6_chance 52 = .ok (.iload_n 1, 1) := dk_27 (dk_at dksX6_chance_2 5 rfl rfl)
theorem dX6_chance_53 : decode cX6_chance 53 = .ok (.iaload, 1) := dk_46 (dk_at dksX6_chance_2 6 rfl rfl)
theorem dX6_chance_54 : decode cX6_chance 54 = .ok (.invokevirtual 351, 3) := dk_182 1 95 (dk_at dksX6_chance_2 7 rfl rfl)
theorem dX6_chance_57 : decode cX6_chance 57 = .ok (.aload_n 0, 1) := dk_42 (dk_at dksX6_chance_2 10 rfl rfl)
theorem dX6_chance_58 : decode cX6_chance 58 = .ok (.aload_n 0, 1) := dk_42 (dk_at dksX6_chance_2 11 rfl rfl)
theorem dX6_chance_59 : decode cX6_chance 59 = .ok (.getfield 318, 3) := dk_180 1 62 (dk_at dksX6_chance_2 12 rfl rfl)
theorem dX6_chance_62 : decode cX6_chance 62 = .ok (.iload_n 2, 1) := dk_28 (dk_at dksX6_chance_2 15 rfl rfl)
theorem dX6_chance_63 : decode cX6_chance 63 = .ok (.iload_n 3, 1) := dk_29 (dk_at dksX6_chance_2 16 rfl rfl)
theorem dX6_chance_64 : decode cX6_chance 64 = .ok (.invokevirtual 354, 3) := dk_182 1 98 (dk_at dksX6_chance_2 17 rfl rfl)
theorem dX6_chance_67 : decode cX6_chance 67 = .ok (.lreturn, 1) := dk_173 (dk_at dksX6_chance_2 20 rfl rfl)
abbrev cX6_findChance : ByteArray := prog_26_method_62_code
def yX6_findChance : MethodName := ⟨RX6, "findChance", "(III)V"⟩
def dkwX6_findChance_2 : List UInt8 := [177]
abbrev dktX6_findChance_2 : List UInt8 := dkwX6_findChance_2 ++ []
def dkwX6_findChance_1 : List UInt8 := [181, 1, 59, 42, 9, 181, 1, 62, 42, 9, 181, 1, 66, 42, 42, 180, 1, 16, 3, 3, 10, 182, 1, 69]
abbrev dktX6_findChance_1 : List UInt8 := dkwX6_findChance_1 ++ dktX6_findChance_2
def dkwX6_findChance_0 : List UInt8 := [42, 182, 1, 19, 42, 180, 0, 81, 27, 29, 79, 42, 42, 180, 1, 16, 28, 96, 181, 1, 56, 42, 27]
abbrev dktX6_findChance_0 : List UInt8 := dkwX6_findChance_0 ++ dktX6_findChance_1
theorem dksX6_findChance_0 : cX6_findChance.data.toList.drop 0 = dktX6_findChance_0 := by decide +kernel
theorem dksX6_findChance_1 : cX6_findChance.data.toList.drop 23 = dktX6_findChance_1 := dk_seg dksX6_findChance_0 23 rfl rfl
theorem dksX6_findChance_2 : cX6_findChance.data.toList.drop 47 = dktX6_findChance_2 := dk_seg dksX6_findChance_1 24 rfl rfl
theorem dX6_findChance_0 : decode cX6_findChance 0 = .ok (.aload_n 0, 1) := dk_42 (dk_at dksX6_findChance_0 0 rfl rfl)
theorem dX6_findChance_1 : decode cX6_findChance 1 = .ok (.invokevirtual 275, 3) := dk_182 1 19 (dk_at dksX6_findChance_0 1 rfl rfl)
theorem dX6_findChance_4 : decode cX6_findChance 4 = .ok (.aload_n 0, 1) := dk_42 (dk_at dksX6_findChance_0 4 rfl rfl)
theorem dX6_findChance_5 : decode cX6_findChance 5 = .ok (.getfield 81, 3) := dk_180 0 81 (dk_at dksX6_findChance_0 5 rfl rfl)
theorem dX6_findChance_8 : decode cX6_findChance 8 = .ok (.iload_n 1, 1) := dk_27 (dk_at dksX6_findChance_0 8 rfl rfl)
theorem dX6_findChance_9 : decode cX6_findChance 9 = .ok (.iload_n 3, 1) := dk_29 (dk_at dksX6_findChance_0 9 rfl rfl)
theorem dX6_findChance_10 : decode cX6_findChance 10 = .ok (.iastore, 1) := dk_79 (dk_at dksX6_findChance_0 10 rfl rfl)
theorem dX6_findChance_11 : decode cX6_findChance 11 = .ok (.aload_n 0, 1) := dk_42 (dk_at dksX6_findChance_0 11 rfl rfl)
theorem dX6_findChance_12 : decode cX6_findChance 12 = .ok (.aload_n 0, 1) := dk_42 (dk_at dksX6_findChance_0 12 rfl rfl)
theorem dX6_findChance_13 : decode cX6_findChance 13 = .ok (.getfield 272, 3) := dk_180 1 16 (dk_at dksX6_findChance_0 13 rfl rfl)
theorem dX6_findChance_16 : decode cX6_findChance 16 = .ok (.iload_n 2, 1) := dk_28 (dk_at dksX6_findChance_0 16 rfl rfl)
theorem dX6_findChance_17 : decode cX6_findChance 17 = .ok (.iadd, 1) := dk_96 (dk_at dksX6_findChance_0 17 rfl rfl)
theorem dX6_findChance_18 : decode cX6_findChance 18 = .ok (.putfield 312, 3) := dk_181 1 56 (dk_at dksX6_findChance_0 18 rfl rfl)
theorem dX6_findChance_21 : decode cX6_findChance 21 = .ok (.aload_n 0, 1) := dk_42 (dk_at dksX6_findChance_0 21 rfl rfl)
theorem dX6_findChance_22 : decode cX6_findChance 22 = .ok (.iload_n 1, 1) := dk_27 (dk_at dksX6_findChance_0 22 rfl rfl)
theorem dX6_findChance_23 : decode cX6_findChance 23 = .ok (.putfield 315, 3) := dk_181 1 59 (dk_at dksX6_findChance_1 0 rfl rfl)
theorem dX6_findChance_26 : decode cX6_findChance 26 = .ok (.aload_n 0, 1) := dk_42 (dk_at dksX6_findChance_1 3 rfl rfl)
theorem dX6_findChance_27 : decode cX6_findChance 27 = .ok (.lconst 0, 1) := dk_9 (dk_at dksX6_findChance_1 4 rfl rfl)
theorem dX6_findChance_28 : decode cX6_findChance 28 = .ok (.putfield 318, 3) := dk_181 1 62 (dk_at dksX6_findChance_1 5 rfl rfl)
theorem dX6_findChance_31 : decode cX6_findChance 31 = .ok (.aload_n 0, 1) := dk_42 (dk_at dksX6_findChance_1 8 rfl rfl)
theorem dX6_findChance_32 : decode cX6_findChance 32 = .ok (.lconst 0, 1) := dk_9 (dk_at dksX6_findChance_1 9 rfl rfl)
theorem dX6_findChance_33 : decode cX6_findChance 33 = .ok (.putfield 322, 3) := dk_181 1 66 (dk_at dksX6_findChance_1 10 rfl rfl)
theorem dX6_findChance_36 : decode cX6_findChance 36 = .ok (.aload_n 0, 1) := dk_42 (dk_at dksX6_findChance_1 13 rfl rfl)
theorem dX6_findChance_37 : decode cX6_findChance 37 = .ok (.aload_n 0, 1) := dk_42 (dk_at dksX6_findChance_1 14 rfl rfl)
theorem dX6_findChance_38 : decode cX6_findChance 38 = .ok (.getfield 272, 3) := dk_180 1 16 (dk_at dksX6_findChance_1 15 rfl rfl)
theorem dX6_findChance_41 : decode cX6_findChance 41 = .ok (.iconst 0, 1) := dk_3 (dk_at dksX6_findChance_1 18 rfl rfl)
theorem dX6_findChance_42 : decode cX6_findChance 42 = .ok (.iconst 0, 1) := dk_3 (dk_at dksX6_findChance_1 19 rfl rfl)
theorem dX6_findChance_43 : decode cX6_findChance 43 = .ok (.lconst 1, 1) := dk_10 (dk_at dksX6_findChance_1 20 rfl rfl)
theorem dX6_findChance_44 : decode cX6_findChance 44 = .ok (.invokevirtual 325, 3) := dk_182 1 69 (dk_at dksX6_findChance_1 21 rfl rfl)
theorem dX6_findChance_47 : decode cX6_findChance 47 = .ok (.return_, 1) := dk_177 (dk_at dksX6_findChance_2 0 rfl rfl)
abbrev cX6_goThrough : ByteArray := prog_26_method_61_code
def yX6_goThrough : MethodName := ⟨RX6, "goThrough", "(IIIJ)V"⟩
def dkwX6_goThrough_7 : List UInt8 := [182, 1, 78, 42, 27, 28, 4, 96, 29, 4, 96, 22, 4, 16, 12, 21, 6, 100, 133, 105, 182, 1, 69, 177]
abbrev dktX6_goThrough_7 : List UInt8 := dkwX6_goThrough_7 ++ []
def dkwX6_goThrough_6 : List UInt8 := [182, 1, 35, 42, 27, 28, 4, 96, 29, 4, 96, 22, 4, 21, 6, 133, 105, 182, 1, 69, 42, 29]
abbrev dktX6_goThrough_6 : List UInt8 := dkwX6_goThrough_6 ++ dktX6_goThrough_7
def dkwX6_goThrough_5 : List UInt8 := [182, 1, 69, 177, 42, 28, 27, 182, 1, 22, 54, 6, 42, 29, 182, 1, 75, 21, 6, 158, 0, 30, 42, 28]
abbrev dktX6_goThrough_5 : List UInt8 := dkwX6_goThrough_5 ++ dktX6_goThrough_6
def dkwX6_goThrough_4 : List UInt8 := [180, 0, 78, 28, 46, 154, 0, 21, 42, 27, 28, 4, 96, 29, 4, 96, 22, 4, 20, 1, 73, 105]
abbrev dktX6_goThrough_4 : List UInt8 := dkwX6_goThrough_4 ++ dktX6_goThrough_5
def dkwX6_goThrough_3 : List UInt8 := [182, 1, 28, 28, 42, 180, 0, 138, 160, 0, 15, 42, 27, 4, 96, 3, 29, 22, 4, 182, 1, 69, 177, 42]
abbrev dktX6_goThrough_3 : List UInt8 := dkwX6_goThrough_3 ++ dktX6_goThrough_4
def dkwX6_goThrough_2 : List UInt8 := [22, 4, 42, 180, 0, 78, 42, 180, 1, 59, 46, 133, 105, 97, 181, 1, 66, 177, 28, 154, 0, 7, 42]
abbrev dktX6_goThrough_2 : List UInt8 := dkwX6_goThrough_2 ++ dktX6_goThrough_3
def dkwX6_goThrough_1 : List UInt8 := [42, 180, 1, 59, 160, 0, 14, 42, 89, 180, 1, 62, 22, 4, 97, 181, 1, 62, 42, 89, 180, 1, 66]
abbrev dktX6_goThrough_1 : List UInt8 := dkwX6_goThrough_1 ++ dktX6_goThrough_2
def dkwX6_goThrough_0 : List UInt8 := [22, 4, 9, 148, 154, 0, 4, 177, 27, 42, 180, 1, 56, 160, 0, 52, 42, 42, 180, 0, 78, 182, 1, 42]
abbrev dktX6_goThrough_0 : List UInt8 := dkwX6_goThrough_0 ++ dktX6_goThrough_1
theorem dksX6_goThrough_0 : cX6_goThrough.data.toList.drop 0 = dktX6_goThrough_0 := by decide +kernel
theorem dksX6_goThrough_1 : cX6_goThrough.data.toList.drop 24 = dktX6_goThrough_1 := dk_seg dksX6_goThrough_0 24 rfl rfl
theorem dksX6_goThrough_2 : cX6_goThrough.data.toList.drop 47 = dktX6_goThrough_2 := dk_seg dksX6_goThrough_1 23 rfl rfl
theorem dksX6_goThrough_3 : cX6_goThrough.data.toList.drop 70 = dktX6_goThrough_3 := dk_seg dksX6_goThrough_2 23 rfl rfl
theorem dksX6_goThrough_4 : cX6_goThrough.data.toList.drop 94 = dktX6_goThrough_4 := dk_seg dksX6_goThrough_3 24 rfl rfl
theorem dksX6_goThrough_5 : cX6_goThrough.data.toList.drop 116 = dktX6_goThrough_5 := dk_seg dksX6_goThrough_4 22 rfl rfl
theorem dksX6_goThrough_6 : cX6_goThrough.data.toList.drop 140 = dktX6_goThrough_6 := dk_seg dksX6_goThrough_5 24 rfl rfl
theorem dksX6_goThrough_7 : cX6_goThrough.data.toList.drop 162 = dktX6_goThrough_7 := dk_seg dksX6_goThrough_6 22 rfl rfl
theorem dX6_goThrough_0 : decode cX6_goThrough 0 = .ok (.lload 4, 2) := dk_22 4 (dk_at dksX6_goThrough_0 0 rfl rfl)
theorem dX6_goThrough_2 : decode cX6_goThrough 2 = .ok (.lconst 0, 1) := dk_9 (dk_at dksX6_goThrough_0 2 rfl rfl)
theorem dX6_goThrough_3 : decode cX6_goThrough 3 = .ok (.lcmp, 1) := dk_148 (dk_at dksX6_goThrough_0 3 rfl rfl)
theorem dX6_goThrough_4 : decode cX6_goThrough 4 = .ok (.ifCond .ne 4, 3) := dk_154 0 4 (dk_at dksX6_goThrough_0 4 rfl rfl)
theorem dX6_goThrough_7 : decode cX6_goThrough 7 = .ok (.return_, 1) := dk_177 (dk_at dksX6_goThrough_0 7 rfl rfl)
theorem dX6_goThrough_8 : decode cX6_goThrough 8 = .ok (.iload_n 1, 1) := dk_27 (dk_at dksX6_goThrough_0 8 rfl rfl)
theorem dX6_goThrough_9 : decode cX6_goThrough 9 = .ok (.aload_n 0, 1) := dk_42 (dk_at dksX6_goThrough_0 9 rfl rfl)
theorem dX6_goThrough_10 : decode cX6_goThrough 10 = .ok (.getfield 312, 3) := dk_180 1 56 (dk_at dksX6_goThrough_0 10 rfl rfl)
theorem dX6_goThrough_13 : decode cX6_goThrough 13 = .ok (.if_icmp .ne 52, 3) := dk_160 0 52 (dk_at dksX6_goThrough_0 13 rfl rfl)
theorem dX6_goThrough_16 : decode cX6_goThrough 16 = .ok (.aload_n 0, 1) := dk_42 (dk_at dksX6_goThrough_0 16 rfl rfl)
theorem dX6_goThrough_17 : decode cX6_goThrough 17 = .ok (.aload_n 0, 1) := dk_42 (dk_at dksX6_goThrough_0 17 rfl rfl)
theorem dX6_goThrough_18 : decode cX6_goThrough 18 = .ok (.getfield 78, 3) := dk_180 0 78 (dk_at dksX6_goThrough_0 18 rfl rfl)
theorem dX6_goThrough_21 : decode cX6_goThrough 21 = .ok (.invokevirtual 298, 3) := dk_182 1 42 (dk_at dksX6_goThrough_0 21 rfl rfl)
theorem dX6_goThrough_24 : decode cX6_goThrough 24 = .ok (.aload_n 0, 1) := dk_42 (dk_at dksX6_goThrough_1 0 rfl rfl)
theorem dX6_goThrough_25 : decode cX6_goThrough 25 = .ok (.getfield 315, 3) := dk_180 1 59 (dk_at dksX6_goThrough_1 1 rfl rfl)
theorem dX6_goThrough_28 : decode cX6_goThrough 28 = .ok (.if_icmp .ne 14, 3) := dk_160 0 14 (dk_at dksX6_goThrough_1 4 rfl rfl)
theorem dX6_goThrough_31 : decode cX6_goThrough 31 = .ok (.aload_n 0, 1) := dk_42 (dk_at dksX6_goThrough_1 7 rfl rfl)
theorem dX6_goThrough_32 : decode cX6_goThrough 32 = .ok (.dup, 1) := dk_89 (dk_at dksX6_goThrough_1 8 rfl rfl)
theorem dX6_goThrough_33 : decode cX6_goThrough 33 = .ok (.getfield 318, 3) := dk_180 1 62 (dk_at dksX6_goThrough_1 9 rfl rfl)
theorem dX6_goThrough_36 : decode cX6_goThrough 36 = .ok (.lload 4, 2) := dk_22 4 (dk_at dksX6_goThrough_1 12 rfl rfl)
theorem dX6_goThrough_38 : decode cX6_goThrough 38 = .ok (.ladd, 1) := dk_97 (dk_at dksX6_goThrough_1 14 rfl rfl)
theorem dX6_goThrough_39 : decode cX6_goThrough 39 = .ok (.putfield 318, 3) := dk_181 1 62 (dk_at dksX6_goThrough_1 15 rfl rfl)
theorem dX6_goThrough_42 : decode cX6_goThrough 42 = .ok (.aload_n 0, 1) := dk_42 (dk_at dksX6_goThrough_1 18 rfl rfl)
theorem dX6_goThrough_43 : decode cX6_goThrough 43 = .ok (.dup, 1) := dk_89 (dk_at dksX6_goThrough_1 19 rfl rfl)
theorem dX6_goThrough_44 : decode cX6_goThrough 44 = .ok (.getfield 322, 3) := dk_180 1 66 (dk_at dksX6_goThrough_1 20 rfl rfl)
theorem dX6_goThrough_47 : decode cX6_goThrough 47 = .ok (.lload 4, 2) := dk_22 4 (dk_at dksX6_goThrough_2 0 rfl rfl)
theorem dX6_goThrough_49 : decode cX6_goThrough 49 = .ok (.aload_n 0, 1) := dk_42 (dk_at dksX6_goThrough_2 2 rfl rfl)
theorem dX6_goThrough_50 : decode cX6_goThrough 50 = .ok (.getfield 78, 3) := dk_180 0 78 (dk_at dksX6_goThrough_2 3 rfl rfl)
theorem dX6_goThrough_53 : decode cX6_goThrough 53 = .ok (.aload_n 0, 1) := dk_42 (dk_at dksX6_goThrough_2 6 rfl rfl)
theorem dX6_goThrough_54 : decode cX6_goThrough 54 = .ok (.getfield 315, 3) := dk_180 1 59 (dk_at dksX6_goThrough_2 7 rfl rfl)
theorem dX6_goThrough_57 : decode cX6_goThrough 57 = .ok (.iaload, 1) := dk_46 (dk_at dksX6_goThrough_2 10 rfl rfl)
theorem dX6_goThrough_58 : decode cX6_goThrough 58 = .ok (.i2l, 1) := dk_133 (dk_at dksX6_goThrough_2 11 rfl rfl)
theorem dX6_goThrough_59 : decode cX6_goThrough 59 = .ok (.lmul, 1) := dk_105 (dk_at dksX6_goThrough_2 12 rfl rfl)
theorem dX6_goThrough_60 : decode cX6_goThrough 60 = .ok (.ladd, 1) := dk_97 (dk_at dksX6_goThrough_2 13 rfl rfl)
theorem dX6_goThrough_61 : decode cX6_goThrough 61 = .ok (.putfield 322, 3) := dk_181 1 66 (dk_at dksX6_goThrough_2 14 rfl rfl)
theorem dX6_goThrough_64 : decode cX6_goThrough 64 = .ok (.return_, 1) := dk_177 (dk_at dksX6_goThrough_2 17 rfl rfl)
theorem dX6_goThrough_65 : decode cX6_goThrough 65 = .ok (.iload_n 2, 1) := dk_28 (dk_at dksX6_goThrough_2 18 rfl rfl)
theorem dX6_goThrough_66 : decode cX6_goThrough 66 = .ok (.ifCond .ne 7, 3) := dk_154 0 7 (dk_at dksX6_goThrough_2 19 rfl rfl)
theorem dX6_goThrough_69 : decode cX6_goThrough 69 = .ok (.aload_n 0, 1) := dk_42 (dk_at dksX6_goThrough_2 22 rfl rfl)
theorem dX6_goThrough_70 : decode cX6_goThrough 70 = .ok (.invokevirtual 284, 3) := dk_182 1 28 (dk_at dksX6_goThrough_3 0 rfl rfl)
theorem dX6_goThrough_73 : decode cX6_goThrough 73 = .ok (.iload_n 2, 1) := dk_28 (dk_at dksX6_goThrough_3 3 rfl rfl)
theorem dX6_goThrough_74 : decode cX6_goThrough 74 = .ok (.aload_n 0, 1) := dk_42 (dk_at dksX6_goThrough_3 4 rfl rfl)
theorem dX6_goThrough_75 : decode cX6_goThrough 75 = .ok (.getfield 138, 3) := dk_180 0 138 (dk_at dksX6_goThrough_3 5 rfl rfl)
theorem dX6_goThrough_78 : decode cX6_goThrough 78 = .ok (.if_icmp .ne 15, 3) := dk_160 0 15 (dk_at dksX6_goThrough_3 8 rfl rfl)
theorem dX6_goThrough_81 : decode cX6_goThrough 81 = .ok (.aload_n 0, 1) := dk_42 (dk_at dksX6_goThrough_3 11 rfl rfl)
theorem dX6_goThrough_82 : decode cX6_goThrough 82 = .ok (.iload_n 1, 1) := dk_27 (dk_at dksX6_goThrough_3 12 rfl rfl)
theorem dX6_goThrough_83 : decode cX6_goThrough 83 = .ok (.iconst 1, 1) := dk_4 (dk_at dksX6_goThrough_3 13 rfl rfl)
theorem dX6_goThrough_84 : decode cX6_goThrough 84 = .ok (.iadd, 1) := dk_96 (dk_at dksX6_goThrough_3 14 rfl rfl)
theorem dX6_goThrough_85 : decode cX6_goThrough 85 = .ok (.iconst 0, 1) := dk_3 (dk_at dksX6_goThrough_3 15 rfl rfl)
theorem dX6_goThrough_86 : decode cX6_goThrough 86 = .ok (.iload_n 3, 1) := dk_29 (dk_at dksX6_goThrough_3 16 rfl rfl)
theorem dX6_goThrough_87 : decode cX6_goThrough 87 = .ok (.lload 4, 2) := dk_22 4 (dk_at dksX6_goThrough_3 17 rfl rfl)
theorem dX6_goThrough_89 : decode cX6_goThrough 89 = .ok (.invokevirtual 325, 3) := dk_182 1 69 (dk_at dksX6_goThrough_3 19 rfl rfl)
theorem dX6_goThrough_92 : decode cX6_goThrough 92 = .ok (.return_, 1) := dk_177 (dk_at dksX6_goThrough_3 22 rfl rfl)
theorem dX6_goThrough_93 : decode cX6_goThrough 93 = .ok (.aload_n 0, 1) := dk_42 (dk_at dksX6_goThrough_3 23 rfl rfl)
theorem dX6_goThrough_94 : decode cX6_goThrough 94 = .ok (.getfield 78, 3) := dk_180 0 78 (dk_at dksX6_goThrough_4 0 rfl rfl)
theorem dX6_goThrough_97 : decode cX6_goThrough 97 = .ok (.iload_n 2, 1) := dk_28 (dk_at dksX6_goThrough_4 3 rfl rfl)
theorem dX6_goThrough_98 : decode cX6_goThrough 98 = .ok (.iaload, 1) := dk_46 (dk_at dksX6_goThrough_4 4 rfl rfl)
theorem dX6_goThrough_99 : decode cX6_goThrough 99 = .ok (.ifCond .ne 21, 3) := dk_154 0 21 (dk_at dksX6_goThrough_4 5 rfl rfl)
theorem dX6_goThrough_102 : decode cX6_goThrough 102 = .ok (.aload_n 0, 1) := dk_42 (dk_at dksX6_goThrough_4 8 rfl rfl)
theorem dX6_goThrough_103 : decode cX6_goThrough 103 = .ok (.iload_n 1, 1) := dk_27 (dk_at dksX6_goThrough_4 9 rfl rfl)
theorem dX6_goThrough_104 : decode cX6_goThrough 104 = .ok (.iload_n 2, 1) := dk_28 (dk_at dksX6_goThrough_4 10 rfl rfl)
theorem dX6_goThrough_105 : decode cX6_goThrough 105 = .ok (.iconst 1, 1) := dk_4 (dk_at dksX6_goThrough_4 11 rfl rfl)
theorem dX6_goThrough_106 : decode cX6_goThrough 106 = .ok (.iadd, 1) := dk_96 (dk_at dksX6_goThrough_4 12 rfl rfl)
theorem dX6_goThrough_107 : decode cX6_goThrough 107 = .ok (.iload_n 3, 1) := dk_29 (dk_at dksX6_goThrough_4 13 rfl rfl)
theorem dX6_goThrough_108 : decode cX6_goThrough 108 = .ok (.iconst 1, 1) := dk_4 (dk_at dksX6_goThrough_4 14 rfl rfl)
theorem dX6_goThrough_109 : decode cX6_goThrough 109 = .ok (.iadd, 1) := dk_96 (dk_at dksX6_goThrough_4 15 rfl rfl)
theorem dX6_goThrough_110 : decode cX6_goThrough 110 = .ok (.lload 4, 2) := dk_22 4 (dk_at dksX6_goThrough_4 16 rfl rfl)
theorem dX6_goThrough_112 : decode cX6_goThrough 112 = .ok (.ldc2_w 329, 3) := dk_20 1 73 (dk_at dksX6_goThrough_4 18 rfl rfl)
theorem dX6_goThrough_115 : decode cX6_goThrough 115 = .ok (.lmul, 1) := dk_105 (dk_at dksX6_goThrough_4 21 rfl rfl)
theorem dX6_goThrough_116 : decode cX6_goThrough 116 = .ok (.invokevirtual 325, 3) := dk_182 1 69 (dk_at dksX6_goThrough_5 0 rfl rfl)
theorem dX6_goThrough_119 : decode cX6_goThrough 119 = .ok (.return_, 1) := dk_177 (dk_at dksX6_goThrough_5 3 rfl rfl)
theorem dX6_goThrough_120 : decode cX6_goThrough 120 = .ok (.aload_n 0, 1) := dk_42 (dk_at dksX6_goThrough_5 4 rfl rfl)
theorem dX6_goThrough_121 : decode cX6_goThrough 121 = .ok (.iload_n 2, 1) := dk_28 (dk_at dksX6_goThrough_5 5 rfl rfl)
theorem dX6_goThrough_122 : decode cX6_goThrough 122 = .ok (.iload_n 1, 1) := dk_27 (dk_at dksX6_goThrough_5 6 rfl rfl)
theorem dX6_goThrough_123 : decode cX6_goThrough 123 = .ok (.invokevirtual 278, 3) := dk_182 1 22 (dk_at dksX6_goThrough_5 7 rfl rfl)
theorem dX6_goThrough_126 : decode cX6_goThrough 126 = .ok (.istore 6, 2) := dk_54 6 (dk_at dksX6_goThrough_5 10 rfl rfl)
theorem dX6_goThrough_128 : decode cX6_goThrough 128 = .ok (.aload_n 0, 1) := dk_42 (dk_at dksX6_goThrough_5 12 rfl rfl)
theorem dX6_goThrough_129 : decode cX6_goThrough 129 = .ok (.iload_n 3, 1) := dk_29 (dk_at dksX6_goThrough_5 13 rfl rfl)
theorem dX6_goThrough_130 : decode cX6_goThrough 130 = .ok (.invokevirtual 331, 3) := dk_182 1 75 (dk_at dksX6_goThrough_5 14 rfl rfl)
theorem dX6_goThrough_133 : decode cX6_goThrough 133 = .ok (.iload 6, 2) := dk_21 6 (dk_at dksX6_goThrough_5 17 rfl rfl)
theorem dX6_goThrough_135 : decode cX6_goThrough 135 = .ok (.ifCond .le 30, 3) := dk_158 0 30 (dk_at dksX6_goThrough_5 19 rfl rfl)
theorem dX6_goThrough_138 : decode cX6_goThrough 138 = .ok (.aload_n 0, 1) := dk_42 (dk_at dksX6_goThrough_5 22 rfl rfl)
theorem dX6_goThrough_139 : decode cX6_goThrough 139 = .ok (.iload_n 2, 1) := dk_28 (dk_at dksX6_goThrough_5 23 rfl rfl)
theorem dX6_goThrough_140 : decode cX6_goThrough 140 = .ok (.invokevirtual 291, 3) := dk_182 1 35 (dk_at dksX6_goThrough_6 0 rfl rfl)
theorem dX6_goThrough_143 : decode cX6_goThrough 143 = .ok (.aload_n 0, 1) := dk_42 (dk_at dksX6_goThrough_6 3 rfl rfl)
theorem dX6_goThrough_144 : decode cX6_goThrough 144 = .ok (.iload_n 1, 1) := dk_27 (dk_at dksX6_goThrough_6 4 rfl rfl)
theorem dX6_goThrough_145 : decode cX6_goThrough 145 = .ok (.iload_n 2, 1) := dk_28 (dk_at dksX6_goThrough_6 5 rfl rfl)
theorem dX6_goThrough_146 : decode cX6_goThrough 146 = .ok (.iconst 1, 1) := dk_4 (dk_at dksX6_goThrough_6 6 rfl rfl)
theorem dX6_goThrough_147 : decode cX6_goThrough 147 = .ok (.iadd, 1) := dk_96 (dk_at dksX6_goThrough_6 7 rfl rfl)
theorem dX6_goThrough_148 : decode cX6_goThrough 148 = .ok (.iload_n 3, 1) := dk_29 (dk_at dksX6_goThrough_6 8 rfl rfl)
theorem dX6_goThrough_149 : decode cX6_goThrough 149 = .ok (.iconst 1, 1) := dk_4 (dk_at dksX6_goThrough_6 9 rfl rfl)
theorem dX6_goThrough_150 : decode cX6_goThrough 150 = .ok (.iadd, 1) := dk_96 (dk_at dksX6_goThrough_6 10 rfl rfl)
theorem dX6_goThrough_151 : decode cX6_goThrough 151 = .ok (.lload 4, 2) := dk_22 4 (dk_at dksX6_goThrough_6 11 rfl rfl)
theorem dX6_goThrough_153 : decode cX6_goThrough 153 = .ok (.iload 6, 2) := dk_21 6 (dk_at dksX6_goThrough_6 13 rfl rfl)
theorem dX6_goThrough_155 : decode cX6_goThrough 155 = .ok (.i2l, 1) := dk_133 (dk_at dksX6_goThrough_6 15 rfl rfl)
theorem dX6_goThrough_156 : decode cX6_goThrough 156 = .ok (.lmul, 1) := dk_105 (dk_at dksX6_goThrough_6 16 rfl rfl)
theorem dX6_goThrough_157 : decode cX6_goThrough 157 = .ok (.invokevirtual 325, 3) := dk_182 1 69 (dk_at dksX6_goThrough_6 17 rfl rfl)
theorem dX6_goThrough_160 : decode cX6_goThrough 160 = .ok (.aload_n 0, 1) := dk_42 (dk_at dksX6_goThrough_6 20 rfl rfl)
theorem dX6_goThrough_161 : decode cX6_goThrough 161 = .ok (.iload_n 3, 1) := dk_29 (dk_at dksX6_goThrough_6 21 rfl rfl)
theorem dX6_goThrough_162 : decode cX6_goThrough 162 = .ok (.invokevirtual 334, 3) := dk_182 1 78 (dk_at dksX6_goThrough_7 0 rfl rfl)
theorem dX6_goThrough_165 : decode cX6_goThrough 165 = .ok (.aload_n 0, 1) := dk_42 (dk_at dksX6_goThrough_7 3 rfl rfl)
theorem dX6_goThrough_166 : decode cX6_goThrough 166 = .ok (.iload_n 1, 1) := dk_27 (dk_at dksX6_goThrough_7 4 rfl rfl)
theorem dX6_goThrough_167 : decode cX6_goThrough 167 = .ok (.iload_n 2, 1) := dk_28 (dk_at dksX6_goThrough_7 5 rfl rfl)
theorem dX6_goThrough_168 : decode cX6_goThrough 168 = .ok (.iconst 1, 1) := dk_4 (dk_at dksX6_goThrough_7 6 rfl rfl)
theorem dX6_goThrough_169 : decode cX6_goThrough 169 = .ok (.iadd, 1) := dk_96 (dk_at dksX6_goThrough_7 7 rfl rfl)
theorem dX6_goThrough_170 : decode cX6_goThrough 170 = .ok (.iload_n 3, 1) := dk_29 (dk_at dksX6_goThrough_7 8 rfl rfl)
theorem dX6_goThrough_171 : decode cX6_goThrough 171 = .ok (.iconst 1, 1) := dk_4 (dk_at dksX6_goThrough_7 9 rfl rfl)
theorem dX6_goThrough_172 : decode cX6_goThrough 172 = .ok (.iadd, 1) := dk_96 (dk_at dksX6_goThrough_7 10 rfl rfl)
theorem dX6_goThrough_173 : decode cX6_goThrough 173 = .ok (.lload 4, 2) := dk_22 4 (dk_at dksX6_goThrough_7 11 rfl rfl)
theorem dX6_goThrough_175 : decode cX6_goThrough 175 = .ok (.bipush 12, 2) := dk_16 12 (dk_at dksX6_goThrough_7 13 rfl rfl)
theorem dX6_goThrough_177 : decode cX6_goThrough 177 = .ok (.iload 6, 2) := dk_21 6 (dk_at dksX6_goThrough_7 15 rfl rfl)
theorem dX6_goThrough_179 : decode cX6_goThrough 179 = .ok (.isub, 1) := dk_100 (dk_at dksX6_goThrough_7 17 rfl rfl)
theorem dX6_goThrough_180 : decode cX6_goThrough 180 = .ok (.i2l, 1) := dk_133 (dk_at dksX6_goThrough_7 18 rfl rfl)
theorem dX6_goThrough_181 : decode cX6_goThrough 181 = .ok (.lmul, 1) := dk_105 (dk_at dksX6_goThrough_7 19 rfl rfl)
theorem dX6_goThrough_182 : decode cX6_goThrough 182 = .ok (.invokevirtual 325, 3) := dk_182 1 69 (dk_at dksX6_goThrough_7 20 rfl rfl)
theorem dX6_goThrough_185 : decode cX6_goThrough 185 = .ok (.return_, 1) := dk_177 (dk_at dksX6_goThrough_7 23 rfl rfl)
abbrev cX6_keepThen : ByteArray := prog_26_method_59_code
def yX6_keepThen : MethodName := ⟨RX6, "keepThen", "(I)V"⟩
def dkwX6_keepThen_2 : List UInt8 := [96, 42, 180, 0, 84, 28, 46, 79, 132, 2, 1, 167, 255, 230, 177]
abbrev dktX6_keepThen_2 : List UInt8 := dkwX6_keepThen_2 ++ []
def dkwX6_keepThen_1 : List UInt8 := [79, 132, 2, 1, 167, 255, 230, 3, 61, 28, 16, 7, 162, 0, 26, 42, 180, 0, 96, 16, 7, 27, 104, 28]
abbrev dktX6_keepThen_1 : List UInt8 := dkwX6_keepThen_1 ++ dktX6_keepThen_2
def dkwX6_keepThen_0 : List UInt8 := [3, 61, 28, 16, 6, 162, 0, 26, 42, 180, 0, 93, 16, 6, 27, 104, 28, 96, 42, 180, 0, 78, 28, 46]
abbrev dktX6_keepThen_0 : List UInt8 := dkwX6_keepThen_0 ++ dktX6_keepThen_1
theorem dksX6_keepThen_0 : cX6_keepThen.data.toList.drop 0 = dktX6_keepThen_0 := by decide +kernel
theorem dksX6_keepThen_1 : cX6_keepThen.data.toList.drop 24 = dktX6_keepThen_1 := dk_seg dksX6_keepThen_0 24 rfl rfl
theorem dksX6_keepThen_2 : cX6_keepThen.data.toList.drop 48 = dktX6_keepThen_2 := dk_seg dksX6_keepThen_1 24 rfl rfl
theorem dX6_keepThen_0 : decode cX6_keepThen 0 = .ok (.iconst 0, 1) := dk_3 (dk_at dksX6_keepThen_0 0 rfl rfl)
theorem dX6_keepThen_1 : decode cX6_keepThen 1 = .ok (.istore_n 2, 1) := dk_61 (dk_at dksX6_keepThen_0 1 rfl rfl)
theorem dX6_keepThen_2 : decode cX6_keepThen 2 = .ok (.iload_n 2, 1) := dk_28 (dk_at dksX6_keepThen_0 2 rfl rfl)
theorem dX6_keepThen_3 : decode cX6_keepThen 3 = .ok (.bipush 6, 2) := dk_16 6 (dk_at dksX6_keepThen_0 3 rfl rfl)
theorem dX6_keepThen_5 : decode cX6_keepThen 5 = .ok (.if_icmp .ge 26, 3) := dk_162 0 26 (dk_at dksX6_keepThen_0 5 rfl rfl)
theorem dX6_keepThen_8 : decode cX6_keepThen 8 = .ok (.aload_n 0, 1) := dk_42 (dk_at dksX6_keepThen_0 8 rfl rfl)
theorem dX6_keepThen_9 : decode cX6_keepThen 9 = .ok (.getfield 93, 3) := dk_180 0 93 (dk_at dksX6_keepThen_0 9 rfl rfl)
theorem dX6_keepThen_12 : decode cX6_keepThen 12 = .ok (.bipush 6, 2) := dk_16 6 (dk_at dksX6_keepThen_0 12 rfl rfl)
theorem dX6_keepThen_14 : decode cX6_keepThen 14 = .ok (.iload_n 1, 1) := dk_27 (dk_at dksX6_keepThen_0 14 rfl rfl)
theorem dX6_keepThen_15 : decode cX6_keepThen 15 = .ok (.imul, 1) := dk_104 (dk_at dksX6_keepThen_0 15 rfl rfl)
theorem dX6_keepThen_16 : decode cX6_keepThen 16 = .ok (.iload_n 2, 1) := dk_28 (dk_at dksX6_keepThen_0 16 rfl rfl)
theorem dX6_keepThen_17 : decode cX6_keepThen 17 = .ok (.iadd, 1) := dk_96 (dk_at dksX6_keepThen_0 17 rfl rfl)
theorem dX6_keepThen_18 : decode cX6_keepThen 18 = .ok (.aload_n 0, 1) := dk_42 (dk_at dksX6_keepThen_0 18 rfl rfl)
theorem dX6_keepThen_19 : decode cX6_keepThen 19 = .ok (.getfield 78, 3) := dk_180 0 78 (dk_at dksX6_keepThen_0 19 rfl rfl)
theorem dX6_keepThen_22 : decode cX6_keepThen 22 = .ok (.iload_n 2, 1) := dk_28 (dk_at dksX6_keepThen_0 22 rfl rfl)
theorem dX6_keepThen_23 : decode cX6_keepThen 23 = .ok (.iaload, 1) := dk_46 (dk_at dksX6_keepThen_0 23 rfl rfl)
theorem dX6_keepThen_24 : decode cX6_keepThen 24 = .ok (.iastore, 1) := dk_79 (dk_at dksX6_keepThen_1 0 rfl rfl)
theorem dX6_keepThen_25 : decode cX6_keepThen 25 = .ok (.iinc 2 1, 3) := dk_132 2 1 (dk_at dksX6_keepThen_1 1 rfl rfl)
theorem dX6_keepThen_28 : decode cX6_keepThen 28 = .ok (.goto (-26), 3) := dk_167 255 230 (dk_at dksX6_keepThen_1 4 rfl rfl)
theorem dX6_keepThen_31 : decode cX6_keepThen 31 = .ok (.iconst 0, 1) := dk_3 (dk_at dksX6_keepThen_1 7 rfl rfl)
theorem dX6_keepThen_32 : decode cX6_keepThen 32 = .ok (.istore_n 2, 1) := dk_61 (dk_at dksX6_keepThen_1 8 rfl rfl)
theorem dX6_keepThen_33 : decode cX6_keepThen 33 = .ok (.iload_n 2, 1) := dk_28 (dk_at dksX6_keepThen_1 9 rfl rfl)
theorem dX6_keepThen_34 : decode cX6_keepThen 34 = .ok (.bipush 7, 2) := dk_16 7 (dk_at dksX6_keepThen_1 10 rfl rfl)
theorem dX6_keepThen_36 : decode cX6_keepThen 36 = .ok (.if_icmp .ge 26, 3) := dk_162 0 26 (dk_at dksX6_keepThen_1 12 rfl rfl)
theorem dX6_keepThen_39 : decode cX6_keepThen 39 = .ok (.aload_n 0, 1) := dk_42 (dk_at dksX6_keepThen_1 15 rfl rfl)
theorem dX6_keepThen_40 : decode cX6_keepThen 40 = .ok (.getfield 96, 3) := dk_180 0 96 (dk_at dksX6_keepThen_1 16 rfl rfl)
theorem dX6_keepThen_43 : decode cX6_keepThen 43 = .ok (.bipush 7, 2) := dk_16 7 (dk_at dksX6_keepThen_1 19 rfl rfl)
theorem dX6_keepThen_45 : decode cX6_keepThen 45 = .ok (.iload_n 1, 1) := dk_27 (dk_at dksX6_keepThen_1 21 rfl rfl)
theorem dX6_keepThen_46 : decode cX6_keepThen 46 = .ok (.imul, 1) := dk_104 (dk_at dksX6_keepThen_1 22 rfl rfl)
theorem dX6_keepThen_47 : decode cX6_keepThen 47 = .ok (.iload_n 2, 1) := dk_28 (dk_at dksX6_keepThen_1 23 rfl rfl)
theorem dX6_keepThen_48 : decode cX6_keepThen 48 = .ok (.iadd, 1) := dk_96 (dk_at dksX6_keepThen_2 0 rfl rfl)
theorem dX6_keepThen_49 : decode cX6_keepThen 49 = .ok (.aload_n 0, 1) := dk_42 (dk_at dksX6_keepThen_2 1 rfl rfl)
theorem dX6_keepThen_50 : decode cX6_keepThen 50 = .ok (.getfield 84, 3) := dk_180 0 84 (dk_at dksX6_keepThen_2 2 rfl rfl)
theorem dX6_keepThen_53 : decode cX6_keepThen 53 = .ok (.iload_n 2, 1) := dk_28 (dk_at dksX6_keepThen_2 5 rfl rfl)
theorem dX6_keepThen_54 : decode cX6_keepThen 54 = .ok (.iaload, 1) := dk_46 (dk_at dksX6_keepThen_2 6 rfl rfl)
theorem dX6_keepThen_55 : decode cX6_keepThen 55 = .ok (.iastore, 1) := dk_79 (dk_at dksX6_keepThen_2 7 rfl rfl)
theorem dX6_keepThen_56 : decode cX6_keepThen 56 = .ok (.iinc 2 1, 3) := dk_132 2 1 (dk_at dksX6_keepThen_2 8 rfl rfl)
theorem dX6_keepThen_59 : decode cX6_keepThen 59 = .ok (.goto (-26), 3) := dk_167 255 230 (dk_at dksX6_keepThen_2 11 rfl rfl)
theorem dX6_keepThen_62 : decode cX6_keepThen 62 = .ok (.return_, 1) := dk_177 (dk_at dksX6_keepThen_2 14 rfl rfl)
abbrev cX6_layBack : ByteArray := prog_26_method_60_code
def yX6_layBack : MethodName := ⟨RX6, "layBack", "(I)V"⟩
def dkwX6_layBack_2 : List UInt8 := [16, 7, 27, 104, 28, 96, 46, 79, 132, 2, 1, 167, 255, 230, 177]
abbrev dktX6_layBack_2 : List UInt8 := dkwX6_layBack_2 ++ []
def dkwX6_layBack_1 : List UInt8 := [79, 132, 2, 1, 167, 255, 230, 3, 61, 28, 16, 7, 162, 0, 26, 42, 180, 0, 84, 28, 42, 180, 0, 96]
abbrev dktX6_layBack_1 : List UInt8 := dkwX6_layBack_1 ++ dktX6_layBack_2
def dkwX6_layBack_0 : List UInt8 := [3, 61, 28, 16, 6, 162, 0, 26, 42, 180, 0, 78, 28, 42, 180, 0, 93, 16, 6, 27, 104, 28, 96, 46]
abbrev dktX6_layBack_0 : List UInt8 := dkwX6_layBack_0 ++ dktX6_layBack_1
theorem dksX6_layBack_0 : cX6_layBack.data.toList.drop 0 = dktX6_layBack_0 := by decide +kernel
theorem dksX6_layBack_1 : cX6_layBack.data.toList.drop 24 = dktX6_layBack_1 := dk_seg dksX6_layBack_0 24 rfl rfl
theorem dksX6_layBack_2 : cX6_layBack.data.toList.drop 48 = dktX6_layBack_2 := dk_seg dksX6_layBack_1 24 rfl rfl
theorem dX6_layBack_0 : decode cX6_layBack 0 = .ok (.iconst 0, 1) := dk_3 (dk_at dksX6_layBack_0 0 rfl rfl)
theorem dX6_layBack_1 : decode cX6_layBack 1 = .ok (.istore_n 2, 1) := dk_61 (dk_at dksX6_layBack_0 1 rfl rfl)
theorem dX6_layBack_2 : decode cX6_layBack 2 = .ok (.iload_n 2, 1) := dk_28 (dk_at dksX6_layBack_0 2 rfl rfl)
theorem dX6_layBack_3 : decode cX6_layBack 3 = .ok (.bipush 6, 2) := dk_16 6 (dk_at dksX6_layBack_0 3 rfl rfl)
theorem dX6_layBack_5 : decode cX6_layBack 5 = .ok (.if_icmp .ge 26, 3) := dk_162 0 26 (dk_at dksX6_layBack_0 5 rfl rfl)
theorem dX6_layBack_8 : decode cX6_layBack 8 = .ok (.aload_n 0, 1) := dk_42 (dk_at dksX6_layBack_0 8 rfl rfl)
theorem dX6_layBack_9 : decode cX6_layBack 9 = .ok (.getfield 78, 3) := dk_180 0 78 (dk_at dksX6_layBack_0 9 rfl rfl)
theorem dX6_layBack_12 : decode cX6_layBack 12 = .ok (.iload_n 2, 1) := dk_28 (dk_at dksX6_layBack_0 12 rfl rfl)
theorem dX6_layBack_13 : decode cX6_layBack 13 = .ok (.aload_n 0, 1) := dk_42 (dk_at dksX6_layBack_0 13 rfl rfl)
theorem dX6_layBack_14 : decode cX6_layBack 14 = .ok (.getfield 93, 3) := dk_180 0 93 (dk_at dksX6_layBack_0 14 rfl rfl)
theorem dX6_layBack_17 : decode cX6_layBack 17 = .ok (.bipush 6, 2) := dk_16 6 (dk_at dksX6_layBack_0 17 rfl rfl)
theorem dX6_layBack_19 : decode cX6_layBack 19 = .ok (.iload_n 1, 1) := dk_27 (dk_at dksX6_layBack_0 19 rfl rfl)
theorem dX6_layBack_20 : decode cX6_layBack 20 = .ok (.imul, 1) := dk_104 (dk_at dksX6_layBack_0 20 rfl rfl)
theorem dX6_layBack_21 : decode cX6_layBack 21 = .ok (.iload_n 2, 1) := dk_28 (dk_at dksX6_layBack_0 21 rfl rfl)
theorem dX6_layBack_22 : decode cX6_layBack 22 = .ok (.iadd, 1) := dk_96 (dk_at dksX6_layBack_0 22 rfl rfl)
theorem dX6_layBack_23 : decode cX6_layBack 23 = .ok (.iaload, 1) := dk_46 (dk_at dksX6_layBack_0 23 rfl rfl)
theorem dX6_layBack_24 : decode cX6_layBack 24 = .ok (.iastore, 1) := dk_79 (dk_at dksX6_layBack_1 0 rfl rfl)
theorem dX6_layBack_25 : decode cX6_layBack 25 = .ok (.iinc 2 1, 3) := dk_132 2 1 (dk_at dksX6_layBack_1 1 rfl rfl)
theorem dX6_layBack_28 : decode cX6_layBack 28 = .ok (.goto (-26), 3) := dk_167 255 230 (dk_at dksX6_layBack_1 4 rfl rfl)
theorem dX6_layBack_31 : decode cX6_layBack 31 = .ok (.iconst 0, 1) := dk_3 (dk_at dksX6_layBack_1 7 rfl rfl)
theorem dX6_layBack_32 : decode cX6_layBack 32 = .ok (.istore_n 2, 1) := dk_61 (dk_at dksX6_layBack_1 8 rfl rfl)
theorem dX6_layBack_33 : decode cX6_layBack 33 = .ok (.iload_n 2, 1) := dk_28 (dk_at dksX6_layBack_1 9 rfl rfl)
theorem dX6_layBack_34 : decode cX6_layBack 34 = .ok (.bipush 7, 2) := dk_16 7 (dk_at dksX6_layBack_1 10 rfl rfl)
theorem dX6_layBack_36 : decode cX6_layBack 36 = .ok (.if_icmp .ge 26, 3) := dk_162 0 26 (dk_at dksX6_layBack_1 12 rfl rfl)
theorem dX6_layBack_39 : decode cX6_layBack 39 = .ok (.aload_n 0, 1) := dk_42 (dk_at dksX6_layBack_1 15 rfl rfl)
theorem dX6_layBack_40 : decode cX6_layBack 40 = .ok (.getfield 84, 3) := dk_180 0 84 (dk_at dksX6_layBack_1 16 rfl rfl)
theorem dX6_layBack_43 : decode cX6_layBack 43 = .ok (.iload_n 2, 1) := dk_28 (dk_at dksX6_layBack_1 19 rfl rfl)
theorem dX6_layBack_44 : decode cX6_layBack 44 = .ok (.aload_n 0, 1) := dk_42 (dk_at dksX6_layBack_1 20 rfl rfl)
theorem dX6_layBack_45 : decode cX6_layBack 45 = .ok (.getfield 96, 3) := dk_180 0 96 (dk_at dksX6_layBack_1 21 rfl rfl)
theorem dX6_layBack_48 : decode cX6_layBack 48 = .ok (.bipush 7, 2) := dk_16 7 (dk_at dksX6_layBack_2 0 rfl rfl)
theorem dX6_layBack_50 : decode cX6_layBack 50 = .ok (.iload_n 1, 1) := dk_27 (dk_at dksX6_layBack_2 2 rfl rfl)
theorem dX6_layBack_51 : decode cX6_layBack 51 = .ok (.imul, 1) := dk_104 (dk_at dksX6_layBack_2 3 rfl rfl)
theorem dX6_layBack_52 : decode cX6_layBack 52 = .ok (.iload_n 2, 1) := dk_28 (dk_at dksX6_layBack_2 4 rfl rfl)
theorem dX6_layBack_53 : decode cX6_layBack 53 = .ok (.iadd, 1) := dk_96 (dk_at dksX6_layBack_2 5 rfl rfl)
theorem dX6_layBack_54 : decode cX6_layBack 54 = .ok (.iaload, 1) := dk_46 (dk_at dksX6_layBack_2 6 rfl rfl)
theorem dX6_layBack_55 : decode cX6_layBack 55 = .ok (.iastore, 1) := dk_79 (dk_at dksX6_layBack_2 7 rfl rfl)
theorem dX6_layBack_56 : decode cX6_layBack 56 = .ok (.iinc 2 1, 3) := dk_132 2 1 (dk_at dksX6_layBack_2 8 rfl rfl)
theorem dX6_layBack_59 : decode cX6_layBack 59 = .ok (.goto (-26), 3) := dk_167 255 230 (dk_at dksX6_layBack_2 11 rfl rfl)
theorem dX6_layBack_62 : decode cX6_layBack 62 = .ok (.return_, 1) := dk_177 (dk_at dksX6_layBack_2 14 rfl rfl)
abbrev cX6_asPart : ByteArray := prog_26_method_65_code
def yX6_asPart : MethodName := ⟨RX6, "asPart", "(JII)J"⟩
def dkwX6_asPart_1 : List UInt8 := [29, 182, 1, 81, 22, 5, 109, 173]
abbrev dktX6_asPart_1 : List UInt8 := dkwX6_asPart_1 ++ []
def dkwX6_asPart_0 : List UInt8 := [31, 42, 29, 182, 1, 81, 184, 1, 85, 55, 5, 21, 4, 154, 0, 10, 31, 22, 5, 109, 167, 0, 11, 42]
abbrev dktX6_asPart_0 : List UInt8 := dkwX6_asPart_0 ++ dktX6_asPart_1
theorem dksX6_asPart_0 : cX6_asPart.data.toList.drop 0 = dktX6_asPart_0 := by decide +kernel
theorem dksX6_asPart_1 : cX6_asPart.data.toList.drop 24 = dktX6_asPart_1 := dk_seg dksX6_asPart_0 24 rfl rfl
theorem dX6_asPart_0 : decode cX6_asPart 0 = .ok (.lload_n 1, 1) := dk_31 (dk_at dksX6_asPart_0 0 rfl rfl)
theorem dX6_asPart_1 : decode cX6_asPart 1 = .ok (.aload_n 0, 1) := dk_42 (dk_at dksX6_asPart_0 1 rfl rfl)
theorem dX6_asPart_2 : decode cX6_asPart 2 = .ok (.iload_n 3, 1) := dk_29 (dk_at dksX6_asPart_0 2 rfl rfl)
theorem dX6_asPart_3 : decode cX6_asPart 3 = .ok (.invokevirtual 337, 3) := dk_182 1 81 (dk_at dksX6_asPart_0 3 rfl rfl)
theorem dX6_asPart_6 : decode cX6_asPart 6 = .ok (.invokestatic 341, 3) := dk_184 1 85 (dk_at dksX6_asPart_0 6 rfl rfl)
theorem dX6_asPart_9 : decode cX6_asPart 9 = .ok (.lstore 5, 2) := dk_55 5 (dk_at dksX6_asPart_0 9 rfl rfl)
theorem dX6_asPart_11 : decode cX6_asPart 11 = .ok (.iload 4, 2) := dk_21 4 (dk_at dksX6_asPart_0 11 rfl rfl)
theorem dX6_asPart_13 : decode cX6_asPart 13 = .ok (.ifCond .ne 10, 3) := dk_154 0 10 (dk_at dksX6_asPart_0 13 rfl rfl)
theorem dX6_asPart_16 : decode cX6_asPart 16 = .ok (.lload_n 1, 1) := dk_31 (dk_at dksX6_asPart_0 16 rfl rfl)
theorem dX6_asPart_17 : decode cX6_asPart 17 = .ok (.lload 5, 2) := dk_22 5 (dk_at dksX6_asPart_0 17 rfl rfl)
theorem dX6_asPart_19 : decode cX6_asPart 19 = .ok (.ldiv, 1) := dk_109 (dk_at dksX6_asPart_0 19 rfl rfl)
theorem dX6_asPart_20 : decode cX6_asPart 20 = .ok (.goto 11, 3) := dk_167 0 11 (dk_at dksX6_asPart_0 20 rfl rfl)
theorem dX6_asPart_23 : decode cX6_asPart 23 = .ok (.aload_n 0, 1) := dk_42 (dk_at dksX6_asPart_0 23 rfl rfl)
theorem dX6_asPart_24 : decode cX6_asPart 24 = .ok (.iload_n 3, 1) := dk_29 (dk_at dksX6_asPart_1 0 rfl rfl)
theorem dX6_asPart_25 : decode cX6_asPart 25 = .ok (.invokevirtual 337, 3) := dk_182 1 81 (dk_at dksX6_asPart_1 1 rfl rfl)
theorem dX6_asPart_28 : decode cX6_asPart 28 = .ok (.lload 5, 2) := dk_22 5 (dk_at dksX6_asPart_1 4 rfl rfl)
theorem dX6_asPart_30 : decode cX6_asPart 30 = .ok (.ldiv, 1) := dk_109 (dk_at dksX6_asPart_1 6 rfl rfl)
theorem dX6_asPart_31 : decode cX6_asPart 31 = .ok (.lreturn, 1) := dk_173 (dk_at dksX6_asPart_1 7 rfl rfl)
abbrev cX6_below : ByteArray := prog_26_method_64_code
def yX6_below : MethodName := ⟨RX6, "below", "(I)J"⟩
def dkwX6_below_1 : List UInt8 := [132, 4, 1, 167, 255, 236, 32, 173]
abbrev dktX6_below_1 : List UInt8 := dkwX6_below_1 ++ []
def dkwX6_below_0 : List UInt8 := [10, 65, 3, 54, 4, 21, 4, 27, 42, 180, 0, 138, 104, 162, 0, 15, 32, 20, 1, 73, 105, 65]
abbrev dktX6_below_0 : List UInt8 := dkwX6_below_0 ++ dktX6_below_1
theorem dksX6_below_0 : cX6_below.data.toList.drop 0 = dktX6_below_0 := by decide +kernel
theorem dksX6_below_1 : cX6_below.data.toList.drop 22 = dktX6_below_1 := dk_seg dksX6_below_0 22 rfl rfl
theorem dX6_below_0 : decode cX6_below 0 = .ok (.lconst 1, 1) := dk_10 (dk_at dksX6_below_0 0 rfl rfl)
theorem dX6_below_1 : decode cX6_below 1 = .ok (.lstore_n 2, 1) := dk_65 (dk_at dksX6_below_0 1 rfl rfl)
theorem dX6_below_2 : decode cX6_below 2 = .ok (.iconst 0, 1) := dk_3 (dk_at dksX6_below_0 2 rfl rfl)
theorem dX6_below_3 : decode cX6_below 3 = .ok (.istore 4, 2) := dk_54 4 (dk_at dksX6_below_0 3 rfl rfl)
theorem dX6_below_5 : decode cX6_below 5 = .ok (.iload 4, 2) := dk_21 4 (dk_at dksX6_below_0 5 rfl rfl)
theorem dX6_below_7 : decode cX6_below 7 = .ok (.iload_n 1, 1) := dk_27 (dk_at dksX6_below_0 7 rfl rfl)
theorem dX6_below_8 : decode cX6_below 8 = .ok (.aload_n 0, 1) := dk_42 (dk_at dksX6_below_0 8 rfl rfl)
theorem dX6_below_9 : decode cX6_below 9 = .ok (.getfield 138, 3) := dk_180 0 138 (dk_at dksX6_below_0 9 rfl rfl)
theorem dX6_below_12 : decode cX6_below 12 = .ok (.imul, 1) := dk_104 (dk_at dksX6_below_0 12 rfl rfl)
theorem dX6_below_13 : decode cX6_below 13 = .ok (.if_icmp .ge 15, 3) := dk_162 0 15 (dk_at dksX6_below_0 13 rfl rfl)
theorem dX6_below_16 : decode cX6_below 16 = .ok (.lload_n 2, 1) := dk_32 (dk_at dksX6_below_0 16 rfl rfl)
theorem dX6_below_17 : decode cX6_below 17 = .ok (.ldc2_w 329, 3) := dk_20 1 73 (dk_at dksX6_below_0 17 rfl rfl)
theorem dX6_below_20 : decode cX6_below 20 = .ok (.lmul, 1) := dk_105 (dk_at dksX6_below_0 20 rfl rfl)
theorem dX6_below_21 : decode cX6_below 21 = .ok (.lstore_n 2, 1) := dk_65 (dk_at dksX6_below_0 21 rfl rfl)
theorem dX6_below_22 : decode cX6_below 22 = .ok (.iinc 4 1, 3) := dk_132 4 1 (dk_at dksX6_below_1 0 rfl rfl)
theorem dX6_below_25 : decode cX6_below 25 = .ok (.goto (-20), 3) := dk_167 255 236 (dk_at dksX6_below_1 3 rfl rfl)
theorem dX6_below_28 : decode cX6_below 28 = .ok (.lload_n 2, 1) := dk_32 (dk_at dksX6_below_1 6 rfl rfl)
theorem dX6_below_29 : decode cX6_below 29 = .ok (.lreturn, 1) := dk_173 (dk_at dksX6_below_1 7 rfl rfl)
abbrev cX6_common : ByteArray := prog_26_method_63_code
def yX6_common : MethodName := ⟨RX6, "common", "(JJ)J"⟩
def dkwX6_common_1 : List UInt8 := [22, 8, 55, 6, 167, 255, 234, 22, 4, 173]
abbrev dktX6_common_1 : List UInt8 := dkwX6_common_1 ++ []
def dkwX6_common_0 : List UInt8 := [30, 55, 4, 32, 55, 6, 22, 6, 9, 148, 153, 0, 21, 22, 4, 22, 6, 113, 55, 8, 22, 6, 55, 4]
abbrev dktX6_common_0 : List UInt8 := dkwX6_common_0 ++ dktX6_common_1
theorem dksX6_common_0 : cX6_common.data.toList.drop 0 = dktX6_common_0 := by decide +kernel
theorem dksX6_common_1 : cX6_common.data.toList.drop 24 = dktX6_common_1 := dk_seg dksX6_common_0 24 rfl rfl
theorem dX6_common_0 : decode cX6_common 0 = .ok (.lload_n 0, 1) := dk_30 (dk_at dksX6_common_0 0 rfl rfl)
theorem dX6_common_1 : decode cX6_common 1 = .ok (.lstore 4, 2) := dk_55 4 (dk_at dksX6_common_0 1 rfl rfl)
theorem dX6_common_3 : decode cX6_common 3 = .ok (.lload_n 2, 1) := dk_32 (dk_at dksX6_common_0 3 rfl rfl)
theorem dX6_common_4 : decode cX6_common 4 = .ok (.lstore 6, 2) := dk_55 6 (dk_at dksX6_common_0 4 rfl rfl)
theorem dX6_common_6 : decode cX6_common 6 = .ok (.lload 6, 2) := dk_22 6 (dk_at dksX6_common_0 6 rfl rfl)
theorem dX6_common_8 : decode cX6_common 8 = .ok (.lconst 0, 1) := dk_9 (dk_at dksX6_common_0 8 rfl rfl)
theorem dX6_common_9 : decode cX6_common 9 = .ok (.lcmp, 1) := dk_148 (dk_at dksX6_common_0 9 rfl rfl)
theorem dX6_common_10 : decode cX6_common 10 = .ok (.ifCond .eq 21, 3) := dk_153 0 21 (dk_at dksX6_common_0 10 rfl rfl)
theorem dX6_common_13 : decode cX6_common 13 = .ok (.lload 4, 2) := dk_22 4 (dk_at dksX6_common_0 13 rfl rfl)
theorem dX6_common_15 : decode cX6_common 15 = .ok (.lload 6, 2) := dk_22 6 (dk_at dksX6_common_0 15 rfl rfl)
theorem dX6_common_17 : decode cX6_common 17 = .ok (.lrem, 1) := dk_113 (dk_at dksX6_common_0 17 rfl rfl)
theorem dX6_common_18 : decode cX6_common 18 = .ok (.lstore 8, 2) := dk_55 8 (dk_at dksX6_common_0 18 rfl rfl)
theorem dX6_common_20 : decode cX6_common 20 = .ok (.lload 6, 2) := dk_22 6 (dk_at dksX6_common_0 20 rfl rfl)
theorem dX6_common_22 : decode cX6_common 22 = .ok (.lstore 4, 2) := dk_55 4 (dk_at dksX6_common_0 22 rfl rfl)
theorem dX6_common_24 : decode cX6_common 24 = .ok (.lload 8, 2) := dk_22 8 (dk_at dksX6_common_1 0 rfl rfl)
theorem dX6_common_26 : decode cX6_common 26 = .ok (.lstore 6, 2) := dk_55 6 (dk_at dksX6_common_1 2 rfl rfl)
theorem dX6_common_28 : decode cX6_common 28 = .ok (.goto (-22), 3) := dk_167 255 234 (dk_at dksX6_common_1 4 rfl rfl)
theorem dX6_common_31 : decode cX6_common 31 = .ok (.lload 4, 2) := dk_22 4 (dk_at dksX6_common_1 7 rfl rfl)
theorem dX6_common_33 : decode cX6_common 33 = .ok (.lreturn, 1) := dk_173 (dk_at dksX6_common_1 9 rfl rfl)
abbrev cX6_mean : ByteArray := prog_26_method_67_code
def yX6_mean : MethodName := ⟨RX6, "mean", "(III)J"⟩
def dkwX6_mean_2 : List UInt8 := [28, 42, 180, 0, 34, 27, 46, 182, 1, 95, 42, 42, 180, 1, 66, 28, 29, 182, 1, 98, 173]
abbrev dktX6_mean_2 : List UInt8 := dkwX6_mean_2 ++ []
def dkwX6_mean_1 : List UInt8 := [154, 0, 7, 20, 1, 91, 173, 42, 180, 1, 16, 28, 96, 16, 24, 164, 0, 7, 20, 1, 93, 173, 42, 27]
abbrev dktX6_mean_1 : List UInt8 := dkwX6_mean_1 ++ dktX6_mean_2
def dkwX6_mean_0 : List UInt8 := [42, 27, 182, 0, 175, 153, 0, 21, 28, 3, 5, 184, 0, 134, 153, 0, 12, 29, 3, 4, 184, 0, 134]
abbrev dktX6_mean_0 : List UInt8 := dkwX6_mean_0 ++ dktX6_mean_1
theorem dksX6_mean_0 : cX6_mean.data.toList.drop 0 = dktX6_mean_0 := by decide +kernel
theorem dksX6_mean_1 : cX6_mean.data.toList.drop 23 = dktX6_mean_1 := dk_seg dksX6_mean_0 23 rfl rfl
theorem dksX6_mean_2 : cX6_mean.data.toList.drop 47 = dktX6_mean_2 := dk_seg dksX6_mean_1 24 rfl rfl
theorem dX6_mean_0 : decode cX6_mean 0 = .ok (.aload_n 0, 1) := dk_42 (dk_at dksX6_mean_0 0 rfl rfl)
theorem dX6_mean_1 : decode cX6_mean 1 = .ok (.iload_n 1, 1) := dk_27 (dk_at dksX6_mean_0 1 rfl rfl)
theorem dX6_mean_2 : decode cX6_mean 2 = .ok (.invokevirtual 175, 3) := dk_182 0 175 (dk_at dksX6_mean_0 2 rfl rfl)
theorem dX6_mean_5 : decode cX6_mean 5 = .ok (.ifCond .eq 21, 3) := dk_153 0 21 (dk_at dksX6_mean_0 5 rfl rfl)
theorem dX6_mean_8 : decode cX6_mean 8 = .ok (.iload_n 2, 1) := dk_28 (dk_at dksX6_mean_0 8 rfl rfl)
theorem dX6_mean_9 : decode cX6_mean 9 = .ok (.iconst 0, 1) := dk_3 (dk_at dksX6_mean_0 9 rfl rfl)
theorem dX6_mean_10 : decode cX6_mean 10 = .ok (.iconst 2, 1) := dk_5 (dk_at dksX6_mean_0 10 rfl rfl)
theorem dX6_mean_11 : decode cX6_mean 11 = .ok (.invokestatic 134, 3) := dk_184 0 134 (dk_at dksX6_mean_0 11 rfl rfl)
theorem dX6_mean_14 : decode cX6_mean 14 = .ok (.ifCond .eq 12, 3) := dk_153 0 12 (dk_at dksX6_mean_0 14 rfl rfl)
theorem dX6_mean_17 : decode cX6_mean 17 = .ok (.iload_n 3, 1) := dk_29 (dk_at dksX6_mean_0 17 rfl rfl)
theorem dX6_mean_18 : decode cX6_mean 18 = .ok (.iconst 0, 1) := dk_3 (dk_at dksX6_mean_0 18 rfl rfl)
theorem dX6_mean_19 : decode cX6_mean 19 = .ok (.iconst 1, 1) := dk_4 (dk_at dksX6_mean_0 19 rfl rfl)
theorem dX6_mean_20 : decode cX6_mean 20 = .ok (.invokestatic 134, 3) := dk_184 0 134 (dk_at dksX6_mean_0 20 rfl rfl)
theorem dX6_mean_23 : decode cX6_mean 23 = .ok (.ifCond .ne 7, 3) := dk_154 0 7 (dk_at dksX6_mean_1 0 rfl rfl)
theorem dX6_mean_26 : decode cX6_mean 26 = .ok (.ldc2_w 347, 3) := dk_20 1 91 (dk_at dksX6_mean_1 3 rfl rfl)
theorem dX6_mean_29 : decode cX6_mean 29 = .ok (.lreturn, 1) := dk_173 (dk_at dksX6_mean_1 6 rfl rfl)
theorem dX6_mean_30 : decode cX6_mean 30 = .ok (.aload_n 0, 1) := dk_42 (dk_at dksX6_mean_1 7 rfl rfl)
theorem dX6_mean_31 : decode cX6_mean 31 = .ok (.getfield 272, 3) := dk_180 1 16 (dk_at dksX6_mean_1 8 rfl rfl)
theorem dX6_mean_34 : decode cX6_mean 34 = .ok (.iload_n 2, 1) := dk_28 (dk_at dksX6_mean_1 11 rfl rfl)
theorem dX6_mean_35 : decode cX6_mean 35 = .ok (.iadd, 1) := dk_96 (dk_at dksX6_mean_1 12 rfl rfl)
theorem dX6_mean_36 : decode cX6_mean 36 = .ok (.bipush 24, 2) := dk_16 24 (dk_at dksX6_mean_1 13 rfl rfl)
theorem dX6_mean_38 : decode cX6_mean 38 = .ok (.if_icmp .le 7, 3) := dk_164 0 7 (dk_at dksX6_mean_1 15 rfl rfl)
theorem dX6_mean_41 : decode cX6_mean 41 = .ok (.ldc2_w 349, 3) := dk_20 1 93 (dk_at dksX6_mean_1 18 rfl rfl)
theorem dX6_mean_44 : decode cX6_mean 44 = .ok (.lreturn, 1) := dk_173 (dk_at dksX6_mean_1 21 rfl rfl)
theorem dX6_mean_45 : decode cX6_mean 45 = .ok (.aload_n 0, 1) := dk_42 (dk_at dksX6_mean_1 22 rfl rfl)
theorem dX6_mean_46 : decode cX6_mean 46 = .ok (.iload_n 1, 1) := dk_27 (dk_at dksX6_mean_1 23 rfl rfl)
theorem dX6_mean_47 : decode cX6_mean 47 = .ok (.iload_n 2, 1) := dk_28 (dk_at dksX6_mean_2 0 rfl rfl)
theorem dX6_mean_48 : decode cX6_mean 48 = .ok (.aload_n 0, 1) := dk_42 (dk_at dksX6_mean_2 1 rfl rfl)
theorem dX6_mean_49 : decode cX6_mean 49 = .ok (.getfield 34, 3) := dk_180 0 34 (dk_at dksX6_mean_2 2 rfl rfl)
theorem dX6_mean_52 : decode cX6_mean 52 = .ok (.iload_n 1, 1) := dk_27 (dk_at dksX6_mean_2 5 rfl rfl)
theorem dX6_mean_53 : decode cX6_mean 53 = .ok (.iaload, 1) := dk_46 (dk_at dksX6_mean_2 6 rfl rfl)
theorem dX6_mean_54 : decode cX6_mean 54 = .ok (.invokevirtual 351, 3) := dk_182 1 95 (dk_at dksX6_mean_2 7 rfl rfl)
theorem dX6_mean_57 : decode cX6_mean 57 = .ok (.aload_n 0, 1) := dk_42 (dk_at dksX6_mean_2 10 rfl rfl)
theorem dX6_mean_58 : decode cX6_mean 58 = .ok (.aload_n 0, 1) := dk_42 (dk_at dksX6_mean_2 11 rfl rfl)
theorem dX6_mean_59 : decode cX6_mean 59 = .ok (.getfield 322, 3) := dk_180 1 66 (dk_at dksX6_mean_2 12 rfl rfl)
theorem dX6_mean_62 : decode cX6_mean 62 = .ok (.iload_n 2, 1) := dk_28 (dk_at dksX6_mean_2 15 rfl rfl)
theorem dX6_mean_63 : decode cX6_mean 63 = .ok (.iload_n 3, 1) := dk_29 (dk_at dksX6_mean_2 16 rfl rfl)
theorem dX6_mean_64 : decode cX6_mean 64 = .ok (.invokevirtual 354, 3) := dk_182 1 98 (dk_at dksX6_mean_2 17 rfl rfl)
theorem dX6_mean_67 : decode cX6_mean 67 = .ok (.lreturn, 1) := dk_173 (dk_at dksX6_mean_2 20 rfl rfl)
abbrev cX6_stand : ByteArray := prog_26_method_68_code
def yX6_stand : MethodName := ⟨RX6, "stand", "(II)I"⟩
def dkwX6_stand_4 : List UInt8 := [42, 180, 1, 62, 55, 4, 132, 6, 1, 167, 255, 214, 29, 172]
abbrev dktX6_stand_4 : List UInt8 := dkwX6_stand_4 ++ []
def dkwX6_stand_3 : List UInt8 := [42, 27, 28, 21, 6, 182, 1, 95, 42, 180, 1, 62, 22, 4, 148, 157, 0, 6, 167, 0, 12, 21, 6, 62]
abbrev dktX6_stand_3 : List UInt8 := dkwX6_stand_3 ++ dktX6_stand_4
def dkwX6_stand_2 : List UInt8 := [180, 0, 34, 27, 46, 62, 42, 180, 1, 62, 55, 4, 3, 54, 6, 21, 6, 42, 180, 0, 131, 162, 0, 39]
abbrev dktX6_stand_2 : List UInt8 := dkwX6_stand_2 ++ dktX6_stand_3
def dkwX6_stand_1 : List UInt8 := [96, 16, 24, 164, 0, 6, 16, 251, 172, 42, 27, 28, 42, 180, 0, 34, 27, 46, 182, 1, 95, 42]
abbrev dktX6_stand_1 : List UInt8 := dkwX6_stand_1 ++ dktX6_stand_2
def dkwX6_stand_0 : List UInt8 := [42, 27, 182, 0, 175, 153, 0, 12, 28, 3, 5, 184, 0, 134, 154, 0, 5, 2, 172, 42, 180, 1, 16, 28]
abbrev dktX6_stand_0 : List UInt8 := dkwX6_stand_0 ++ dktX6_stand_1
theorem dksX6_stand_0 : cX6_stand.data.toList.drop 0 = dktX6_stand_0 := by decide +kernel
theorem dksX6_stand_1 : cX6_stand.data.toList.drop 24 = dktX6_stand_1 := dk_seg dksX6_stand_0 24 rfl rfl
theorem dksX6_stand_2 : cX6_stand.data.toList.drop 46 = dktX6_stand_2 := dk_seg dksX6_stand_1 22 rfl rfl
theorem dksX6_stand_3 : cX6_stand.data.toList.drop 70 = dktX6_stand_3 := dk_seg dksX6_stand_2 24 rfl rfl
theorem dksX6_stand_4 : cX6_stand.data.toList.drop 94 = dktX6_stand_4 := dk_seg dksX6_stand_3 24 rfl rfl
theorem dX6_stand_0 : decode cX6_stand 0 = .ok (.aload_n 0, 1) := dk_42 (dk_at dksX6_stand_0 0 rfl rfl)
theorem dX6_stand_1 : decode cX6_stand 1 = .ok (.iload_n 1, 1) := dk_27 (dk_at dksX6_stand_0 1 rfl rfl)
theorem dX6_stand_2 : decode cX6_stand 2 = .ok (.invokevirtual 175, 3) := dk_182 0 175 (dk_at dksX6_stand_0 2 rfl rfl)
theorem dX6_stand_5 : decode cX6_stand 5 = .ok (.ifCond .eq 12, 3) := dk_153 0 12 (dk_at dksX6_stand_0 5 rfl rfl)
theorem dX6_stand_8 : decode cX6_stand 8 = .ok (.iload_n 2, 1) := dk_28 (dk_at dksX6_stand_0 8 rfl rfl)
theorem dX6_stand_9 : decode cX6_stand 9 = .ok (.iconst 0, 1) := dk_3 (dk_at dksX6_stand_0 9 rfl rfl)
theorem dX6_stand_10 : decode cX6_stand 10 = .ok (.iconst 2, 1) := dk_5 (dk_at dksX6_stand_0 10 rfl rfl)
theorem dX6_stand_11 : decode cX6_stand 11 = .ok (.invokestatic 134, 3) := dk_184 0 134 (dk_at dksX6_stand_0 11 rfl rfl)
theorem dX6_stand_14 : decode cX6_stand 14 = .ok (.ifCond .ne 5, 3) := dk_154 0 5 (dk_at dksX6_stand_0 14 rfl rfl)
theorem dX6_stand_17 : decode cX6_stand 17 = .ok (.iconst (-1), 1) := dk_2 (dk_at dksX6_stand_0 17 rfl rfl)
theorem dX6_stand_18 : decode cX6_stand 18 = .ok (.ireturn, 1) := dk_172 (dk_at dksX6_stand_0 18 rfl rfl)
theorem dX6_stand_19 : decode cX6_stand 19 = .ok (.aload_n 0, 1) := dk_42 (dk_at dksX6_stand_0 19 rfl rfl)
theorem dX6_stand_20 : decode cX6_stand 20 = .ok (.getfield 272, 3) := dk_180 1 16 (dk_at dksX6_stand_0 20 rfl rfl)
theorem dX6_stand_23 : decode cX6_stand 23 = .ok (.iload_n 2, 1) := dk_28 (dk_at dksX6_stand_0 23 rfl rfl)
theorem dX6_stand_24 : decode cX6_stand 24 = .ok (.iadd, 1) := dk_96 (dk_at dksX6_stand_1 0 rfl rfl)
theorem dX6_stand_25 : decode cX6_stand 25 = .ok (.bipush 24, 2) := dk_16 24 (dk_at dksX6_stand_1 1 rfl rfl)
theorem dX6_stand_27 : decode cX6_stand 27 = .ok (.if_icmp .le 6, 3) := dk_164 0 6 (dk_at dksX6_stand_1 3 rfl rfl)
theorem dX6_stand_30 : decode cX6_stand 30 = .ok (.bipush (-5), 2) := dk_16 251 (dk_at dksX6_stand_1 6 rfl rfl)
theorem dX6_stand_32 : decode cX6_stand 32 = .ok (.ireturn, 1) := dk_172 (dk_at dksX6_stand_1 8 rfl rfl)
theorem dX6_stand_33 : decode cX6_stand 33 = .ok (.aload_n 0, 1) := dk_42 (dk_at dksX6_stand_1 9 rfl rfl)
theorem dX6_stand_34 : decode cX6_stand 34 = .ok (.iload_n 1, 1) := dk_27 (dk_at dksX6_stand_1 10 rfl rfl)
theorem dX6_stand_35 : decode cX6_stand 35 = .ok (.iload_n 2, 1) := dk_28 (dk_at dksX6_stand_1 11 rfl rfl)
theorem dX6_stand_36 : decode cX6_stand 36 = .ok (.aload_n 0, 1) := dk_42 (dk_at dksX6_stand_1 12 rfl rfl)
theorem dX6_stand_37 : decode cX6_stand 37 = .ok (.getfield 34, 3) := dk_180 0 34 (dk_at dksX6_stand_1 13 rfl rfl)
theorem dX6_stand_40 : decode cX6_stand 40 = .ok (.iload_n 1, 1) := dk_27 (dk_at dksX6_stand_1 16 rfl rfl)
theorem dX6_stand_41 : decode cX6_stand 41 = .ok (.iaload, 1) := dk_46 (dk_at dksX6_stand_1 17 rfl rfl)
theorem dX6_stand_42 : decode cX6_stand 42 = .ok (.invokevirtual 351, 3) := dk_182 1 95 (dk_at dksX6_stand_1 18 rfl rfl)
theorem dX6_stand_45 : decode cX6_stand 45 = .ok (.aload_n 0, 1) := dk_42 (dk_at dksX6_stand_1 21 rfl rfl)
theorem dX6_stand_46 : decode cX6_stand 46 = .ok (.getfield 34, 3) := dk_180 0 34 (dk_at dksX6_stand_2 0 rfl rfl)
theorem dX6_stand_49 : decode cX6_stand 49 = .ok (.iload_n 1, 1) := dk_27 (dk_at dksX6_stand_2 3 rfl rfl)
theorem dX6_stand_50 : decode cX6_stand 50 = .ok (.iaload, 1) := dk_46 (dk_at dksX6_stand_2 4 rfl rfl)
theorem dX6_stand_51 : decode cX6_stand 51 = .ok (.istore_n 3, 1) := dk_62 (dk_at dksX6_stand_2 5 rfl rfl)
theorem dX6_stand_52 : decode cX6_stand 52 = .ok (.aload_n 0, 1) := dk_42 (dk_at dksX6_stand_2 6 rfl rfl)
theorem dX6_stand_53 : decode cX6_stand 53 = .ok (.getfield 318, 3) := dk_180 1 62 (dk_at dksX6_stand_2 7 rfl rfl)
theorem dX6_stand_56 : decode cX6_stand 56 = .ok (.lstore 4, 2) := dk_55 4 (dk_at dksX6_stand_2 10 rfl rfl)
theorem dX6_stand_58 : decode cX6_stand 58 = .ok (.iconst 0, 1) := dk_3 (dk_at dksX6_stand_2 12 rfl rfl)
theorem dX6_stand_59 : decode cX6_stand 59 = .ok (.istore 6, 2) := dk_54 6 (dk_at dksX6_stand_2 13 rfl rfl)
theorem dX6_stand_61 : decode cX6_stand 61 = .ok (.iload 6, 2) := dk_21 6 (dk_at dksX6_stand_2 15 rfl rfl)
theorem dX6_stand_63 : decode cX6_stand 63 = .ok (.aload_n 0, 1) := dk_42 (dk_at dksX6_stand_2 17 rfl rfl)
theorem dX6_stand_64 : decode cX6_stand 64 = .ok (.getfield 131, 3) := dk_180 0 131 (dk_at dksX6_stand_2 18 rfl rfl)
theorem dX6_stand_67 : decode cX6_stand 67 = .ok (.if_icmp .ge 39, 3) := dk_162 0 39 (dk_at dksX6_stand_2 21 rfl rfl)
theorem dX6_stand_70 : decode cX6_stand 70 = .ok (.aload_n 0, 1) := dk_42 (dk_at dksX6_stand_3 0 rfl rfl)
theorem dX6_stand_71 : decode cX6_stand 71 = .ok (.iload_n 1, 1) := dk_27 (dk_at dksX6_stand_3 1 rfl rfl)
theorem dX6_stand_72 : decode cX6_stand 72 = .ok (.iload_n 2, 1) := dk_28 (dk_at dksX6_stand_3 2 rfl rfl)
theorem dX6_stand_73 : decode cX6_stand 73 = .ok (.iload 6, 2) := dk_21 6 (dk_at dksX6_stand_3 3 rfl rfl)
theorem dX6_stand_75 : decode cX6_stand 75 = .ok (.invokevirtual 351, 3) := dk_182 1 95 (dk_at dksX6_stand_3 5 rfl rfl)
theorem dX6_stand_78 : decode cX6_stand 78 = .ok (.aload_n 0, 1) := dk_42 (dk_at dksX6_stand_3 8 rfl rfl)
theorem dX6_stand_79 : decode cX6_stand 79 = .ok (.getfield 318, 3) := dk_180 1 62 (dk_at dksX6_stand_3 9 rfl rfl)
theorem dX6_stand_82 : decode cX6_stand 82 = .ok (.lload 4, 2) := dk_22 4 (dk_at dksX6_stand_3 12 rfl rfl)
theorem dX6_stand_84 : decode cX6_stand 84 = .ok (.lcmp, 1) := dk_148 (dk_at dksX6_stand_3 14 rfl rfl)
theorem dX6_stand_85 : decode cX6_stand 85 = .ok (.ifCond .gt 6, 3) := dk_157 0 6 (dk_at dksX6_stand_3 15 rfl rfl)
theorem dX6_stand_88 : decode cX6_stand 88 = .ok (.goto 12, 3) := dk_167 0 12 (dk_at dksX6_stand_3 18 rfl rfl)
theorem dX6_stand_91 : decode cX6_stand 91 = .ok (.iload 6, 2) := dk_21 6 (dk_at dksX6_stand_3 21 rfl rfl)
theorem dX6_stand_93 : decode cX6_stand 93 = .ok (.istore_n 3, 1) := dk_62 (dk_at dksX6_stand_3 23 rfl rfl)
theorem dX6_stand_94 : decode cX6_stand 94 = .ok (.aload_n 0, 1) := dk_42 (dk_at dksX6_stand_4 0 rfl rfl)
theorem dX6_stand_95 : decode cX6_stand 95 = .ok (.getfield 318, 3) := dk_180 1 62 (dk_at dksX6_stand_4 1 rfl rfl)
theorem dX6_stand_98 : decode cX6_stand 98 = .ok (.lstore 4, 2) := dk_55 4 (dk_at dksX6_stand_4 4 rfl rfl)
theorem dX6_stand_100 : decode cX6_stand 100 = .ok (.iinc 6 1, 3) := dk_132 6 1 (dk_at dksX6_stand_4 6 rfl rfl)
theorem dX6_stand_103 : decode cX6_stand 103 = .ok (.goto (-42), 3) := dk_167 255 214 (dk_at dksX6_stand_4 9 rfl rfl)
theorem dX6_stand_106 : decode cX6_stand 106 = .ok (.iload_n 3, 1) := dk_29 (dk_at dksX6_stand_4 12 rfl rfl)
theorem dX6_stand_107 : decode cX6_stand 107 = .ok (.ireturn, 1) := dk_172 (dk_at dksX6_stand_4 13 rfl rfl)
abbrev cX6_heavy : ByteArray := prog_26_method_69_code
def yX6_heavy : MethodName := ⟨RX6, "heavy", "(II)I"⟩
def dkwX6_heavy_3 : List UInt8 := [132, 3, 1, 167, 255, 222, 16, 254, 172]
abbrev dktX6_heavy_3 : List UInt8 := dkwX6_heavy_3 ++ []
def dkwX6_heavy_2 : List UInt8 := [28, 16, 100, 108, 42, 180, 0, 34, 27, 46, 29, 182, 1, 2, 28, 16, 100, 112, 163, 0, 5, 29, 172]
abbrev dktX6_heavy_2 : List UInt8 := dkwX6_heavy_2 ++ dktX6_heavy_3
def dkwX6_heavy_1 : List UInt8 := [16, 100, 112, 16, 12, 164, 0, 5, 2, 172, 42, 182, 1, 19, 3, 62, 29, 16, 9, 163, 0, 34, 42, 27]
abbrev dktX6_heavy_1 : List UInt8 := dkwX6_heavy_1 ++ dktX6_heavy_2
def dkwX6_heavy_0 : List UInt8 := [42, 27, 182, 0, 175, 153, 0, 26, 28, 155, 0, 22, 28, 16, 100, 108, 184, 0, 181, 153, 0, 12, 28]
abbrev dktX6_heavy_0 : List UInt8 := dkwX6_heavy_0 ++ dktX6_heavy_1
theorem dksX6_heavy_0 : cX6_heavy.data.toList.drop 0 = dktX6_heavy_0 := by decide +kernel
theorem dksX6_heavy_1 : cX6_heavy.data.toList.drop 23 = dktX6_heavy_1 := dk_seg dksX6_heavy_0 23 rfl rfl
theorem dksX6_heavy_2 : cX6_heavy.data.toList.drop 47 = dktX6_heavy_2 := dk_seg dksX6_heavy_1 24 rfl rfl
theorem dksX6_heavy_3 : cX6_heavy.data.toList.drop 70 = dktX6_heavy_3 := dk_seg dksX6_heavy_2 23 rfl rfl
theorem dX6_heavy_0 : decode cX6_heavy 0 = .ok (.aload_n 0, 1) := dk_42 (dk_at dksX6_heavy_0 0 rfl rfl)
theorem dX6_heavy_1 : decode cX6_heavy 1 = .ok (.iload_n 1, 1) := dk_27 (dk_at dksX6_heavy_0 1 rfl rfl)
theorem dX6_heavy_2 : decode cX6_heavy 2 = .ok (.invokevirtual 175, 3) := dk_182 0 175 (dk_at dksX6_heavy_0 2 rfl rfl)
theorem dX6_heavy_5 : decode cX6_heavy 5 = .ok (.ifCond .eq 26, 3) := dk_153 0 26 (dk_at dksX6_heavy_0 5 rfl rfl)
theorem dX6_heavy_8 : decode cX6_heavy 8 = .ok (.iload_n 2, 1) := dk_28 (dk_at dksX6_heavy_0 8 rfl rfl)
theorem dX6_heavy_9 : decode cX6_heavy 9 = .ok (.ifCond .lt 22, 3) := dk_155 0 22 (dk_at dksX6_heavy_0 9 rfl rfl)
theorem dX6_heavy_12 : decode cX6_heavy 12 = .ok (.iload_n 2, 1) := dk_28 (dk_at dksX6_heavy_0 12 rfl rfl)
theorem dX6_heavy_13 : decode cX6_heavy 13 = .ok (.bipush 100, 2) := dk_16 100 (dk_at dksX6_heavy_0 13 rfl rfl)
theorem dX6_heavy_15 : decode cX6_heavy 15 = .ok (.idiv, 1) := dk_108 (dk_at dksX6_heavy_0 15 rfl rfl)
theorem dX6_heavy_16 : decode cX6_heavy 16 = .ok (.invokestatic 181, 3) := dk_184 0 181 (dk_at dksX6_heavy_0 16 rfl rfl)
theorem dX6_heavy_19 : decode cX6_heavy 19 = .ok (.ifCond .eq 12, 3) := dk_153 0 12 (dk_at dksX6_heavy_0 19 rfl rfl)
theorem dX6_heavy_22 : decode cX6_heavy 22 = .ok (.iload_n 2, 1) := dk_28 (dk_at dksX6_heavy_0 22 rfl rfl)
theorem dX6_heavy_23 : decode cX6_heavy 23 = .ok (.bipush 100, 2) := dk_16 100 (dk_at dksX6_heavy_1 0 rfl rfl)
theorem dX6_heavy_25 : decode cX6_heavy 25 = .ok (.irem, 1) := dk_112 (dk_at dksX6_heavy_1 2 rfl rfl)
theorem dX6_heavy_26 : decode cX6_heavy 26 = .ok (.bipush 12, 2) := dk_16 12 (dk_at dksX6_heavy_1 3 rfl rfl)
theorem dX6_heavy_28 : decode cX6_heavy 28 = .ok (.if_icmp .le 5, 3) := dk_164 0 5 (dk_at dksX6_heavy_1 5 rfl rfl)
theorem dX6_heavy_31 : decode cX6_heavy 31 = .ok (.iconst (-1), 1) := dk_2 (dk_at dksX6_heavy_1 8 rfl rfl)
theorem dX6_heavy_32 : decode cX6_heavy 32 = .ok (.ireturn, 1) := dk_172 (dk_at dksX6_heavy_1 9 rfl rfl)
theorem dX6_heavy_33 : decode cX6_heavy 33 = .ok (.aload_n 0, 1) := dk_42 (dk_at dksX6_heavy_1 10 rfl rfl)
theorem dX6_heavy_34 : decode cX6_heavy 34 = .ok (.invokevirtual 275, 3) := dk_182 1 19 (dk_at dksX6_heavy_1 11 rfl rfl)
theorem dX6_heavy_37 : decode cX6_heavy 37 = .ok (.iconst 0, 1) := dk_3 (dk_at dksX6_heavy_1 14 rfl rfl)
theorem dX6_heavy_38 : decode cX6_heavy 38 = .ok (.istore_n 3, 1) := dk_62 (dk_at dksX6_heavy_1 15 rfl rfl)
theorem dX6_heavy_39 : decode cX6_heavy 39 = .ok (.iload_n 3, 1) := dk_29 (dk_at dksX6_heavy_1 16 rfl rfl)
theorem dX6_heavy_40 : decode cX6_heavy 40 = .ok (.bipush 9, 2) := dk_16 9 (dk_at dksX6_heavy_1 17 rfl rfl)
theorem dX6_heavy_42 : decode cX6_heavy 42 = .ok (.if_icmp .gt 34, 3) := dk_163 0 34 (dk_at dksX6_heavy_1 19 rfl rfl)
theorem dX6_heavy_45 : decode cX6_heavy 45 = .ok (.aload_n 0, 1) := dk_42 (dk_at dksX6_heavy_1 22 rfl rfl)
theorem dX6_heavy_46 : decode cX6_heavy 46 = .ok (.iload_n 1, 1) := dk_27 (dk_at dksX6_heavy_1 23 rfl rfl)
theorem dX6_heavy_47 : decode cX6_heavy 47 = .ok (.iload_n 2, 1) := dk_28 (dk_at dksX6_heavy_2 0 rfl rfl)
theorem dX6_heavy_48 : decode cX6_heavy 48 = .ok (.bipush 100, 2) := dk_16 100 (dk_at dksX6_heavy_2 1 rfl rfl)
theorem dX6_heavy_50 : decode cX6_heavy 50 = .ok (.idiv, 1) := dk_108 (dk_at dksX6_heavy_2 3 rfl rfl)
theorem dX6_heavy_51 : decode cX6_heavy 51 = .ok (.aload_n 0, 1) := dk_42 (dk_at dksX6_heavy_2 4 rfl rfl)
theorem dX6_heavy_52 : decode cX6_heavy 52 = .ok (.getfield 34, 3) := dk_180 0 34 (dk_at dksX6_heavy_2 5 rfl rfl)
theorem dX6_heavy_55 : decode cX6_heavy 55 = .ok (.iload_n 1, 1) := dk_27 (dk_at dksX6_heavy_2 8 rfl rfl)
theorem dX6_heavy_56 : decode cX6_heavy 56 = .ok (.iaload, 1) := dk_46 (dk_at dksX6_heavy_2 9 rfl rfl)
theorem dX6_heavy_57 : decode cX6_heavy 57 = .ok (.iload_n 3, 1) := dk_29 (dk_at dksX6_heavy_2 10 rfl rfl)
theorem dX6_heavy_58 : decode cX6_heavy 58 = .ok (.invokevirtual 258, 3) := dk_182 1 2 (dk_at dksX6_heavy_2 11 rfl rfl)
theorem dX6_heavy_61 : decode cX6_heavy 61 = .ok (.iload_n 2, 1) := dk_28 (dk_at dksX6_heavy_2 14 rfl rfl)
theorem dX6_heavy_62 : decode cX6_heavy 62 = .ok (.bipush 100, 2) := dk_16 100 (dk_at dksX6_heavy_2 15 rfl rfl)
theorem dX6_heavy_64 : decode cX6_heavy 64 = .ok (.irem, 1) := dk_112 (dk_at dksX6_heavy_2 17 rfl rfl)
theorem dX6_heavy_65 : decode cX6_heavy 65 = .ok (.if_icmp .gt 5, 3) := dk_163 0 5 (dk_at dksX6_heavy_2 18 rfl rfl)
theorem dX6_heavy_68 : decode cX6_heavy 68 = .ok (.iload_n 3, 1) := dk_29 (dk_at dksX6_heavy_2 21 rfl rfl)
theorem dX6_heavy_69 : decode cX6_heavy 69 = .ok (.ireturn, 1) := dk_172 (dk_at dksX6_heavy_2 22 rfl rfl)
theorem dX6_heavy_70 : decode cX6_heavy 70 = .ok (.iinc 3 1, 3) := dk_132 3 1 (dk_at dksX6_heavy_3 0 rfl rfl)
theorem dX6_heavy_73 : decode cX6_heavy 73 = .ok (.goto (-34), 3) := dk_167 255 222 (dk_at dksX6_heavy_3 3 rfl rfl)
theorem dX6_heavy_76 : decode cX6_heavy 76 = .ok (.bipush (-2), 2) := dk_16 254 (dk_at dksX6_heavy_3 6 rfl rfl)
theorem dX6_heavy_78 : decode cX6_heavy 78 = .ok (.ireturn, 1) := dk_172 (dk_at dksX6_heavy_3 8 rfl rfl)
abbrev cX6_ahead : ByteArray := prog_26_method_71_code
def yX6_ahead : MethodName := ⟨RX6, "ahead", "(IIII)I"⟩
def dkwX6_ahead_5 : List UInt8 := [162, 0, 21, 21, 5, 42, 180, 0, 84, 21, 6, 46, 96, 54, 5, 132, 6, 1, 167, 255, 232, 21, 5, 172]
abbrev dktX6_ahead_5 : List UInt8 := dkwX6_ahead_5 ++ []
def dkwX6_ahead_4 : List UInt8 := [160, 0, 12, 42, 42, 180, 0, 78, 182, 1, 42, 172, 3, 54, 5, 3, 54, 6, 21, 6, 42, 180, 0, 131]
abbrev dktX6_ahead_4 : List UInt8 := dkwX6_ahead_4 ++ dktX6_ahead_5
def dkwX6_ahead_3 : List UInt8 := [16, 251, 172, 42, 27, 28, 182, 1, 102, 21, 4, 154, 0, 10, 42, 180, 0, 78, 29, 46, 172, 21, 4, 4]
abbrev dktX6_ahead_3 : List UInt8 := dkwX6_ahead_3 ++ dktX6_ahead_4
def dkwX6_ahead_2 : List UInt8 := [180, 1, 16, 28, 96, 16, 24, 163, 0, 16, 21, 4, 4, 160, 0, 13, 42, 180, 0, 138, 154, 0, 6]
abbrev dktX6_ahead_2 : List UInt8 := dkwX6_ahead_2 ++ dktX6_ahead_3
def dkwX6_ahead_1 : List UInt8 := [154, 0, 14, 42, 29, 182, 0, 175, 154, 0, 13, 167, 0, 8, 29, 2, 159, 0, 5, 2, 172, 42]
abbrev dktX6_ahead_1 : List UInt8 := dkwX6_ahead_1 ++ dktX6_ahead_2
def dkwX6_ahead_0 : List UInt8 := [28, 4, 16, 24, 184, 0, 134, 153, 0, 34, 21, 4, 3, 5, 184, 0, 134, 153, 0, 24, 21, 4]
abbrev dktX6_ahead_0 : List UInt8 := dkwX6_ahead_0 ++ dktX6_ahead_1
theorem dksX6_ahead_0 : cX6_ahead.data.toList.drop 0 = dktX6_ahead_0 := by decide +kernel
theorem dksX6_ahead_1 : cX6_ahead.data.toList.drop 22 = dktX6_ahead_1 := dk_seg dksX6_ahead_0 22 rfl rfl
theorem dksX6_ahead_2 : cX6_ahead.data.toList.drop 44 = dktX6_ahead_2 := dk_seg dksX6_ahead_1 22 rfl rfl
theorem dksX6_ahead_3 : cX6_ahead.data.toList.drop 67 = dktX6_ahead_3 := dk_seg dksX6_ahead_2 23 rfl rfl
theorem dksX6_ahead_4 : cX6_ahead.data.toList.drop 91 = dktX6_ahead_4 := dk_seg dksX6_ahead_3 24 rfl rfl
theorem dksX6_ahead_5 : cX6_ahead.data.toList.drop 115 = dktX6_ahead_5 := dk_seg dksX6_ahead_4 24 rfl rfl
theorem dX6_ahead_0 : decode cX6_ahead 0 = .ok (.iload_n 2, 1) := dk_28 (dk_at dksX6_ahead_0 0 rfl rfl)
theorem dX6_ahead_1 : decode cX6_ahead 1 = .ok (.iconst 1, 1) := dk_4 (dk_at dksX6_ahead_0 1 rfl rfl)
theorem dX6_ahead_2 : decode cX6_ahead 2 = .ok (.bipush 24, 2) := dk_16 24 (dk_at dksX6_ahead_0 2 rfl rfl)
theorem dX6_ahead_4 : decode cX6_ahead 4 = .ok (.invokestatic 134, 3) := dk_184 0 134 (dk_at dksX6_ahead_0 4 rfl rfl)
theorem dX6_ahead_7 : decode cX6_ahead 7 = .ok (.ifCond .eq 34, 3) := dk_153 0 34 (dk_at dksX6_ahead_0 7 rfl rfl)
theorem dX6_ahead_10 : decode cX6_ahead 10 = .ok (.iload 4, 2) := dk_21 4 (dk_at dksX6_ahead_0 10 rfl rfl)
theorem dX6_ahead_12 : decode cX6_ahead 12 = .ok (.iconst 0, 1) := dk_3 (dk_at dksX6_ahead_0 12 rfl rfl)
theorem dX6_ahead_13 : decode cX6_ahead 13 = .ok (.iconst 2, 1) := dk_5 (dk_at dksX6_ahead_0 13 rfl rfl)
theorem dX6_ahead_14 : decode cX6_ahead 14 = .ok (.invokestatic 134, 3) := dk_184 0 134 (dk_at dksX6_ahead_0 14 rfl rfl)
theorem dX6_ahead_17 : decode cX6_ahead 17 = .ok (.ifCond .eq 24, 3) := dk_153 0 24 (dk_at dksX6_ahead_0 17 rfl rfl)
theorem dX6_ahead_20 : decode cX6_ahead 20 = .ok (.iload 4, 2) := dk_21 4 (dk_at dksX6_ahead_0 20 rfl rfl)
theorem dX6_ahead_22 : decode cX6_ahead 22 = .ok (.ifCond .ne 14, 3) := dk_154 0 14 (dk_at dksX6_ahead_1 0 rfl rfl)
theorem dX6_ahead_25 : decode cX6_ahead 25 = .ok (.aload_n 0, 1) := dk_42 (dk_at dksX6_ahead_1 3 rfl rfl)
theorem dX6_ahead_26 : decode cX6_ahead 26 = .ok (.iload_n 3, 1) := dk_29 (dk_at dksX6_ahead_1 4 rfl rfl)
theorem dX6_ahead_27 : decode cX6_ahead 27 = .ok (.invokevirtual 175, 3) := dk_182 0 175 (dk_at dksX6_ahead_1 5 rfl rfl)
theorem dX6_ahead_30 : decode cX6_ahead 30 = .ok (.ifCond .ne 13, 3) := dk_154 0 13 (dk_at dksX6_ahead_1 8 rfl rfl)
theorem dX6_ahead_33 : decode cX6_ahead 33 = .ok (.goto 8, 3) := dk_167 0 8 (dk_at dksX6_ahead_1 11 rfl rfl)
theorem dX6_ahead_36 : decode cX6_ahead 36 = .ok (.iload_n 3, 1) := dk_29 (dk_at dksX6_ahead_1 14 rfl rfl)
theorem dX6_ahead_37 : decode cX6_ahead 37 = .ok (.iconst (-1), 1) := dk_2 (dk_at dksX6_ahead_1 15 rfl rfl)
theorem dX6_ahead_38 : decode cX6_ahead 38 = .ok (.if_icmp .eq 5, 3) := dk_159 0 5 (dk_at dksX6_ahead_1 16 rfl rfl)
theorem dX6_ahead_41 : decode cX6_ahead 41 = .ok (.iconst (-1), 1) := dk_2 (dk_at dksX6_ahead_1 19 rfl rfl)
theorem dX6_ahead_42 : decode cX6_ahead 42 = .ok (.ireturn, 1) := dk_172 (dk_at dksX6_ahead_1 20 rfl rfl)
theorem dX6_ahead_43 : decode cX6_ahead 43 = .ok (.aload_n 0, 1) := dk_42 (dk_at dksX6_ahead_1 21 rfl rfl)
theorem dX6_ahead_44 : decode cX6_ahead 44 = .ok (.getfield 272, 3) := dk_180 1 16 (dk_at dksX6_ahead_2 0 rfl rfl)
theorem dX6_ahead_47 : decode cX6_ahead 47 = .ok (.iload_n 2, 1) := dk_28 (dk_at dksX6_ahead_2 3 rfl rfl)
theorem dX6_ahead_48 : decode cX6_ahead 48 = .ok (.iadd, 1) := dk_96 (dk_at dksX6_ahead_2 4 rfl rfl)
theorem dX6_ahead_49 : decode cX6_ahead 49 = .ok (.bipush 24, 2) := dk_16 24 (dk_at dksX6_ahead_2 5 rfl rfl)
theorem dX6_ahead_51 : decode cX6_ahead 51 = .ok (.if_icmp .gt 16, 3) := dk_163 0 16 (dk_at dksX6_ahead_2 7 rfl rfl)
theorem dX6_ahead_54 : decode cX6_ahead 54 = .ok (.iload 4, 2) := dk_21 4 (dk_at dksX6_ahead_2 10 rfl rfl)
theorem dX6_ahead_56 : decode cX6_ahead 56 = .ok (.iconst 1, 1) := dk_4 (dk_at dksX6_ahead_2 12 rfl rfl)
theorem dX6_ahead_57 : decode cX6_ahead 57 = .ok (.if_icmp .ne 13, 3) := dk_160 0 13 (dk_at dksX6_ahead_2 13 rfl rfl)
theorem dX6_ahead_60 : decode cX6_ahead 60 = .ok (.aload_n 0, 1) := dk_42 (dk_at dksX6_ahead_2 16 rfl rfl)
theorem dX6_ahead_61 : decode cX6_ahead 61 = .ok (.getfield 138, 3) := dk_180 0 138 (dk_at dksX6_ahead_2 17 rfl rfl)
theorem dX6_ahead_64 : decode cX6_ahead 64 = .ok (.ifCond .ne 6, 3) := dk_154 0 6 (dk_at dksX6_ahead_2 20 rfl rfl)
theorem dX6_ahead_67 : decode cX6_ahead 67 = .ok (.bipush (-5), 2) := dk_16 251 (dk_at dksX6_ahead_3 0 rfl rfl)
theorem dX6_ahead_69 : decode cX6_ahead 69 = .ok (.ireturn, 1) := dk_172 (dk_at dksX6_ahead_3 2 rfl rfl)
theorem dX6_ahead_70 : decode cX6_ahead 70 = .ok (.aload_n 0, 1) := dk_42 (dk_at dksX6_ahead_3 3 rfl rfl)
theorem dX6_ahead_71 : decode cX6_ahead 71 = .ok (.iload_n 1, 1) := dk_27 (dk_at dksX6_ahead_3 4 rfl rfl)
theorem dX6_ahead_72 : decode cX6_ahead 72 = .ok (.iload_n 2, 1) := dk_28 (dk_at dksX6_ahead_3 5 rfl rfl)
theorem dX6_ahead_73 : decode cX6_ahead 73 = .ok (.invokevirtual 358, 3) := dk_182 1 102 (dk_at dksX6_ahead_3 6 rfl rfl)
theorem dX6_ahead_76 : decode cX6_ahead 76 = .ok (.iload 4, 2) := dk_21 4 (dk_at dksX6_ahead_3 9 rfl rfl)
theorem dX6_ahead_78 : decode cX6_ahead 78 = .ok (.ifCond .ne 10, 3) := dk_154 0 10 (dk_at dksX6_ahead_3 11 rfl rfl)
theorem dX6_ahead_81 : decode cX6_ahead 81 = .ok (.aload_n 0, 1) := dk_42 (dk_at dksX6_ahead_3 14 rfl rfl)
theorem dX6_ahead_82 : decode cX6_ahead 82 = .ok (.getfield 78, 3) := dk_180 0 78 (dk_at dksX6_ahead_3 15 rfl rfl)
theorem dX6_ahead_85 : decode cX6_ahead 85 = .ok (.iload_n 3, 1) := dk_29 (dk_at dksX6_ahead_3 18 rfl rfl)
theorem dX6_ahead_86 : decode cX6_ahead 86 = .ok (.iaload, 1) := dk_46 (dk_at dksX6_ahead_3 19 rfl rfl)
theorem dX6_ahead_87 : decode cX6_ahead 87 = .ok (.ireturn, 1) := dk_172 (dk_at dksX6_ahead_3 20 rfl rfl)
theorem dX6_ahead_88 : decode cX6_ahead 88 = .ok (.iload 4, 2) := dk_21 4 (dk_at dksX6_ahead_3 21 rfl rfl)
theorem dX6_ahead_90 : decode cX6_ahead 90 = .ok (.iconst 1, 1) := dk_4 (dk_at dksX6_ahead_3 23 rfl rfl)
theorem dX6_ahead_91 : decode cX6_ahead 91 = .ok (.if_icmp .ne 12, 3) := dk_160 0 12 (dk_at dksX6_ahead_4 0 rfl rfl)
theorem dX6_ahead_94 : decode cX6_ahead 94 = .ok (.aload_n 0, 1) := dk_42 (dk_at dksX6_ahead_4 3 rfl rfl)
theorem dX6_ahead_95 : decode cX6_ahead 95 = .ok (.aload_n 0, 1) := dk_42 (dk_at dksX6_ahead_4 4 rfl rfl)
theorem dX6_ahead_96 : decode cX6_ahead 96 = .ok (.getfield 78, 3) := dk_180 0 78 (dk_at dksX6_ahead_4 5 rfl rfl)
theorem dX6_ahead_99 : decode cX6_ahead 99 = .ok (.invokevirtual 298, 3) := dk_182 1 42 (dk_at dksX6_ahead_4 8 rfl rfl)
theorem dX6_ahead_102 : decode cX6_ahead 102 = .ok (.ireturn, 1) := dk_172 (dk_at dksX6_ahead_4 11 rfl rfl)
theorem dX6_ahead_103 : decode cX6_ahead 103 = .ok (.iconst 0, 1) := dk_3 (dk_at dksX6_ahead_4 12 rfl rfl)
theorem dX6_ahead_104 : decode cX6_ahead 104 = .ok (.istore 5, 2) := dk_54 5 (dk_at dksX6_ahead_4 13 rfl rfl)
theorem dX6_ahead_106 : decode cX6_ahead 106 = .ok (.iconst 0, 1) := dk_3 (dk_at dksX6_ahead_4 15 rfl rfl)
theorem dX6_ahead_107 : decode cX6_ahead 107 = .ok (.istore 6, 2) := dk_54 6 (dk_at dksX6_ahead_4 16 rfl rfl)
theorem dX6_ahead_109 : decode cX6_ahead 109 = .ok (.iload 6, 2) := dk_21 6 (dk_at dksX6_ahead_4 18 rfl rfl)
theorem dX6_ahead_111 : decode cX6_ahead 111 = .ok (.aload_n 0, 1) := dk_42 (dk_at dksX6_ahead_4 20 rfl rfl)
theorem dX6_ahead_112 : decode cX6_ahead 112 = .ok (.getfield 131, 3) := dk_180 0 131 (dk_at dksX6_ahead_4 21 rfl rfl)
theorem dX6_ahead_115 : decode cX6_ahead 115 = .ok (.if_icmp .ge 21, 3) := dk_162 0 21 (dk_at dksX6_ahead_5 0 rfl rfl)
theorem dX6_ahead_118 : decode cX6_ahead 118 = .ok (.iload 5, 2) := dk_21 5 (dk_at dksX6_ahead_5 3 rfl rfl)
theorem dX6_ahead_120 : decode cX6_ahead 120 = .ok (.aload_n 0, 1) := dk_42 (dk_at dksX6_ahead_5 5 rfl rfl)
theorem dX6_ahead_121 : decode cX6_ahead 121 = .ok (.getfield 84, 3) := dk_180 0 84 (dk_at dksX6_ahead_5 6 rfl rfl)
theorem dX6_ahead_124 : decode cX6_ahead 124 = .ok (.iload 6, 2) := dk_21 6 (dk_at dksX6_ahead_5 9 rfl rfl)
theorem dX6_ahead_126 : decode cX6_ahead 126 = .ok (.iaload, 1) := dk_46 (dk_at dksX6_ahead_5 11 rfl rfl)
theorem dX6_ahead_127 : decode cX6_ahead 127 = .ok (.iadd, 1) := dk_96 (dk_at dksX6_ahead_5 12 rfl rfl)
theorem dX6_ahead_128 : decode cX6_ahead 128 = .ok (.istore 5, 2) := dk_54 5 (dk_at dksX6_ahead_5 13 rfl rfl)
theorem dX6_ahead_130 : decode cX6_ahead 130 = .ok (.iinc 6 1, 3) := dk_132 6 1 (dk_at dksX6_ahead_5 15 rfl rfl)
theorem dX6_ahead_133 : decode cX6_ahead 133 = .ok (.goto (-24), 3) := dk_167 255 232 (dk_at dksX6_ahead_5 18 rfl rfl)
theorem dX6_ahead_136 : decode cX6_ahead 136 = .ok (.iload 5, 2) := dk_21 5 (dk_at dksX6_ahead_5 21 rfl rfl)
theorem dX6_ahead_138 : decode cX6_ahead 138 = .ok (.ireturn, 1) := dk_172 (dk_at dksX6_ahead_5 23 rfl rfl)
abbrev cX6_thinkOn : ByteArray := prog_26_method_70_code
def yX6_thinkOn : MethodName := ⟨RX6, "thinkOn", "(II)V"⟩
def dkwX6_thinkOn_1 : List UInt8 := [42, 29, 182, 1, 39, 87, 132, 3, 1, 167, 255, 237, 177]
abbrev dktX6_thinkOn_1 : List UInt8 := dkwX6_thinkOn_1 ++ []
def dkwX6_thinkOn_0 : List UInt8 := [42, 182, 1, 19, 42, 27, 181, 1, 31, 42, 180, 1, 16, 62, 29, 42, 180, 1, 16, 28, 96, 162, 0, 15]
abbrev dktX6_thinkOn_0 : List UInt8 := dkwX6_thinkOn_0 ++ dktX6_thinkOn_1
theorem dksX6_thinkOn_0 : cX6_thinkOn.data.toList.drop 0 = dktX6_thinkOn_0 := by decide +kernel
theorem dksX6_thinkOn_1 : cX6_thinkOn.data.toList.drop 24 = dktX6_thinkOn_1 := dk_seg dksX6_thinkOn_0 24 rfl rfl
theorem dX6_thinkOn_0 : decode cX6_thinkOn 0 = .ok (.aload_n 0, 1) := dk_42 (dk_at dksX6_thinkOn_0 0 rfl rfl)
theorem dX6_thinkOn_1 : decode cX6_thinkOn 1 = .ok (.invokevirtual 275, 3) := dk_182 1 19 (dk_at dksX6_thinkOn_0 1 rfl rfl)
theorem dX6_thinkOn_4 : decode cX6_thinkOn 4 = .ok (.aload_n 0, 1) := dk_42 (dk_at dksX6_thinkOn_0 4 rfl rfl)
theorem dX6_thinkOn_5 : decode cX6_thinkOn 5 = .ok (.iload_n 1, 1) := dk_27 (dk_at dksX6_thinkOn_0 5 rfl rfl)
theorem dX6_thinkOn_6 : decode cX6_thinkOn 6 = .ok (.putfield 287, 3) := dk_181 1 31 (dk_at dksX6_thinkOn_0 6 rfl rfl)
theorem dX6_thinkOn_9 : decode cX6_thinkOn 9 = .ok (.aload_n 0, 1) := dk_42 (dk_at dksX6_thinkOn_0 9 rfl rfl)
theorem dX6_thinkOn_10 : decode cX6_thinkOn 10 = .ok (.getfield 272, 3) := dk_180 1 16 (dk_at dksX6_thinkOn_0 10 rfl rfl)
theorem dX6_thinkOn_13 : decode cX6_thinkOn 13 = .ok (.istore_n 3, 1) := dk_62 (dk_at dksX6_thinkOn_0 13 rfl rfl)
theorem dX6_thinkOn_14 : decode cX6_thinkOn 14 = .ok (.iload_n 3, 1) := dk_29 (dk_at dksX6_thinkOn_0 14 rfl rfl)
theorem dX6_thinkOn_15 : decode cX6_thinkOn 15 = .ok (.aload_n 0, 1) := dk_42 (dk_at dksX6_thinkOn_0 15 rfl rfl)
theorem dX6_thinkOn_16 : decode cX6_thinkOn 16 = .ok (.getfield 272, 3) := dk_180 1 16 (dk_at dksX6_thinkOn_0 16 rfl rfl)
theorem dX6_thinkOn_19 : decode cX6_thinkOn 19 = .ok (.iload_n 2, 1) := dk_28 (dk_at dksX6_thinkOn_0 19 rfl rfl)
theorem dX6_thinkOn_20 : decode cX6_thinkOn 20 = .ok (.iadd, 1) := dk_96 (dk_at dksX6_thinkOn_0 20 rfl rfl)
theorem dX6_thinkOn_21 : decode cX6_thinkOn 21 = .ok (.if_icmp .ge 15, 3) := dk_162 0 15 (dk_at dksX6_thinkOn_0 21 rfl rfl)
theorem dX6_thinkOn_24 : decode cX6_thinkOn 24 = .ok (.aload_n 0, 1) := dk_42 (dk_at dksX6_thinkOn_1 0 rfl rfl)
theorem dX6_thinkOn_25 : decode cX6_thinkOn 25 = .ok (.iload_n 3, 1) := dk_29 (dk_at dksX6_thinkOn_1 1 rfl rfl)
theorem dX6_thinkOn_26 : decode cX6_thinkOn 26 = .ok (.invokevirtual 295, 3) := dk_182 1 39 (dk_at dksX6_thinkOn_1 2 rfl rfl)
theorem dX6_thinkOn_29 : decode cX6_thinkOn 29 = .ok (.pop, 1) := dk_87 (dk_at dksX6_thinkOn_1 5 rfl rfl)
theorem dX6_thinkOn_30 : decode cX6_thinkOn 30 = .ok (.iinc 3 1, 3) := dk_132 3 1 (dk_at dksX6_thinkOn_1 6 rfl rfl)
theorem dX6_thinkOn_33 : decode cX6_thinkOn 33 = .ok (.goto (-19), 3) := dk_167 255 237 (dk_at dksX6_thinkOn_1 9 rfl rfl)
theorem dX6_thinkOn_36 : decode cX6_thinkOn 36 = .ok (.return_, 1) := dk_177 (dk_at dksX6_thinkOn_1 12 rfl rfl)
abbrev cX6_storm : ByteArray := prog_26_method_72_code
def yX6_storm : MethodName := ⟨RX6, "storm", "(I)I"⟩
def dkwX6_storm_3 : List UInt8 := [167, 255, 205, 42, 3, 181, 0, 255, 28, 172]
abbrev dktX6_storm_3 : List UInt8 := dkwX6_storm_3 ++ []
def dkwX6_storm_2 : List UInt8 := [180, 0, 78, 182, 1, 42, 42, 42, 180, 0, 28, 182, 1, 42, 159, 0, 5, 29, 61, 132, 3, 1]
abbrev dktX6_storm_2 : List UInt8 := dkwX6_storm_2 ++ dktX6_storm_3
def dkwX6_storm_1 : List UInt8 := [156, 0, 47, 42, 29, 181, 0, 255, 42, 27, 16, 24, 42, 180, 1, 16, 100, 182, 1, 102, 42, 42]
abbrev dktX6_storm_1 : List UInt8 := dkwX6_storm_1 ++ dktX6_storm_2
def dkwX6_storm_0 : List UInt8 := [42, 180, 0, 138, 154, 0, 6, 16, 251, 172, 16, 254, 61, 3, 62, 29, 16, 20, 163, 0, 51, 28]
abbrev dktX6_storm_0 : List UInt8 := dkwX6_storm_0 ++ dktX6_storm_1
theorem dksX6_storm_0 : cX6_storm.data.toList.drop 0 = dktX6_storm_0 := by decide +kernel
theorem dksX6_storm_1 : cX6_storm.data.toList.drop 22 = dktX6_storm_1 := dk_seg dksX6_storm_0 22 rfl rfl
theorem dksX6_storm_2 : cX6_storm.data.toList.drop 44 = dktX6_storm_2 := dk_seg dksX6_storm_1 22 rfl rfl
theorem dksX6_storm_3 : cX6_storm.data.toList.drop 66 = dktX6_storm_3 := dk_seg dksX6_storm_2 22 rfl rfl
theorem dX6_storm_0 : decode cX6_storm 0 = .ok (.aload_n 0, 1) := dk_42 (dk_at dksX6_storm_0 0 rfl rfl)
theorem dX6_storm_1 : decode cX6_storm 1 = .ok (.getfield 138, 3) := dk_180 0 138 (dk_at dksX6_storm_0 1 rfl rfl)
theorem dX6_storm_4 : decode cX6_storm 4 = .ok (.ifCond .ne 6, 3) := dk_154 0 6 (dk_at dksX6_storm_0 4 rfl rfl)
theorem dX6_storm_7 : decode cX6_storm 7 = .ok (.bipush (-5), 2) := dk_16 251 (dk_at dksX6_storm_0 7 rfl rfl)
theorem dX6_storm_9 : decode cX6_storm 9 = .ok (.ireturn, 1) := dk_172 (dk_at dksX6_storm_0 9 rfl rfl)
theorem dX6_storm_10 : decode cX6_storm 10 = .ok (.bipush (-2), 2) := dk_16 254 (dk_at dksX6_storm_0 10 rfl rfl)
theorem dX6_storm_12 : decode cX6_storm 12 = .ok (.istore_n 2, 1) := dk_61 (dk_at dksX6_storm_0 12 rfl rfl)
theorem dX6_storm_13 : decode cX6_storm 13 = .ok (.iconst 0, 1) := dk_3 (dk_at dksX6_storm_0 13 rfl rfl)
theorem dX6_storm_14 : decode cX6_storm 14 = .ok (.istore_n 3, 1) := dk_62 (dk_at dksX6_storm_0 14 rfl rfl)
theorem dX6_storm_15 : decode cX6_storm 15 = .ok (.iload_n 3, 1) := dk_29 (dk_at dksX6_storm_0 15 rfl rfl)
theorem dX6_storm_16 : decode cX6_storm 16 = .ok (.bipush 20, 2) := dk_16 20 (dk_at dksX6_storm_0 16 rfl rfl)
theorem dX6_storm_18 : decode cX6_storm 18 = .ok (.if_icmp .gt 51, 3) := dk_163 0 51 (dk_at dksX6_storm_0 18 rfl rfl)
theorem dX6_storm_21 : decode cX6_storm 21 = .ok (.iload_n 2, 1) := dk_28 (dk_at dksX6_storm_0 21 rfl rfl)
theorem dX6_storm_22 : decode cX6_storm 22 = .ok (.ifCond .ge 47, 3) := dk_156 0 47 (dk_at dksX6_storm_1 0 rfl rfl)
theorem dX6_storm_25 : decode cX6_storm 25 = .ok (.aload_n 0, 1) := dk_42 (dk_at dksX6_storm_1 3 rfl rfl)
theorem dX6_storm_26 : decode cX6_storm 26 = .ok (.iload_n 3, 1) := dk_29 (dk_at dksX6_storm_1 4 rfl rfl)
theorem dX6_storm_27 : decode cX6_storm 27 = .ok (.putfield 255, 3) := dk_181 0 255 (dk_at dksX6_storm_1 5 rfl rfl)
theorem dX6_storm_30 : decode cX6_storm 30 = .ok (.aload_n 0, 1) := dk_42 (dk_at dksX6_storm_1 8 rfl rfl)
theorem dX6_storm_31 : decode cX6_storm 31 = .ok (.iload_n 1, 1) := dk_27 (dk_at dksX6_storm_1 9 rfl rfl)
theorem dX6_storm_32 : decode cX6_storm 32 = .ok (.bipush 24, 2) := dk_16 24 (dk_at dksX6_storm_1 10 rfl rfl)
theorem dX6_storm_34 : decode cX6_storm 34 = .ok (.aload_n 0, 1) := dk_42 (dk_at dksX6_storm_1 12 rfl rfl)
theorem dX6_storm_35 : decode cX6_storm 35 = .ok (.getfield 272, 3) := dk_180 1 16 (dk_at dksX6_storm_1 13 rfl rfl)
theorem dX6_storm_38 : decode cX6_storm 38 = .ok (.isub, 1) := dk_100 (dk_at dksX6_storm_1 16 rfl rfl)
theorem dX6_storm_39 : decode cX6_storm 39 = .ok (.invokevirtual 358, 3) := dk_182 1 102 (dk_at dksX6_storm_1 17 rfl rfl)
theorem dX6_storm_42 : decode cX6_storm 42 = .ok (.aload_n 0, 1) := dk_42 (dk_at dksX6_storm_1 20 rfl rfl)
theorem dX6_storm_43 : decode cX6_storm 43 = .ok (.aload_n 0, 1) := dk_42 (dk_at dksX6_storm_1 21 rfl rfl)
theorem dX6_storm_44 : decode cX6_storm 44 = .ok (.getfield 78, 3) := dk_180 0 78 (dk_at dksX6_storm_2 0 rfl rfl)
theorem dX6_storm_47 : decode cX6_storm 47 = .ok (.invokevirtual 298, 3) := dk_182 1 42 (dk_at dksX6_storm_2 3 rfl rfl)
theorem dX6_storm_50 : decode cX6_storm 50 = .ok (.aload_n 0, 1) := dk_42 (dk_at dksX6_storm_2 6 rfl rfl)
theorem dX6_storm_51 : decode cX6_storm 51 = .ok (.aload_n 0, 1) := dk_42 (dk_at dksX6_storm_2 7 rfl rfl)
theorem dX6_storm_52 : decode cX6_storm 52 = .ok (.getfield 28, 3) := dk_180 0 28 (dk_at dksX6_storm_2 8 rfl rfl)
theorem dX6_storm_55 : decode cX6_storm 55 = .ok (.invokevirtual 298, 3) := dk_182 1 42 (dk_at dksX6_storm_2 11 rfl rfl)
theorem dX6_storm_58 : decode cX6_storm 58 = .ok (.if_icmp .eq 5, 3) := dk_159 0 5 (dk_at dksX6_storm_2 14 rfl rfl)
theorem dX6_storm_61 : decode cX6_storm 61 = .ok (.iload_n 3, 1) := dk_29 (dk_at dksX6_storm_2 17 rfl rfl)
theorem dX6_storm_62 : decode cX6_storm 62 = .ok (.istore_n 2, 1) := dk_61 (dk_at dksX6_storm_2 18 rfl rfl)
theorem dX6_storm_63 : decode cX6_storm 63 = .ok (.iinc 3 1, 3) := dk_132 3 1 (dk_at dksX6_storm_2 19 rfl rfl)
theorem dX6_storm_66 : decode cX6_storm 66 = .ok (.goto (-51), 3) := dk_167 255 205 (dk_at dksX6_storm_3 0 rfl rfl)
theorem dX6_storm_69 : decode cX6_storm 69 = .ok (.aload_n 0, 1) := dk_42 (dk_at dksX6_storm_3 3 rfl rfl)
theorem dX6_storm_70 : decode cX6_storm 70 = .ok (.iconst 0, 1) := dk_3 (dk_at dksX6_storm_3 4 rfl rfl)
theorem dX6_storm_71 : decode cX6_storm 71 = .ok (.putfield 255, 3) := dk_181 0 255 (dk_at dksX6_storm_3 5 rfl rfl)
theorem dX6_storm_74 : decode cX6_storm 74 = .ok (.iload_n 2, 1) := dk_28 (dk_at dksX6_storm_3 8 rfl rfl)
theorem dX6_storm_75 : decode cX6_storm 75 = .ok (.ireturn, 1) := dk_172 (dk_at dksX6_storm_3 9 rfl rfl)
abbrev cX6_seeded : ByteArray := prog_26_method_73_code
def yX6_seeded : MethodName := ⟨RX6, "seeded", "(II)I"⟩
def dkwX6_seeded_6 : List UInt8 := [21, 4, 153, 0, 5, 29, 172, 132, 3, 1, 167, 255, 166, 16, 254, 172]
abbrev dktX6_seeded_6 : List UInt8 := dkwX6_seeded_6 ++ []
def dkwX6_seeded_5 : List UInt8 := [180, 0, 78, 21, 5, 46, 133, 148, 154, 0, 7, 4, 167, 0, 4, 3, 54, 4, 132, 5, 1, 167, 255, 197]
abbrev dktX6_seeded_5 : List UInt8 := dkwX6_seeded_5 ++ dktX6_seeded_6
def dkwX6_seeded_4 : List UInt8 := [27, 46, 162, 0, 45, 21, 4, 153, 0, 31, 42, 180, 0, 120, 16, 60, 27, 104, 21, 5, 96, 47, 42]
abbrev dktX6_seeded_4 : List UInt8 := dkwX6_seeded_4 ++ dktX6_seeded_5
def dkwX6_seeded_3 : List UInt8 := [182, 1, 102, 4, 54, 4, 3, 54, 5, 21, 5, 42, 180, 0, 138, 162, 0, 56, 21, 5, 42, 180, 0, 117]
abbrev dktX6_seeded_3 : List UInt8 := dkwX6_seeded_3 ++ dktX6_seeded_4
def dkwX6_seeded_2 : List UInt8 := [180, 1, 16, 28, 96, 16, 24, 164, 0, 6, 16, 251, 172, 3, 62, 29, 16, 100, 162, 0, 90, 42, 29, 28]
abbrev dktX6_seeded_2 : List UInt8 := dkwX6_seeded_2 ++ dktX6_seeded_3
def dkwX6_seeded_1 : List UInt8 := [46, 2, 160, 0, 6, 16, 245, 172, 42, 180, 0, 114, 27, 46, 16, 254, 159, 0, 6, 16, 244, 172, 42]
abbrev dktX6_seeded_1 : List UInt8 := dkwX6_seeded_1 ++ dktX6_seeded_2
def dkwX6_seeded_0 : List UInt8 := [27, 184, 0, 156, 153, 0, 13, 28, 3, 16, 24, 184, 0, 134, 154, 0, 5, 2, 172, 42, 180, 0, 114, 27]
abbrev dktX6_seeded_0 : List UInt8 := dkwX6_seeded_0 ++ dktX6_seeded_1
theorem dksX6_seeded_0 : cX6_seeded.data.toList.drop 0 = dktX6_seeded_0 := by decide +kernel
theorem dksX6_seeded_1 : cX6_seeded.data.toList.drop 24 = dktX6_seeded_1 := dk_seg dksX6_seeded_0 24 rfl rfl
theorem dksX6_seeded_2 : cX6_seeded.data.toList.drop 47 = dktX6_seeded_2 := dk_seg dksX6_seeded_1 23 rfl rfl
theorem dksX6_seeded_3 : cX6_seeded.data.toList.drop 71 = dktX6_seeded_3 := dk_seg dksX6_seeded_2 24 rfl rfl
theorem dksX6_seeded_4 : cX6_seeded.data.toList.drop 95 = dktX6_seeded_4 := dk_seg dksX6_seeded_3 24 rfl rfl
theorem dksX6_seeded_5 : cX6_seeded.data.toList.drop 118 = dktX6_seeded_5 := dk_seg dksX6_seeded_4 23 rfl rfl
theorem dksX6_seeded_6 : cX6_seeded.data.toList.drop 142 = dktX6_seeded_6 := dk_seg dksX6_seeded_5 24 rfl rfl
theorem dX6_seeded_0 : decode cX6_seeded 0 = .ok (.iload_n 1, 1) := dk_27 (dk_at dksX6_seeded_0 0 rfl rfl)
theorem dX6_seeded_1 : decode cX6_seeded 1 = .ok (.invokestatic 156, 3) := dk_184 0 156 (dk_at dksX6_seeded_0 1 rfl rfl)
theorem dX6_seeded_4 : decode cX6_seeded 4 = .ok (.ifCond .eq 13, 3) := dk_153 0 13 (dk_at dksX6_seeded_0 4 rfl rfl)
theorem dX6_seeded_7 : decode cX6_seeded 7 = .ok (.iload_n 2, 1) := dk_28 (dk_at dksX6_seeded_0 7 rfl rfl)
theorem dX6_seeded_8 : decode cX6_seeded 8 = .ok (.iconst 0, 1) := dk_3 (dk_at dksX6_seeded_0 8 rfl rfl)
theorem dX6_seeded_9 : decode cX6_seeded 9 = .ok (.bipush 24, 2) := dk_16 24 (dk_at dksX6_seeded_0 9 rfl rfl)
theorem dX6_seeded_11 : decode cX6_seeded 11 = .ok (.invokestatic 134, 3) := dk_184 0 134 (dk_at dksX6_seeded_0 11 rfl rfl)
theorem dX6_seeded_14 : decode cX6_seeded 14 = .ok (.ifCond .ne 5, 3) := dk_154 0 5 (dk_at dksX6_seeded_0 14 rfl rfl)
theorem dX6_seeded_17 : decode cX6_seeded 17 = .ok (.iconst (-1), 1) := dk_2 (dk_at dksX6_seeded_0 17 rfl rfl)
theorem dX6_seeded_18 : decode cX6_seeded 18 = .ok (.ireturn, 1) := dk_172 (dk_at dksX6_seeded_0 18 rfl rfl)
theorem dX6_seeded_19 : decode cX6_seeded 19 = .ok (.aload_n 0, 1) := dk_42 (dk_at dksX6_seeded_0 19 rfl rfl)
theorem dX6_seeded_20 : decode cX6_seeded 20 = .ok (.getfield 114, 3) := dk_180 0 114 (dk_at dksX6_seeded_0 20 rfl rfl)
theorem dX6_seeded_23 : decode cX6_seeded 23 = .ok (.iload_n 1, 1) := dk_27 (dk_at dksX6_seeded_0 23 rfl rfl)
theorem dX6_seeded_24 : decode cX6_seeded 24 = .ok (.iaload, 1) := dk_46 (dk_at dksX6_seeded_1 0 rfl rfl)
theorem dX6_seeded_25 : decode cX6_seeded 25 = .ok (.iconst (-1), 1) := dk_2 (dk_at dksX6_seeded_1 1 rfl rfl)
theorem dX6_seeded_26 : decode cX6_seeded 26 = .ok (.if_icmp .ne 6, 3) := dk_160 0 6 (dk_at dksX6_seeded_1 2 rfl rfl)
theorem dX6_seeded_29 : decode cX6_seeded 29 = .ok (.bipush (-11), 2) := dk_16 245 (dk_at dksX6_seeded_1 5 rfl rfl)
theorem dX6_seeded_31 : decode cX6_seeded 31 = .ok (.ireturn, 1) := dk_172 (dk_at dksX6_seeded_1 7 rfl rfl)
theorem dX6_seeded_32 : decode cX6_seeded 32 = .ok (.aload_n 0, 1) := dk_42 (dk_at dksX6_seeded_1 8 rfl rfl)
theorem dX6_seeded_33 : decode cX6_seeded 33 = .ok (.getfield 114, 3) := dk_180 0 114 (dk_at dksX6_seeded_1 9 rfl rfl)
theorem dX6_seeded_36 : decode cX6_seeded 36 = .ok (.iload_n 1, 1) := dk_27 (dk_at dksX6_seeded_1 12 rfl rfl)
theorem dX6_seeded_37 : decode cX6_seeded 37 = .ok (.iaload, 1) := dk_46 (dk_at dksX6_seeded_1 13 rfl rfl)
theorem dX6_seeded_38 : decode cX6_seeded 38 = .ok (.bipush (-2), 2) := dk_16 254 (dk_at dksX6_seeded_1 14 rfl rfl)
theorem dX6_seeded_40 : decode cX6_seeded 40 = .ok (.if_icmp .eq 6, 3) := dk_159 0 6 (dk_at dksX6_seeded_1 16 rfl rfl)
theorem dX6_seeded_43 : decode cX6_seeded 43 = .ok (.bipush (-12), 2) := dk_16 244 (dk_at dksX6_seeded_1 19 rfl rfl)
theorem dX6_seeded_45 : decode cX6_seeded 45 = .ok (.ireturn, 1) := dk_172 (dk_at dksX6_seeded_1 21 rfl rfl)
theorem dX6_seeded_46 : decode cX6_seeded 46 = .ok (.aload_n 0, 1) := dk_42 (dk_at dksX6_seeded_1 22 rfl rfl)
theorem dX6_seeded_47 : decode cX6_seeded 47 = .ok (.getfield 272, 3) := dk_180 1 16 (dk_at dksX6_seeded_2 0 rfl rfl)
theorem dX6_seeded_50 : decode cX6_seeded 50 = .ok (.iload_n 2, 1) := dk_28 (dk_at dksX6_seeded_2 3 rfl rfl)
theorem dX6_seeded_51 : decode cX6_seeded 51 = .ok (.iadd, 1) := dk_96 (dk_at dksX6_seeded_2 4 rfl rfl)
theorem dX6_seeded_52 : decode cX6_seeded 52 = .ok (.bipush 24, 2) := dk_16 24 (dk_at dksX6_seeded_2 5 rfl rfl)
theorem dX6_seeded_54 : decode cX6_seeded 54 = .ok (.if_icmp .le 6, 3) := dk_164 0 6 (dk_at dksX6_seeded_2 7 rfl rfl)
theorem dX6_seeded_57 : decode cX6_seeded 57 = .ok (.bipush (-5), 2) := dk_16 251 (dk_at dksX6_seeded_2 10 rfl rfl)
theorem dX6_seeded_59 : decode cX6_seeded 59 = .ok (.ireturn, 1) := dk_172 (dk_at dksX6_seeded_2 12 rfl rfl)
theorem dX6_seeded_60 : decode cX6_seeded 60 = .ok (.iconst 0, 1) := dk_3 (dk_at dksX6_seeded_2 13 rfl rfl)
theorem dX6_seeded_61 : decode cX6_seeded 61 = .ok (.istore_n 3, 1) := dk_62 (dk_at dksX6_seeded_2 14 rfl rfl)
theorem dX6_seeded_62 : decode cX6_seeded 62 = .ok (.iload_n 3, 1) := dk_29 (dk_at dksX6_seeded_2 15 rfl rfl)
theorem dX6_seeded_63 : decode cX6_seeded 63 = .ok (.bipush 100, 2) := dk_16 100 (dk_at dksX6_seeded_2 16 rfl rfl)
theorem dX6_seeded_65 : decode cX6_seeded 65 = .ok (.if_icmp .ge 90, 3) := dk_162 0 90 (dk_at dksX6_seeded_2 18 rfl rfl)
theorem dX6_seeded_68 : decode cX6_seeded 68 = .ok (.aload_n 0, 1) := dk_42 (dk_at dksX6_seeded_2 21 rfl rfl)
theorem dX6_seeded_69 : decode cX6_seeded 69 = .ok (.iload_n 3, 1) := dk_29 (dk_at dksX6_seeded_2 22 rfl rfl)
theorem dX6_seeded_70 : decode cX6_seeded 70 = .ok (.iload_n 2, 1) := dk_28 (dk_at dksX6_seeded_2 23 rfl rfl)
theorem dX6_seeded_71 : decode cX6_seeded 71 = .ok (.invokevirtual 358, 3) := dk_182 1 102 (dk_at dksX6_seeded_3 0 rfl rfl)
theorem dX6_seeded_74 : decode cX6_seeded 74 = .ok (.iconst 1, 1) := dk_4 (dk_at dksX6_seeded_3 3 rfl rfl)
theorem dX6_seeded_75 : decode cX6_seeded 75 = .ok (.istore 4, 2) := dk_54 4 (dk_at dksX6_seeded_3 4 rfl rfl)
theorem dX6_seeded_77 : decode cX6_seeded 77 = .ok (.iconst 0, 1) := dk_3 (dk_at dksX6_seeded_3 6 rfl rfl)
theorem dX6_seeded_78 : decode cX6_seeded 78 = .ok (.istore 5, 2) := dk_54 5 (dk_at dksX6_seeded_3 7 rfl rfl)
theorem dX6_seeded_80 : decode cX6_seeded 80 = .ok (.iload 5, 2) := dk_21 5 (dk_at dksX6_seeded_3 9 rfl rfl)
theorem dX6_seeded_82 : decode cX6_seeded 82 = .ok (.aload_n 0, 1) := dk_42 (dk_at dksX6_seeded_3 11 rfl rfl)
theorem dX6_seeded_83 : decode cX6_seeded 83 = .ok (.getfield 138, 3) := dk_180 0 138 (dk_at dksX6_seeded_3 12 rfl rfl)
theorem dX6_seeded_86 : decode cX6_seeded 86 = .ok (.if_icmp .ge 56, 3) := dk_162 0 56 (dk_at dksX6_seeded_3 15 rfl rfl)
theorem dX6_seeded_89 : decode cX6_seeded 89 = .ok (.iload 5, 2) := dk_21 5 (dk_at dksX6_seeded_3 18 rfl rfl)
theorem dX6_seeded_91 : decode cX6_seeded 91 = .ok (.aload_n 0, 1) := dk_42 (dk_at dksX6_seeded_3 20 rfl rfl)
theorem dX6_seeded_92 : decode cX6_seeded 92 = .ok (.getfield 117, 3) := dk_180 0 117 (dk_at dksX6_seeded_3 21 rfl rfl)
theorem dX6_seeded_95 : decode cX6_seeded 95 = .ok (.iload_n 1, 1) := dk_27 (dk_at dksX6_seeded_4 0 rfl rfl)
theorem dX6_seeded_96 : decode cX6_seeded 96 = .ok (.iaload, 1) := dk_46 (dk_at dksX6_seeded_4 1 rfl rfl)
theorem dX6_seeded_97 : decode cX6_seeded 97 = .ok (.if_icmp .ge 45, 3) := dk_162 0 45 (dk_at dksX6_seeded_4 2 rfl rfl)
theorem dX6_seeded_100 : decode cX6_seeded 100 = .ok (.iload 4, 2) := dk_21 4 (dk_at dksX6_seeded_4 5 rfl rfl)
theorem dX6_seeded_102 : decode cX6_seeded 102 = .ok (.ifCond .eq 31, 3) := dk_153 0 31 (dk_at dksX6_seeded_4 7 rfl rfl)
theorem dX6_seeded_105 : decode cX6_seeded 105 = .ok (.aload_n 0, 1) := dk_42 (dk_at dksX6_seeded_4 10 rfl rfl)
theorem dX6_seeded_106 : decode cX6_seeded 106 = .ok (.getfield 120, 3) := dk_180 0 120 (dk_at dksX6_seeded_4 11 rfl rfl)
theorem dX6_seeded_109 : decode cX6_seeded 109 = .ok (.bipush 60, 2) := dk_16 60 (dk_at dksX6_seeded_4 14 rfl rfl)
theorem dX6_seeded_111 : decode cX6_seeded 111 = .ok (.iload_n 1, 1) := dk_27 (dk_at dksX6_seeded_4 16 rfl rfl)
theorem dX6_seeded_112 : decode cX6_seeded 112 = .ok (.imul, 1) := dk_104 (dk_at dksX6_seeded_4 17 rfl rfl)
theorem dX6_seeded_113 : decode cX6_seeded 113 = .ok (.iload 5, 2) := dk_21 5 (dk_at dksX6_seeded_4 18 rfl rfl)
theorem dX6_seeded_115 : decode cX6_seeded 115 = .ok (.iadd, 1) := dk_96 (dk_at dksX6_seeded_4 20 rfl rfl)
theorem dX6_seeded_116 : decode cX6_seeded 116 = .ok (.laload, 1) := dk_47 (dk_at dksX6_seeded_4 21 rfl rfl)
theorem dX6_seeded_117 : decode cX6_seeded 117 = .ok (.aload_n 0, 1) := dk_42 (dk_at dksX6_seeded_4 22 rfl rfl)
theorem dX6_seeded_118 : decode cX6_seeded 118 = .ok (.getfield 78, 3) := dk_180 0 78 (dk_at dksX6_seeded_5 0 rfl rfl)
theorem dX6_seeded_121 : decode cX6_seeded 121 = .ok (.iload 5, 2) := dk_21 5 (dk_at dksX6_seeded_5 3 rfl rfl)
theorem dX6_seeded_123 : decode cX6_seeded 123 = .ok (.iaload, 1) := dk_46 (dk_at dksX6_seeded_5 5 rfl rfl)
theorem dX6_seeded_124 : decode cX6_seeded 124 = .ok (.i2l, 1) := dk_133 (dk_at dksX6_seeded_5 6 rfl rfl)
theorem dX6_seeded_125 : decode cX6_seeded 125 = .ok (.lcmp, 1) := dk_148 (dk_at dksX6_seeded_5 7 rfl rfl)
theorem dX6_seeded_126 : decode cX6_seeded 126 = .ok (.ifCond .ne 7, 3) := dk_154 0 7 (dk_at dksX6_seeded_5 8 rfl rfl)
theorem dX6_seeded_129 : decode cX6_seeded 129 = .ok (.iconst 1, 1) := dk_4 (dk_at dksX6_seeded_5 11 rfl rfl)
theorem dX6_seeded_130 : decode cX6_seeded 130 = .ok (.goto 4, 3) := dk_167 0 4 (dk_at dksX6_seeded_5 12 rfl rfl)
theorem dX6_seeded_133 : decode cX6_seeded 133 = .ok (.iconst 0, 1) := dk_3 (dk_at dksX6_seeded_5 15 rfl rfl)
theorem dX6_seeded_134 : decode cX6_seeded 134 = .ok (.istore 4, 2) := dk_54 4 (dk_at dksX6_seeded_5 16 rfl rfl)
theorem dX6_seeded_136 : decode cX6_seeded 136 = .ok (.iinc 5 1, 3) := dk_132 5 1 (dk_at dksX6_seeded_5 18 rfl rfl)
theorem dX6_seeded_139 : decode cX6_seeded 139 = .ok (.goto (-59), 3) := dk_167 255 197 (dk_at dksX6_seeded_5 21 rfl rfl)
theorem dX6_seeded_142 : decode cX6_seeded 142 = .ok (.iload 4, 2) := dk_21 4 (dk_at dksX6_seeded_6 0 rfl rfl)
theorem dX6_seeded_144 : decode cX6_seeded 144 = .ok (.ifCond .eq 5, 3) := dk_153 0 5 (dk_at dksX6_seeded_6 2 rfl rfl)
theorem dX6_seeded_147 : decode cX6_seeded 147 = .ok (.iload_n 3, 1) := dk_29 (dk_at dksX6_seeded_6 5 rfl rfl)
theorem dX6_seeded_148 : decode cX6_seeded 148 = .ok (.ireturn, 1) := dk_172 (dk_at dksX6_seeded_6 6 rfl rfl)
theorem dX6_seeded_149 : decode cX6_seeded 149 = .ok (.iinc 3 1, 3) := dk_132 3 1 (dk_at dksX6_seeded_6 7 rfl rfl)
theorem dX6_seeded_152 : decode cX6_seeded 152 = .ok (.goto (-90), 3) := dk_167 255 166 (dk_at dksX6_seeded_6 10 rfl rfl)
theorem dX6_seeded_155 : decode cX6_seeded 155 = .ok (.bipush (-2), 2) := dk_16 254 (dk_at dksX6_seeded_6 13 rfl rfl)
theorem dX6_seeded_157 : decode cX6_seeded 157 = .ok (.ireturn, 1) := dk_172 (dk_at dksX6_seeded_6 15 rfl rfl)
abbrev cX6_image : ByteArray := prog_26_method_74_code
def yX6_image : MethodName := ⟨RX6, "image", "()I"⟩
def dkwX6_image_4 : List UInt8 := [132, 1, 1, 167, 255, 233, 42, 180, 1, 16, 172]
abbrev dktX6_image_4 : List UInt8 := dkwX6_image_4 ++ []
def dkwX6_image_3 : List UInt8 := [3, 60, 27, 42, 180, 0, 131, 162, 0, 21, 42, 180, 0, 105, 27, 42, 180, 0, 19, 27, 46, 79]
abbrev dktX6_image_3 : List UInt8 := dkwX6_image_3 ++ dktX6_image_4
def dkwX6_image_2 : List UInt8 := [180, 0, 28, 27, 46, 79, 42, 180, 0, 102, 27, 42, 180, 0, 34, 27, 46, 79, 132, 1, 1, 167, 255, 221]
abbrev dktX6_image_2 : List UInt8 := dkwX6_image_2 ++ dktX6_image_3
def dkwX6_image_1 : List UInt8 := [180, 0, 131, 181, 1, 114, 3, 60, 27, 42, 180, 0, 138, 162, 0, 33, 42, 180, 0, 99, 27, 42]
abbrev dktX6_image_1 : List UInt8 := dkwX6_image_1 ++ dktX6_image_2
def dkwX6_image_0 : List UInt8 := [42, 4, 181, 1, 105, 42, 42, 180, 1, 16, 181, 1, 108, 42, 42, 180, 0, 138, 181, 1, 111, 42, 42]
abbrev dktX6_image_0 : List UInt8 := dkwX6_image_0 ++ dktX6_image_1
theorem dksX6_image_0 : cX6_image.data.toList.drop 0 = dktX6_image_0 := by decide +kernel
theorem dksX6_image_1 : cX6_image.data.toList.drop 23 = dktX6_image_1 := dk_seg dksX6_image_0 23 rfl rfl
theorem dksX6_image_2 : cX6_image.data.toList.drop 45 = dktX6_image_2 := dk_seg dksX6_image_1 22 rfl rfl
theorem dksX6_image_3 : cX6_image.data.toList.drop 69 = dktX6_image_3 := dk_seg dksX6_image_2 24 rfl rfl
theorem dksX6_image_4 : cX6_image.data.toList.drop 91 = dktX6_image_4 := dk_seg dksX6_image_3 22 rfl rfl
theorem dX6_image_0 : decode cX6_image 0 = .ok (.aload_n 0, 1) := dk_42 (dk_at dksX6_image_0 0 rfl rfl)
theorem dX6_image_1 : decode cX6_image 1 = .ok (.iconst 1, 1) := dk_4 (dk_at dksX6_image_0 1 rfl rfl)
theorem dX6_image_2 : decode cX6_image 2 = .ok (.putfield 361, 3) := dk_181 1 105 (dk_at dksX6_image_0 2 rfl rfl)
theorem dX6_image_5 : decode cX6_image 5 = .ok (.aload_n 0, 1) := dk_42 (dk_at dksX6_image_0 5 rfl rfl)
theorem dX6_image_6 : decode cX6_image 6 = .ok (.aload_n 0, 1) := dk_42 (dk_at dksX6_image_0 6 rfl rfl)
theorem dX6_image_7 : decode cX6_image 7 = .ok (.getfield 272, 3) := dk_180 1 16 (dk_at dksX6_image_0 7 rfl rfl)
theorem dX6_image_10 : decode cX6_image 10 = .ok (.putfield 364, 3) := dk_181 1 108 (dk_at dksX6_image_0 10 rfl rfl)
theorem dX6_image_13 : decode cX6_image 13 = .ok (.aload_n 0, 1) := dk_42 (dk_at dksX6_image_0 13 rfl rfl)
theorem dX6_image_14 : decode cX6_image 14 = .ok (.aload_n 0, 1) := dk_42 (dk_at dksX6_image_0 14 rfl rfl)
theorem dX6_image_15 : decode cX6_image 15 = .ok (.getfield 138, 3) := dk_180 0 138 (dk_at dksX6_image_0 15 rfl rfl)
theorem dX6_image_18 : decode cX6_image 18 = .ok (.putfield 367, 3) := dk_181 1 111 (dk_at dksX6_image_0 18 rfl rfl)
theorem dX6_image_21 : decode cX6_image 21 = .ok (.aload_n 0, 1) := dk_42 (dk_at dksX6_image_0 21 rfl rfl)
theorem dX6_image_22 : decode cX6_image 22 = .ok (.aload_n 0, 1) := dk_42 (dk_at dksX6_image_0 22 rfl rfl)
theorem dX6_image_23 : decode cX6_image 23 = .ok (.getfield 131, 3) := dk_180 0 131 (dk_at dksX6_image_1 0 rfl rfl)
theorem dX6_image_26 : decode cX6_image 26 = .ok (.putfield 370, 3) := dk_181 1 114 (dk_at dksX6_image_1 3 rfl rfl)
theorem dX6_image_29 : decode cX6_image 29 = .ok (.iconst 0, 1) := dk_3 (dk_at dksX6_image_1 6 rfl rfl)
theorem dX6_image_30 : decode cX6_image 30 = .ok (.istore_n 1, 1) := dk_60 (dk_at dksX6_image_1 7 rfl rfl)
theorem dX6_image_31 : decode cX6_image 31 = .ok (.iload_n 1, 1) := dk_27 (dk_at dksX6_image_1 8 rfl rfl)
theorem dX6_image_32 : decode cX6_image 32 = .ok (.aload_n 0, 1) := dk_42 (dk_at dksX6_image_1 9 rfl rfl)
theorem dX6_image_33 : decode cX6_image 33 = .ok (.getfield 138, 3) := dk_180 0 138 (dk_at dksX6_image_1 10 rfl rfl)
theorem dX6_image_36 : decode cX6_image 36 = .ok (.if_icmp .ge 33, 3) := dk_162 0 33 (dk_at dksX6_image_1 13 rfl rfl)
theorem dX6_image_39 : decode cX6_image 39 = .ok (.aload_n 0, 1) := dk_42 (dk_at dksX6_image_1 16 rfl rfl)
theorem dX6_image_40 : decode cX6_image 40 = .ok (.getfield 99, 3) := dk_180 0 99 (dk_at dksX6_image_1 17 rfl rfl)
theorem dX6_image_43 : decode cX6_image 43 = .ok (.iload_n 1, 1) := dk_27 (dk_at dksX6_image_1 20 rfl rfl)
theorem dX6_image_44 : decode cX6_image 44 = .ok (.aload_n 0, 1) := dk_42 (dk_at dksX6_image_1 21 rfl rfl)
theorem dX6_image_45 : decode cX6_image 45 = .ok (.getfield 28, 3) := dk_180 0 28 (dk_at dksX6_image_2 0 rfl rfl)
theorem dX6_image_48 : decode cX6_image 48 = .ok (.iload_n 1, 1) := dk_27 (dk_at dksX6_image_2 3 rfl rfl)
theorem dX6_image_49 : decode cX6_image 49 = .ok (.iaload, 1) := dk_46 (dk_at dksX6_image_2 4 rfl rfl)
theorem dX6_image_50 : decode cX6_image 50 = .ok (.iastore, 1) := dk_79 (dk_at dksX6_image_2 5 rfl rfl)
theorem dX6_image_51 : decode cX6_image 51 = .ok (.aload_n 0, 1) := dk_42 (dk_at dksX6_image_2 6 rfl rfl)
theorem dX6_image_52 : decode cX6_image 52 = .ok (.getfield 102, 3) := dk_180 0 102 (dk_at dksX6_image_2 7 rfl rfl)
theorem dX6_image_55 : decode cX6_image 55 = .ok (.iload_n 1, 1) := dk_27 (dk_at dksX6_image_2 10 rfl rfl)
theorem dX6_image_56 : decode cX6_image 56 = .ok (.aload_n 0, 1) := dk_42 (dk_at dksX6_image_2 11 rfl rfl)
theorem dX6_image_57 : decode cX6_image 57 = .ok (.getfield 34, 3) := dk_180 0 34 (dk_at dksX6_image_2 12 rfl rfl)
theorem dX6_image_60 : decode cX6_image 60 = .ok (.iload_n 1, 1) := dk_27 (dk_at dksX6_image_2 15 rfl rfl)
theorem dX6_image_61 : decode cX6_image 61 = .ok (.iaload, 1) := dk_46 (dk_at dksX6_image_2 16 rfl rfl)
theorem dX6_image_62 : decode cX6_image 62 = .ok (.iastore, 1) := dk_79 (dk_at dksX6_image_2 17 rfl rfl)
theorem dX6_image_63 : decode cX6_image 63 = .ok (.iinc 1 1, 3) := dk_132 1 1 (dk_at dksX6_image_2 18 rfl rfl)
theorem dX6_image_66 : decode cX6_image 66 = .ok (.goto (-35), 3) := dk_167 255 221 (dk_at dksX6_image_2 21 rfl rfl)
theorem dX6_image_69 : decode cX6_image 69 = .ok (.iconst 0, 1) := dk_3 (dk_at dksX6_image_3 0 rfl rfl)
theorem dX6_image_70 : decode cX6_image 70 = .ok (.istore_n 1, 1) := dk_60 (dk_at dksX6_image_3 1 rfl rfl)
theorem dX6_image_71 : decode cX6_image 71 = .ok (.iload_n 1, 1) := dk_27 (dk_at dksX6_image_3 2 rfl rfl)
theorem dX6_image_72 : decode cX6_image 72 = .ok (.aload_n 0, 1) := dk_42 (dk_at dksX6_image_3 3 rfl rfl)
theorem dX6_image_73 : decode cX6_image 73 = .ok (.getfield 131, 3) := dk_180 0 131 (dk_at dksX6_image_3 4 rfl rfl)
theorem dX6_image_76 : decode cX6_image 76 = .ok (.if_icmp .ge 21, 3) := dk_162 0 21 (dk_at dksX6_image_3 7 rfl rfl)
theorem dX6_image_79 : decode cX6_image 79 = .ok (.aload_n 0, 1) := dk_42 (dk_at dksX6_image_3 10 rfl rfl)
theorem dX6_image_80 : decode cX6_image 80 = .ok (.getfield 105, 3) := dk_180 0 105 (dk_at dksX6_image_3 11 rfl rfl)
theorem dX6_image_83 : decode cX6_image 83 = .ok (.iload_n 1, 1) := dk_27 (dk_at dksX6_image_3 14 rfl rfl)
theorem dX6_image_84 : decode cX6_image 84 = .ok (.aload_n 0, 1) := dk_42 (dk_at dksX6_image_3 15 rfl rfl)
theorem dX6_image_85 : decode cX6_image 85 = .ok (.getfield 19, 3) := dk_180 0 19 (dk_at dksX6_image_3 16 rfl rfl)
theorem dX6_image_88 : decode cX6_image 88 = .ok (.iload_n 1, 1) := dk_27 (dk_at dksX6_image_3 19 rfl rfl)
theorem dX6_image_89 : decode cX6_image 89 = .ok (.iaload, 1) := dk_46 (dk_at dksX6_image_3 20 rfl rfl)
theorem dX6_image_90 : decode cX6_image 90 = .ok (.iastore, 1) := dk_79 (dk_at dksX6_image_3 21 rfl rfl)
theorem dX6_image_91 : decode cX6_image 91 = .ok (.iinc 1 1, 3) := dk_132 1 1 (dk_at dksX6_image_4 0 rfl rfl)
theorem dX6_image_94 : decode cX6_image 94 = .ok (.goto (-23), 3) := dk_167 255 233 (dk_at dksX6_image_4 3 rfl rfl)
theorem dX6_image_97 : decode cX6_image 97 = .ok (.aload_n 0, 1) := dk_42 (dk_at dksX6_image_4 6 rfl rfl)
theorem dX6_image_98 : decode cX6_image 98 = .ok (.getfield 272, 3) := dk_180 1 16 (dk_at dksX6_image_4 7 rfl rfl)
theorem dX6_image_101 : decode cX6_image 101 = .ok (.ireturn, 1) := dk_172 (dk_at dksX6_image_4 10 rfl rfl)
abbrev cX6_back : ByteArray := prog_26_method_75_code
def yX6_back : MethodName := ⟨RX6, "back", "()I"⟩
def dkwX6_back_3 : List UInt8 := [180, 0, 19, 27, 42, 180, 0, 105, 27, 46, 79, 132, 1, 1, 167, 255, 233, 42, 180, 1, 16, 172]
abbrev dktX6_back_3 : List UInt8 := dkwX6_back_3 ++ []
def dkwX6_back_2 : List UInt8 := [180, 0, 102, 27, 46, 79, 132, 1, 1, 167, 255, 221, 3, 60, 27, 42, 180, 1, 114, 162, 0, 21, 42]
abbrev dktX6_back_2 : List UInt8 := dkwX6_back_2 ++ dktX6_back_3
def dkwX6_back_1 : List UInt8 := [180, 1, 111, 162, 0, 33, 42, 180, 0, 28, 27, 42, 180, 0, 99, 27, 46, 79, 42, 180, 0, 34, 27, 42]
abbrev dktX6_back_1 : List UInt8 := dkwX6_back_1 ++ dktX6_back_2
def dkwX6_back_0 : List UInt8 := [42, 180, 1, 105, 154, 0, 6, 16, 251, 172, 42, 42, 180, 1, 108, 181, 1, 16, 3, 60, 27, 42]
abbrev dktX6_back_0 : List UInt8 := dkwX6_back_0 ++ dktX6_back_1
theorem dksX6_back_0 : cX6_back.data.toList.drop 0 = dktX6_back_0 := by decide +kernel
theorem dksX6_back_1 : cX6_back.data.toList.drop 22 = dktX6_back_1 := dk_seg dksX6_back_0 22 rfl rfl
theorem dksX6_back_2 : cX6_back.data.toList.drop 46 = dktX6_back_2 := dk_seg dksX6_back_1 24 rfl rfl
theorem dksX6_back_3 : cX6_back.data.toList.drop 69 = dktX6_back_3 := dk_seg dksX6_back_2 23 rfl rfl
theorem dX6_back_0 : decode cX6_back 0 = .ok (.aload_n 0, 1) := dk_42 (dk_at dksX6_back_0 0 rfl rfl)
theorem dX6_back_1 : decode cX6_back 1 = .ok (.getfield 361, 3) := dk_180 1 105 (dk_at dksX6_back_0 1 rfl rfl)
theorem dX6_back_4 : decode cX6_back 4 = .ok (.ifCond .ne 6, 3) := dk_154 0 6 (dk_at dksX6_back_0 4 rfl rfl)
theorem dX6_back_7 : decode cX6_back 7 = .ok (.bipush (-5), 2) := dk_16 251 (dk_at dksX6_back_0 7 rfl rfl)
theorem dX6_back_9 : decode cX6_back 9 = .ok (.ireturn, 1) := dk_172 (dk_at dksX6_back_0 9 rfl rfl)
theorem dX6_back_10 : decode cX6_back 10 = .ok (.aload_n 0, 1) := dk_42 (dk_at dksX6_back_0 10 rfl rfl)
theorem dX6_back_11 : decode cX6_back 11 = .ok (.aload_n 0, 1) := dk_42 (dk_at dksX6_back_0 11 rfl rfl)
theorem dX6_back_12 : decode cX6_back 12 = .ok (.getfield 364, 3) := dk_180 1 108 (dk_at dksX6_back_0 12 rfl rfl)
theorem dX6_back_15 : decode cX6_back 15 = .ok (.putfield 272, 3) := dk_181 1 16 (dk_at dksX6_back_0 15 rfl rfl)
theorem dX6_back_18 : decode cX6_back 18 = .ok (.iconst 0, 1) := dk_3 (dk_at dksX6_back_0 18 rfl rfl)
theorem dX6_back_19 : decode cX6_back 19 = .ok (.istore_n 1, 1) := dk_60 (dk_at dksX6_back_0 19 rfl rfl)
theorem dX6_back_20 : decode cX6_back 20 = .ok (.iload_n 1, 1) := dk_27 (dk_at dksX6_back_0 20 rfl rfl)
theorem dX6_back_21 : decode cX6_back 21 = .ok (.aload_n 0, 1) := dk_42 (dk_at dksX6_back_0 21 rfl rfl)
theorem dX6_back_22 : decode cX6_back 22 = .ok (.getfield 367, 3) := dk_180 1 111 (dk_at dksX6_back_1 0 rfl rfl)
theorem dX6_back_25 : decode cX6_back 25 = .ok (.if_icmp .ge 33, 3) := dk_162 0 33 (dk_at dksX6_back_1 3 rfl rfl)
theorem dX6_back_28 : decode cX6_back 28 = .ok (.aload_n 0, 1) := dk_42 (dk_at dksX6_back_1 6 rfl rfl)
theorem dX6_back_29 : decode cX6_back 29 = .ok (.getfield 28, 3) := dk_180 0 28 (dk_at dksX6_back_1 7 rfl rfl)
theorem dX6_back_32 : decode cX6_back 32 = .ok (.iload_n 1, 1) := dk_27 (dk_at dksX6_back_1 10 rfl rfl)
theorem dX6_back_33 : decode cX6_back 33 = .ok (.aload_n 0, 1) := dk_42 (dk_at dksX6_back_1 11 rfl rfl)
theorem dX6_back_34 : decode cX6_back 34 = .ok (.getfield 99, 3) := dk_180 0 99 (dk_at dksX6_back_1 12 rfl rfl)
theorem dX6_back_37 : decode cX6_back 37 = .ok (.iload_n 1, 1) := dk_27 (dk_at dksX6_back_1 15 rfl rfl)
theorem dX6_back_38 : decode cX6_back 38 = .ok (.iaload, 1) := dk_46 (dk_at dksX6_back_1 16 rfl rfl)
theorem dX6_back_39 : decode cX6_back 39 = .ok (.iastore, 1) := dk_79 (dk_at dksX6_back_1 17 rfl rfl)
theorem dX6_back_40 : decode cX6_back 40 = .ok (.aload_n 0, 1) := dk_42 (dk_at dksX6_back_1 18 rfl rfl)
theorem dX6_back_41 : decode cX6_back 41 = .ok (.getfield 34, 3) := dk_180 0 34 (dk_at dksX6_back_1 19 rfl rfl)
theorem dX6_back_44 : decode cX6_back 44 = .ok (.iload_n 1, 1) := dk_27 (dk_at dksX6_back_1 22 rfl rfl)
theorem dX6_back_45 : decode cX6_back 45 = .ok (.aload_n 0, 1) := dk_42 (dk_at dksX6_back_1 23 rfl rfl)
theorem dX6_back_46 : decode cX6_back 46 = .ok (.getfield 102, 3) := dk_180 0 102 (dk_at dksX6_back_2 0 rfl rfl)
theorem dX6_back_49 : decode cX6_back 49 = .ok (.iload_n 1, 1) := dk_27 (dk_at dksX6_back_2 3 rfl rfl)
theorem dX6_back_50 : decode cX6_back 50 = .ok (.iaload, 1) := dk_46 (dk_at dksX6_back_2 4 rfl rfl)
theorem dX6_back_51 : decode cX6_back 51 = .ok (.iastore, 1) := dk_79 (dk_at dksX6_back_2 5 rfl rfl)
theorem dX6_back_52 : decode cX6_back 52 = .ok (.iinc 1 1, 3) := dk_132 1 1 (dk_at dksX6_back_2 6 rfl rfl)
theorem dX6_back_55 : decode cX6_back 55 = .ok (.goto (-35), 3) := dk_167 255 221 (dk_at dksX6_back_2 9 rfl rfl)
theorem dX6_back_58 : decode cX6_back 58 = .ok (.iconst 0, 1) := dk_3 (dk_at dksX6_back_2 12 rfl rfl)
theorem dX6_back_59 : decode cX6_back 59 = .ok (.istore_n 1, 1) := dk_60 (dk_at dksX6_back_2 13 rfl rfl)
theorem dX6_back_60 : decode cX6_back 60 = .ok (.iload_n 1, 1) := dk_27 (dk_at dksX6_back_2 14 rfl rfl)
theorem dX6_back_61 : decode cX6_back 61 = .ok (.aload_n 0, 1) := dk_42 (dk_at dksX6_back_2 15 rfl rfl)
theorem dX6_back_62 : decode cX6_back 62 = .ok (.getfield 370, 3) := dk_180 1 114 (dk_at dksX6_back_2 16 rfl rfl)
theorem dX6_back_65 : decode cX6_back 65 = .ok (.if_icmp .ge 21, 3) := dk_162 0 21 (dk_at dksX6_back_2 19 rfl rfl)
theorem dX6_back_68 : decode cX6_back 68 = .ok (.aload_n 0, 1) := dk_42 (dk_at dksX6_back_2 22 rfl rfl)
theorem dX6_back_69 : decode cX6_back 69 = .ok (.getfield 19, 3) := dk_180 0 19 (dk_at dksX6_back_3 0 rfl rfl)
theorem dX6_back_72 : decode cX6_back 72 = .ok (.iload_n 1, 1) := dk_27 (dk_at dksX6_back_3 3 rfl rfl)
theorem dX6_back_73 : decode cX6_back 73 = .ok (.aload_n 0, 1) := dk_42 (dk_at dksX6_back_3 4 rfl rfl)
theorem dX6_back_74 : decode cX6_back 74 = .ok (.getfield 105, 3) := dk_180 0 105 (dk_at dksX6_back_3 5 rfl rfl)
theorem dX6_back_77 : decode cX6_back 77 = .ok (.iload_n 1, 1) := dk_27 (dk_at dksX6_back_3 8 rfl rfl)
theorem dX6_back_78 : decode cX6_back 78 = .ok (.iaload, 1) := dk_46 (dk_at dksX6_back_3 9 rfl rfl)
theorem dX6_back_79 : decode cX6_back 79 = .ok (.iastore, 1) := dk_79 (dk_at dksX6_back_3 10 rfl rfl)
theorem dX6_back_80 : decode cX6_back 80 = .ok (.iinc 1 1, 3) := dk_132 1 1 (dk_at dksX6_back_3 11 rfl rfl)
theorem dX6_back_83 : decode cX6_back 83 = .ok (.goto (-23), 3) := dk_167 255 233 (dk_at dksX6_back_3 14 rfl rfl)
theorem dX6_back_86 : decode cX6_back 86 = .ok (.aload_n 0, 1) := dk_42 (dk_at dksX6_back_3 17 rfl rfl)
theorem dX6_back_87 : decode cX6_back 87 = .ok (.getfield 272, 3) := dk_180 1 16 (dk_at dksX6_back_3 18 rfl rfl)
theorem dX6_back_90 : decode cX6_back 90 = .ok (.ireturn, 1) := dk_172 (dk_at dksX6_back_3 21 rfl rfl)
abbrev cX6_trace : ByteArray := prog_26_method_78_code
def yX6_trace : MethodName := ⟨RX6, "trace", "(I)I"⟩
def dkwX6_trace_1 : List UInt8 := [167, 0, 4, 2, 172]
abbrev dktX6_trace_1 : List UInt8 := dkwX6_trace_1 ++ []
def dkwX6_trace_0 : List UInt8 := [27, 155, 0, 26, 27, 42, 180, 1, 120, 162, 0, 18, 27, 16, 24, 162, 0, 12, 42, 180, 0, 111, 27, 46]
abbrev dktX6_trace_0 : List UInt8 := dkwX6_trace_0 ++ dktX6_trace_1
theorem dksX6_trace_0 : cX6_trace.data.toList.drop 0 = dktX6_trace_0 := by decide +kernel
theorem dksX6_trace_1 : cX6_trace.data.toList.drop 24 = dktX6_trace_1 := dk_seg dksX6_trace_0 24 rfl rfl
theorem dX6_trace_0 : decode cX6_trace 0 = .ok (.iload_n 1, 1) := dk_27 (dk_at dksX6_trace_0 0 rfl rfl)
theorem dX6_trace_1 : decode cX6_trace 1 = .ok (.ifCond .lt 26, 3) := dk_155 0 26 (dk_at dksX6_trace_0 1 rfl rfl)
theorem dX6_trace_4 : decode cX6_trace 4 = .ok (.iload_n 1, 1) := dk_27 (dk_at dksX6_trace_0 4 rfl rfl)
theorem dX6_trace_5 : decode cX6_trace 5 = .ok (.aload_n 0, 1) := dk_42 (dk_at dksX6_trace_0 5 rfl rfl)
theorem dX6_trace_6 : decode cX6_trace 6 = .ok (.getfield 376, 3) := dk_180 1 120 (dk_at dksX6_trace_0 6 rfl rfl)
theorem dX6_trace_9 : decode cX6_trace 9 = .ok (.if_icmp .ge 18, 3) := dk_162 0 18 (dk_at dksX6_trace_0 9 rfl rfl)
theorem dX6_trace_12 : decode cX6_trace 12 = .ok (.iload_n 1, 1) := dk_27 (dk_at dksX6_trace_0 12 rfl rfl)
theorem dX6_trace_13 : decode cX6_trace 13 = .ok (.bipush 24, 2) := dk_16 24 (dk_at dksX6_trace_0 13 rfl rfl)
theorem dX6_trace_15 : decode cX6_trace 15 = .ok (.if_icmp .ge 12, 3) := dk_162 0 12 (dk_at dksX6_trace_0 15 rfl rfl)
theorem dX6_trace_18 : decode cX6_trace 18 = .ok (.aload_n 0, 1) := dk_42 (dk_at dksX6_trace_0 18 rfl rfl)
theorem dX6_trace_19 : decode cX6_trace 19 = .ok (.getfield 111, 3) := dk_180 0 111 (dk_at dksX6_trace_0 19 rfl rfl)
theorem dX6_trace_22 : decode cX6_trace 22 = .ok (.iload_n 1, 1) := dk_27 (dk_at dksX6_trace_0 22 rfl rfl)
theorem dX6_trace_23 : decode cX6_trace 23 = .ok (.iaload, 1) := dk_46 (dk_at dksX6_trace_0 23 rfl rfl)
theorem dX6_trace_24 : decode cX6_trace 24 = .ok (.goto 4, 3) := dk_167 0 4 (dk_at dksX6_trace_1 0 rfl rfl)
theorem dX6_trace_27 : decode cX6_trace 27 = .ok (.iconst (-1), 1) := dk_2 (dk_at dksX6_trace_1 3 rfl rfl)
theorem dX6_trace_28 : decode cX6_trace 28 = .ok (.ireturn, 1) := dk_172 (dk_at dksX6_trace_1 4 rfl rfl)
abbrev cX6_body : ByteArray := prog_26_method_79_code
def yX6_body : MethodName := ⟨RX6, "body", "(I)I"⟩
def dkwX6_body_2 : List UInt8 := [4, 100, 172]
abbrev dktX6_body_2 : List UInt8 := dkwX6_body_2 ++ []
def dkwX6_body_1 : List UInt8 := [42, 180, 0, 108, 42, 180, 1, 117, 27, 79, 42, 89, 180, 1, 117, 4, 96, 181, 1, 117, 42, 180, 1, 117]
abbrev dktX6_body_1 : List UInt8 := dkwX6_body_1 ++ dktX6_body_2
def dkwX6_body_0 : List UInt8 := [27, 3, 16, 7, 184, 0, 134, 154, 0, 5, 2, 172, 42, 180, 1, 117, 16, 50, 160, 0, 6, 16, 253, 172]
abbrev dktX6_body_0 : List UInt8 := dkwX6_body_0 ++ dktX6_body_1
theorem dksX6_body_0 : cX6_body.data.toList.drop 0 = dktX6_body_0 := by decide +kernel
theorem dksX6_body_1 : cX6_body.data.toList.drop 24 = dktX6_body_1 := dk_seg dksX6_body_0 24 rfl rfl
theorem dksX6_body_2 : cX6_body.data.toList.drop 48 = dktX6_body_2 := dk_seg dksX6_body_1 24 rfl rfl
theorem dX6_body_0 : decode cX6_body 0 = .ok (.iload_n 1, 1) := dk_27 (dk_at dksX6_body_0 0 rfl rfl)
theorem dX6_body_1 : decode cX6_body 1 = .ok (.iconst 0, 1) := dk_3 (dk_at dksX6_body_0 1 rfl rfl)
theorem dX6_body_2 : decode cX6_body 2 = .ok (.bipush 7, 2) := dk_16 7 (dk_at dksX6_body_0 2 rfl rfl)
theorem dX6_body_4 : decode cX6_body 4 = .ok (.invokestatic 134, 3) := dk_184 0 134 (dk_at dksX6_body_0 4 rfl rfl)
theorem dX6_body_7 : decode cX6_body 7 = .ok (.ifCond .ne 5, 3) := dk_154 0 5 (dk_at dksX6_body_0 7 rfl rfl)
theorem dX6_body_10 : decode cX6_body 10 = .ok (.iconst (-1), 1) := dk_2 (dk_at dksX6_body_0 10 rfl rfl)
theorem dX6_body_11 : decode cX6_body 11 = .ok (.ireturn, 1) := dk_172 (dk_at dksX6_body_0 11 rfl rfl)
theorem dX6_body_12 : decode cX6_body 12 = .ok (.aload_n 0, 1) := dk_42 (dk_at dksX6_body_0 12 rfl rfl)
theorem dX6_body_13 : decode cX6_body 13 = .ok (.getfield 373, 3) := dk_180 1 117 (dk_at dksX6_body_0 13 rfl rfl)
theorem dX6_body_16 : decode cX6_body 16 = .ok (.bipush 50, 2) := dk_16 50 (dk_at dksX6_body_0 16 rfl rfl)
theorem dX6_body_18 : decode cX6_body 18 = .ok (.if_icmp .ne 6, 3) := dk_160 0 6 (dk_at dksX6_body_0 18 rfl rfl)
theorem dX6_body_21 : decode cX6_body 21 = .ok (.bipush (-3), 2) := dk_16 253 (dk_at dksX6_body_0 21 rfl rfl)
theorem dX6_body_23 : decode cX6_body 23 = .ok (.ireturn, 1) := dk_172 (dk_at dksX6_body_0 23 rfl rfl)
theorem dX6_body_24 : decode cX6_body 24 = .ok (.aload_n 0, 1) := dk_42 (dk_at dksX6_body_1 0 rfl rfl)
theorem dX6_body_25 : decode cX6_body 25 = .ok (.getfield 108, 3) := dk_180 0 108 (dk_at dksX6_body_1 1 rfl rfl)
theorem dX6_body_28 : decode cX6_body 28 = .ok (.aload_n 0, 1) := dk_42 (dk_at dksX6_body_1 4 rfl rfl)
theorem dX6_body_29 : decode cX6_body 29 = .ok (.getfield 373, 3) := dk_180 1 117 (dk_at dksX6_body_1 5 rfl rfl)
theorem dX6_body_32 : decode cX6_body 32 = .ok (.iload_n 1, 1) := dk_27 (dk_at dksX6_body_1 8 rfl rfl)
theorem dX6_body_33 : decode cX6_body 33 = .ok (.iastore, 1) := dk_79 (dk_at dksX6_body_1 9 rfl rfl)
theorem dX6_body_34 : decode cX6_body 34 = .ok (.aload_n 0, 1) := dk_42 (dk_at dksX6_body_1 10 rfl rfl)
theorem dX6_body_35 : decode cX6_body 35 = .ok (.dup, 1) := dk_89 (dk_at dksX6_body_1 11 rfl rfl)
theorem dX6_body_36 : decode cX6_body 36 = .ok (.getfield 373, 3) := dk_180 1 117 (dk_at dksX6_body_1 12 rfl rfl)
theorem dX6_body_39 : decode cX6_body 39 = .ok (.iconst 1, 1) := dk_4 (dk_at dksX6_body_1 15 rfl rfl)
theorem dX6_body_40 : decode cX6_body 40 = .ok (.iadd, 1) := dk_96 (dk_at dksX6_body_1 16 rfl rfl)
theorem dX6_body_41 : decode cX6_body 41 = .ok (.putfield 373, 3) := dk_181 1 117 (dk_at dksX6_body_1 17 rfl rfl)
theorem dX6_body_44 : decode cX6_body 44 = .ok (.aload_n 0, 1) := dk_42 (dk_at dksX6_body_1 20 rfl rfl)
theorem dX6_body_45 : decode cX6_body 45 = .ok (.getfield 373, 3) := dk_180 1 117 (dk_at dksX6_body_1 21 rfl rfl)
theorem dX6_body_48 : decode cX6_body 48 = .ok (.iconst 1, 1) := dk_4 (dk_at dksX6_body_2 0 rfl rfl)
theorem dX6_body_49 : decode cX6_body 49 = .ok (.isub, 1) := dk_100 (dk_at dksX6_body_2 1 rfl rfl)
theorem dX6_body_50 : decode cX6_body 50 = .ok (.ireturn, 1) := dk_172 (dk_at dksX6_body_2 2 rfl rfl)
abbrev cX6_act : ByteArray := prog_26_method_92_code
def yX6_act : MethodName := ⟨RX6, "act", "(III)I"⟩
def dkwX6_act_2 : List UInt8 := [167, 0, 23, 28, 5, 160, 0, 12, 42, 27, 29, 182, 1, 144, 167, 0, 9, 42, 27, 29, 182, 1, 162, 172]
abbrev dktX6_act_2 : List UInt8 := dkwX6_act_2 ++ []
def dkwX6_act_1 : List UInt8 := [28, 154, 0, 12, 42, 27, 29, 182, 1, 135, 167, 0, 37, 28, 4, 160, 0, 12, 42, 27, 29, 182, 1, 153]
abbrev dktX6_act_1 : List UInt8 := dkwX6_act_1 ++ dktX6_act_2
def dkwX6_act_0 : List UInt8 := [42, 3, 181, 1, 120, 42, 27, 182, 1, 159, 153, 0, 12, 28, 3, 6, 184, 0, 134, 154, 0, 5, 3, 172]
abbrev dktX6_act_0 : List UInt8 := dkwX6_act_0 ++ dktX6_act_1
theorem dksX6_act_0 : cX6_act.data.toList.drop 0 = dktX6_act_0 := by decide +kernel
theorem dksX6_act_1 : cX6_act.data.toList.drop 24 = dktX6_act_1 := dk_seg dksX6_act_0 24 rfl rfl
theorem dksX6_act_2 : cX6_act.data.toList.drop 48 = dktX6_act_2 := dk_seg dksX6_act_1 24 rfl rfl
theorem dX6_act_0 : decode cX6_act 0 = .ok (.aload_n 0, 1) := dk_42 (dk_at dksX6_act_0 0 rfl rfl)
theorem dX6_act_1 : decode cX6_act 1 = .ok (.iconst 0, 1) := dk_3 (dk_at dksX6_act_0 1 rfl rfl)
theorem dX6_act_2 : decode cX6_act 2 = .ok (.putfield 376, 3) := dk_181 1 120 (dk_at dksX6_act_0 2 rfl rfl)
theorem dX6_act_5 : decode cX6_act 5 = .ok (.aload_n 0, 1) := dk_42 (dk_at dksX6_act_0 5 rfl rfl)
theorem dX6_act_6 : decode cX6_act 6 = .ok (.iload_n 1, 1) := dk_27 (dk_at dksX6_act_0 6 rfl rfl)
theorem dX6_act_7 : decode cX6_act 7 = .ok (.invokevirtual 415, 3) := dk_182 1 159 (dk_at dksX6_act_0 7 rfl rfl)
theorem dX6_act_10 : decode cX6_act 10 = .ok (.ifCond .eq 12, 3) := dk_153 0 12 (dk_at dksX6_act_0 10 rfl rfl)
theorem dX6_act_13 : decode cX6_act 13 = .ok (.iload_n 2, 1) := dk_28 (dk_at dksX6_act_0 13 rfl rfl)
theorem dX6_act_14 : decode cX6_act 14 = .ok (.iconst 0, 1) := dk_3 (dk_at dksX6_act_0 14 rfl rfl)
theorem dX6_act_15 : decode cX6_act 15 = .ok (.iconst 3, 1) := dk_6 (dk_at dksX6_act_0 15 rfl rfl)
theorem dX6_act_16 : decode cX6_act 16 = .ok (.invokestatic 134, 3) := dk_184 0 134 (dk_at dksX6_act_0 16 rfl rfl)
theorem dX6_act_19 : decode cX6_act 19 = .ok (.ifCond .ne 5, 3) := dk_154 0 5 (dk_at dksX6_act_0 19 rfl rfl)
theorem dX6_act_22 : decode cX6_act 22 = .ok (.iconst 0, 1) := dk_3 (dk_at dksX6_act_0 22 rfl rfl)
theorem dX6_act_23 : decode cX6_act 23 = .ok (.ireturn, 1) := dk_172 (dk_at dksX6_act_0 23 rfl rfl)
theorem dX6_act_24 : decode cX6_act 24 = .ok (.iload_n 2, 1) := dk_28 (dk_at dksX6_act_1 0 rfl rfl)
theorem dX6_act_25 : decode cX6_act 25 = .ok (.ifCond .ne 12, 3) := dk_154 0 12 (dk_at dksX6_act_1 1 rfl rfl)
theorem dX6_act_28 : decode cX6_act 28 = .ok (.aload_n 0, 1) := dk_42 (dk_at dksX6_act_1 4 rfl rfl)
theorem dX6_act_29 : decode cX6_act 29 = .ok (.iload_n 1, 1) := dk_27 (dk_at dksX6_act_1 5 rfl rfl)
theorem dX6_act_30 : decode cX6_act 30 = .ok (.iload_n 3, 1) := dk_29 (dk_at dksX6_act_1 6 rfl rfl)
theorem dX6_act_31 : decode cX6_act 31 = .ok (.invokevirtual 391, 3) := dk_182 1 135 (dk_at dksX6_act_1 7 rfl rfl)
theorem dX6_act_34 : decode cX6_act 34 = .ok (.goto 37, 3) := dk_167 0 37 (dk_at dksX6_act_1 10 rfl rfl)
theorem dX6_act_37 : decode cX6_act 37 = .ok (.iload_n 2, 1) := dk_28 (dk_at dksX6_act_1 13 rfl rfl)
theorem dX6_act_38 : decode cX6_act 38 = .ok (.iconst 1, 1) := dk_4 (dk_at dksX6_act_1 14 rfl rfl)
theorem dX6_act_39 : decode cX6_act 39 = .ok (.if_icmp .ne 12, 3) := dk_160 0 12 (dk_at dksX6_act_1 15 rfl rfl)
theorem dX6_act_42 : decode cX6_act 42 = .ok (.aload_n 0, 1) := dk_42 (dk_at dksX6_act_1 18 rfl rfl)
theorem dX6_act_43 : decode cX6_act 43 = .ok (.iload_n 1, 1) := dk_27 (dk_at dksX6_act_1 19 rfl rfl)
theorem dX6_act_44 : decode cX6_act 44 = .ok (.iload_n 3, 1) := dk_29 (dk_at dksX6_act_1 20 rfl rfl)
theorem dX6_act_45 : decode cX6_act 45 = .ok (.invokevirtual 409, 3) := dk_182 1 153 (dk_at dksX6_act_1 21 rfl rfl)
theorem dX6_act_48 : decode cX6_act 48 = .ok (.goto 23, 3) := dk_167 0 23 (dk_at dksX6_act_2 0 rfl rfl)
theorem dX6_act_51 : decode cX6_act 51 = .ok (.iload_n 2, 1) := dk_28 (dk_at dksX6_act_2 3 rfl rfl)
theorem dX6_act_52 : decode cX6_act 52 = .ok (.iconst 2, 1) := dk_5 (dk_at dksX6_act_2 4 rfl rfl)
theorem dX6_act_53 : decode cX6_act 53 = .ok (.if_icmp .ne 12, 3) := dk_160 0 12 (dk_at dksX6_act_2 5 rfl rfl)
theorem dX6_act_56 : decode cX6_act 56 = .ok (.aload_n 0, 1) := dk_42 (dk_at dksX6_act_2 8 rfl rfl)
theorem dX6_act_57 : decode cX6_act 57 = .ok (.iload_n 1, 1) := dk_27 (dk_at dksX6_act_2 9 rfl rfl)
theorem dX6_act_58 : decode cX6_act 58 = .ok (.iload_n 3, 1) := dk_29 (dk_at dksX6_act_2 10 rfl rfl)
theorem dX6_act_59 : decode cX6_act 59 = .ok (.invokevirtual 400, 3) := dk_182 1 144 (dk_at dksX6_act_2 11 rfl rfl)
theorem dX6_act_62 : decode cX6_act 62 = .ok (.goto 9, 3) := dk_167 0 9 (dk_at dksX6_act_2 14 rfl rfl)
theorem dX6_act_65 : decode cX6_act 65 = .ok (.aload_n 0, 1) := dk_42 (dk_at dksX6_act_2 17 rfl rfl)
theorem dX6_act_66 : decode cX6_act 66 = .ok (.iload_n 1, 1) := dk_27 (dk_at dksX6_act_2 18 rfl rfl)
theorem dX6_act_67 : decode cX6_act 67 = .ok (.iload_n 3, 1) := dk_29 (dk_at dksX6_act_2 19 rfl rfl)
theorem dX6_act_68 : decode cX6_act 68 = .ok (.invokevirtual 418, 3) := dk_182 1 162 (dk_at dksX6_act_2 20 rfl rfl)
theorem dX6_act_71 : decode cX6_act 71 = .ok (.ireturn, 1) := dk_172 (dk_at dksX6_act_2 23 rfl rfl)
abbrev cX6_isBody : ByteArray := prog_26_method_76_code
def yX6_isBody : MethodName := ⟨RX6, "isBody", "(I)Z"⟩
def dkwX6_isBody_0 : List UInt8 := [27, 3, 42, 180, 1, 117, 4, 100, 184, 0, 134, 172]
abbrev dktX6_isBody_0 : List UInt8 := dkwX6_isBody_0 ++ []
theorem dksX6_isBody_0 : cX6_isBody.data.toList.drop 0 = dktX6_isBody_0 := by decide +kernel
theorem dX6_isBody_0 : decode cX6_isBody 0 = .ok (.iload_n 1, 1) := dk_27 (dk_at dksX6_isBody_0 0 rfl rfl)
theorem dX6_isBody_1 : decode cX6_isBody 1 = .ok (.iconst 0, 1) := dk_3 (dk_at dksX6_isBody_0 1 rfl rfl)
theorem dX6_isBody_2 : decode cX6_isBody 2 = .ok (.aload_n 0, 1) := dk_42 (dk_at dksX6_isBody_0 2 rfl rfl)
theorem dX6_isBody_3 : decode cX6_isBody 3 = .ok (.getfield 373, 3) := dk_180 1 117 (dk_at dksX6_isBody_0 3 rfl rfl)
theorem dX6_isBody_6 : decode cX6_isBody 6 = .ok (.iconst 1, 1) := dk_4 (dk_at dksX6_isBody_0 6 rfl rfl)
theorem dX6_isBody_7 : decode cX6_isBody 7 = .ok (.isub, 1) := dk_100 (dk_at dksX6_isBody_0 7 rfl rfl)
theorem dX6_isBody_8 : decode cX6_isBody 8 = .ok (.invokestatic 134, 3) := dk_184 0 134 (dk_at dksX6_isBody_0 8 rfl rfl)
theorem dX6_isBody_11 : decode cX6_isBody 11 = .ok (.ireturn, 1) := dk_172 (dk_at dksX6_isBody_0 11 rfl rfl)
abbrev cX6_sitting : ByteArray := prog_26_method_83_code
def yX6_sitting : MethodName := ⟨RX6, "sitting", "(II)I"⟩
def dkwX6_sitting_3 : List UInt8 := [182, 1, 132, 167, 0, 9, 42, 27, 28, 182, 1, 126, 172]
abbrev dktX6_sitting_3 : List UInt8 := dkwX6_sitting_3 ++ []
def dkwX6_sitting_2 : List UInt8 := [27, 28, 182, 1, 132, 4, 100, 172, 42, 180, 0, 108, 27, 46, 16, 6, 160, 0, 12, 42, 27, 28]
abbrev dktX6_sitting_2 : List UInt8 := dkwX6_sitting_2 ++ dktX6_sitting_3
def dkwX6_sitting_1 : List UInt8 := [182, 1, 126, 6, 96, 172, 42, 180, 0, 108, 27, 46, 16, 7, 160, 0, 18, 42, 16, 81, 182, 1, 123, 42]
abbrev dktX6_sitting_1 : List UInt8 := dkwX6_sitting_1 ++ dktX6_sitting_2
def dkwX6_sitting_0 : List UInt8 := [42, 180, 0, 108, 27, 46, 4, 184, 1, 129, 153, 0, 18, 42, 16, 20, 182, 1, 123, 42, 27, 28]
abbrev dktX6_sitting_0 : List UInt8 := dkwX6_sitting_0 ++ dktX6_sitting_1
theorem dksX6_sitting_0 : cX6_sitting.data.toList.drop 0 = dktX6_sitting_0 := by decide +kernel
theorem dksX6_sitting_1 : cX6_sitting.data.toList.drop 22 = dktX6_sitting_1 := dk_seg dksX6_sitting_0 22 rfl rfl
theorem dksX6_sitting_2 : cX6_sitting.data.toList.drop 46 = dktX6_sitting_2 := dk_seg dksX6_sitting_1 24 rfl rfl
theorem dksX6_sitting_3 : cX6_sitting.data.toList.drop 68 = dktX6_sitting_3 := dk_seg dksX6_sitting_2 22 rfl rfl
theorem dX6_sitting_0 : decode cX6_sitting 0 = .ok (.aload_n 0, 1) := dk_42 (dk_at dksX6_sitting_0 0 rfl rfl)
theorem dX6_sitting_1 : decode cX6_sitting 1 = .ok (.getfield 108, 3) := dk_180 0 108 (dk_at dksX6_sitting_0 1 rfl rfl)
theorem dX6_sitting_4 : decode cX6_sitting 4 = .ok (.iload_n 1, 1) := dk_27 (dk_at dksX6_sitting_0 4 rfl rfl)
theorem dX6_sitting_5 : decode cX6_sitting 5 = .ok (.iaload, 1) := dk_46 (dk_at dksX6_sitting_0 5 rfl rfl)
theorem dX6_sitting_6 : decode cX6_sitting 6 = .ok (.iconst 1, 1) := dk_4 (dk_at dksX6_sitting_0 6 rfl rfl)
theorem dX6_sitting_7 : decode cX6_sitting 7 = .ok (.invokestatic 385, 3) := dk_184 1 129 (dk_at dksX6_sitting_0 7 rfl rfl)
theorem dX6_sitting_10 : decode cX6_sitting 10 = .ok (.ifCond .eq 18, 3) := dk_153 0 18 (dk_at dksX6_sitting_0 10 rfl rfl)
theorem dX6_sitting_13 : decode cX6_sitting 13 = .ok (.aload_n 0, 1) := dk_42 (dk_at dksX6_sitting_0 13 rfl rfl)
theorem dX6_sitting_14 : decode cX6_sitting 14 = .ok (.bipush 20, 2) := dk_16 20 (dk_at dksX6_sitting_0 14 rfl rfl)
theorem dX6_sitting_16 : decode cX6_sitting 16 = .ok (.invokevirtual 379, 3) := dk_182 1 123 (dk_at dksX6_sitting_0 16 rfl rfl)
theorem dX6_sitting_19 : decode cX6_sitting 19 = .ok (.aload_n 0, 1) := dk_42 (dk_at dksX6_sitting_0 19 rfl rfl)
theorem dX6_sitting_20 : decode cX6_sitting 20 = .ok (.iload_n 1, 1) := dk_27 (dk_at dksX6_sitting_0 20 rfl rfl)
theorem dX6_sitting_21 : decode cX6_sitting 21 = .ok (.iload_n 2, 1) := dk_28 (dk_at dksX6_sitting_0 21 rfl rfl)
theorem dX6_sitting_22 : decode cX6_sitting 22 = .ok (.invokevirtual 382, 3) := dk_182 1 126 (dk_at dksX6_sitting_1 0 rfl rfl)
theorem dX6_sitting_25 : decode cX6_sitting 25 = .ok (.iconst 3, 1) := dk_6 (dk_at dksX6_sitting_1 3 rfl rfl)
theorem dX6_sitting_26 : decode cX6_sitting 26 = .ok (.iadd, 1) := dk_96 (dk_at dksX6_sitting_1 4 rfl rfl)
theorem dX6_sitting_27 : decode cX6_sitting 27 = .ok (.ireturn, 1) := dk_172 (dk_at dksX6_sitting_1 5 rfl rfl)
theorem dX6_sitting_28 : decode cX6_sitting 28 = .ok (.aload_n 0, 1) := dk_42 (dk_at dksX6_sitting_1 6 rfl rfl)
theorem dX6_sitting_29 : decode cX6_sitting 29 = .ok (.getfield 108, 3) := dk_180 0 108 (dk_at dksX6_sitting_1 7 rfl rfl)
theorem dX6_sitting_32 : decode cX6_sitting 32 = .ok (.iload_n 1, 1) := dk_27 (dk_at dksX6_sitting_1 10 rfl rfl)
theorem dX6_sitting_33 : decode cX6_sitting 33 = .ok (.iaload, 1) := dk_46 (dk_at dksX6_sitting_1 11 rfl rfl)
theorem dX6_sitting_34 : decode cX6_sitting 34 = .ok (.bipush 7, 2) := dk_16 7 (dk_at dksX6_sitting_1 12 rfl rfl)
theorem dX6_sitting_36 : decode cX6_sitting 36 = .ok (.if_icmp .ne 18, 3) := dk_160 0 18 (dk_at dksX6_sitting_1 14 rfl rfl)
theorem dX6_sitting_39 : decode cX6_sitting 39 = .ok (.aload_n 0, 1) := dk_42 (dk_at dksX6_sitting_1 17 rfl rfl)
theorem dX6_sitting_40 : decode cX6_sitting 40 = .ok (.bipush 81, 2) := dk_16 81 (dk_at dksX6_sitting_1 18 rfl rfl)
theorem dX6_sitting_42 : decode cX6_sitting 42 = .ok (.invokevirtual 379, 3) := dk_182 1 123 (dk_at dksX6_sitting_1 20 rfl rfl)
theorem dX6_sitting_45 : decode cX6_sitting 45 = .ok (.aload_n 0, 1) := dk_42 (dk_at dksX6_sitting_1 23 rfl rfl)
theorem dX6_sitting_46 : decode cX6_sitting 46 = .ok (.iload_n 1, 1) := dk_27 (dk_at dksX6_sitting_2 0 rfl rfl)
theorem dX6_sitting_47 : decode cX6_sitting 47 = .ok (.iload_n 2, 1) := dk_28 (dk_at dksX6_sitting_2 1 rfl rfl)
theorem dX6_sitting_48 : decode cX6_sitting 48 = .ok (.invokevirtual 388, 3) := dk_182 1 132 (dk_at dksX6_sitting_2 2 rfl rfl)
theorem dX6_sitting_51 : decode cX6_sitting 51 = .ok (.iconst 1, 1) := dk_4 (dk_at dksX6_sitting_2 5 rfl rfl)
theorem dX6_sitting_52 : decode cX6_sitting 52 = .ok (.isub, 1) := dk_100 (dk_at dksX6_sitting_2 6 rfl rfl)
theorem dX6_sitting_53 : decode cX6_sitting 53 = .ok (.ireturn, 1) := dk_172 (dk_at dksX6_sitting_2 7 rfl rfl)
theorem dX6_sitting_54 : decode cX6_sitting 54 = .ok (.aload_n 0, 1) := dk_42 (dk_at dksX6_sitting_2 8 rfl rfl)
theorem dX6_sitting_55 : decode cX6_sitting 55 = .ok (.getfield 108, 3) := dk_180 0 108 (dk_at dksX6_sitting_2 9 rfl rfl)
theorem dX6_sitting_58 : decode cX6_sitting 58 = .ok (.iload_n 1, 1) := dk_27 (dk_at dksX6_sitting_2 12 rfl rfl)
theorem dX6_sitting_59 : decode cX6_sitting 59 = .ok (.iaload, 1) := dk_46 (dk_at dksX6_sitting_2 13 rfl rfl)
theorem dX6_sitting_60 : decode cX6_sitting 60 = .ok (.bipush 6, 2) := dk_16 6 (dk_at dksX6_sitting_2 14 rfl rfl)
theorem dX6_sitting_62 : decode cX6_sitting 62 = .ok (.if_icmp .ne 12, 3) := dk_160 0 12 (dk_at dksX6_sitting_2 16 rfl rfl)
theorem dX6_sitting_65 : decode cX6_sitting 65 = .ok (.aload_n 0, 1) := dk_42 (dk_at dksX6_sitting_2 19 rfl rfl)
theorem dX6_sitting_66 : decode cX6_sitting 66 = .ok (.iload_n 1, 1) := dk_27 (dk_at dksX6_sitting_2 20 rfl rfl)
theorem dX6_sitting_67 : decode cX6_sitting 67 = .ok (.iload_n 2, 1) := dk_28 (dk_at dksX6_sitting_2 21 rfl rfl)
theorem dX6_sitting_68 : decode cX6_sitting 68 = .ok (.invokevirtual 388, 3) := dk_182 1 132 (dk_at dksX6_sitting_3 0 rfl rfl)
theorem dX6_sitting_71 : decode cX6_sitting 71 = .ok (.goto 9, 3) := dk_167 0 9 (dk_at dksX6_sitting_3 3 rfl rfl)
theorem dX6_sitting_74 : decode cX6_sitting 74 = .ok (.aload_n 0, 1) := dk_42 (dk_at dksX6_sitting_3 6 rfl rfl)
theorem dX6_sitting_75 : decode cX6_sitting 75 = .ok (.iload_n 1, 1) := dk_27 (dk_at dksX6_sitting_3 7 rfl rfl)
theorem dX6_sitting_76 : decode cX6_sitting 76 = .ok (.iload_n 2, 1) := dk_28 (dk_at dksX6_sitting_3 8 rfl rfl)
theorem dX6_sitting_77 : decode cX6_sitting 77 = .ok (.invokevirtual 382, 3) := dk_182 1 126 (dk_at dksX6_sitting_3 9 rfl rfl)
theorem dX6_sitting_80 : decode cX6_sitting 80 = .ok (.ireturn, 1) := dk_172 (dk_at dksX6_sitting_3 12 rfl rfl)
abbrev cX6_isUnder : ByteArray := prog_26_method_80_code
def yX6_isUnder : MethodName := ⟨RX6, "isUnder", "(II)Z"⟩
def dkwX6_isUnder_2 : List UInt8 := [160, 0, 13, 26, 16, 7, 160, 0, 7, 4, 167, 0, 4, 3, 172]
abbrev dktX6_isUnder_2 : List UInt8 := dkwX6_isUnder_2 ++ []
def dkwX6_isUnder_1 : List UInt8 := [26, 6, 159, 0, 30, 26, 8, 159, 0, 25, 27, 6, 160, 0, 8, 26, 8, 159, 0, 15, 27, 16, 6]
abbrev dktX6_isUnder_1 : List UInt8 := dkwX6_isUnder_1 ++ dktX6_isUnder_2
def dkwX6_isUnder_0 : List UInt8 := [27, 153, 0, 55, 26, 27, 159, 0, 50, 27, 4, 160, 0, 8, 26, 7, 159, 0, 40, 27, 5, 160, 0, 13]
abbrev dktX6_isUnder_0 : List UInt8 := dkwX6_isUnder_0 ++ dktX6_isUnder_1
theorem dksX6_isUnder_0 : cX6_isUnder.data.toList.drop 0 = dktX6_isUnder_0 := by decide +kernel
theorem dksX6_isUnder_1 : cX6_isUnder.data.toList.drop 24 = dktX6_isUnder_1 := dk_seg dksX6_isUnder_0 24 rfl rfl
theorem dksX6_isUnder_2 : cX6_isUnder.data.toList.drop 47 = dktX6_isUnder_2 := dk_seg dksX6_isUnder_1 23 rfl rfl
theorem dX6_isUnder_0 : decode cX6_isUnder 0 = .ok (.iload_n 1, 1) := dk_27 (dk_at dksX6_isUnder_0 0 rfl rfl)
theorem dX6_isUnder_1 : decode cX6_isUnder 1 = .ok (.ifCond .eq 55, 3) := dk_153 0 55 (dk_at dksX6_isUnder_0 1 rfl rfl)
theorem dX6_isUnder_4 : decode cX6_isUnder 4 = .ok (.iload_n 0, 1) := dk_26 (dk_at dksX6_isUnder_0 4 rfl rfl)
theorem dX6_isUnder_5 : decode cX6_isUnder 5 = .ok (.iload_n 1, 1) := dk_27 (dk_at dksX6_isUnder_0 5 rfl rfl)
theorem dX6_isUnder_6 : decode cX6_isUnder 6 = .ok (.if_icmp .eq 50, 3) := dk_159 0 50 (dk_at dksX6_isUnder_0 6 rfl rfl)
theorem dX6_isUnder_9 : decode cX6_isUnder 9 = .ok (.iload_n 1, 1) := dk_27 (dk_at dksX6_isUnder_0 9 rfl rfl)
theorem dX6_isUnder_10 : decode cX6_isUnder 10 = .ok (.iconst 1, 1) := dk_4 (dk_at dksX6_isUnder_0 10 rfl rfl)
theorem dX6_isUnder_11 : decode cX6_isUnder 11 = .ok (.if_icmp .ne 8, 3) := dk_160 0 8 (dk_at dksX6_isUnder_0 11 rfl rfl)
theorem dX6_isUnder_14 : decode cX6_isUnder 14 = .ok (.iload_n 0, 1) := dk_26 (dk_at dksX6_isUnder_0 14 rfl rfl)
theorem dX6_isUnder_15 : decode cX6_isUnder 15 = .ok (.iconst 4, 1) := dk_7 (dk_at dksX6_isUnder_0 15 rfl rfl)
theorem dX6_isUnder_16 : decode cX6_isUnder 16 = .ok (.if_icmp .eq 40, 3) := dk_159 0 40 (dk_at dksX6_isUnder_0 16 rfl rfl)
theorem dX6_isUnder_19 : decode cX6_isUnder 19 = .ok (.iload_n 1, 1) := dk_27 (dk_at dksX6_isUnder_0 19 rfl rfl)
theorem dX6_isUnder_20 : decode cX6_isUnder 20 = .ok (.iconst 2, 1) := dk_5 (dk_at dksX6_isUnder_0 20 rfl rfl)
theorem dX6_isUnder_21 : decode cX6_isUnder 21 = .ok (.if_icmp .ne 13, 3) := dk_160 0 13 (dk_at dksX6_isUnder_0 21 rfl rfl)
theorem dX6_isUnder_24 : decode cX6_isUnder 24 = .ok (.iload_n 0, 1) := dk_26 (dk_at dksX6_isUnder_1 0 rfl rfl)
theorem dX6_isUnder_25 : decode cX6_isUnder 25 = .ok (.iconst 3, 1) := dk_6 (dk_at dksX6_isUnder_1 1 rfl rfl)
theorem dX6_isUnder_26 : decode cX6_isUnder 26 = .ok (.if_icmp .eq 30, 3) := dk_159 0 30 (dk_at dksX6_isUnder_1 2 rfl rfl)
theorem dX6_isUnder_29 : decode cX6_isUnder 29 = .ok (.iload_n 0, 1) := dk_26 (dk_at dksX6_isUnder_1 5 rfl rfl)
theorem dX6_isUnder_30 : decode cX6_isUnder 30 = .ok (.iconst 5, 1) := dk_8 (dk_at dksX6_isUnder_1 6 rfl rfl)
theorem dX6_isUnder_31 : decode cX6_isUnder 31 = .ok (.if_icmp .eq 25, 3) := dk_159 0 25 (dk_at dksX6_isUnder_1 7 rfl rfl)
theorem dX6_isUnder_34 : decode cX6_isUnder 34 = .ok (.iload_n 1, 1) := dk_27 (dk_at dksX6_isUnder_1 10 rfl rfl)
theorem dX6_isUnder_35 : decode cX6_isUnder 35 = .ok (.iconst 3, 1) := dk_6 (dk_at dksX6_isUnder_1 11 rfl rfl)
theorem dX6_isUnder_36 : decode cX6_isUnder 36 = .ok (.if_icmp .ne 8, 3) := dk_160 0 8 (dk_at dksX6_isUnder_1 12 rfl rfl)
theorem dX6_isUnder_39 : decode cX6_isUnder 39 = .ok (.iload_n 0, 1) := dk_26 (dk_at dksX6_isUnder_1 15 rfl rfl)
theorem dX6_isUnder_40 : decode cX6_isUnder 40 = .ok (.iconst 5, 1) := dk_8 (dk_at dksX6_isUnder_1 16 rfl rfl)
theorem dX6_isUnder_41 : decode cX6_isUnder 41 = .ok (.if_icmp .eq 15, 3) := dk_159 0 15 (dk_at dksX6_isUnder_1 17 rfl rfl)
theorem dX6_isUnder_44 : decode cX6_isUnder 44 = .ok (.iload_n 1, 1) := dk_27 (dk_at dksX6_isUnder_1 20 rfl rfl)
theorem dX6_isUnder_45 : decode cX6_isUnder 45 = .ok (.bipush 6, 2) := dk_16 6 (dk_at dksX6_isUnder_1 21 rfl rfl)
theorem dX6_isUnder_47 : decode cX6_isUnder 47 = .ok (.if_icmp .ne 13, 3) := dk_160 0 13 (dk_at dksX6_isUnder_2 0 rfl rfl)
theorem dX6_isUnder_50 : decode cX6_isUnder 50 = .ok (.iload_n 0, 1) := dk_26 (dk_at dksX6_isUnder_2 3 rfl rfl)
theorem dX6_isUnder_51 : decode cX6_isUnder 51 = .ok (.bipush 7, 2) := dk_16 7 (dk_at dksX6_isUnder_2 4 rfl rfl)
theorem dX6_isUnder_53 : decode cX6_isUnder 53 = .ok (.if_icmp .ne 7, 3) := dk_160 0 7 (dk_at dksX6_isUnder_2 6 rfl rfl)
theorem dX6_isUnder_56 : decode cX6_isUnder 56 = .ok (.iconst 1, 1) := dk_4 (dk_at dksX6_isUnder_2 9 rfl rfl)
theorem dX6_isUnder_57 : decode cX6_isUnder 57 = .ok (.goto 4, 3) := dk_167 0 4 (dk_at dksX6_isUnder_2 10 rfl rfl)
theorem dX6_isUnder_60 : decode cX6_isUnder 60 = .ok (.iconst 0, 1) := dk_3 (dk_at dksX6_isUnder_2 13 rfl rfl)
theorem dX6_isUnder_61 : decode cX6_isUnder 61 = .ok (.ireturn, 1) := dk_172 (dk_at dksX6_isUnder_2 14 rfl rfl)
abbrev cX6_ran : ByteArray := prog_26_method_77_code
def yX6_ran : MethodName := ⟨RX6, "ran", "(I)V"⟩
def dkwX6_ran_1 : List UInt8 := [4, 96, 181, 1, 120, 177]
abbrev dktX6_ran_1 : List UInt8 := dkwX6_ran_1 ++ []
def dkwX6_ran_0 : List UInt8 := [42, 180, 1, 120, 16, 24, 162, 0, 13, 42, 180, 0, 111, 42, 180, 1, 120, 27, 79, 42, 89, 180, 1, 120]
abbrev dktX6_ran_0 : List UInt8 := dkwX6_ran_0 ++ dktX6_ran_1
theorem dksX6_ran_0 : cX6_ran.data.toList.drop 0 = dktX6_ran_0 := by decide +kernel
theorem dksX6_ran_1 : cX6_ran.data.toList.drop 24 = dktX6_ran_1 := dk_seg dksX6_ran_0 24 rfl rfl
theorem dX6_ran_0 : decode cX6_ran 0 = .ok (.aload_n 0, 1) := dk_42 (dk_at dksX6_ran_0 0 rfl rfl)
theorem dX6_ran_1 : decode cX6_ran 1 = .ok (.getfield 376, 3) := dk_180 1 120 (dk_at dksX6_ran_0 1 rfl rfl)
theorem dX6_ran_4 : decode cX6_ran 4 = .ok (.bipush 24, 2) := dk_16 24 (dk_at dksX6_ran_0 4 rfl rfl)
theorem dX6_ran_6 : decode cX6_ran 6 = .ok (.if_icmp .ge 13, 3) := dk_162 0 13 (dk_at dksX6_ran_0 6 rfl rfl)
theorem dX6_ran_9 : decode cX6_ran 9 = .ok (.aload_n 0, 1) := dk_42 (dk_at dksX6_ran_0 9 rfl rfl)
theorem dX6_ran_10 : decode cX6_ran 10 = .ok (.getfield 111, 3) := dk_180 0 111 (dk_at dksX6_ran_0 10 rfl rfl)
theorem dX6_ran_13 : decode cX6_ran 13 = .ok (.aload_n 0, 1) := dk_42 (dk_at dksX6_ran_0 13 rfl rfl)
theorem dX6_ran_14 : decode cX6_ran 14 = .ok (.getfield 376, 3) := dk_180 1 120 (dk_at dksX6_ran_0 14 rfl rfl)
theorem dX6_ran_17 : decode cX6_ran 17 = .ok (.iload_n 1, 1) := dk_27 (dk_at dksX6_ran_0 17 rfl rfl)
theorem dX6_ran_18 : decode cX6_ran 18 = .ok (.iastore, 1) := dk_79 (dk_at dksX6_ran_0 18 rfl rfl)
theorem dX6_ran_19 : decode cX6_ran 19 = .ok (.aload_n 0, 1) := dk_42 (dk_at dksX6_ran_0 19 rfl rfl)
theorem dX6_ran_20 : decode cX6_ran 20 = .ok (.dup, 1) := dk_89 (dk_at dksX6_ran_0 20 rfl rfl)
theorem dX6_ran_21 : decode cX6_ran 21 = .ok (.getfield 376, 3) := dk_180 1 120 (dk_at dksX6_ran_0 21 rfl rfl)
theorem dX6_ran_24 : decode cX6_ran 24 = .ok (.iconst 1, 1) := dk_4 (dk_at dksX6_ran_1 0 rfl rfl)
theorem dX6_ran_25 : decode cX6_ran 25 = .ok (.iadd, 1) := dk_96 (dk_at dksX6_ran_1 1 rfl rfl)
theorem dX6_ran_26 : decode cX6_ran 26 = .ok (.putfield 376, 3) := dk_181 1 120 (dk_at dksX6_ran_1 2 rfl rfl)
theorem dX6_ran_29 : decode cX6_ran 29 = .ok (.return_, 1) := dk_177 (dk_at dksX6_ran_1 5 rfl rfl)
abbrev cX6_plainSits : ByteArray := prog_26_method_81_code
def yX6_plainSits : MethodName := ⟨RX6, "plainSits", "(II)I"⟩
def dkwX6_plainSits_0 : List UInt8 := [42, 4, 182, 1, 123, 28, 27, 96, 172]
abbrev dktX6_plainSits_0 : List UInt8 := dkwX6_plainSits_0 ++ []
theorem dksX6_plainSits_0 : cX6_plainSits.data.toList.drop 0 = dktX6_plainSits_0 := by decide +kernel
theorem dX6_plainSits_0 : decode cX6_plainSits 0 = .ok (.aload_n 0, 1) := dk_42 (dk_at dksX6_plainSits_0 0 rfl rfl)
theorem dX6_plainSits_1 : decode cX6_plainSits 1 = .ok (.iconst 1, 1) := dk_4 (dk_at dksX6_plainSits_0 1 rfl rfl)
theorem dX6_plainSits_2 : decode cX6_plainSits 2 = .ok (.invokevirtual 379, 3) := dk_182 1 123 (dk_at dksX6_plainSits_0 2 rfl rfl)
theorem dX6_plainSits_5 : decode cX6_plainSits 5 = .ok (.iload_n 2, 1) := dk_28 (dk_at dksX6_plainSits_0 5 rfl rfl)
theorem dX6_plainSits_6 : decode cX6_plainSits 6 = .ok (.iload_n 1, 1) := dk_27 (dk_at dksX6_plainSits_0 6 rfl rfl)
theorem dX6_plainSits_7 : decode cX6_plainSits 7 = .ok (.iadd, 1) := dk_96 (dk_at dksX6_plainSits_0 7 rfl rfl)
theorem dX6_plainSits_8 : decode cX6_plainSits 8 = .ok (.ireturn, 1) := dk_172 (dk_at dksX6_plainSits_0 8 rfl rfl)
abbrev cX6_newSits : ByteArray := prog_26_method_82_code
def yX6_newSits : MethodName := ⟨RX6, "newSits", "(II)I"⟩
def dkwX6_newSits_0 : List UInt8 := [42, 16, 70, 182, 1, 123, 42, 27, 28, 182, 1, 126, 5, 104, 172]
abbrev dktX6_newSits_0 : List UInt8 := dkwX6_newSits_0 ++ []
theorem dksX6_newSits_0 : cX6_newSits.data.toList.drop 0 = dktX6_newSits_0 := by decide +kernel
theorem dX6_newSits_0 : decode cX6_newSits 0 = .ok (.aload_n 0, 1) := dk_42 (dk_at dksX6_newSits_0 0 rfl rfl)
theorem dX6_newSits_1 : decode cX6_newSits 1 = .ok (.bipush 70, 2) := dk_16 70 (dk_at dksX6_newSits_0 1 rfl rfl)
theorem dX6_newSits_3 : decode cX6_newSits 3 = .ok (.invokevirtual 379, 3) := dk_182 1 123 (dk_at dksX6_newSits_0 3 rfl rfl)
theorem dX6_newSits_6 : decode cX6_newSits 6 = .ok (.aload_n 0, 1) := dk_42 (dk_at dksX6_newSits_0 6 rfl rfl)
theorem dX6_newSits_7 : decode cX6_newSits 7 = .ok (.iload_n 1, 1) := dk_27 (dk_at dksX6_newSits_0 7 rfl rfl)
theorem dX6_newSits_8 : decode cX6_newSits 8 = .ok (.iload_n 2, 1) := dk_28 (dk_at dksX6_newSits_0 8 rfl rfl)
theorem dX6_newSits_9 : decode cX6_newSits 9 = .ok (.invokevirtual 382, 3) := dk_182 1 126 (dk_at dksX6_newSits_0 9 rfl rfl)
theorem dX6_newSits_12 : decode cX6_newSits 12 = .ok (.iconst 2, 1) := dk_5 (dk_at dksX6_newSits_0 12 rfl rfl)
theorem dX6_newSits_13 : decode cX6_newSits 13 = .ok (.imul, 1) := dk_104 (dk_at dksX6_newSits_0 13 rfl rfl)
theorem dX6_newSits_14 : decode cX6_newSits 14 = .ok (.ireturn, 1) := dk_172 (dk_at dksX6_newSits_0 14 rfl rfl)
abbrev cX6_falling : ByteArray := prog_26_method_86_code
def yX6_falling : MethodName := ⟨RX6, "falling", "(II)I"⟩
def dkwX6_falling_3 : List UInt8 := [27, 28, 182, 1, 141, 167, 0, 9, 42, 27, 28, 182, 1, 138, 172]
abbrev dktX6_falling_3 : List UInt8 := dkwX6_falling_3 ++ []
def dkwX6_falling_2 : List UInt8 := [182, 1, 138, 62, 29, 42, 27, 5, 182, 1, 144, 96, 172, 42, 180, 0, 108, 27, 46, 5, 160, 0, 12, 42]
abbrev dktX6_falling_2 : List UInt8 := dkwX6_falling_2 ++ dktX6_falling_3
def dkwX6_falling_1 : List UInt8 := [182, 1, 141, 172, 42, 180, 0, 108, 27, 46, 16, 7, 160, 0, 25, 42, 16, 80, 182, 1, 123, 42, 27, 28]
abbrev dktX6_falling_1 : List UInt8 := dkwX6_falling_1 ++ dktX6_falling_2
def dkwX6_falling_0 : List UInt8 := [42, 180, 0, 108, 27, 46, 6, 184, 1, 129, 153, 0, 18, 42, 16, 41, 182, 1, 123, 42, 27, 28, 4, 96]
abbrev dktX6_falling_0 : List UInt8 := dkwX6_falling_0 ++ dktX6_falling_1
theorem dksX6_falling_0 : cX6_falling.data.toList.drop 0 = dktX6_falling_0 := by decide +kernel
theorem dksX6_falling_1 : cX6_falling.data.toList.drop 24 = dktX6_falling_1 := dk_seg dksX6_falling_0 24 rfl rfl
theorem dksX6_falling_2 : cX6_falling.data.toList.drop 48 = dktX6_falling_2 := dk_seg dksX6_falling_1 24 rfl rfl
theorem dksX6_falling_3 : cX6_falling.data.toList.drop 72 = dktX6_falling_3 := dk_seg dksX6_falling_2 24 rfl rfl
theorem dX6_falling_0 : decode cX6_falling 0 = .ok (.aload_n 0, 1) := dk_42 (dk_at dksX6_falling_0 0 rfl rfl)
theorem dX6_falling_1 : decode cX6_falling 1 = .ok (.getfield 108, 3) := dk_180 0 108 (dk_at dksX6_falling_0 1 rfl rfl)
theorem dX6_falling_4 : decode cX6_falling 4 = .ok (.iload_n 1, 1) := dk_27 (dk_at dksX6_falling_0 4 rfl rfl)
theorem dX6_falling_5 : decode cX6_falling 5 = .ok (.iaload, 1) := dk_46 (dk_at dksX6_falling_0 5 rfl rfl)
theorem dX6_falling_6 : decode cX6_falling 6 = .ok (.iconst 3, 1) := dk_6 (dk_at dksX6_falling_0 6 rfl rfl)
theorem dX6_falling_7 : decode cX6_falling 7 = .ok (.invokestatic 385, 3) := dk_184 1 129 (dk_at dksX6_falling_0 7 rfl rfl)
theorem dX6_falling_10 : decode cX6_falling 10 = .ok (.ifCond .eq 18, 3) := dk_153 0 18 (dk_at dksX6_falling_0 10 rfl rfl)
theorem dX6_falling_13 : decode cX6_falling 13 = .ok (.aload_n 0, 1) := dk_42 (dk_at dksX6_falling_0 13 rfl rfl)
theorem dX6_falling_14 : decode cX6_falling 14 = .ok (.bipush 41, 2) := dk_16 41 (dk_at dksX6_falling_0 14 rfl rfl)
theorem dX6_falling_16 : decode cX6_falling 16 = .ok (.invokevirtual 379, 3) := dk_182 1 123 (dk_at dksX6_falling_0 16 rfl rfl)
theorem dX6_falling_19 : decode cX6_falling 19 = .ok (.aload_n 0, 1) := dk_42 (dk_at dksX6_falling_0 19 rfl rfl)
theorem dX6_falling_20 : decode cX6_falling 20 = .ok (.iload_n 1, 1) := dk_27 (dk_at dksX6_falling_0 20 rfl rfl)
theorem dX6_falling_21 : decode cX6_falling 21 = .ok (.iload_n 2, 1) := dk_28 (dk_at dksX6_falling_0 21 rfl rfl)
theorem dX6_falling_22 : decode cX6_falling 22 = .ok (.iconst 1, 1) := dk_4 (dk_at dksX6_falling_0 22 rfl rfl)
theorem dX6_falling_23 : decode cX6_falling 23 = .ok (.iadd, 1) := dk_96 (dk_at dksX6_falling_0 23 rfl rfl)
theorem dX6_falling_24 : decode cX6_falling 24 = .ok (.invokevirtual 397, 3) := dk_182 1 141 (dk_at dksX6_falling_1 0 rfl rfl)
theorem dX6_falling_27 : decode cX6_falling 27 = .ok (.ireturn, 1) := dk_172 (dk_at dksX6_falling_1 3 rfl rfl)
theorem dX6_falling_28 : decode cX6_falling 28 = .ok (.aload_n 0, 1) := dk_42 (dk_at dksX6_falling_1 4 rfl rfl)
theorem dX6_falling_29 : decode cX6_falling 29 = .ok (.getfield 108, 3) := dk_180 0 108 (dk_at dksX6_falling_1 5 rfl rfl)
theorem dX6_falling_32 : decode cX6_falling 32 = .ok (.iload_n 1, 1) := dk_27 (dk_at dksX6_falling_1 8 rfl rfl)
theorem dX6_falling_33 : decode cX6_falling 33 = .ok (.iaload, 1) := dk_46 (dk_at dksX6_falling_1 9 rfl rfl)
theorem dX6_falling_34 : decode cX6_falling 34 = .ok (.bipush 7, 2) := dk_16 7 (dk_at dksX6_falling_1 10 rfl rfl)
theorem dX6_falling_36 : decode cX6_falling 36 = .ok (.if_icmp .ne 25, 3) := dk_160 0 25 (dk_at dksX6_falling_1 12 rfl rfl)
theorem dX6_falling_39 : decode cX6_falling 39 = .ok (.aload_n 0, 1) := dk_42 (dk_at dksX6_falling_1 15 rfl rfl)
theorem dX6_falling_40 : decode cX6_falling 40 = .ok (.bipush 80, 2) := dk_16 80 (dk_at dksX6_falling_1 16 rfl rfl)
theorem dX6_falling_42 : decode cX6_falling 42 = .ok (.invokevirtual 379, 3) := dk_182 1 123 (dk_at dksX6_falling_1 18 rfl rfl)
theorem dX6_falling_45 : decode cX6_falling 45 = .ok (.aload_n 0, 1) := dk_42 (dk_at dksX6_falling_1 21 rfl rfl)
theorem dX6_falling_46 : decode cX6_falling 46 = .ok (.iload_n 1, 1) := dk_27 (dk_at dksX6_falling_1 22 rfl rfl)
theorem dX6_falling_47 : decode cX6_falling 47 = .ok (.iload_n 2, 1) := dk_28 (dk_at dksX6_falling_1 23 rfl rfl)
theorem dX6_falling_48 : decode cX6_falling 48 = .ok (.invokevirtual 394, 3) := dk_182 1 138 (dk_at dksX6_falling_2 0 rfl rfl)
theorem dX6_falling_51 : decode cX6_falling 51 = .ok (.istore_n 3, 1) := dk_62 (dk_at dksX6_falling_2 3 rfl rfl)
theorem dX6_falling_52 : decode cX6_falling 52 = .ok (.iload_n 3, 1) := dk_29 (dk_at dksX6_falling_2 4 rfl rfl)
theorem dX6_falling_53 : decode cX6_falling 53 = .ok (.aload_n 0, 1) := dk_42 (dk_at dksX6_falling_2 5 rfl rfl)
theorem dX6_falling_54 : decode cX6_falling 54 = .ok (.iload_n 1, 1) := dk_27 (dk_at dksX6_falling_2 6 rfl rfl)
theorem dX6_falling_55 : decode cX6_falling 55 = .ok (.iconst 2, 1) := dk_5 (dk_at dksX6_falling_2 7 rfl rfl)
theorem dX6_falling_56 : decode cX6_falling 56 = .ok (.invokevirtual 400, 3) := dk_182 1 144 (dk_at dksX6_falling_2 8 rfl rfl)
theorem dX6_falling_59 : decode cX6_falling 59 = .ok (.iadd, 1) := dk_96 (dk_at dksX6_falling_2 11 rfl rfl)
theorem dX6_falling_60 : decode cX6_falling 60 = .ok (.ireturn, 1) := dk_172 (dk_at dksX6_falling_2 12 rfl rfl)
theorem dX6_falling_61 : decode cX6_falling 61 = .ok (.aload_n 0, 1) := dk_42 (dk_at dksX6_falling_2 13 rfl rfl)
theorem dX6_falling_62 : decode cX6_falling 62 = .ok (.getfield 108, 3) := dk_180 0 108 (dk_at dksX6_falling_2 14 rfl rfl)
theorem dX6_falling_65 : decode cX6_falling 65 = .ok (.iload_n 1, 1) := dk_27 (dk_at dksX6_falling_2 17 rfl rfl)
theorem dX6_falling_66 : decode cX6_falling 66 = .ok (.iaload, 1) := dk_46 (dk_at dksX6_falling_2 18 rfl rfl)
theorem dX6_falling_67 : decode cX6_falling 67 = .ok (.iconst 2, 1) := dk_5 (dk_at dksX6_falling_2 19 rfl rfl)
theorem dX6_falling_68 : decode cX6_falling 68 = .ok (.if_icmp .ne 12, 3) := dk_160 0 12 (dk_at dksX6_falling_2 20 rfl rfl)
theorem dX6_falling_71 : decode cX6_falling 71 = .ok (.aload_n 0, 1) := dk_42 (dk_at dksX6_falling_2 23 rfl rfl)
theorem dX6_falling_72 : decode cX6_falling 72 = .ok (.iload_n 1, 1) := dk_27 (dk_at dksX6_falling_3 0 rfl rfl)
theorem dX6_falling_73 : decode cX6_falling 73 = .ok (.iload_n 2, 1) := dk_28 (dk_at dksX6_falling_3 1 rfl rfl)
theorem dX6_falling_74 : decode cX6_falling 74 = .ok (.invokevirtual 397, 3) := dk_182 1 141 (dk_at dksX6_falling_3 2 rfl rfl)
theorem dX6_falling_77 : decode cX6_falling 77 = .ok (.goto 9, 3) := dk_167 0 9 (dk_at dksX6_falling_3 5 rfl rfl)
theorem dX6_falling_80 : decode cX6_falling 80 = .ok (.aload_n 0, 1) := dk_42 (dk_at dksX6_falling_3 8 rfl rfl)
theorem dX6_falling_81 : decode cX6_falling 81 = .ok (.iload_n 1, 1) := dk_27 (dk_at dksX6_falling_3 9 rfl rfl)
theorem dX6_falling_82 : decode cX6_falling 82 = .ok (.iload_n 2, 1) := dk_28 (dk_at dksX6_falling_3 10 rfl rfl)
theorem dX6_falling_83 : decode cX6_falling 83 = .ok (.invokevirtual 394, 3) := dk_182 1 138 (dk_at dksX6_falling_3 11 rfl rfl)
theorem dX6_falling_86 : decode cX6_falling 86 = .ok (.ireturn, 1) := dk_172 (dk_at dksX6_falling_3 14 rfl rfl)
abbrev cX6_blownFalls : ByteArray := prog_26_method_85_code
def yX6_blownFalls : MethodName := ⟨RX6, "blownFalls", "(II)I"⟩
def dkwX6_blownFalls_0 : List UInt8 := [42, 16, 30, 182, 1, 123, 42, 27, 28, 182, 1, 138, 116, 172]
abbrev dktX6_blownFalls_0 : List UInt8 := dkwX6_blownFalls_0 ++ []
theorem dksX6_blownFalls_0 : cX6_blownFalls.data.toList.drop 0 = dktX6_blownFalls_0 := by decide +kernel
theorem dX6_blownFalls_0 : decode cX6_blownFalls 0 = .ok (.aload_n 0, 1) := dk_42 (dk_at dksX6_blownFalls_0 0 rfl rfl)
theorem dX6_blownFalls_1 : decode cX6_blownFalls 1 = .ok (.bipush 30, 2) := dk_16 30 (dk_at dksX6_blownFalls_0 1 rfl rfl)
theorem dX6_blownFalls_3 : decode cX6_blownFalls 3 = .ok (.invokevirtual 379, 3) := dk_182 1 123 (dk_at dksX6_blownFalls_0 3 rfl rfl)
theorem dX6_blownFalls_6 : decode cX6_blownFalls 6 = .ok (.aload_n 0, 1) := dk_42 (dk_at dksX6_blownFalls_0 6 rfl rfl)
theorem dX6_blownFalls_7 : decode cX6_blownFalls 7 = .ok (.iload_n 1, 1) := dk_27 (dk_at dksX6_blownFalls_0 7 rfl rfl)
theorem dX6_blownFalls_8 : decode cX6_blownFalls 8 = .ok (.iload_n 2, 1) := dk_28 (dk_at dksX6_blownFalls_0 8 rfl rfl)
theorem dX6_blownFalls_9 : decode cX6_blownFalls 9 = .ok (.invokevirtual 394, 3) := dk_182 1 138 (dk_at dksX6_blownFalls_0 9 rfl rfl)
theorem dX6_blownFalls_12 : decode cX6_blownFalls 12 = .ok (.ineg, 1) := dk_116 (dk_at dksX6_blownFalls_0 12 rfl rfl)
theorem dX6_blownFalls_13 : decode cX6_blownFalls 13 = .ok (.ireturn, 1) := dk_172 (dk_at dksX6_blownFalls_0 13 rfl rfl)
abbrev cX6_plainFalls : ByteArray := prog_26_method_84_code
def yX6_plainFalls : MethodName := ⟨RX6, "plainFalls", "(II)I"⟩
def dkwX6_plainFalls_0 : List UInt8 := [42, 16, 10, 182, 1, 123, 42, 27, 28, 182, 1, 135, 5, 104, 172]
abbrev dktX6_plainFalls_0 : List UInt8 := dkwX6_plainFalls_0 ++ []
theorem dksX6_plainFalls_0 : cX6_plainFalls.data.toList.drop 0 = dktX6_plainFalls_0 := by decide +kernel
theorem dX6_plainFalls_0 : decode cX6_plainFalls 0 = .ok (.aload_n 0, 1) := dk_42 (dk_at dksX6_plainFalls_0 0 rfl rfl)
theorem dX6_plainFalls_1 : decode cX6_plainFalls 1 = .ok (.bipush 10, 2) := dk_16 10 (dk_at dksX6_plainFalls_0 1 rfl rfl)
theorem dX6_plainFalls_3 : decode cX6_plainFalls 3 = .ok (.invokevirtual 379, 3) := dk_182 1 123 (dk_at dksX6_plainFalls_0 3 rfl rfl)
theorem dX6_plainFalls_6 : decode cX6_plainFalls 6 = .ok (.aload_n 0, 1) := dk_42 (dk_at dksX6_plainFalls_0 6 rfl rfl)
theorem dX6_plainFalls_7 : decode cX6_plainFalls 7 = .ok (.iload_n 1, 1) := dk_27 (dk_at dksX6_plainFalls_0 7 rfl rfl)
theorem dX6_plainFalls_8 : decode cX6_plainFalls 8 = .ok (.iload_n 2, 1) := dk_28 (dk_at dksX6_plainFalls_0 8 rfl rfl)
theorem dX6_plainFalls_9 : decode cX6_plainFalls 9 = .ok (.invokevirtual 391, 3) := dk_182 1 135 (dk_at dksX6_plainFalls_0 9 rfl rfl)
theorem dX6_plainFalls_12 : decode cX6_plainFalls 12 = .ok (.iconst 2, 1) := dk_5 (dk_at dksX6_plainFalls_0 12 rfl rfl)
theorem dX6_plainFalls_13 : decode cX6_plainFalls 13 = .ok (.imul, 1) := dk_104 (dk_at dksX6_plainFalls_0 13 rfl rfl)
theorem dX6_plainFalls_14 : decode cX6_plainFalls 14 = .ok (.ireturn, 1) := dk_172 (dk_at dksX6_plainFalls_0 14 rfl rfl)
abbrev cX6_landing : ByteArray := prog_26_method_89_code
def yX6_landing : MethodName := ⟨RX6, "landing", "(II)I"⟩
def dkwX6_landing_2 : List UInt8 := [167, 0, 9, 42, 27, 28, 182, 1, 147, 172]
abbrev dktX6_landing_2 : List UInt8 := dkwX6_landing_2 ++ []
def dkwX6_landing_1 : List UInt8 := [42, 27, 5, 182, 1, 135, 100, 172, 42, 180, 0, 108, 27, 46, 6, 160, 0, 12, 42, 27, 28, 182, 1, 150]
abbrev dktX6_landing_1 : List UInt8 := dkwX6_landing_1 ++ dktX6_landing_2
def dkwX6_landing_0 : List UInt8 := [42, 180, 0, 108, 27, 46, 8, 160, 0, 25, 42, 16, 60, 182, 1, 123, 42, 27, 28, 182, 1, 150, 62, 29]
abbrev dktX6_landing_0 : List UInt8 := dkwX6_landing_0 ++ dktX6_landing_1
theorem dksX6_landing_0 : cX6_landing.data.toList.drop 0 = dktX6_landing_0 := by decide +kernel
theorem dksX6_landing_1 : cX6_landing.data.toList.drop 24 = dktX6_landing_1 := dk_seg dksX6_landing_0 24 rfl rfl
theorem dksX6_landing_2 : cX6_landing.data.toList.drop 48 = dktX6_landing_2 := dk_seg dksX6_landing_1 24 rfl rfl
theorem dX6_landing_0 : decode cX6_landing 0 = .ok (.aload_n 0, 1) := dk_42 (dk_at dksX6_landing_0 0 rfl rfl)
theorem dX6_landing_1 : decode cX6_landing 1 = .ok (.getfield 108, 3) := dk_180 0 108 (dk_at dksX6_landing_0 1 rfl rfl)
theorem dX6_landing_4 : decode cX6_landing 4 = .ok (.iload_n 1, 1) := dk_27 (dk_at dksX6_landing_0 4 rfl rfl)
theorem dX6_landing_5 : decode cX6_landing 5 = .ok (.iaload, 1) := dk_46 (dk_at dksX6_landing_0 5 rfl rfl)
theorem dX6_landing_6 : decode cX6_landing 6 = .ok (.iconst 5, 1) := dk_8 (dk_at dksX6_landing_0 6 rfl rfl)
theorem dX6_landing_7 : decode cX6_landing 7 = .ok (.if_icmp .ne 25, 3) := dk_160 0 25 (dk_at dksX6_landing_0 7 rfl rfl)
theorem dX6_landing_10 : decode cX6_landing 10 = .ok (.aload_n 0, 1) := dk_42 (dk_at dksX6_landing_0 10 rfl rfl)
theorem dX6_landing_11 : decode cX6_landing 11 = .ok (.bipush 60, 2) := dk_16 60 (dk_at dksX6_landing_0 11 rfl rfl)
theorem dX6_landing_13 : decode cX6_landing 13 = .ok (.invokevirtual 379, 3) := dk_182 1 123 (dk_at dksX6_landing_0 13 rfl rfl)
theorem dX6_landing_16 : decode cX6_landing 16 = .ok (.aload_n 0, 1) := dk_42 (dk_at dksX6_landing_0 16 rfl rfl)
theorem dX6_landing_17 : decode cX6_landing 17 = .ok (.iload_n 1, 1) := dk_27 (dk_at dksX6_landing_0 17 rfl rfl)
theorem dX6_landing_18 : decode cX6_landing 18 = .ok (.iload_n 2, 1) := dk_28 (dk_at dksX6_landing_0 18 rfl rfl)
theorem dX6_landing_19 : decode cX6_landing 19 = .ok (.invokevirtual 406, 3) := dk_182 1 150 (dk_at dksX6_landing_0 19 rfl rfl)
theorem dX6_landing_22 : decode cX6_landing 22 = .ok (.istore_n 3, 1) := dk_62 (dk_at dksX6_landing_0 22 rfl rfl)
theorem dX6_landing_23 : decode cX6_landing 23 = .ok (.iload_n 3, 1) := dk_29 (dk_at dksX6_landing_0 23 rfl rfl)
theorem dX6_landing_24 : decode cX6_landing 24 = .ok (.aload_n 0, 1) := dk_42 (dk_at dksX6_landing_1 0 rfl rfl)
theorem dX6_landing_25 : decode cX6_landing 25 = .ok (.iload_n 1, 1) := dk_27 (dk_at dksX6_landing_1 1 rfl rfl)
theorem dX6_landing_26 : decode cX6_landing 26 = .ok (.iconst 2, 1) := dk_5 (dk_at dksX6_landing_1 2 rfl rfl)
theorem dX6_landing_27 : decode cX6_landing 27 = .ok (.invokevirtual 391, 3) := dk_182 1 135 (dk_at dksX6_landing_1 3 rfl rfl)
theorem dX6_landing_30 : decode cX6_landing 30 = .ok (.isub, 1) := dk_100 (dk_at dksX6_landing_1 6 rfl rfl)
theorem dX6_landing_31 : decode cX6_landing 31 = .ok (.ireturn, 1) := dk_172 (dk_at dksX6_landing_1 7 rfl rfl)
theorem dX6_landing_32 : decode cX6_landing 32 = .ok (.aload_n 0, 1) := dk_42 (dk_at dksX6_landing_1 8 rfl rfl)
theorem dX6_landing_33 : decode cX6_landing 33 = .ok (.getfield 108, 3) := dk_180 0 108 (dk_at dksX6_landing_1 9 rfl rfl)
theorem dX6_landing_36 : decode cX6_landing 36 = .ok (.iload_n 1, 1) := dk_27 (dk_at dksX6_landing_1 12 rfl rfl)
theorem dX6_landing_37 : decode cX6_landing 37 = .ok (.iaload, 1) := dk_46 (dk_at dksX6_landing_1 13 rfl rfl)
theorem dX6_landing_38 : decode cX6_landing 38 = .ok (.iconst 3, 1) := dk_6 (dk_at dksX6_landing_1 14 rfl rfl)
theorem dX6_landing_39 : decode cX6_landing 39 = .ok (.if_icmp .ne 12, 3) := dk_160 0 12 (dk_at dksX6_landing_1 15 rfl rfl)
theorem dX6_landing_42 : decode cX6_landing 42 = .ok (.aload_n 0, 1) := dk_42 (dk_at dksX6_landing_1 18 rfl rfl)
theorem dX6_landing_43 : decode cX6_landing 43 = .ok (.iload_n 1, 1) := dk_27 (dk_at dksX6_landing_1 19 rfl rfl)
theorem dX6_landing_44 : decode cX6_landing 44 = .ok (.iload_n 2, 1) := dk_28 (dk_at dksX6_landing_1 20 rfl rfl)
theorem dX6_landing_45 : decode cX6_landing 45 = .ok (.invokevirtual 406, 3) := dk_182 1 150 (dk_at dksX6_landing_1 21 rfl rfl)
theorem dX6_landing_48 : decode cX6_landing 48 = .ok (.goto 9, 3) := dk_167 0 9 (dk_at dksX6_landing_2 0 rfl rfl)
theorem dX6_landing_51 : decode cX6_landing 51 = .ok (.aload_n 0, 1) := dk_42 (dk_at dksX6_landing_2 3 rfl rfl)
theorem dX6_landing_52 : decode cX6_landing 52 = .ok (.iload_n 1, 1) := dk_27 (dk_at dksX6_landing_2 4 rfl rfl)
theorem dX6_landing_53 : decode cX6_landing 53 = .ok (.iload_n 2, 1) := dk_28 (dk_at dksX6_landing_2 5 rfl rfl)
theorem dX6_landing_54 : decode cX6_landing 54 = .ok (.invokevirtual 403, 3) := dk_182 1 147 (dk_at dksX6_landing_2 6 rfl rfl)
theorem dX6_landing_57 : decode cX6_landing 57 = .ok (.ireturn, 1) := dk_172 (dk_at dksX6_landing_2 9 rfl rfl)
abbrev cX6_caughtLands : ByteArray := prog_26_method_88_code
def yX6_caughtLands : MethodName := ⟨RX6, "caughtLands", "(II)I"⟩
def dkwX6_caughtLands_0 : List UInt8 := [42, 16, 40, 182, 1, 123, 42, 27, 28, 182, 1, 147, 6, 104, 172]
abbrev dktX6_caughtLands_0 : List UInt8 := dkwX6_caughtLands_0 ++ []
theorem dksX6_caughtLands_0 : cX6_caughtLands.data.toList.drop 0 = dktX6_caughtLands_0 := by decide +kernel
theorem dX6_caughtLands_0 : decode cX6_caughtLands 0 = .ok (.aload_n 0, 1) := dk_42 (dk_at dksX6_caughtLands_0 0 rfl rfl)
theorem dX6_caughtLands_1 : decode cX6_caughtLands 1 = .ok (.bipush 40, 2) := dk_16 40 (dk_at dksX6_caughtLands_0 1 rfl rfl)
theorem dX6_caughtLands_3 : decode cX6_caughtLands 3 = .ok (.invokevirtual 379, 3) := dk_182 1 123 (dk_at dksX6_caughtLands_0 3 rfl rfl)
theorem dX6_caughtLands_6 : decode cX6_caughtLands 6 = .ok (.aload_n 0, 1) := dk_42 (dk_at dksX6_caughtLands_0 6 rfl rfl)
theorem dX6_caughtLands_7 : decode cX6_caughtLands 7 = .ok (.iload_n 1, 1) := dk_27 (dk_at dksX6_caughtLands_0 7 rfl rfl)
theorem dX6_caughtLands_8 : decode cX6_caughtLands 8 = .ok (.iload_n 2, 1) := dk_28 (dk_at dksX6_caughtLands_0 8 rfl rfl)
theorem dX6_caughtLands_9 : decode cX6_caughtLands 9 = .ok (.invokevirtual 403, 3) := dk_182 1 147 (dk_at dksX6_caughtLands_0 9 rfl rfl)
theorem dX6_caughtLands_12 : decode cX6_caughtLands 12 = .ok (.iconst 3, 1) := dk_6 (dk_at dksX6_caughtLands_0 12 rfl rfl)
theorem dX6_caughtLands_13 : decode cX6_caughtLands 13 = .ok (.imul, 1) := dk_104 (dk_at dksX6_caughtLands_0 13 rfl rfl)
theorem dX6_caughtLands_14 : decode cX6_caughtLands 14 = .ok (.ireturn, 1) := dk_172 (dk_at dksX6_caughtLands_0 14 rfl rfl)
abbrev cX6_plainLands : ByteArray := prog_26_method_87_code
def yX6_plainLands : MethodName := ⟨RX6, "plainLands", "(II)I"⟩
def dkwX6_plainLands_0 : List UInt8 := [42, 16, 11, 182, 1, 123, 28, 27, 130, 172]
abbrev dktX6_plainLands_0 : List UInt8 := dkwX6_plainLands_0 ++ []
theorem dksX6_plainLands_0 : cX6_plainLands.data.toList.drop 0 = dktX6_plainLands_0 := by decide +kernel
theorem dX6_plainLands_0 : decode cX6_plainLands 0 = .ok (.aload_n 0, 1) := dk_42 (dk_at dksX6_plainLands_0 0 rfl rfl)
theorem dX6_plainLands_1 : decode cX6_plainLands 1 = .ok (.bipush 11, 2) := dk_16 11 (dk_at dksX6_plainLands_0 1 rfl rfl)
theorem dX6_plainLands_3 : decode cX6_plainLands 3 = .ok (.invokevirtual 379, 3) := dk_182 1 123 (dk_at dksX6_plainLands_0 3 rfl rfl)
theorem dX6_plainLands_6 : decode cX6_plainLands 6 = .ok (.iload_n 2, 1) := dk_28 (dk_at dksX6_plainLands_0 6 rfl rfl)
theorem dX6_plainLands_7 : decode cX6_plainLands 7 = .ok (.iload_n 1, 1) := dk_27 (dk_at dksX6_plainLands_0 7 rfl rfl)
theorem dX6_plainLands_8 : decode cX6_plainLands 8 = .ok (.ixor, 1) := dk_130 (dk_at dksX6_plainLands_0 8 rfl rfl)
theorem dX6_plainLands_9 : decode cX6_plainLands 9 = .ok (.ireturn, 1) := dk_172 (dk_at dksX6_plainLands_0 9 rfl rfl)
abbrev cX6_ranking : ByteArray := prog_26_method_91_code
def yX6_ranking : MethodName := ⟨RX6, "ranking", "(II)I"⟩
def dkwX6_ranking_2 : List UInt8 := [96, 172, 42, 27, 28, 182, 1, 156, 172]
abbrev dktX6_ranking_2 : List UInt8 := dkwX6_ranking_2 ++ []
def dkwX6_ranking_1 : List UInt8 := [172, 42, 180, 0, 108, 27, 46, 8, 160, 0, 18, 42, 16, 61, 182, 1, 123, 42, 27, 28, 182, 1, 156, 4]
abbrev dktX6_ranking_1 : List UInt8 := dkwX6_ranking_1 ++ dktX6_ranking_2
def dkwX6_ranking_0 : List UInt8 := [42, 180, 0, 108, 27, 46, 7, 160, 0, 18, 42, 16, 50, 182, 1, 123, 42, 27, 28, 182, 1, 156, 8, 130]
abbrev dktX6_ranking_0 : List UInt8 := dkwX6_ranking_0 ++ dktX6_ranking_1
theorem dksX6_ranking_0 : cX6_ranking.data.toList.drop 0 = dktX6_ranking_0 := by decide +kernel
theorem dksX6_ranking_1 : cX6_ranking.data.toList.drop 24 = dktX6_ranking_1 := dk_seg dksX6_ranking_0 24 rfl rfl
theorem dksX6_ranking_2 : cX6_ranking.data.toList.drop 48 = dktX6_ranking_2 := dk_seg dksX6_ranking_1 24 rfl rfl
theorem dX6_ranking_0 : decode cX6_ranking 0 = .ok (.aload_n 0, 1) := dk_42 (dk_at dksX6_ranking_0 0 rfl rfl)
theorem dX6_ranking_1 : decode cX6_ranking 1 = .ok (.getfield 108, 3) := dk_180 0 108 (dk_at dksX6_ranking_0 1 rfl rfl)
theorem dX6_ranking_4 : decode cX6_ranking 4 = .ok (.iload_n 1, 1) := dk_27 (dk_at dksX6_ranking_0 4 rfl rfl)
theorem dX6_ranking_5 : decode cX6_ranking 5 = .ok (.iaload, 1) := dk_46 (dk_at dksX6_ranking_0 5 rfl rfl)
theorem dX6_ranking_6 : decode cX6_ranking 6 = .ok (.iconst 4, 1) := dk_7 (dk_at dksX6_ranking_0 6 rfl rfl)
theorem dX6_ranking_7 : decode cX6_ranking 7 = .ok (.if_icmp .ne 18, 3) := dk_160 0 18 (dk_at dksX6_ranking_0 7 rfl rfl)
theorem dX6_ranking_10 : decode cX6_ranking 10 = .ok (.aload_n 0, 1) := dk_42 (dk_at dksX6_ranking_0 10 rfl rfl)
theorem dX6_ranking_11 : decode cX6_ranking 11 = .ok (.bipush 50, 2) := dk_16 50 (dk_at dksX6_ranking_0 11 rfl rfl)
theorem dX6_ranking_13 : decode cX6_ranking 13 = .ok (.invokevirtual 379, 3) := dk_182 1 123 (dk_at dksX6_ranking_0 13 rfl rfl)
theorem dX6_ranking_16 : decode cX6_ranking 16 = .ok (.aload_n 0, 1) := dk_42 (dk_at dksX6_ranking_0 16 rfl rfl)
theorem dX6_ranking_17 : decode cX6_ranking 17 = .ok (.iload_n 1, 1) := dk_27 (dk_at dksX6_ranking_0 17 rfl rfl)
theorem dX6_ranking_18 : decode cX6_ranking 18 = .ok (.iload_n 2, 1) := dk_28 (dk_at dksX6_ranking_0 18 rfl rfl)
theorem dX6_ranking_19 : decode cX6_ranking 19 = .ok (.invokevirtual 412, 3) := dk_182 1 156 (dk_at dksX6_ranking_0 19 rfl rfl)
theorem dX6_ranking_22 : decode cX6_ranking 22 = .ok (.iconst 5, 1) := dk_8 (dk_at dksX6_ranking_0 22 rfl rfl)
theorem dX6_ranking_23 : decode cX6_ranking 23 = .ok (.ixor, 1) := dk_130 (dk_at dksX6_ranking_0 23 rfl rfl)
theorem dX6_ranking_24 : decode cX6_ranking 24 = .ok (.ireturn, 1) := dk_172 (dk_at dksX6_ranking_1 0 rfl rfl)
theorem dX6_ranking_25 : decode cX6_ranking 25 = .ok (.aload_n 0, 1) := dk_42 (dk_at dksX6_ranking_1 1 rfl rfl)
theorem dX6_ranking_26 : decode cX6_ranking 26 = .ok (.getfield 108, 3) := dk_180 0 108 (dk_at dksX6_ranking_1 2 rfl rfl)
theorem dX6_ranking_29 : decode cX6_ranking 29 = .ok (.iload_n 1, 1) := dk_27 (dk_at dksX6_ranking_1 5 rfl rfl)
theorem dX6_ranking_30 : decode cX6_ranking 30 = .ok (.iaload, 1) := dk_46 (dk_at dksX6_ranking_1 6 rfl rfl)
theorem dX6_ranking_31 : decode cX6_ranking 31 = .ok (.iconst 5, 1) := dk_8 (dk_at dksX6_ranking_1 7 rfl rfl)
theorem dX6_ranking_32 : decode cX6_ranking 32 = .ok (.if_icmp .ne 18, 3) := dk_160 0 18 (dk_at dksX6_ranking_1 8 rfl rfl)
theorem dX6_ranking_35 : decode cX6_ranking 35 = .ok (.aload_n 0, 1) := dk_42 (dk_at dksX6_ranking_1 11 rfl rfl)
theorem dX6_ranking_36 : decode cX6_ranking 36 = .ok (.bipush 61, 2) := dk_16 61 (dk_at dksX6_ranking_1 12 rfl rfl)
theorem dX6_ranking_38 : decode cX6_ranking 38 = .ok (.invokevirtual 379, 3) := dk_182 1 123 (dk_at dksX6_ranking_1 14 rfl rfl)
theorem dX6_ranking_41 : decode cX6_ranking 41 = .ok (.aload_n 0, 1) := dk_42 (dk_at dksX6_ranking_1 17 rfl rfl)
theorem dX6_ranking_42 : decode cX6_ranking 42 = .ok (.iload_n 1, 1) := dk_27 (dk_at dksX6_ranking_1 18 rfl rfl)
theorem dX6_ranking_43 : decode cX6_ranking 43 = .ok (.iload_n 2, 1) := dk_28 (dk_at dksX6_ranking_1 19 rfl rfl)
theorem dX6_ranking_44 : decode cX6_ranking 44 = .ok (.invokevirtual 412, 3) := dk_182 1 156 (dk_at dksX6_ranking_1 20 rfl rfl)
theorem dX6_ranking_47 : decode cX6_ranking 47 = .ok (.iconst 1, 1) := dk_4 (dk_at dksX6_ranking_1 23 rfl rfl)
theorem dX6_ranking_48 : decode cX6_ranking 48 = .ok (.iadd, 1) := dk_96 (dk_at dksX6_ranking_2 0 rfl rfl)
theorem dX6_ranking_49 : decode cX6_ranking 49 = .ok (.ireturn, 1) := dk_172 (dk_at dksX6_ranking_2 1 rfl rfl)
theorem dX6_ranking_50 : decode cX6_ranking 50 = .ok (.aload_n 0, 1) := dk_42 (dk_at dksX6_ranking_2 2 rfl rfl)
theorem dX6_ranking_51 : decode cX6_ranking 51 = .ok (.iload_n 1, 1) := dk_27 (dk_at dksX6_ranking_2 3 rfl rfl)
theorem dX6_ranking_52 : decode cX6_ranking 52 = .ok (.iload_n 2, 1) := dk_28 (dk_at dksX6_ranking_2 4 rfl rfl)
theorem dX6_ranking_53 : decode cX6_ranking 53 = .ok (.invokevirtual 412, 3) := dk_182 1 156 (dk_at dksX6_ranking_2 5 rfl rfl)
theorem dX6_ranking_56 : decode cX6_ranking 56 = .ok (.ireturn, 1) := dk_172 (dk_at dksX6_ranking_2 8 rfl rfl)
abbrev cX6_plainRanks : ByteArray := prog_26_method_90_code
def yX6_plainRanks : MethodName := ⟨RX6, "plainRanks", "(II)I"⟩
def dkwX6_plainRanks_0 : List UInt8 := [42, 5, 182, 1, 123, 42, 27, 28, 182, 1, 153, 62, 29, 42, 27, 4, 182, 1, 144, 100, 172]
abbrev dktX6_plainRanks_0 : List UInt8 := dkwX6_plainRanks_0 ++ []
theorem dksX6_plainRanks_0 : cX6_plainRanks.data.toList.drop 0 = dktX6_plainRanks_0 := by decide +kernel
theorem dX6_plainRanks_0 : decode cX6_plainRanks 0 = .ok (.aload_n 0, 1) := dk_42 (dk_at dksX6_plainRanks_0 0 rfl rfl)
theorem dX6_plainRanks_1 : decode cX6_plainRanks 1 = .ok (.iconst 2, 1) := dk_5 (dk_at dksX6_plainRanks_0 1 rfl rfl)
theorem dX6_plainRanks_2 : decode cX6_plainRanks 2 = .ok (.invokevirtual 379, 3) := dk_182 1 123 (dk_at dksX6_plainRanks_0 2 rfl rfl)
theorem dX6_plainRanks_5 : decode cX6_plainRanks 5 = .ok (.aload_n 0, 1) := dk_42 (dk_at dksX6_plainRanks_0 5 rfl rfl)
theorem dX6_plainRanks_6 : decode cX6_plainRanks 6 = .ok (.iload_n 1, 1) := dk_27 (dk_at dksX6_plainRanks_0 6 rfl rfl)
theorem dX6_plainRanks_7 : decode cX6_plainRanks 7 = .ok (.iload_n 2, 1) := dk_28 (dk_at dksX6_plainRanks_0 7 rfl rfl)
theorem dX6_plainRanks_8 : decode cX6_plainRanks 8 = .ok (.invokevirtual 409, 3) := dk_182 1 153 (dk_at dksX6_plainRanks_0 8 rfl rfl)
theorem dX6_plainRanks_11 : decode cX6_plainRanks 11 = .ok (.istore_n 3, 1) := dk_62 (dk_at dksX6_plainRanks_0 11 rfl rfl)
theorem dX6_plainRanks_12 : decode cX6_plainRanks 12 = .ok (.iload_n 3, 1) := dk_29 (dk_at dksX6_plainRanks_0 12 rfl rfl)
theorem dX6_plainRanks_13 : decode cX6_plainRanks 13 = .ok (.aload_n 0, 1) := dk_42 (dk_at dksX6_plainRanks_0 13 rfl rfl)
theorem dX6_plainRanks_14 : decode cX6_plainRanks 14 = .ok (.iload_n 1, 1) := dk_27 (dk_at dksX6_plainRanks_0 14 rfl rfl)
theorem dX6_plainRanks_15 : decode cX6_plainRanks 15 = .ok (.iconst 1, 1) := dk_4 (dk_at dksX6_plainRanks_0 15 rfl rfl)
theorem dX6_plainRanks_16 : decode cX6_plainRanks 16 = .ok (.invokevirtual 400, 3) := dk_182 1 144 (dk_at dksX6_plainRanks_0 16 rfl rfl)
theorem dX6_plainRanks_19 : decode cX6_plainRanks 19 = .ok (.isub, 1) := dk_100 (dk_at dksX6_plainRanks_0 19 rfl rfl)
theorem dX6_plainRanks_20 : decode cX6_plainRanks 20 = .ok (.ireturn, 1) := dk_172 (dk_at dksX6_plainRanks_0 20 rfl rfl)
abbrev cX6_count : ByteArray := prog_26_method_93_code
def yX6_count : MethodName := ⟨RX6, "count", "(I)I"⟩
def dkwX6_count_3 : List UInt8 := [172, 42, 180, 0, 168, 172, 42, 180, 1, 117, 172, 42, 180, 1, 120, 172, 2, 172]
abbrev dktX6_count_3 : List UInt8 := dkwX6_count_3 ++ []
def dkwX6_count_2 : List UInt8 := [42, 180, 0, 138, 172, 42, 180, 0, 131, 172, 42, 180, 0, 141, 172, 42, 180, 1, 16, 172, 42, 180, 0, 184]
abbrev dktX6_count_2 : List UInt8 := dkwX6_count_2 ++ dktX6_count_3
def dkwX6_count_1 : List UInt8 := [170, 0, 0, 0, 0, 0, 87, 0, 0, 0, 0, 0, 0, 0, 7, 0, 0, 0, 47, 0, 0, 0, 52, 0, 0, 0, 57, 0, 0, 0, 62, 0, 0, 0, 67, 0, 0, 0, 72, 0, 0, 0, 77, 0, 0, 0, 82]
abbrev dktX6_count_1 : List UInt8 := dkwX6_count_1 ++ dktX6_count_2
def dkwX6_count_0 : List UInt8 := [27]
abbrev dktX6_count_0 : List UInt8 := dkwX6_count_0 ++ dktX6_count_1
theorem dksX6_count_0 : cX6_count.data.toList.drop 0 = dktX6_count_0 := by decide +kernel
theorem dksX6_count_1 : cX6_count.data.toList.drop 1 = dktX6_count_1 := dk_seg dksX6_count_0 1 rfl rfl
theorem dksX6_count_2 : cX6_count.data.toList.drop 48 = dktX6_count_2 := dk_seg dksX6_count_1 47 rfl rfl
theorem dksX6_count_3 : cX6_count.data.toList.drop 72 = dktX6_count_3 := dk_seg dksX6_count_2 24 rfl rfl
theorem dX6_count_0 : decode cX6_count 0 = .ok (.iload_n 1, 1) := dk_27 (dk_at dksX6_count_0 0 rfl rfl)
theorem dX6_count_1 : decode cX6_count 1 = .ok (.tableswitch 87 0 7 #[47, 52, 57, 62, 67, 72, 77, 82], 47) := by decide +kernel
theorem dX6_count_48 : decode cX6_count 48 = .ok (.aload_n 0, 1) := dk_42 (dk_at dksX6_count_2 0 rfl rfl)
theorem dX6_count_49 : decode cX6_count 49 = .ok (.getfield 138, 3) := dk_180 0 138 (dk_at dksX6_count_2 1 rfl rfl)
theorem dX6_count_52 : decode cX6_count 52 = .ok (.ireturn, 1) := dk_172 (dk_at dksX6_count_2 4 rfl rfl)
theorem dX6_count_53 : decode cX6_count 53 = .ok (.aload_n 0, 1) := dk_42 (dk_at dksX6_count_2 5 rfl rfl)
theorem dX6_count_54 : decode cX6_count 54 = .ok (.getfield 131, 3) := dk_180 0 131 (dk_at dksX6_count_2 6 rfl rfl)
theorem dX6_count_57 : decode cX6_count 57 = .ok (.ireturn, 1) := dk_172 (dk_at dksX6_count_2 9 rfl rfl)
theorem dX6_count_58 : decode cX6_count 58 = .ok (.aload_n 0, 1) := dk_42 (dk_at dksX6_count_2 10 rfl rfl)
theorem dX6_count_59 : decode cX6_count 59 = .ok (.getfield 141, 3) := dk_180 0 141 (dk_at dksX6_count_2 11 rfl rfl)
theorem dX6_count_62 : decode cX6_count 62 = .ok (.ireturn, 1) := dk_172 (dk_at dksX6_count_2 14 rfl rfl)
theorem dX6_count_63 : decode cX6_count 63 = .ok (.aload_n 0, 1) := dk_42 (dk_at dksX6_count_2 15 rfl rfl)
theorem dX6_count_64 : decode cX6_count 64 = .ok (.getfield 272, 3) := dk_180 1 16 (dk_at dksX6_count_2 16 rfl rfl)
theorem dX6_count_67 : decode cX6_count 67 = .ok (.ireturn, 1) := dk_172 (dk_at dksX6_count_2 19 rfl rfl)
theorem dX6_count_68 : decode cX6_count 68 = .ok (.aload_n 0, 1) := dk_42 (dk_at dksX6_count_2 20 rfl rfl)
theorem dX6_count_69 : decode cX6_count 69 = .ok (.getfield 184, 3) := dk_180 0 184 (dk_at dksX6_count_2 21 rfl rfl)
theorem dX6_count_72 : decode cX6_count 72 = .ok (.ireturn, 1) := dk_172 (dk_at dksX6_count_3 0 rfl rfl)
theorem dX6_count_73 : decode cX6_count 73 = .ok (.aload_n 0, 1) := dk_42 (dk_at dksX6_count_3 1 rfl rfl)
theorem dX6_count_74 : decode cX6_count 74 = .ok (.getfield 168, 3) := dk_180 0 168 (dk_at dksX6_count_3 2 rfl rfl)
theorem dX6_count_77 : decode cX6_count 77 = .ok (.ireturn, 1) := dk_172 (dk_at dksX6_count_3 5 rfl rfl)
theorem dX6_count_78 : decode cX6_count 78 = .ok (.aload_n 0, 1) := dk_42 (dk_at dksX6_count_3 6 rfl rfl)
theorem dX6_count_79 : decode cX6_count 79 = .ok (.getfield 373, 3) := dk_180 1 117 (dk_at dksX6_count_3 7 rfl rfl)
theorem dX6_count_82 : decode cX6_count 82 = .ok (.ireturn, 1) := dk_172 (dk_at dksX6_count_3 10 rfl rfl)
theorem dX6_count_83 : decode cX6_count 83 = .ok (.aload_n 0, 1) := dk_42 (dk_at dksX6_count_3 11 rfl rfl)
theorem dX6_count_84 : decode cX6_count 84 = .ok (.getfield 376, 3) := dk_180 1 120 (dk_at dksX6_count_3 12 rfl rfl)
theorem dX6_count_87 : decode cX6_count 87 = .ok (.ireturn, 1) := dk_172 (dk_at dksX6_count_3 15 rfl rfl)
theorem dX6_count_88 : decode cX6_count 88 = .ok (.iconst (-1), 1) := dk_2 (dk_at dksX6_count_3 16 rfl rfl)
theorem dX6_count_89 : decode cX6_count 89 = .ok (.ireturn, 1) := dk_172 (dk_at dksX6_count_3 17 rfl rfl)
abbrev cX6_keep : ByteArray := prog_26_method_95_code
def yX6_keep : MethodName := ⟨RX6, "keep", "(II)I"⟩
def dkwX6_keep_1 : List UInt8 := [180, 0, 114, 27, 28, 79, 4, 172]
abbrev dktX6_keep_1 : List UInt8 := dkwX6_keep_1 ++ []
def dkwX6_keep_0 : List UInt8 := [27, 184, 0, 156, 153, 0, 16, 28, 2, 159, 0, 13, 42, 28, 182, 1, 159, 154, 0, 5, 2, 172, 42]
abbrev dktX6_keep_0 : List UInt8 := dkwX6_keep_0 ++ dktX6_keep_1
theorem dksX6_keep_0 : cX6_keep.data.toList.drop 0 = dktX6_keep_0 := by decide +kernel
theorem dksX6_keep_1 : cX6_keep.data.toList.drop 23 = dktX6_keep_1 := dk_seg dksX6_keep_0 23 rfl rfl
theorem dX6_keep_0 : decode cX6_keep 0 = .ok (.iload_n 1, 1) := dk_27 (dk_at dksX6_keep_0 0 rfl rfl)
theorem dX6_keep_1 : decode cX6_keep 1 = .ok (.invokestatic 156, 3) := dk_184 0 156 (dk_at dksX6_keep_0 1 rfl rfl)
theorem dX6_keep_4 : decode cX6_keep 4 = .ok (.ifCond .eq 16, 3) := dk_153 0 16 (dk_at dksX6_keep_0 4 rfl rfl)
theorem dX6_keep_7 : decode cX6_keep 7 = .ok (.iload_n 2, 1) := dk_28 (dk_at dksX6_keep_0 7 rfl rfl)
theorem dX6_keep_8 : decode cX6_keep 8 = .ok (.iconst (-1), 1) := dk_2 (dk_at dksX6_keep_0 8 rfl rfl)
theorem dX6_keep_9 : decode cX6_keep 9 = .ok (.if_icmp .eq 13, 3) := dk_159 0 13 (dk_at dksX6_keep_0 9 rfl rfl)
theorem dX6_keep_12 : decode cX6_keep 12 = .ok (.aload_n 0, 1) := dk_42 (dk_at dksX6_keep_0 12 rfl rfl)
theorem dX6_keep_13 : decode cX6_keep 13 = .ok (.iload_n 2, 1) := dk_28 (dk_at dksX6_keep_0 13 rfl rfl)
theorem dX6_keep_14 : decode cX6_keep 14 = .ok (.invokevirtual 415, 3) := dk_182 1 159 (dk_at dksX6_keep_0 14 rfl rfl)
theorem dX6_keep_17 : decode cX6_keep 17 = .ok (.ifCond .ne 5, 3) := dk_154 0 5 (dk_at dksX6_keep_0 17 rfl rfl)
theorem dX6_keep_20 : decode cX6_keep 20 = .ok (.iconst (-1), 1) := dk_2 (dk_at dksX6_keep_0 20 rfl rfl)
theorem dX6_keep_21 : decode cX6_keep 21 = .ok (.ireturn, 1) := dk_172 (dk_at dksX6_keep_0 21 rfl rfl)
theorem dX6_keep_22 : decode cX6_keep 22 = .ok (.aload_n 0, 1) := dk_42 (dk_at dksX6_keep_0 22 rfl rfl)
theorem dX6_keep_23 : decode cX6_keep 23 = .ok (.getfield 114, 3) := dk_180 0 114 (dk_at dksX6_keep_1 0 rfl rfl)
theorem dX6_keep_26 : decode cX6_keep 26 = .ok (.iload_n 1, 1) := dk_27 (dk_at dksX6_keep_1 3 rfl rfl)
theorem dX6_keep_27 : decode cX6_keep 27 = .ok (.iload_n 2, 1) := dk_28 (dk_at dksX6_keep_1 4 rfl rfl)
theorem dX6_keep_28 : decode cX6_keep 28 = .ok (.iastore, 1) := dk_79 (dk_at dksX6_keep_1 5 rfl rfl)
theorem dX6_keep_29 : decode cX6_keep 29 = .ok (.iconst 1, 1) := dk_4 (dk_at dksX6_keep_1 6 rfl rfl)
theorem dX6_keep_30 : decode cX6_keep 30 = .ok (.ireturn, 1) := dk_172 (dk_at dksX6_keep_1 7 rfl rfl)
abbrev cX6_row : ByteArray := prog_26_method_96_code
def yX6_row : MethodName := ⟨RX6, "row", "(III)I"⟩
def dkwX6_row_3 : List UInt8 := [9, 80, 132, 4, 1, 167, 255, 233, 4, 172]
abbrev dktX6_row_3 : List UInt8 := dkwX6_row_3 ++ []
def dkwX6_row_2 : List UInt8 := [16, 60, 27, 104, 54, 4, 21, 4, 16, 60, 27, 104, 16, 60, 96, 162, 0, 17, 42, 180, 0, 120, 21, 4]
abbrev dktX6_row_2 : List UInt8 := dkwX6_row_2 ++ dktX6_row_3
def dkwX6_row_1 : List UInt8 := [29, 156, 0, 6, 16, 242, 172, 42, 180, 0, 114, 27, 16, 254, 28, 100, 79, 42, 180, 0, 117, 27, 29, 79]
abbrev dktX6_row_1 : List UInt8 := dkwX6_row_1 ++ dktX6_row_2
def dkwX6_row_0 : List UInt8 := [27, 184, 0, 156, 153, 0, 18, 28, 3, 7, 184, 0, 134, 153, 0, 9, 29, 16, 60, 164, 0, 5, 2, 172]
abbrev dktX6_row_0 : List UInt8 := dkwX6_row_0 ++ dktX6_row_1
theorem dksX6_row_0 : cX6_row.data.toList.drop 0 = dktX6_row_0 := by decide +kernel
theorem dksX6_row_1 : cX6_row.data.toList.drop 24 = dktX6_row_1 := dk_seg dksX6_row_0 24 rfl rfl
theorem dksX6_row_2 : cX6_row.data.toList.drop 48 = dktX6_row_2 := dk_seg dksX6_row_1 24 rfl rfl
theorem dksX6_row_3 : cX6_row.data.toList.drop 72 = dktX6_row_3 := dk_seg dksX6_row_2 24 rfl rfl
theorem dX6_row_0 : decode cX6_row 0 = .ok (.iload_n 1, 1) := dk_27 (dk_at dksX6_row_0 0 rfl rfl)
theorem dX6_row_1 : decode cX6_row 1 = .ok (.invokestatic 156, 3) := dk_184 0 156 (dk_at dksX6_row_0 1 rfl rfl)
theorem dX6_row_4 : decode cX6_row 4 = .ok (.ifCond .eq 18, 3) := dk_153 0 18 (dk_at dksX6_row_0 4 rfl rfl)
theorem dX6_row_7 : decode cX6_row 7 = .ok (.iload_n 2, 1) := dk_28 (dk_at dksX6_row_0 7 rfl rfl)
theorem dX6_row_8 : decode cX6_row 8 = .ok (.iconst 0, 1) := dk_3 (dk_at dksX6_row_0 8 rfl rfl)
theorem dX6_row_9 : decode cX6_row 9 = .ok (.iconst 4, 1) := dk_7 (dk_at dksX6_row_0 9 rfl rfl)
theorem dX6_row_10 : decode cX6_row 10 = .ok (.invokestatic 134, 3) := dk_184 0 134 (dk_at dksX6_row_0 10 rfl rfl)
theorem dX6_row_13 : decode cX6_row 13 = .ok (.ifCond .eq 9, 3) := dk_153 0 9 (dk_at dksX6_row_0 13 rfl rfl)
theorem dX6_row_16 : decode cX6_row 16 = .ok (.iload_n 3, 1) := dk_29 (dk_at dksX6_row_0 16 rfl rfl)
theorem dX6_row_17 : decode cX6_row 17 = .ok (.bipush 60, 2) := dk_16 60 (dk_at dksX6_row_0 17 rfl rfl)
theorem dX6_row_19 : decode cX6_row 19 = .ok (.if_icmp .le 5, 3) := dk_164 0 5 (dk_at dksX6_row_0 19 rfl rfl)
theorem dX6_row_22 : decode cX6_row 22 = .ok (.iconst (-1), 1) := dk_2 (dk_at dksX6_row_0 22 rfl rfl)
theorem dX6_row_23 : decode cX6_row 23 = .ok (.ireturn, 1) := dk_172 (dk_at dksX6_row_0 23 rfl rfl)
theorem dX6_row_24 : decode cX6_row 24 = .ok (.iload_n 3, 1) := dk_29 (dk_at dksX6_row_1 0 rfl rfl)
theorem dX6_row_25 : decode cX6_row 25 = .ok (.ifCond .ge 6, 3) := dk_156 0 6 (dk_at dksX6_row_1 1 rfl rfl)
theorem dX6_row_28 : decode cX6_row 28 = .ok (.bipush (-14), 2) := dk_16 242 (dk_at dksX6_row_1 4 rfl rfl)
theorem dX6_row_30 : decode cX6_row 30 = .ok (.ireturn, 1) := dk_172 (dk_at dksX6_row_1 6 rfl rfl)
theorem dX6_row_31 : decode cX6_row 31 = .ok (.aload_n 0, 1) := dk_42 (dk_at dksX6_row_1 7 rfl rfl)
theorem dX6_row_32 : decode cX6_row 32 = .ok (.getfield 114, 3) := dk_180 0 114 (dk_at dksX6_row_1 8 rfl rfl)
theorem dX6_row_35 : decode cX6_row 35 = .ok (.iload_n 1, 1) := dk_27 (dk_at dksX6_row_1 11 rfl rfl)
theorem dX6_row_36 : decode cX6_row 36 = .ok (.bipush (-2), 2) := dk_16 254 (dk_at dksX6_row_1 12 rfl rfl)
theorem dX6_row_38 : decode cX6_row 38 = .ok (.iload_n 2, 1) := dk_28 (dk_at dksX6_row_1 14 rfl rfl)
theorem dX6_row_39 : decode cX6_row 39 = .ok (.isub, 1) := dk_100 (dk_at dksX6_row_1 15 rfl rfl)
theorem dX6_row_40 : decode cX6_row 40 = .ok (.iastore, 1) := dk_79 (dk_at dksX6_row_1 16 rfl rfl)
theorem dX6_row_41 : decode cX6_row 41 = .ok (.aload_n 0, 1) := dk_42 (dk_at dksX6_row_1 17 rfl rfl)
theorem dX6_row_42 : decode cX6_row 42 = .ok (.getfield 117, 3) := dk_180 0 117 (dk_at dksX6_row_1 18 rfl rfl)
theorem dX6_row_45 : decode cX6_row 45 = .ok (.iload_n 1, 1) := dk_27 (dk_at dksX6_row_1 21 rfl rfl)
theorem dX6_row_46 : decode cX6_row 46 = .ok (.iload_n 3, 1) := dk_29 (dk_at dksX6_row_1 22 rfl rfl)
theorem dX6_row_47 : decode cX6_row 47 = .ok (.iastore, 1) := dk_79 (dk_at dksX6_row_1 23 rfl rfl)
theorem dX6_row_48 : decode cX6_row 48 = .ok (.bipush 60, 2) := dk_16 60 (dk_at dksX6_row_2 0 rfl rfl)
theorem dX6_row_50 : decode cX6_row 50 = .ok (.iload_n 1, 1) := dk_27 (dk_at dksX6_row_2 2 rfl rfl)
theorem dX6_row_51 : decode cX6_row 51 = .ok (.imul, 1) := dk_104 (dk_at dksX6_row_2 3 rfl rfl)
theorem dX6_row_52 : decode cX6_row 52 = .ok (.istore 4, 2) := dk_54 4 (dk_at dksX6_row_2 4 rfl rfl)
theorem dX6_row_54 : decode cX6_row 54 = .ok (.iload 4, 2) := dk_21 4 (dk_at dksX6_row_2 6 rfl rfl)
theorem dX6_row_56 : decode cX6_row 56 = .ok (.bipush 60, 2) := dk_16 60 (dk_at dksX6_row_2 8 rfl rfl)
theorem dX6_row_58 : decode cX6_row 58 = .ok (.iload_n 1, 1) := dk_27 (dk_at dksX6_row_2 10 rfl rfl)
theorem dX6_row_59 : decode cX6_row 59 = .ok (.imul, 1) := dk_104 (dk_at dksX6_row_2 11 rfl rfl)
theorem dX6_row_60 : decode cX6_row 60 = .ok (.bipush 60, 2) := dk_16 60 (dk_at dksX6_row_2 12 rfl rfl)
theorem dX6_row_62 : decode cX6_row 62 = .ok (.iadd, 1) := dk_96 (dk_at dksX6_row_2 14 rfl rfl)
theorem dX6_row_63 : decode cX6_row 63 = .ok (.if_icmp .ge 17, 3) := dk_162 0 17 (dk_at dksX6_row_2 15 rfl rfl)
theorem dX6_row_66 : decode cX6_row 66 = .ok (.aload_n 0, 1) := dk_42 (dk_at dksX6_row_2 18 rfl rfl)
theorem dX6_row_67 : decode cX6_row 67 = .ok (.getfield 120, 3) := dk_180 0 120 (dk_at dksX6_row_2 19 rfl rfl)
theorem dX6_row_70 : decode cX6_row 70 = .ok (.iload 4, 2) := dk_21 4 (dk_at dksX6_row_2 22 rfl rfl)
theorem dX6_row_72 : decode cX6_row 72 = .ok (.lconst 0, 1) := dk_9 (dk_at dksX6_row_3 0 rfl rfl)
theorem dX6_row_73 : decode cX6_row 73 = .ok (.lastore, 1) := dk_80 (dk_at dksX6_row_3 1 rfl rfl)
theorem dX6_row_74 : decode cX6_row 74 = .ok (.iinc 4 1, 3) := dk_132 4 1 (dk_at dksX6_row_3 2 rfl rfl)
theorem dX6_row_77 : decode cX6_row 77 = .ok (.goto (-23), 3) := dk_167 255 233 (dk_at dksX6_row_3 5 rfl rfl)
theorem dX6_row_80 : decode cX6_row 80 = .ok (.iconst 1, 1) := dk_4 (dk_at dksX6_row_3 8 rfl rfl)
theorem dX6_row_81 : decode cX6_row 81 = .ok (.ireturn, 1) := dk_172 (dk_at dksX6_row_3 9 rfl rfl)
abbrev cX6_put : ByteArray := prog_26_method_98_code
def yX6_put : MethodName := ⟨RX6, "put", "(IIJ)I"⟩
def dkwX6_put_4 : List UInt8 := [9, 80, 4, 172]
abbrev dktX6_put_4 : List UInt8 := dkwX6_put_4 ++ []
def dkwX6_put_3 : List UInt8 := [133, 167, 0, 24, 21, 6, 6, 160, 0, 7, 33, 167, 0, 14, 33, 9, 148, 153, 0, 7, 10, 167, 0, 4]
abbrev dktX6_put_3 : List UInt8 := dkwX6_put_3 ++ dktX6_put_4
def dkwX6_put_2 : List UInt8 := [167, 0, 49, 21, 6, 4, 160, 0, 10, 33, 136, 147, 133, 167, 0, 36, 21, 6, 5, 160, 0, 9, 33, 136]
abbrev dktX6_put_2 : List UInt8 := dkwX6_put_2 ++ dktX6_put_3
def dkwX6_put_1 : List UInt8 := [100, 54, 6, 42, 180, 0, 120, 16, 60, 27, 104, 28, 96, 21, 6, 154, 0, 10, 33, 136, 145, 133]
abbrev dktX6_put_1 : List UInt8 := dkwX6_put_1 ++ dktX6_put_2
def dkwX6_put_0 : List UInt8 := [42, 27, 28, 182, 1, 165, 54, 5, 21, 5, 156, 0, 6, 21, 5, 172, 16, 254, 42, 180, 0, 114, 27, 46]
abbrev dktX6_put_0 : List UInt8 := dkwX6_put_0 ++ dktX6_put_1
theorem dksX6_put_0 : cX6_put.data.toList.drop 0 = dktX6_put_0 := by decide +kernel
theorem dksX6_put_1 : cX6_put.data.toList.drop 24 = dktX6_put_1 := dk_seg dksX6_put_0 24 rfl rfl
theorem dksX6_put_2 : cX6_put.data.toList.drop 46 = dktX6_put_2 := dk_seg dksX6_put_1 22 rfl rfl
theorem dksX6_put_3 : cX6_put.data.toList.drop 70 = dktX6_put_3 := dk_seg dksX6_put_2 24 rfl rfl
theorem dksX6_put_4 : cX6_put.data.toList.drop 94 = dktX6_put_4 := dk_seg dksX6_put_3 24 rfl rfl
theorem dX6_put_0 : decode cX6_put 0 = .ok (.aload_n 0, 1) := dk_42 (dk_at dksX6_put_0 0 rfl rfl)
theorem dX6_put_1 : decode cX6_put 1 = .ok (.iload_n 1, 1) := dk_27 (dk_at dksX6_put_0 1 rfl rfl)
theorem dX6_put_2 : decode cX6_put 2 = .ok (.iload_n 2, 1) := dk_28 (dk_at dksX6_put_0 2 rfl rfl)
theorem dX6_put_3 : decode cX6_put 3 = .ok (.invokevirtual 421, 3) := dk_182 1 165 (dk_at dksX6_put_0 3 rfl rfl)
theorem dX6_put_6 : decode cX6_put 6 = .ok (.istore 5, 2) := dk_54 5 (dk_at dksX6_put_0 6 rfl rfl)
theorem dX6_put_8 : decode cX6_put 8 = .ok (.iload 5, 2) := dk_21 5 (dk_at dksX6_put_0 8 rfl rfl)
theorem dX6_put_10 : decode cX6_put 10 = .ok (.ifCond .ge 6, 3) := dk_156 0 6 (dk_at dksX6_put_0 10 rfl rfl)
theorem dX6_put_13 : decode cX6_put 13 = .ok (.iload 5, 2) := dk_21 5 (dk_at dksX6_put_0 13 rfl rfl)
theorem dX6_put_15 : decode cX6_put 15 = .ok (.ireturn, 1) := dk_172 (dk_at dksX6_put_0 15 rfl rfl)
theorem dX6_put_16 : decode cX6_put 16 = .ok (.bipush (-2), 2) := dk_16 254 (dk_at dksX6_put_0 16 rfl rfl)
theorem dX6_put_18 : decode cX6_put 18 = .ok (.aload_n 0, 1) := dk_42 (dk_at dksX6_put_0 18 rfl rfl)
theorem dX6_put_19 : decode cX6_put 19 = .ok (.getfield 114, 3) := dk_180 0 114 (dk_at dksX6_put_0 19 rfl rfl)
theorem dX6_put_22 : decode cX6_put 22 = .ok (.iload_n 1, 1) := dk_27 (dk_at dksX6_put_0 22 rfl rfl)
theorem dX6_put_23 : decode cX6_put 23 = .ok (.iaload, 1) := dk_46 (dk_at dksX6_put_0 23 rfl rfl)
theorem dX6_put_24 : decode cX6_put 24 = .ok (.isub, 1) := dk_100 (dk_at dksX6_put_1 0 rfl rfl)
theorem dX6_put_25 : decode cX6_put 25 = .ok (.istore 6, 2) := dk_54 6 (dk_at dksX6_put_1 1 rfl rfl)
theorem dX6_put_27 : decode cX6_put 27 = .ok (.aload_n 0, 1) := dk_42 (dk_at dksX6_put_1 3 rfl rfl)
theorem dX6_put_28 : decode cX6_put 28 = .ok (.getfield 120, 3) := dk_180 0 120 (dk_at dksX6_put_1 4 rfl rfl)
theorem dX6_put_31 : decode cX6_put 31 = .ok (.bipush 60, 2) := dk_16 60 (dk_at dksX6_put_1 7 rfl rfl)
theorem dX6_put_33 : decode cX6_put 33 = .ok (.iload_n 1, 1) := dk_27 (dk_at dksX6_put_1 9 rfl rfl)
theorem dX6_put_34 : decode cX6_put 34 = .ok (.imul, 1) := dk_104 (dk_at dksX6_put_1 10 rfl rfl)
theorem dX6_put_35 : decode cX6_put 35 = .ok (.iload_n 2, 1) := dk_28 (dk_at dksX6_put_1 11 rfl rfl)
theorem dX6_put_36 : decode cX6_put 36 = .ok (.iadd, 1) := dk_96 (dk_at dksX6_put_1 12 rfl rfl)
theorem dX6_put_37 : decode cX6_put 37 = .ok (.iload 6, 2) := dk_21 6 (dk_at dksX6_put_1 13 rfl rfl)
theorem dX6_put_39 : decode cX6_put 39 = .ok (.ifCond .ne 10, 3) := dk_154 0 10 (dk_at dksX6_put_1 15 rfl rfl)
theorem dX6_put_42 : decode cX6_put 42 = .ok (.lload_n 3, 1) := dk_33 (dk_at dksX6_put_1 18 rfl rfl)
theorem dX6_put_43 : decode cX6_put 43 = .ok (.l2i, 1) := dk_136 (dk_at dksX6_put_1 19 rfl rfl)
theorem dX6_put_44 : decode cX6_put 44 = .ok (.i2b, 1) := dk_145 (dk_at dksX6_put_1 20 rfl rfl)
theorem dX6_put_45 : decode cX6_put 45 = .ok (.i2l, 1) := dk_133 (dk_at dksX6_put_1 21 rfl rfl)
theorem dX6_put_46 : decode cX6_put 46 = .ok (.goto 49, 3) := dk_167 0 49 (dk_at dksX6_put_2 0 rfl rfl)
theorem dX6_put_49 : decode cX6_put 49 = .ok (.iload 6, 2) := dk_21 6 (dk_at dksX6_put_2 3 rfl rfl)
theorem dX6_put_51 : decode cX6_put 51 = .ok (.iconst 1, 1) := dk_4 (dk_at dksX6_put_2 5 rfl rfl)
theorem dX6_put_52 : decode cX6_put 52 = .ok (.if_icmp .ne 10, 3) := dk_160 0 10 (dk_at dksX6_put_2 6 rfl rfl)
theorem dX6_put_55 : decode cX6_put 55 = .ok (.lload_n 3, 1) := dk_33 (dk_at dksX6_put_2 9 rfl rfl)
theorem dX6_put_56 : decode cX6_put 56 = .ok (.l2i, 1) := dk_136 (dk_at dksX6_put_2 10 rfl rfl)
theorem dX6_put_57 : decode cX6_put 57 = .ok (.i2s, 1) := dk_147 (dk_at dksX6_put_2 11 rfl rfl)
theorem dX6_put_58 : decode cX6_put 58 = .ok (.i2l, 1) := dk_133 (dk_at dksX6_put_2 12 rfl rfl)
theorem dX6_put_59 : decode cX6_put 59 = .ok (.goto 36, 3) := dk_167 0 36 (dk_at dksX6_put_2 13 rfl rfl)
theorem dX6_put_62 : decode cX6_put 62 = .ok (.iload 6, 2) := dk_21 6 (dk_at dksX6_put_2 16 rfl rfl)
theorem dX6_put_64 : decode cX6_put 64 = .ok (.iconst 2, 1) := dk_5 (dk_at dksX6_put_2 18 rfl rfl)
theorem dX6_put_65 : decode cX6_put 65 = .ok (.if_icmp .ne 9, 3) := dk_160 0 9 (dk_at dksX6_put_2 19 rfl rfl)
theorem dX6_put_68 : decode cX6_put 68 = .ok (.lload_n 3, 1) := dk_33 (dk_at dksX6_put_2 22 rfl rfl)
theorem dX6_put_69 : decode cX6_put 69 = .ok (.l2i, 1) := dk_136 (dk_at dksX6_put_2 23 rfl rfl)
theorem dX6_put_70 : decode cX6_put 70 = .ok (.i2l, 1) := dk_133 (dk_at dksX6_put_3 0 rfl rfl)
theorem dX6_put_71 : decode cX6_put 71 = .ok (.goto 24, 3) := dk_167 0 24 (dk_at dksX6_put_3 1 rfl rfl)
theorem dX6_put_74 : decode cX6_put 74 = .ok (.iload 6, 2) := dk_21 6 (dk_at dksX6_put_3 4 rfl rfl)
theorem dX6_put_76 : decode cX6_put 76 = .ok (.iconst 3, 1) := dk_6 (dk_at dksX6_put_3 6 rfl rfl)
theorem dX6_put_77 : decode cX6_put 77 = .ok (.if_icmp .ne 7, 3) := dk_160 0 7 (dk_at dksX6_put_3 7 rfl rfl)
theorem dX6_put_80 : decode cX6_put 80 = .ok (.lload_n 3, 1) := dk_33 (dk_at dksX6_put_3 10 rfl rfl)
theorem dX6_put_81 : decode cX6_put 81 = .ok (.goto 14, 3) := dk_167 0 14 (dk_at dksX6_put_3 11 rfl rfl)
theorem dX6_put_84 : decode cX6_put 84 = .ok (.lload_n 3, 1) := dk_33 (dk_at dksX6_put_3 14 rfl rfl)
theorem dX6_put_85 : decode cX6_put 85 = .ok (.lconst 0, 1) := dk_9 (dk_at dksX6_put_3 15 rfl rfl)
theorem dX6_put_86 : decode cX6_put 86 = .ok (.lcmp, 1) := dk_148 (dk_at dksX6_put_3 16 rfl rfl)
theorem dX6_put_87 : decode cX6_put 87 = .ok (.ifCond .eq 7, 3) := dk_153 0 7 (dk_at dksX6_put_3 17 rfl rfl)
theorem dX6_put_90 : decode cX6_put 90 = .ok (.lconst 1, 1) := dk_10 (dk_at dksX6_put_3 20 rfl rfl)
theorem dX6_put_91 : decode cX6_put 91 = .ok (.goto 4, 3) := dk_167 0 4 (dk_at dksX6_put_3 21 rfl rfl)
theorem dX6_put_94 : decode cX6_put 94 = .ok (.lconst 0, 1) := dk_9 (dk_at dksX6_put_4 0 rfl rfl)
theorem dX6_put_95 : decode cX6_put 95 = .ok (.lastore, 1) := dk_80 (dk_at dksX6_put_4 1 rfl rfl)
theorem dX6_put_96 : decode cX6_put 96 = .ok (.iconst 1, 1) := dk_4 (dk_at dksX6_put_4 2 rfl rfl)
theorem dX6_put_97 : decode cX6_put 97 = .ok (.ireturn, 1) := dk_172 (dk_at dksX6_put_4 3 rfl rfl)
abbrev cX6_whyNoPlace : ByteArray := prog_26_method_97_code
def yX6_whyNoPlace : MethodName := ⟨RX6, "whyNoPlace", "(II)I"⟩
def dkwX6_whyNoPlace_2 : List UInt8 := [153, 0, 7, 3, 167, 0, 5, 16, 243, 172]
abbrev dktX6_whyNoPlace_2 : List UInt8 := dkwX6_whyNoPlace_2 ++ []
def dkwX6_whyNoPlace_1 : List UInt8 := [180, 0, 114, 27, 46, 155, 0, 6, 16, 244, 172, 28, 3, 42, 180, 0, 117, 27, 46, 4, 100, 184, 0, 134]
abbrev dktX6_whyNoPlace_1 : List UInt8 := dkwX6_whyNoPlace_1 ++ dktX6_whyNoPlace_2
def dkwX6_whyNoPlace_0 : List UInt8 := [27, 184, 0, 156, 154, 0, 5, 2, 172, 42, 180, 0, 114, 27, 46, 2, 160, 0, 6, 16, 245, 172, 42]
abbrev dktX6_whyNoPlace_0 : List UInt8 := dkwX6_whyNoPlace_0 ++ dktX6_whyNoPlace_1
theorem dksX6_whyNoPlace_0 : cX6_whyNoPlace.data.toList.drop 0 = dktX6_whyNoPlace_0 := by decide +kernel
theorem dksX6_whyNoPlace_1 : cX6_whyNoPlace.data.toList.drop 23 = dktX6_whyNoPlace_1 := dk_seg dksX6_whyNoPlace_0 23 rfl rfl
theorem dksX6_whyNoPlace_2 : cX6_whyNoPlace.data.toList.drop 47 = dktX6_whyNoPlace_2 := dk_seg dksX6_whyNoPlace_1 24 rfl rfl
theorem dX6_whyNoPlace_0 : decode cX6_whyNoPlace 0 = .ok (.iload_n 1, 1) := dk_27 (dk_at dksX6_whyNoPlace_0 0 rfl rfl)
theorem dX6_whyNoPlace_1 : decode cX6_whyNoPlace 1 = .ok (.invokestatic 156, 3) := dk_184 0 156 (dk_at dksX6_whyNoPlace_0 1 rfl rfl)
theorem dX6_whyNoPlace_4 : decode cX6_whyNoPlace 4 = .ok (.ifCond .ne 5, 3) := dk_154 0 5 (dk_at dksX6_whyNoPlace_0 4 rfl rfl)
theorem dX6_whyNoPlace_7 : decode cX6_whyNoPlace 7 = .ok (.iconst (-1), 1) := dk_2 (dk_at dksX6_whyNoPlace_0 7 rfl rfl)
theorem dX6_whyNoPlace_8 : decode cX6_whyNoPlace 8 = .ok (.ireturn, 1) := dk_172 (dk_at dksX6_whyNoPlace_0 8 rfl rfl)
theorem dX6_whyNoPlace_9 : decode cX6_whyNoPlace 9 = .ok (.aload_n 0, 1) := dk_42 (dk_at dksX6_whyNoPlace_0 9 rfl rfl)
theorem dX6_whyNoPlace_10 : decode cX6_whyNoPlace 10 = .ok (.getfield 114, 3) := dk_180 0 114 (dk_at dksX6_whyNoPlace_0 10 rfl rfl)
theorem dX6_whyNoPlace_13 : decode cX6_whyNoPlace 13 = .ok (.iload_n 1, 1) := dk_27 (dk_at dksX6_whyNoPlace_0 13 rfl rfl)
theorem dX6_whyNoPlace_14 : decode cX6_whyNoPlace 14 = .ok (.iaload, 1) := dk_46 (dk_at dksX6_whyNoPlace_0 14 rfl rfl)
theorem dX6_whyNoPlace_15 : decode cX6_whyNoPlace 15 = .ok (.iconst (-1), 1) := dk_2 (dk_at dksX6_whyNoPlace_0 15 rfl rfl)
theorem dX6_whyNoPlace_16 : decode cX6_whyNoPlace 16 = .ok (.if_icmp .ne 6, 3) := dk_160 0 6 (dk_at dksX6_whyNoPlace_0 16 rfl rfl)
theorem dX6_whyNoPlace_19 : decode cX6_whyNoPlace 19 = .ok (.bipush (-11), 2) := dk_16 245 (dk_at dksX6_whyNoPlace_0 19 rfl rfl)
theorem dX6_whyNoPlace_21 : decode cX6_whyNoPlace 21 = .ok (.ireturn, 1) := dk_172 (dk_at dksX6_whyNoPlace_0 21 rfl rfl)
theorem dX6_whyNoPlace_22 : decode cX6_whyNoPlace 22 = .ok (.aload_n 0, 1) := dk_42 (dk_at dksX6_whyNoPlace_0 22 rfl rfl)
theorem dX6_whyNoPlace_23 : decode cX6_whyNoPlace 23 = .ok (.getfield 114, 3) := dk_180 0 114 (dk_at dksX6_whyNoPlace_1 0 rfl rfl)
theorem dX6_whyNoPlace_26 : decode cX6_whyNoPlace 26 = .ok (.iload_n 1, 1) := dk_27 (dk_at dksX6_whyNoPlace_1 3 rfl rfl)
theorem dX6_whyNoPlace_27 : decode cX6_whyNoPlace 27 = .ok (.iaload, 1) := dk_46 (dk_at dksX6_whyNoPlace_1 4 rfl rfl)
theorem dX6_whyNoPlace_28 : decode cX6_whyNoPlace 28 = .ok (.ifCond .lt 6, 3) := dk_155 0 6 (dk_at dksX6_whyNoPlace_1 5 rfl rfl)
theorem dX6_whyNoPlace_31 : decode cX6_whyNoPlace 31 = .ok (.bipush (-12), 2) := dk_16 244 (dk_at dksX6_whyNoPlace_1 8 rfl rfl)
theorem dX6_whyNoPlace_33 : decode cX6_whyNoPlace 33 = .ok (.ireturn, 1) := dk_172 (dk_at dksX6_whyNoPlace_1 10 rfl rfl)
theorem dX6_whyNoPlace_34 : decode cX6_whyNoPlace 34 = .ok (.iload_n 2, 1) := dk_28 (dk_at dksX6_whyNoPlace_1 11 rfl rfl)
theorem dX6_whyNoPlace_35 : decode cX6_whyNoPlace 35 = .ok (.iconst 0, 1) := dk_3 (dk_at dksX6_whyNoPlace_1 12 rfl rfl)
theorem dX6_whyNoPlace_36 : decode cX6_whyNoPlace 36 = .ok (.aload_n 0, 1) := dk_42 (dk_at dksX6_whyNoPlace_1 13 rfl rfl)
theorem dX6_whyNoPlace_37 : decode cX6_whyNoPlace 37 = .ok (.getfield 117, 3) := dk_180 0 117 (dk_at dksX6_whyNoPlace_1 14 rfl rfl)
theorem dX6_whyNoPlace_40 : decode cX6_whyNoPlace 40 = .ok (.iload_n 1, 1) := dk_27 (dk_at dksX6_whyNoPlace_1 17 rfl rfl)
theorem dX6_whyNoPlace_41 : decode cX6_whyNoPlace 41 = .ok (.iaload, 1) := dk_46 (dk_at dksX6_whyNoPlace_1 18 rfl rfl)
theorem dX6_whyNoPlace_42 : decode cX6_whyNoPlace 42 = .ok (.iconst 1, 1) := dk_4 (dk_at dksX6_whyNoPlace_1 19 rfl rfl)
theorem dX6_whyNoPlace_43 : decode cX6_whyNoPlace 43 = .ok (.isub, 1) := dk_100 (dk_at dksX6_whyNoPlace_1 20 rfl rfl)
theorem dX6_whyNoPlace_44 : decode cX6_whyNoPlace 44 = .ok (.invokestatic 134, 3) := dk_184 0 134 (dk_at dksX6_whyNoPlace_1 21 rfl rfl)
theorem dX6_whyNoPlace_47 : decode cX6_whyNoPlace 47 = .ok (.ifCond .eq 7, 3) := dk_153 0 7 (dk_at dksX6_whyNoPlace_2 0 rfl rfl)
theorem dX6_whyNoPlace_50 : decode cX6_whyNoPlace 50 = .ok (.iconst 0, 1) := dk_3 (dk_at dksX6_whyNoPlace_2 3 rfl rfl)
theorem dX6_whyNoPlace_51 : decode cX6_whyNoPlace 51 = .ok (.goto 5, 3) := dk_167 0 5 (dk_at dksX6_whyNoPlace_2 4 rfl rfl)
theorem dX6_whyNoPlace_54 : decode cX6_whyNoPlace 54 = .ok (.bipush (-13), 2) := dk_16 243 (dk_at dksX6_whyNoPlace_2 7 rfl rfl)
theorem dX6_whyNoPlace_56 : decode cX6_whyNoPlace 56 = .ok (.ireturn, 1) := dk_172 (dk_at dksX6_whyNoPlace_2 9 rfl rfl)
abbrev cX6_element : ByteArray := prog_26_method_99_code
def yX6_element : MethodName := ⟨RX6, "element", "(II)J"⟩
def dkwX6_element_1 : List UInt8 := [96, 47, 173]
abbrev dktX6_element_1 : List UInt8 := dkwX6_element_1 ++ []
def dkwX6_element_0 : List UInt8 := [42, 27, 28, 182, 1, 165, 156, 0, 9, 20, 1, 91, 167, 0, 14, 42, 180, 0, 120, 16, 60, 27, 104, 28]
abbrev dktX6_element_0 : List UInt8 := dkwX6_element_0 ++ dktX6_element_1
theorem dksX6_element_0 : cX6_element.data.toList.drop 0 = dktX6_element_0 := by decide +kernel
theorem dksX6_element_1 : cX6_element.data.toList.drop 24 = dktX6_element_1 := dk_seg dksX6_element_0 24 rfl rfl
theorem dX6_element_0 : decode cX6_element 0 = .ok (.aload_n 0, 1) := dk_42 (dk_at dksX6_element_0 0 rfl rfl)
theorem dX6_element_1 : decode cX6_element 1 = .ok (.iload_n 1, 1) := dk_27 (dk_at dksX6_element_0 1 rfl rfl)
theorem dX6_element_2 : decode cX6_element 2 = .ok (.iload_n 2, 1) := dk_28 (dk_at dksX6_element_0 2 rfl rfl)
theorem dX6_element_3 : decode cX6_element 3 = .ok (.invokevirtual 421, 3) := dk_182 1 165 (dk_at dksX6_element_0 3 rfl rfl)
theorem dX6_element_6 : decode cX6_element 6 = .ok (.ifCond .ge 9, 3) := dk_156 0 9 (dk_at dksX6_element_0 6 rfl rfl)
theorem dX6_element_9 : decode cX6_element 9 = .ok (.ldc2_w 347, 3) := dk_20 1 91 (dk_at dksX6_element_0 9 rfl rfl)
theorem dX6_element_12 : decode cX6_element 12 = .ok (.goto 14, 3) := dk_167 0 14 (dk_at dksX6_element_0 12 rfl rfl)
theorem dX6_element_15 : decode cX6_element 15 = .ok (.aload_n 0, 1) := dk_42 (dk_at dksX6_element_0 15 rfl rfl)
theorem dX6_element_16 : decode cX6_element 16 = .ok (.getfield 120, 3) := dk_180 0 120 (dk_at dksX6_element_0 16 rfl rfl)
theorem dX6_element_19 : decode cX6_element 19 = .ok (.bipush 60, 2) := dk_16 60 (dk_at dksX6_element_0 19 rfl rfl)
theorem dX6_element_21 : decode cX6_element 21 = .ok (.iload_n 1, 1) := dk_27 (dk_at dksX6_element_0 21 rfl rfl)
theorem dX6_element_22 : decode cX6_element 22 = .ok (.imul, 1) := dk_104 (dk_at dksX6_element_0 22 rfl rfl)
theorem dX6_element_23 : decode cX6_element 23 = .ok (.iload_n 2, 1) := dk_28 (dk_at dksX6_element_0 23 rfl rfl)
theorem dX6_element_24 : decode cX6_element 24 = .ok (.iadd, 1) := dk_96 (dk_at dksX6_element_1 0 rfl rfl)
theorem dX6_element_25 : decode cX6_element 25 = .ok (.laload, 1) := dk_47 (dk_at dksX6_element_1 1 rfl rfl)
theorem dX6_element_26 : decode cX6_element 26 = .ok (.lreturn, 1) := dk_173 (dk_at dksX6_element_1 2 rfl rfl)
abbrev cX6_shift : ByteArray := prog_26_method_100_code
def yX6_shift : MethodName := ⟨RX6, "shift", "(IIIII)I"⟩
def dkwX6_shift_8 : List UInt8 := [167, 255, 224, 21, 5, 172]
abbrev dktX6_shift_8 : List UInt8 := dkwX6_shift_8 ++ []
def dkwX6_shift_7 : List UInt8 := [180, 0, 120, 16, 60, 29, 104, 21, 4, 96, 21, 6, 96, 42, 180, 0, 124, 21, 6, 47, 80, 132, 6, 1]
abbrev dktX6_shift_7 : List UInt8 := dkwX6_shift_7 ++ dktX6_shift_8
def dkwX6_shift_6 : List UInt8 := [21, 6, 96, 47, 80, 132, 6, 1, 167, 255, 225, 3, 54, 6, 21, 6, 21, 5, 162, 0, 31, 42]
abbrev dktX6_shift_6 : List UInt8 := dkwX6_shift_6 ++ dktX6_shift_7
def dkwX6_shift_5 : List UInt8 := [21, 6, 21, 5, 162, 0, 30, 42, 180, 0, 124, 21, 6, 42, 180, 0, 120, 16, 60, 27, 104, 28, 96]
abbrev dktX6_shift_5 : List UInt8 := dkwX6_shift_5 ++ dktX6_shift_6
def dkwX6_shift_4 : List UInt8 := [163, 0, 17, 21, 4, 42, 180, 0, 117, 29, 46, 21, 5, 100, 164, 0, 6, 16, 243, 172, 3, 54, 6]
abbrev dktX6_shift_4 : List UInt8 := dkwX6_shift_4 ++ dktX6_shift_5
def dkwX6_shift_3 : List UInt8 := [155, 0, 39, 28, 155, 0, 35, 21, 4, 155, 0, 30, 28, 42, 180, 0, 117, 27, 46, 21, 5, 100]
abbrev dktX6_shift_3 : List UInt8 := dkwX6_shift_3 ++ dktX6_shift_4
def dkwX6_shift_2 : List UInt8 := [156, 0, 18, 42, 180, 0, 114, 27, 46, 42, 180, 0, 114, 29, 46, 159, 0, 6, 16, 244, 172, 21, 5]
abbrev dktX6_shift_2 : List UInt8 := dkwX6_shift_2 ++ dktX6_shift_3
def dkwX6_shift_1 : List UInt8 := [159, 0, 13, 42, 180, 0, 114, 29, 46, 2, 160, 0, 6, 16, 245, 172, 42, 180, 0, 114, 27, 46]
abbrev dktX6_shift_1 : List UInt8 := dkwX6_shift_1 ++ dktX6_shift_2
def dkwX6_shift_0 : List UInt8 := [27, 184, 0, 156, 153, 0, 10, 29, 184, 0, 156, 154, 0, 5, 2, 172, 42, 180, 0, 114, 27, 46, 2]
abbrev dktX6_shift_0 : List UInt8 := dkwX6_shift_0 ++ dktX6_shift_1
theorem dksX6_shift_0 : cX6_shift.data.toList.drop 0 = dktX6_shift_0 := by decide +kernel
theorem dksX6_shift_1 : cX6_shift.data.toList.drop 23 = dktX6_shift_1 := dk_seg dksX6_shift_0 23 rfl rfl
theorem dksX6_shift_2 : cX6_shift.data.toList.drop 45 = dktX6_shift_2 := dk_seg dksX6_shift_1 22 rfl rfl
theorem dksX6_shift_3 : cX6_shift.data.toList.drop 68 = dktX6_shift_3 := dk_seg dksX6_shift_2 23 rfl rfl
theorem dksX6_shift_4 : cX6_shift.data.toList.drop 90 = dktX6_shift_4 := dk_seg dksX6_shift_3 22 rfl rfl
theorem dksX6_shift_5 : cX6_shift.data.toList.drop 113 = dktX6_shift_5 := dk_seg dksX6_shift_4 23 rfl rfl
theorem dksX6_shift_6 : cX6_shift.data.toList.drop 136 = dktX6_shift_6 := dk_seg dksX6_shift_5 23 rfl rfl
theorem dksX6_shift_7 : cX6_shift.data.toList.drop 158 = dktX6_shift_7 := dk_seg dksX6_shift_6 22 rfl rfl
theorem dksX6_shift_8 : cX6_shift.data.toList.drop 182 = dktX6_shift_8 := dk_seg dksX6_shift_7 24 rfl rfl
theorem dX6_shift_0 : decode cX6_shift 0 = .ok (.iload_n 1, 1) := dk_27 (dk_at dksX6_shift_0 0 rfl rfl)
theorem dX6_shift_1 : decode cX6_shift 1 = .ok (.invokestatic 156, 3) := dk_184 0 156 (dk_at dksX6_shift_0 1 rfl rfl)
theorem dX6_shift_4 : decode cX6_shift 4 = .ok (.ifCond .eq 10, 3) := dk_153 0 10 (dk_at dksX6_shift_0 4 rfl rfl)
theorem dX6_shift_7 : decode cX6_shift 7 = .ok (.iload_n 3, 1) := dk_29 (dk_at dksX6_shift_0 7 rfl rfl)
theorem dX6_shift_8 : decode cX6_shift 8 = .ok (.invokestatic 156, 3) := dk_184 0 156 (dk_at dksX6_shift_0 8 rfl rfl)
theorem dX6_shift_11 : decode cX6_shift 11 = .ok (.ifCond .ne 5, 3) := dk_154 0 5 (dk_at dksX6_shift_0 11 rfl rfl)
theorem dX6_shift_14 : decode cX6_shift 14 = .ok (.iconst (-1), 1) := dk_2 (dk_at dksX6_shift_0 14 rfl rfl)
theorem dX6_shift_15 : decode cX6_shift 15 = .ok (.ireturn, 1) := dk_172 (dk_at dksX6_shift_0 15 rfl rfl)
theorem dX6_shift_16 : decode cX6_shift 16 = .ok (.aload_n 0, 1) := dk_42 (dk_at dksX6_shift_0 16 rfl rfl)
theorem dX6_shift_17 : decode cX6_shift 17 = .ok (.getfield 114, 3) := dk_180 0 114 (dk_at dksX6_shift_0 17 rfl rfl)
theorem dX6_shift_20 : decode cX6_shift 20 = .ok (.iload_n 1, 1) := dk_27 (dk_at dksX6_shift_0 20 rfl rfl)
theorem dX6_shift_21 : decode cX6_shift 21 = .ok (.iaload, 1) := dk_46 (dk_at dksX6_shift_0 21 rfl rfl)
theorem dX6_shift_22 : decode cX6_shift 22 = .ok (.iconst (-1), 1) := dk_2 (dk_at dksX6_shift_0 22 rfl rfl)
theorem dX6_shift_23 : decode cX6_shift 23 = .ok (.if_icmp .eq 13, 3) := dk_159 0 13 (dk_at dksX6_shift_1 0 rfl rfl)
theorem dX6_shift_26 : decode cX6_shift 26 = .ok (.aload_n 0, 1) := dk_42 (dk_at dksX6_shift_1 3 rfl rfl)
theorem dX6_shift_27 : decode cX6_shift 27 = .ok (.getfield 114, 3) := dk_180 0 114 (dk_at dksX6_shift_1 4 rfl rfl)
theorem dX6_shift_30 : decode cX6_shift 30 = .ok (.iload_n 3, 1) := dk_29 (dk_at dksX6_shift_1 7 rfl rfl)
theorem dX6_shift_31 : decode cX6_shift 31 = .ok (.iaload, 1) := dk_46 (dk_at dksX6_shift_1 8 rfl rfl)
theorem dX6_shift_32 : decode cX6_shift 32 = .ok (.iconst (-1), 1) := dk_2 (dk_at dksX6_shift_1 9 rfl rfl)
theorem dX6_shift_33 : decode cX6_shift 33 = .ok (.if_icmp .ne 6, 3) := dk_160 0 6 (dk_at dksX6_shift_1 10 rfl rfl)
theorem dX6_shift_36 : decode cX6_shift 36 = .ok (.bipush (-11), 2) := dk_16 245 (dk_at dksX6_shift_1 13 rfl rfl)
theorem dX6_shift_38 : decode cX6_shift 38 = .ok (.ireturn, 1) := dk_172 (dk_at dksX6_shift_1 15 rfl rfl)
theorem dX6_shift_39 : decode cX6_shift 39 = .ok (.aload_n 0, 1) := dk_42 (dk_at dksX6_shift_1 16 rfl rfl)
theorem dX6_shift_40 : decode cX6_shift 40 = .ok (.getfield 114, 3) := dk_180 0 114 (dk_at dksX6_shift_1 17 rfl rfl)
theorem dX6_shift_43 : decode cX6_shift 43 = .ok (.iload_n 1, 1) := dk_27 (dk_at dksX6_shift_1 20 rfl rfl)
theorem dX6_shift_44 : decode cX6_shift 44 = .ok (.iaload, 1) := dk_46 (dk_at dksX6_shift_1 21 rfl rfl)
theorem dX6_shift_45 : decode cX6_shift 45 = .ok (.ifCond .ge 18, 3) := dk_156 0 18 (dk_at dksX6_shift_2 0 rfl rfl)
theorem dX6_shift_48 : decode cX6_shift 48 = .ok (.aload_n 0, 1) := dk_42 (dk_at dksX6_shift_2 3 rfl rfl)
theorem dX6_shift_49 : decode cX6_shift 49 = .ok (.getfield 114, 3) := dk_180 0 114 (dk_at dksX6_shift_2 4 rfl rfl)
theorem dX6_shift_52 : decode cX6_shift 52 = .ok (.iload_n 1, 1) := dk_27 (dk_at dksX6_shift_2 7 rfl rfl)
theorem dX6_shift_53 : decode cX6_shift 53 = .ok (.iaload, 1) := dk_46 (dk_at dksX6_shift_2 8 rfl rfl)
theorem dX6_shift_54 : decode cX6_shift 54 = .ok (.aload_n 0, 1) := dk_42 (dk_at dksX6_shift_2 9 rfl rfl)
theorem dX6_shift_55 : decode cX6_shift 55 = .ok (.getfield 114, 3) := dk_180 0 114 (dk_at dksX6_shift_2 10 rfl rfl)
theorem dX6_shift_58 : decode cX6_shift 58 = .ok (.iload_n 3, 1) := dk_29 (dk_at dksX6_shift_2 13 rfl rfl)
theorem dX6_shift_59 : decode cX6_shift 59 = .ok (.iaload, 1) := dk_46 (dk_at dksX6_shift_2 14 rfl rfl)
theorem dX6_shift_60 : decode cX6_shift 60 = .ok (.if_icmp .eq 6, 3) := dk_159 0 6 (dk_at dksX6_shift_2 15 rfl rfl)
theorem dX6_shift_63 : decode cX6_shift 63 = .ok (.bipush (-12), 2) := dk_16 244 (dk_at dksX6_shift_2 18 rfl rfl)
theorem dX6_shift_65 : decode cX6_shift 65 = .ok (.ireturn, 1) := dk_172 (dk_at dksX6_shift_2 20 rfl rfl)
theorem dX6_shift_66 : decode cX6_shift 66 = .ok (.iload 5, 2) := dk_21 5 (dk_at dksX6_shift_2 21 rfl rfl)
theorem dX6_shift_68 : decode cX6_shift 68 = .ok (.ifCond .lt 39, 3) := dk_155 0 39 (dk_at dksX6_shift_3 0 rfl rfl)
theorem dX6_shift_71 : decode cX6_shift 71 = .ok (.iload_n 2, 1) := dk_28 (dk_at dksX6_shift_3 3 rfl rfl)
theorem dX6_shift_72 : decode cX6_shift 72 = .ok (.ifCond .lt 35, 3) := dk_155 0 35 (dk_at dksX6_shift_3 4 rfl rfl)
theorem dX6_shift_75 : decode cX6_shift 75 = .ok (.iload 4, 2) := dk_21 4 (dk_at dksX6_shift_3 7 rfl rfl)
theorem dX6_shift_77 : decode cX6_shift 77 = .ok (.ifCond .lt 30, 3) := dk_155 0 30 (dk_at dksX6_shift_3 9 rfl rfl)
theorem dX6_shift_80 : decode cX6_shift 80 = .ok (.iload_n 2, 1) := dk_28 (dk_at dksX6_shift_3 12 rfl rfl)
theorem dX6_shift_81 : decode cX6_shift 81 = .ok (.aload_n 0, 1) := dk_42 (dk_at dksX6_shift_3 13 rfl rfl)
theorem dX6_shift_82 : decode cX6_shift 82 = .ok (.getfield 117, 3) := dk_180 0 117 (dk_at dksX6_shift_3 14 rfl rfl)
theorem dX6_shift_85 : decode cX6_shift 85 = .ok (.iload_n 1, 1) := dk_27 (dk_at dksX6_shift_3 17 rfl rfl)
theorem dX6_shift_86 : decode cX6_shift 86 = .ok (.iaload, 1) := dk_46 (dk_at dksX6_shift_3 18 rfl rfl)
theorem dX6_shift_87 : decode cX6_shift 87 = .ok (.iload 5, 2) := dk_21 5 (dk_at dksX6_shift_3 19 rfl rfl)
theorem dX6_shift_89 : decode cX6_shift 89 = .ok (.isub, 1) := dk_100 (dk_at dksX6_shift_3 21 rfl rfl)
theorem dX6_shift_90 : decode cX6_shift 90 = .ok (.if_icmp .gt 17, 3) := dk_163 0 17 (dk_at dksX6_shift_4 0 rfl rfl)
theorem dX6_shift_93 : decode cX6_shift 93 = .ok (.iload 4, 2) := dk_21 4 (dk_at dksX6_shift_4 3 rfl rfl)
theorem dX6_shift_95 : decode cX6_shift 95 = .ok (.aload_n 0, 1) := dk_42 (dk_at dksX6_shift_4 5 rfl rfl)
theorem dX6_shift_96 : decode cX6_shift 96 = .ok (.getfield 117, 3) := dk_180 0 117 (dk_at dksX6_shift_4 6 rfl rfl)
theorem dX6_shift_99 : decode cX6_shift 99 = .ok (.iload_n 3, 1) := dk_29 (dk_at dksX6_shift_4 9 rfl rfl)
theorem dX6_shift_100 : decode cX6_shift 100 = .ok (.iaload, 1) := dk_46 (dk_at dksX6_shift_4 10 rfl rfl)
theorem dX6_shift_101 : decode cX6_shift 101 = .ok (.iload 5, 2) := dk_21 5 (dk_at dksX6_shift_4 11 rfl rfl)
theorem dX6_shift_103 : decode cX6_shift 103 = .ok (.isub, 1) := dk_100 (dk_at dksX6_shift_4 13 rfl rfl)
theorem dX6_shift_104 : decode cX6_shift 104 = .ok (.if_icmp .le 6, 3) := dk_164 0 6 (dk_at dksX6_shift_4 14 rfl rfl)
theorem dX6_shift_107 : decode cX6_shift 107 = .ok (.bipush (-13), 2) := dk_16 243 (dk_at dksX6_shift_4 17 rfl rfl)
theorem dX6_shift_109 : decode cX6_shift 109 = .ok (.ireturn, 1) := dk_172 (dk_at dksX6_shift_4 19 rfl rfl)
theorem dX6_shift_110 : decode cX6_shift 110 = .ok (.iconst 0, 1) := dk_3 (dk_at dksX6_shift_4 20 rfl rfl)
theorem dX6_shift_111 : decode cX6_shift 111 = .ok (.istore 6, 2) := dk_54 6 (dk_at dksX6_shift_4 21 rfl rfl)
theorem dX6_shift_113 : decode cX6_shift 113 = .ok (.iload 6, 2) := dk_21 6 (dk_at dksX6_shift_5 0 rfl rfl)
theorem dX6_shift_115 : decode cX6_shift 115 = .ok (.iload 5, 2) := dk_21 5 (dk_at dksX6_shift_5 2 rfl rfl)
theorem dX6_shift_117 : decode cX6_shift 117 = .ok (.if_icmp .ge 30, 3) := dk_162 0 30 (dk_at dksX6_shift_5 4 rfl rfl)
theorem dX6_shift_120 : decode cX6_shift 120 = .ok (.aload_n 0, 1) := dk_42 (dk_at dksX6_shift_5 7 rfl rfl)
theorem dX6_shift_121 : decode cX6_shift 121 = .ok (.getfield 124, 3) := dk_180 0 124 (dk_at dksX6_shift_5 8 rfl rfl)
theorem dX6_shift_124 : decode cX6_shift 124 = .ok (.iload 6, 2) := dk_21 6 (dk_at dksX6_shift_5 11 rfl rfl)
theorem dX6_shift_126 : decode cX6_shift 126 = .ok (.aload_n 0, 1) := dk_42 (dk_at dksX6_shift_5 13 rfl rfl)
theorem dX6_shift_127 : decode cX6_shift 127 = .ok (.getfield 120, 3) := dk_180 0 120 (dk_at dksX6_shift_5 14 rfl rfl)
theorem dX6_shift_130 : decode cX6_shift 130 = .ok (.bipush 60, 2) := dk_16 60 (dk_at dksX6_shift_5 17 rfl rfl)
theorem dX6_shift_132 : decode cX6_shift 132 = .ok (.iload_n 1, 1) := dk_27 (dk_at dksX6_shift_5 19 rfl rfl)
theorem dX6_shift_133 : decode cX6_shift 133 = .ok (.imul, 1) := dk_104 (dk_at dksX6_shift_5 20 rfl rfl)
theorem dX6_shift_134 : decode cX6_shift 134 = .ok (.iload_n 2, 1) := dk_28 (dk_at dksX6_shift_5 21 rfl rfl)
theorem dX6_shift_135 : decode cX6_shift 135 = .ok (.iadd, 1) := dk_96 (dk_at dksX6_shift_5 22 rfl rfl)
theorem dX6_shift_136 : decode cX6_shift 136 = .ok (.iload 6, 2) := dk_21 6 (dk_at dksX6_shift_6 0 rfl rfl)
theorem dX6_shift_138 : decode cX6_shift 138 = .ok (.iadd, 1) := dk_96 (dk_at dksX6_shift_6 2 rfl rfl)
theorem dX6_shift_139 : decode cX6_shift 139 = .ok (.laload, 1) := dk_47 (dk_at dksX6_shift_6 3 rfl rfl)
theorem dX6_shift_140 : decode cX6_shift 140 = .ok (.lastore, 1) := dk_80 (dk_at dksX6_shift_6 4 rfl rfl)
theorem dX6_shift_141 : decode cX6_shift 141 = .ok (.iinc 6 1, 3) := dk_132 6 1 (dk_at dksX6_shift_6 5 rfl rfl)
theorem dX6_shift_144 : decode cX6_shift 144 = .ok (.goto (-31), 3) := dk_167 255 225 (dk_at dksX6_shift_6 8 rfl rfl)
theorem dX6_shift_147 : decode cX6_shift 147 = .ok (.iconst 0, 1) := dk_3 (dk_at dksX6_shift_6 11 rfl rfl)
theorem dX6_shift_148 : decode cX6_shift 148 = .ok (.istore 6, 2) := dk_54 6 (dk_at dksX6_shift_6 12 rfl rfl)
theorem dX6_shift_150 : decode cX6_shift 150 = .ok (.iload 6, 2) := dk_21 6 (dk_at dksX6_shift_6 14 rfl rfl)
theorem dX6_shift_152 : decode cX6_shift 152 = .ok (.iload 5, 2) := dk_21 5 (dk_at dksX6_shift_6 16 rfl rfl)
theorem dX6_shift_154 : decode cX6_shift 154 = .ok (.if_icmp .ge 31, 3) := dk_162 0 31 (dk_at dksX6_shift_6 18 rfl rfl)
theorem dX6_shift_157 : decode cX6_shift 157 = .ok (.aload_n 0, 1) := dk_42 (dk_at dksX6_shift_6 21 rfl rfl)
theorem dX6_shift_158 : decode cX6_shift 158 = .ok (.getfield 120, 3) := dk_180 0 120 (dk_at dksX6_shift_7 0 rfl rfl)
theorem dX6_shift_161 : decode cX6_shift 161 = .ok (.bipush 60, 2) := dk_16 60 (dk_at dksX6_shift_7 3 rfl rfl)
theorem dX6_shift_163 : decode cX6_shift 163 = .ok (.iload_n 3, 1) := dk_29 (dk_at dksX6_shift_7 5 rfl rfl)
theorem dX6_shift_164 : decode cX6_shift 164 = .ok (.imul, 1) := dk_104 (dk_at dksX6_shift_7 6 rfl rfl)
theorem dX6_shift_165 : decode cX6_shift 165 = .ok (.iload 4, 2) := dk_21 4 (dk_at dksX6_shift_7 7 rfl rfl)
theorem dX6_shift_167 : decode cX6_shift 167 = .ok (.iadd, 1) := dk_96 (dk_at dksX6_shift_7 9 rfl rfl)
theorem dX6_shift_168 : decode cX6_shift 168 = .ok (.iload 6, 2) := dk_21 6 (dk_at dksX6_shift_7 10 rfl rfl)
theorem dX6_shift_170 : decode cX6_shift 170 = .ok (.iadd, 1) := dk_96 (dk_at dksX6_shift_7 12 rfl rfl)
theorem dX6_shift_171 : decode cX6_shift 171 = .ok (.aload_n 0, 1) := dk_42 (dk_at dksX6_shift_7 13 rfl rfl)
theorem dX6_shift_172 : decode cX6_shift 172 = .ok (.getfield 124, 3) := dk_180 0 124 (dk_at dksX6_shift_7 14 rfl rfl)
theorem dX6_shift_175 : decode cX6_shift 175 = .ok (.iload 6, 2) := dk_21 6 (dk_at dksX6_shift_7 17 rfl rfl)
theorem dX6_shift_177 : decode cX6_shift 177 = .ok (.laload, 1) := dk_47 (dk_at dksX6_shift_7 19 rfl rfl)
theorem dX6_shift_178 : decode cX6_shift 178 = .ok (.lastore, 1) := dk_80 (dk_at dksX6_shift_7 20 rfl rfl)
theorem dX6_shift_179 : decode cX6_shift 179 = .ok (.iinc 6 1, 3) := dk_132 6 1 (dk_at dksX6_shift_7 21 rfl rfl)
theorem dX6_shift_182 : decode cX6_shift 182 = .ok (.goto (-32), 3) := dk_167 255 224 (dk_at dksX6_shift_8 0 rfl rfl)
theorem dX6_shift_185 : decode cX6_shift 185 = .ok (.iload 5, 2) := dk_21 5 (dk_at dksX6_shift_8 3 rfl rfl)
theorem dX6_shift_187 : decode cX6_shift 187 = .ok (.ireturn, 1) := dk_172 (dk_at dksX6_shift_8 5 rfl rfl)
abbrev cX6_taken : ByteArray := prog_26_method_101_code
def yX6_taken : MethodName := ⟨RX6, "taken", "(II)I"⟩
def dkwX6_taken_3 : List UInt8 := [167, 0, 5, 16, 244, 172]
abbrev dktX6_taken_3 : List UInt8 := dkwX6_taken_3 ++ []
def dkwX6_taken_2 : List UInt8 := [180, 0, 114, 27, 46, 46, 28, 184, 1, 129, 153, 0, 17, 42, 180, 0, 108, 42, 180, 0, 114, 27, 46, 46]
abbrev dktX6_taken_2 : List UInt8 := dkwX6_taken_2 ++ dktX6_taken_3
def dkwX6_taken_1 : List UInt8 := [46, 2, 160, 0, 6, 16, 245, 172, 42, 180, 0, 114, 27, 46, 155, 0, 35, 42, 180, 0, 108, 42]
abbrev dktX6_taken_1 : List UInt8 := dkwX6_taken_1 ++ dktX6_taken_2
def dkwX6_taken_0 : List UInt8 := [27, 184, 0, 156, 153, 0, 13, 28, 3, 16, 7, 184, 0, 134, 154, 0, 5, 2, 172, 42, 180, 0, 114, 27]
abbrev dktX6_taken_0 : List UInt8 := dkwX6_taken_0 ++ dktX6_taken_1
theorem dksX6_taken_0 : cX6_taken.data.toList.drop 0 = dktX6_taken_0 := by decide +kernel
theorem dksX6_taken_1 : cX6_taken.data.toList.drop 24 = dktX6_taken_1 := dk_seg dksX6_taken_0 24 rfl rfl
theorem dksX6_taken_2 : cX6_taken.data.toList.drop 46 = dktX6_taken_2 := dk_seg dksX6_taken_1 22 rfl rfl
theorem dksX6_taken_3 : cX6_taken.data.toList.drop 70 = dktX6_taken_3 := dk_seg dksX6_taken_2 24 rfl rfl
theorem dX6_taken_0 : decode cX6_taken 0 = .ok (.iload_n 1, 1) := dk_27 (dk_at dksX6_taken_0 0 rfl rfl)
theorem dX6_taken_1 : decode cX6_taken 1 = .ok (.invokestatic 156, 3) := dk_184 0 156 (dk_at dksX6_taken_0 1 rfl rfl)
theorem dX6_taken_4 : decode cX6_taken 4 = .ok (.ifCond .eq 13, 3) := dk_153 0 13 (dk_at dksX6_taken_0 4 rfl rfl)
theorem dX6_taken_7 : decode cX6_taken 7 = .ok (.iload_n 2, 1) := dk_28 (dk_at dksX6_taken_0 7 rfl rfl)
theorem dX6_taken_8 : decode cX6_taken 8 = .ok (.iconst 0, 1) := dk_3 (dk_at dksX6_taken_0 8 rfl rfl)
theorem dX6_taken_9 : decode cX6_taken 9 = .ok (.bipush 7, 2) := dk_16 7 (dk_at dksX6_taken_0 9 rfl rfl)
theorem dX6_taken_11 : decode cX6_taken 11 = .ok (.invokestatic 134, 3) := dk_184 0 134 (dk_at dksX6_taken_0 11 rfl rfl)
theorem dX6_taken_14 : decode cX6_taken 14 = .ok (.ifCond .ne 5, 3) := dk_154 0 5 (dk_at dksX6_taken_0 14 rfl rfl)
theorem dX6_taken_17 : decode cX6_taken 17 = .ok (.iconst (-1), 1) := dk_2 (dk_at dksX6_taken_0 17 rfl rfl)
theorem dX6_taken_18 : decode cX6_taken 18 = .ok (.ireturn, 1) := dk_172 (dk_at dksX6_taken_0 18 rfl rfl)
theorem dX6_taken_19 : decode cX6_taken 19 = .ok (.aload_n 0, 1) := dk_42 (dk_at dksX6_taken_0 19 rfl rfl)
theorem dX6_taken_20 : decode cX6_taken 20 = .ok (.getfield 114, 3) := dk_180 0 114 (dk_at dksX6_taken_0 20 rfl rfl)
theorem dX6_taken_23 : decode cX6_taken 23 = .ok (.iload_n 1, 1) := dk_27 (dk_at dksX6_taken_0 23 rfl rfl)
theorem dX6_taken_24 : decode cX6_taken 24 = .ok (.iaload, 1) := dk_46 (dk_at dksX6_taken_1 0 rfl rfl)
theorem dX6_taken_25 : decode cX6_taken 25 = .ok (.iconst (-1), 1) := dk_2 (dk_at dksX6_taken_1 1 rfl rfl)
theorem dX6_taken_26 : decode cX6_taken 26 = .ok (.if_icmp .ne 6, 3) := dk_160 0 6 (dk_at dksX6_taken_1 2 rfl rfl)
theorem dX6_taken_29 : decode cX6_taken 29 = .ok (.bipush (-11), 2) := dk_16 245 (dk_at dksX6_taken_1 5 rfl rfl)
theorem dX6_taken_31 : decode cX6_taken 31 = .ok (.ireturn, 1) := dk_172 (dk_at dksX6_taken_1 7 rfl rfl)
theorem dX6_taken_32 : decode cX6_taken 32 = .ok (.aload_n 0, 1) := dk_42 (dk_at dksX6_taken_1 8 rfl rfl)
theorem dX6_taken_33 : decode cX6_taken 33 = .ok (.getfield 114, 3) := dk_180 0 114 (dk_at dksX6_taken_1 9 rfl rfl)
theorem dX6_taken_36 : decode cX6_taken 36 = .ok (.iload_n 1, 1) := dk_27 (dk_at dksX6_taken_1 12 rfl rfl)
theorem dX6_taken_37 : decode cX6_taken 37 = .ok (.iaload, 1) := dk_46 (dk_at dksX6_taken_1 13 rfl rfl)
theorem dX6_taken_38 : decode cX6_taken 38 = .ok (.ifCond .lt 35, 3) := dk_155 0 35 (dk_at dksX6_taken_1 14 rfl rfl)
theorem dX6_taken_41 : decode cX6_taken 41 = .ok (.aload_n 0, 1) := dk_42 (dk_at dksX6_taken_1 17 rfl rfl)
theorem dX6_taken_42 : decode cX6_taken 42 = .ok (.getfield 108, 3) := dk_180 0 108 (dk_at dksX6_taken_1 18 rfl rfl)
theorem dX6_taken_45 : decode cX6_taken 45 = .ok (.aload_n 0, 1) := dk_42 (dk_at dksX6_taken_1 21 rfl rfl)
theorem dX6_taken_46 : decode cX6_taken 46 = .ok (.getfield 114, 3) := dk_180 0 114 (dk_at dksX6_taken_2 0 rfl rfl)
theorem dX6_taken_49 : decode cX6_taken 49 = .ok (.iload_n 1, 1) := dk_27 (dk_at dksX6_taken_2 3 rfl rfl)
theorem dX6_taken_50 : decode cX6_taken 50 = .ok (.iaload, 1) := dk_46 (dk_at dksX6_taken_2 4 rfl rfl)
theorem dX6_taken_51 : decode cX6_taken 51 = .ok (.iaload, 1) := dk_46 (dk_at dksX6_taken_2 5 rfl rfl)
theorem dX6_taken_52 : decode cX6_taken 52 = .ok (.iload_n 2, 1) := dk_28 (dk_at dksX6_taken_2 6 rfl rfl)
theorem dX6_taken_53 : decode cX6_taken 53 = .ok (.invokestatic 385, 3) := dk_184 1 129 (dk_at dksX6_taken_2 7 rfl rfl)
theorem dX6_taken_56 : decode cX6_taken 56 = .ok (.ifCond .eq 17, 3) := dk_153 0 17 (dk_at dksX6_taken_2 10 rfl rfl)
theorem dX6_taken_59 : decode cX6_taken 59 = .ok (.aload_n 0, 1) := dk_42 (dk_at dksX6_taken_2 13 rfl rfl)
theorem dX6_taken_60 : decode cX6_taken 60 = .ok (.getfield 108, 3) := dk_180 0 108 (dk_at dksX6_taken_2 14 rfl rfl)
theorem dX6_taken_63 : decode cX6_taken 63 = .ok (.aload_n 0, 1) := dk_42 (dk_at dksX6_taken_2 17 rfl rfl)
theorem dX6_taken_64 : decode cX6_taken 64 = .ok (.getfield 114, 3) := dk_180 0 114 (dk_at dksX6_taken_2 18 rfl rfl)
theorem dX6_taken_67 : decode cX6_taken 67 = .ok (.iload_n 1, 1) := dk_27 (dk_at dksX6_taken_2 21 rfl rfl)
theorem dX6_taken_68 : decode cX6_taken 68 = .ok (.iaload, 1) := dk_46 (dk_at dksX6_taken_2 22 rfl rfl)
theorem dX6_taken_69 : decode cX6_taken 69 = .ok (.iaload, 1) := dk_46 (dk_at dksX6_taken_2 23 rfl rfl)
theorem dX6_taken_70 : decode cX6_taken 70 = .ok (.goto 5, 3) := dk_167 0 5 (dk_at dksX6_taken_3 0 rfl rfl)
theorem dX6_taken_73 : decode cX6_taken 73 = .ok (.bipush (-12), 2) := dk_16 244 (dk_at dksX6_taken_3 3 rfl rfl)
theorem dX6_taken_75 : decode cX6_taken 75 = .ok (.ireturn, 1) := dk_172 (dk_at dksX6_taken_3 5 rfl rfl)
theorem q116 : (Jvm.Cond.initialized "HatRankModel") ∈ lw_all := lw_g (lw_at lw_m1 10 rfl) rfl
theorem q1312 : (Jvm.Cond.instantiable "HatRankModel" (63 : Nat)) ∈ lw_all := lw_g (lw_at lw_m6 6 rfl) rfl
theorem q1314 : (Jvm.Cond.instanceMethod ({ cls := "HatRankModel", name := "<init>", desc := "()V" } : Jvm.MethodName)) ∈ lw_all := lw_g (lw_at lw_m6 8 rfl) rfl
theorem q1315 : (Jvm.Cond.code ({ cls := "HatRankModel", name := "<init>", desc := "()V" } : Jvm.MethodName) prog_26_method_1_code (1 : Nat) (Option.none : Option Jvm.ClassFile.FieldType)) ∈ lw_all := lw_g (lw_at lw_m6 9 rfl) rfl
theorem q1316 : (Jvm.Cond.methodLink "HatRankModel" (1 : Nat) ({ cls := "java/lang/Object", name := "<init>", desc := "()V" } : Jvm.MethodName)) ∈ lw_all := lw_g (lw_at lw_m6 10 rfl) rfl
theorem q1317 : (Jvm.Cond.fieldLink "HatRankModel" (272 : Nat) "HatRankModel" "now" "I") ∈ lw_all := lw_g (lw_at lw_m6 11 rfl) rfl
theorem q1318 : (Jvm.Cond.fieldLink "HatRankModel" (7 : Nat) "HatRankModel" "blow" "[I") ∈ lw_all := lw_g (lw_at lw_m6 12 rfl) rfl
theorem q1319 : (Jvm.Cond.fieldLink "HatRankModel" (255 : Nat) "HatRankModel" "more" "I") ∈ lw_all := lw_g (lw_at lw_m6 13 rfl) rfl
theorem q1320 : (Jvm.Cond.fieldLink "HatRankModel" (131 : Nat) "HatRankModel" "places" "I") ∈ lw_all := lw_g (lw_at lw_m6 14 rfl) rfl
theorem q1321 : (Jvm.Cond.fieldLink "HatRankModel" (13 : Nat) "HatRankModel" "lee" "[I") ∈ lw_all := lw_g (lw_at lw_m6 15 rfl) rfl
theorem q1322 : (Jvm.Cond.fieldLink "HatRankModel" (16 : Nat) "HatRankModel" "down" "[I") ∈ lw_all := lw_g (lw_at lw_m6 16 rfl) rfl
theorem q1323 : (Jvm.Cond.fieldLink "HatRankModel" (19 : Nat) "HatRankModel" "lying" "[I") ∈ lw_all := lw_g (lw_at lw_m6 17 rfl) rfl
theorem q1324 : (Jvm.Cond.fieldLink "HatRankModel" (141 : Nat) "HatRankModel" "ways" "I") ∈ lw_all := lw_g (lw_at lw_m6 18 rfl) rfl
theorem q1325 : (Jvm.Cond.fieldLink "HatRankModel" (22 : Nat) "HatRankModel" "wayOne" "[I") ∈ lw_all := lw_g (lw_at lw_m6 19 rfl) rfl
theorem q1326 : (Jvm.Cond.fieldLink "HatRankModel" (25 : Nat) "HatRankModel" "wayOther" "[I") ∈ lw_all := lw_g (lw_at lw_m6 20 rfl) rfl
theorem q1327 : (Jvm.Cond.fieldLink "HatRankModel" (138 : Nat) "HatRankModel" "people" "I") ∈ lw_all := lw_g (lw_at lw_m6 21 rfl) rfl
theorem q1328 : (Jvm.Cond.fieldLink "HatRankModel" (28 : Nat) "HatRankModel" "hats" "[I") ∈ lw_all := lw_g (lw_at lw_m6 22 rfl) rfl
theorem q1329 : (Jvm.Cond.fieldLink "HatRankModel" (31 : Nat) "HatRankModel" "brim" "[I") ∈ lw_all := lw_g (lw_at lw_m6 23 rfl) rfl
theorem q1330 : (Jvm.Cond.fieldLink "HatRankModel" (34 : Nat) "HatRankModel" "at" "[I") ∈ lw_all := lw_g (lw_at lw_m6 24 rfl) rfl
theorem q1331 : (Jvm.Cond.fieldLink "HatRankModel" (37 : Nat) "HatRankModel" "landed" "[I") ∈ lw_all := lw_g (lw_at lw_m6 25 rfl) rfl
theorem q1332 : (Jvm.Cond.fieldLink "HatRankModel" (168 : Nat) "HatRankModel" "doneMany" "I") ∈ lw_all := lw_g (lw_at lw_m6 26 rfl) rfl
theorem q1333 : (Jvm.Cond.fieldLink "HatRankModel" (165 : Nat) "HatRankModel" "undoneMany" "I") ∈ lw_all := lw_g (lw_at lw_m6 27 rfl) rfl
theorem q1334 : (Jvm.Cond.fieldLink "HatRankModel" (40 : Nat) "HatRankModel" "changeOf" "[I") ∈ lw_all := lw_g (lw_at lw_m6 28 rfl) rfl
theorem q1335 : (Jvm.Cond.fieldLink "HatRankModel" (43 : Nat) "HatRankModel" "changeAt" "[I") ∈ lw_all := lw_g (lw_at lw_m6 29 rfl) rfl
theorem q1336 : (Jvm.Cond.fieldLink "HatRankModel" (46 : Nat) "HatRankModel" "before" "[I") ∈ lw_all := lw_g (lw_at lw_m6 30 rfl) rfl
theorem q1337 : (Jvm.Cond.fieldLink "HatRankModel" (49 : Nat) "HatRankModel" "behind" "[I") ∈ lw_all := lw_g (lw_at lw_m6 31 rfl) rfl
theorem q1338 : (Jvm.Cond.fieldLink "HatRankModel" (52 : Nat) "HatRankModel" "tape" "[B") ∈ lw_all := lw_g (lw_at lw_m6 32 rfl) rfl
theorem q1339 : (Jvm.Cond.fieldLink "HatRankModel" (184 : Nat) "HatRankModel" "taped" "I") ∈ lw_all := lw_g (lw_at lw_m6 33 rfl) rfl
theorem q1340 : (Jvm.Cond.fieldLink "HatRankModel" (187 : Nat) "HatRankModel" "here" "I") ∈ lw_all := lw_g (lw_at lw_m6 34 rfl) rfl
theorem q1341 : (Jvm.Cond.fieldLink "HatRankModel" (190 : Nat) "HatRankModel" "fault" "I") ∈ lw_all := lw_g (lw_at lw_m6 35 rfl) rfl
theorem q1342 : (Jvm.Cond.fieldLink "HatRankModel" (196 : Nat) "HatRankModel" "open" "I") ∈ lw_all := lw_g (lw_at lw_m6 36 rfl) rfl
theorem q1343 : (Jvm.Cond.fieldLink "HatRankModel" (193 : Nat) "HatRankModel" "laid" "I") ∈ lw_all := lw_g (lw_at lw_m6 37 rfl) rfl
theorem q1344 : (Jvm.Cond.fieldLink "HatRankModel" (56 : Nat) "HatRankModel" "act" "[B") ∈ lw_all := lw_g (lw_at lw_m6 38 rfl) rfl
theorem q1345 : (Jvm.Cond.fieldLink "HatRankModel" (59 : Nat) "HatRankModel" "with" "[I") ∈ lw_all := lw_g (lw_at lw_m6 39 rfl) rfl
theorem q1346 : (Jvm.Cond.fieldLink "HatRankModel" (62 : Nat) "HatRankModel" "lineMany" "[I") ∈ lw_all := lw_g (lw_at lw_m6 40 rfl) rfl
theorem q1347 : (Jvm.Cond.fieldLink "HatRankModel" (65 : Nat) "HatRankModel" "testEnd" "[S") ∈ lw_all := lw_g (lw_at lw_m6 41 rfl) rfl
theorem q1348 : (Jvm.Cond.fieldLink "HatRankModel" (69 : Nat) "HatRankModel" "lineEnd" "[S") ∈ lw_all := lw_g (lw_at lw_m6 42 rfl) rfl
theorem q1349 : (Jvm.Cond.fieldLink "HatRankModel" (72 : Nat) "HatRankModel" "facts" "[I") ∈ lw_all := lw_g (lw_at lw_m6 43 rfl) rfl
theorem q1350 : (Jvm.Cond.fieldLink "HatRankModel" (75 : Nat) "HatRankModel" "pile" "[I") ∈ lw_all := lw_g (lw_at lw_m6 44 rfl) rfl
theorem q1351 : (Jvm.Cond.fieldLink "HatRankModel" (251 : Nat) "HatRankModel" "hasLaw" "Z") ∈ lw_all := lw_g (lw_at lw_m6 45 rfl) rfl
theorem q1352 : (Jvm.Cond.fieldLink "HatRankModel" (78 : Nat) "HatRankModel" "hatsThen" "[I") ∈ lw_all := lw_g (lw_at lw_m6 46 rfl) rfl
theorem q1353 : (Jvm.Cond.fieldLink "HatRankModel" (81 : Nat) "HatRankModel" "atThen" "[I") ∈ lw_all := lw_g (lw_at lw_m6 47 rfl) rfl
theorem q1354 : (Jvm.Cond.fieldLink "HatRankModel" (84 : Nat) "HatRankModel" "lyingThen" "[I") ∈ lw_all := lw_g (lw_at lw_m6 48 rfl) rfl
theorem q1355 : (Jvm.Cond.fieldLink "HatRankModel" (87 : Nat) "HatRankModel" "landedThen" "[I") ∈ lw_all := lw_g (lw_at lw_m6 49 rfl) rfl
theorem q1356 : (Jvm.Cond.fieldLink "HatRankModel" (287 : Nat) "HatRankModel" "drawn" "I") ∈ lw_all := lw_g (lw_at lw_m6 50 rfl) rfl
theorem q1357 : (Jvm.Cond.fieldLink "HatRankModel" (90 : Nat) "HatRankModel" "least" "[I") ∈ lw_all := lw_g (lw_at lw_m6 51 rfl) rfl
theorem q1358 : (Jvm.Cond.fieldLink "HatRankModel" (93 : Nat) "HatRankModel" "keptHats" "[I") ∈ lw_all := lw_g (lw_at lw_m6 52 rfl) rfl
theorem q1359 : (Jvm.Cond.fieldLink "HatRankModel" (96 : Nat) "HatRankModel" "keptLying" "[I") ∈ lw_all := lw_g (lw_at lw_m6 53 rfl) rfl
theorem q1360 : (Jvm.Cond.fieldLink "HatRankModel" (312 : Nat) "HatRankModel" "untilHour" "I") ∈ lw_all := lw_g (lw_at lw_m6 54 rfl) rfl
theorem q1361 : (Jvm.Cond.fieldLink "HatRankModel" (315 : Nat) "HatRankModel" "asked" "I") ∈ lw_all := lw_g (lw_at lw_m6 55 rfl) rfl
theorem q1362 : (Jvm.Cond.fieldLink "HatRankModel" (318 : Nat) "HatRankModel" "commandsThen" "J") ∈ lw_all := lw_g (lw_at lw_m6 56 rfl) rfl
theorem q1363 : (Jvm.Cond.fieldLink "HatRankModel" (322 : Nat) "HatRankModel" "hatsSum" "J") ∈ lw_all := lw_g (lw_at lw_m6 57 rfl) rfl
theorem q1364 : (Jvm.Cond.fieldLink "HatRankModel" (361 : Nat) "HatRankModel" "hasImage" "Z") ∈ lw_all := lw_g (lw_at lw_m6 58 rfl) rfl
theorem q1365 : (Jvm.Cond.fieldLink "HatRankModel" (364 : Nat) "HatRankModel" "imageNow" "I") ∈ lw_all := lw_g (lw_at lw_m6 59 rfl) rfl
theorem q1366 : (Jvm.Cond.fieldLink "HatRankModel" (367 : Nat) "HatRankModel" "imagePeople" "I") ∈ lw_all := lw_g (lw_at lw_m6 60 rfl) rfl
theorem q1367 : (Jvm.Cond.fieldLink "HatRankModel" (370 : Nat) "HatRankModel" "imagePlaces" "I") ∈ lw_all := lw_g (lw_at lw_m6 61 rfl) rfl
theorem q1368 : (Jvm.Cond.fieldLink "HatRankModel" (99 : Nat) "HatRankModel" "imageHats" "[I") ∈ lw_all := lw_g (lw_at lw_m6 62 rfl) rfl
theorem q1369 : (Jvm.Cond.fieldLink "HatRankModel" (102 : Nat) "HatRankModel" "imageAt" "[I") ∈ lw_all := lw_g (lw_at lw_m6 63 rfl) rfl
theorem q1370 : (Jvm.Cond.fieldLink "HatRankModel" (105 : Nat) "HatRankModel" "imageLying" "[I") ∈ lw_all := lw_g (lw_at lw_m6 64 rfl) rfl
theorem q1371 : (Jvm.Cond.fieldLink "HatRankModel" (373 : Nat) "HatRankModel" "bodies" "I") ∈ lw_all := lw_g (lw_at lw_m6 65 rfl) rfl
theorem q1372 : (Jvm.Cond.fieldLink "HatRankModel" (108 : Nat) "HatRankModel" "kind" "[I") ∈ lw_all := lw_g (lw_at lw_m6 66 rfl) rfl
theorem q1373 : (Jvm.Cond.fieldLink "HatRankModel" (376 : Nat) "HatRankModel" "traces" "I") ∈ lw_all := lw_g (lw_at lw_m6 67 rfl) rfl
theorem q1374 : (Jvm.Cond.fieldLink "HatRankModel" (111 : Nat) "HatRankModel" "traced" "[I") ∈ lw_all := lw_g (lw_at lw_m6 68 rfl) rfl
theorem q1375 : (Jvm.Cond.fieldLink "HatRankModel" (114 : Nat) "HatRankModel" "holds" "[I") ∈ lw_all := lw_g (lw_at lw_m6 69 rfl) rfl
theorem q1376 : (Jvm.Cond.fieldLink "HatRankModel" (117 : Nat) "HatRankModel" "size" "[I") ∈ lw_all := lw_g (lw_at lw_m6 70 rfl) rfl
theorem q1377 : (Jvm.Cond.fieldLink "HatRankModel" (120 : Nat) "HatRankModel" "elements" "[J") ∈ lw_all := lw_g (lw_at lw_m6 71 rfl) rfl
theorem q1378 : (Jvm.Cond.fieldLink "HatRankModel" (124 : Nat) "HatRankModel" "shifted" "[J") ∈ lw_all := lw_g (lw_at lw_m6 72 rfl) rfl
theorem q1379 : (Jvm.Cond.lays "HatRankModel" "HatRankModel" "code" "I") ∈ lw_all := lw_g (lw_at lw_m6 73 rfl) rfl
theorem q1380 : (Jvm.Cond.soleField "HatRankModel" "code") ∈ lw_all := lw_g (lw_at lw_m6 74 rfl) rfl
theorem q1381 : (Jvm.Cond.lays "HatRankModel" "HatRankModel" "now" "I") ∈ lw_all := lw_g (lw_at lw_m6 75 rfl) rfl
theorem q1382 : (Jvm.Cond.soleField "HatRankModel" "now") ∈ lw_all := lw_g (lw_at lw_m6 76 rfl) rfl
theorem q1383 : (Jvm.Cond.laysFinal "HatRankModel" "HatRankModel" "blow" "[I") ∈ lw_all := lw_g (lw_at lw_m6 77 rfl) rfl
theorem q1384 : (Jvm.Cond.soleField "HatRankModel" "blow") ∈ lw_all := lw_g (lw_at lw_m6 78 rfl) rfl
theorem q1385 : (Jvm.Cond.lays "HatRankModel" "HatRankModel" "more" "I") ∈ lw_all := lw_g (lw_at lw_m6 79 rfl) rfl
theorem q1386 : (Jvm.Cond.soleField "HatRankModel" "more") ∈ lw_all := lw_g (lw_at lw_m6 80 rfl) rfl
theorem q1387 : (Jvm.Cond.lays "HatRankModel" "HatRankModel" "places" "I") ∈ lw_all := lw_g (lw_at lw_m6 81 rfl) rfl
theorem q1388 : (Jvm.Cond.soleField "HatRankModel" "places") ∈ lw_all := lw_g (lw_at lw_m6 82 rfl) rfl
theorem q1389 : (Jvm.Cond.laysFinal "HatRankModel" "HatRankModel" "lee" "[I") ∈ lw_all := lw_g (lw_at lw_m6 83 rfl) rfl
theorem q1390 : (Jvm.Cond.soleField "HatRankModel" "lee") ∈ lw_all := lw_g (lw_at lw_m6 84 rfl) rfl
theorem q1391 : (Jvm.Cond.laysFinal "HatRankModel" "HatRankModel" "down" "[I") ∈ lw_all := lw_g (lw_at lw_m6 85 rfl) rfl
theorem q1392 : (Jvm.Cond.soleField "HatRankModel" "down") ∈ lw_all := lw_g (lw_at lw_m6 86 rfl) rfl
theorem q1393 : (Jvm.Cond.laysFinal "HatRankModel" "HatRankModel" "lying" "[I") ∈ lw_all := lw_g (lw_at lw_m6 87 rfl) rfl
theorem q1394 : (Jvm.Cond.soleField "HatRankModel" "lying") ∈ lw_all := lw_g (lw_at lw_m6 88 rfl) rfl
theorem q1395 : (Jvm.Cond.lays "HatRankModel" "HatRankModel" "ways" "I") ∈ lw_all := lw_g (lw_at lw_m6 89 rfl) rfl
theorem q1396 : (Jvm.Cond.soleField "HatRankModel" "ways") ∈ lw_all := lw_g (lw_at lw_m6 90 rfl) rfl
theorem q1397 : (Jvm.Cond.laysFinal "HatRankModel" "HatRankModel" "wayOne" "[I") ∈ lw_all := lw_g (lw_at lw_m6 91 rfl) rfl
theorem q1398 : (Jvm.Cond.soleField "HatRankModel" "wayOne") ∈ lw_all := lw_g (lw_at lw_m6 92 rfl) rfl
theorem q1399 : (Jvm.Cond.laysFinal "HatRankModel" "HatRankModel" "wayOther" "[I") ∈ lw_all := lw_g (lw_at lw_m6 93 rfl) rfl
theorem q1400 : (Jvm.Cond.soleField "HatRankModel" "wayOther") ∈ lw_all := lw_g (lw_at lw_m6 94 rfl) rfl
theorem q1401 : (Jvm.Cond.lays "HatRankModel" "HatRankModel" "people" "I") ∈ lw_all := lw_g (lw_at lw_m6 95 rfl) rfl
theorem q1402 : (Jvm.Cond.soleField "HatRankModel" "people") ∈ lw_all := lw_g (lw_at lw_m6 96 rfl) rfl
theorem q1403 : (Jvm.Cond.laysFinal "HatRankModel" "HatRankModel" "hats" "[I") ∈ lw_all := lw_g (lw_at lw_m6 97 rfl) rfl
theorem q1404 : (Jvm.Cond.soleField "HatRankModel" "hats") ∈ lw_all := lw_g (lw_at lw_m6 98 rfl) rfl
theorem q1405 : (Jvm.Cond.laysFinal "HatRankModel" "HatRankModel" "brim" "[I") ∈ lw_all := lw_g (lw_at lw_m6 99 rfl) rfl
theorem q1406 : (Jvm.Cond.soleField "HatRankModel" "brim") ∈ lw_all := lw_g (lw_at lw_m6 100 rfl) rfl
theorem q1407 : (Jvm.Cond.laysFinal "HatRankModel" "HatRankModel" "at" "[I") ∈ lw_all := lw_g (lw_at lw_m6 101 rfl) rfl
theorem q1408 : (Jvm.Cond.soleField "HatRankModel" "at") ∈ lw_all := lw_g (lw_at lw_m6 102 rfl) rfl
theorem q1409 : (Jvm.Cond.laysFinal "HatRankModel" "HatRankModel" "landed" "[I") ∈ lw_all := lw_g (lw_at lw_m6 103 rfl) rfl
theorem q1410 : (Jvm.Cond.soleField "HatRankModel" "landed") ∈ lw_all := lw_g (lw_at lw_m6 104 rfl) rfl
theorem q1411 : (Jvm.Cond.lays "HatRankModel" "HatRankModel" "doneMany" "I") ∈ lw_all := lw_g (lw_at lw_m6 105 rfl) rfl
theorem q1412 : (Jvm.Cond.soleField "HatRankModel" "doneMany") ∈ lw_all := lw_g (lw_at lw_m6 106 rfl) rfl
theorem q1413 : (Jvm.Cond.lays "HatRankModel" "HatRankModel" "undoneMany" "I") ∈ lw_all := lw_g (lw_at lw_m6 107 rfl) rfl
theorem q1414 : (Jvm.Cond.soleField "HatRankModel" "undoneMany") ∈ lw_all := lw_g (lw_at lw_m6 108 rfl) rfl
theorem q1415 : (Jvm.Cond.laysFinal "HatRankModel" "HatRankModel" "changeOf" "[I") ∈ lw_all := lw_g (lw_at lw_m6 109 rfl) rfl
theorem q1416 : (Jvm.Cond.soleField "HatRankModel" "changeOf") ∈ lw_all := lw_g (lw_at lw_m6 110 rfl) rfl
theorem q1417 : (Jvm.Cond.laysFinal "HatRankModel" "HatRankModel" "changeAt" "[I") ∈ lw_all := lw_g (lw_at lw_m6 111 rfl) rfl
theorem q1418 : (Jvm.Cond.soleField "HatRankModel" "changeAt") ∈ lw_all := lw_g (lw_at lw_m6 112 rfl) rfl
theorem q1419 : (Jvm.Cond.laysFinal "HatRankModel" "HatRankModel" "before" "[I") ∈ lw_all := lw_g (lw_at lw_m6 113 rfl) rfl
theorem q1420 : (Jvm.Cond.soleField "HatRankModel" "before") ∈ lw_all := lw_g (lw_at lw_m6 114 rfl) rfl
theorem q1421 : (Jvm.Cond.laysFinal "HatRankModel" "HatRankModel" "behind" "[I") ∈ lw_all := lw_g (lw_at lw_m6 115 rfl) rfl
theorem q1422 : (Jvm.Cond.soleField "HatRankModel" "behind") ∈ lw_all := lw_g (lw_at lw_m6 116 rfl) rfl
theorem q1423 : (Jvm.Cond.laysFinal "HatRankModel" "HatRankModel" "tape" "[B") ∈ lw_all := lw_g (lw_at lw_m6 117 rfl) rfl
theorem q1424 : (Jvm.Cond.soleField "HatRankModel" "tape") ∈ lw_all := lw_g (lw_at lw_m6 118 rfl) rfl
theorem q1425 : (Jvm.Cond.lays "HatRankModel" "HatRankModel" "taped" "I") ∈ lw_all := lw_g (lw_at lw_m6 119 rfl) rfl
theorem q1426 : (Jvm.Cond.soleField "HatRankModel" "taped") ∈ lw_all := lw_g (lw_at lw_m6 120 rfl) rfl
theorem q1427 : (Jvm.Cond.lays "HatRankModel" "HatRankModel" "here" "I") ∈ lw_all := lw_g (lw_at lw_m6 121 rfl) rfl
theorem q1428 : (Jvm.Cond.soleField "HatRankModel" "here") ∈ lw_all := lw_g (lw_at lw_m6 122 rfl) rfl
theorem q1429 : (Jvm.Cond.lays "HatRankModel" "HatRankModel" "fault" "I") ∈ lw_all := lw_g (lw_at lw_m6 123 rfl) rfl
theorem q1430 : (Jvm.Cond.soleField "HatRankModel" "fault") ∈ lw_all := lw_g (lw_at lw_m6 124 rfl) rfl
theorem q1431 : (Jvm.Cond.lays "HatRankModel" "HatRankModel" "open" "I") ∈ lw_all := lw_g (lw_at lw_m6 125 rfl) rfl
theorem q1432 : (Jvm.Cond.soleField "HatRankModel" "open") ∈ lw_all := lw_g (lw_at lw_m6 126 rfl) rfl
theorem q1433 : (Jvm.Cond.lays "HatRankModel" "HatRankModel" "laid" "I") ∈ lw_all := lw_g (lw_at lw_m6 127 rfl) rfl
theorem q1434 : (Jvm.Cond.soleField "HatRankModel" "laid") ∈ lw_all := lw_g (lw_at lw_m6 128 rfl) rfl
theorem q1435 : (Jvm.Cond.laysFinal "HatRankModel" "HatRankModel" "act" "[B") ∈ lw_all := lw_g (lw_at lw_m6 129 rfl) rfl
theorem q1436 : (Jvm.Cond.soleField "HatRankModel" "act") ∈ lw_all := lw_g (lw_at lw_m6 130 rfl) rfl
theorem q1437 : (Jvm.Cond.laysFinal "HatRankModel" "HatRankModel" "with" "[I") ∈ lw_all := lw_g (lw_at lw_m6 131 rfl) rfl
theorem q1438 : (Jvm.Cond.soleField "HatRankModel" "with") ∈ lw_all := lw_g (lw_at lw_m6 132 rfl) rfl
theorem q1439 : (Jvm.Cond.laysFinal "HatRankModel" "HatRankModel" "lineMany" "[I") ∈ lw_all := lw_g (lw_at lw_m6 133 rfl) rfl
theorem q1440 : (Jvm.Cond.soleField "HatRankModel" "lineMany") ∈ lw_all := lw_g (lw_at lw_m6 134 rfl) rfl
theorem q1441 : (Jvm.Cond.laysFinal "HatRankModel" "HatRankModel" "testEnd" "[S") ∈ lw_all := lw_g (lw_at lw_m6 135 rfl) rfl
theorem q1442 : (Jvm.Cond.soleField "HatRankModel" "testEnd") ∈ lw_all := lw_g (lw_at lw_m6 136 rfl) rfl
theorem q1443 : (Jvm.Cond.laysFinal "HatRankModel" "HatRankModel" "lineEnd" "[S") ∈ lw_all := lw_g (lw_at lw_m6 137 rfl) rfl
theorem q1444 : (Jvm.Cond.soleField "HatRankModel" "lineEnd") ∈ lw_all := lw_g (lw_at lw_m6 138 rfl) rfl
theorem q1445 : (Jvm.Cond.laysFinal "HatRankModel" "HatRankModel" "facts" "[I") ∈ lw_all := lw_g (lw_at lw_m6 139 rfl) rfl
theorem q1446 : (Jvm.Cond.soleField "HatRankModel" "facts") ∈ lw_all := lw_g (lw_at lw_m6 140 rfl) rfl
theorem q1447 : (Jvm.Cond.laysFinal "HatRankModel" "HatRankModel" "pile" "[I") ∈ lw_all := lw_g (lw_at lw_m6 141 rfl) rfl
theorem q1448 : (Jvm.Cond.soleField "HatRankModel" "pile") ∈ lw_all := lw_g (lw_at lw_m6 142 rfl) rfl
theorem q1449 : (Jvm.Cond.lays "HatRankModel" "HatRankModel" "hasLaw" "Z") ∈ lw_all := lw_g (lw_at lw_m6 143 rfl) rfl
theorem q1450 : (Jvm.Cond.soleField "HatRankModel" "hasLaw") ∈ lw_all := lw_g (lw_at lw_m6 144 rfl) rfl
theorem q1451 : (Jvm.Cond.laysFinal "HatRankModel" "HatRankModel" "hatsThen" "[I") ∈ lw_all := lw_g (lw_at lw_m6 145 rfl) rfl
theorem q1452 : (Jvm.Cond.soleField "HatRankModel" "hatsThen") ∈ lw_all := lw_g (lw_at lw_m6 146 rfl) rfl
theorem q1453 : (Jvm.Cond.laysFinal "HatRankModel" "HatRankModel" "atThen" "[I") ∈ lw_all := lw_g (lw_at lw_m6 147 rfl) rfl
theorem q1454 : (Jvm.Cond.soleField "HatRankModel" "atThen") ∈ lw_all := lw_g (lw_at lw_m6 148 rfl) rfl
theorem q1455 : (Jvm.Cond.laysFinal "HatRankModel" "HatRankModel" "lyingThen" "[I") ∈ lw_all := lw_g (lw_at lw_m6 149 rfl) rfl
theorem q1456 : (Jvm.Cond.soleField "HatRankModel" "lyingThen") ∈ lw_all := lw_g (lw_at lw_m6 150 rfl) rfl
theorem q1457 : (Jvm.Cond.laysFinal "HatRankModel" "HatRankModel" "landedThen" "[I") ∈ lw_all := lw_g (lw_at lw_m6 151 rfl) rfl
theorem q1458 : (Jvm.Cond.soleField "HatRankModel" "landedThen") ∈ lw_all := lw_g (lw_at lw_m6 152 rfl) rfl
theorem q1459 : (Jvm.Cond.lays "HatRankModel" "HatRankModel" "drawn" "I") ∈ lw_all := lw_g (lw_at lw_m6 153 rfl) rfl
theorem q1460 : (Jvm.Cond.soleField "HatRankModel" "drawn") ∈ lw_all := lw_g (lw_at lw_m6 154 rfl) rfl
theorem q1461 : (Jvm.Cond.laysFinal "HatRankModel" "HatRankModel" "least" "[I") ∈ lw_all := lw_g (lw_at lw_m6 155 rfl) rfl
theorem q1462 : (Jvm.Cond.soleField "HatRankModel" "least") ∈ lw_all := lw_g (lw_at lw_m6 156 rfl) rfl
theorem q1463 : (Jvm.Cond.laysFinal "HatRankModel" "HatRankModel" "keptHats" "[I") ∈ lw_all := lw_g (lw_at lw_m6 157 rfl) rfl
theorem q1464 : (Jvm.Cond.soleField "HatRankModel" "keptHats") ∈ lw_all := lw_g (lw_at lw_m6 158 rfl) rfl
theorem q1465 : (Jvm.Cond.laysFinal "HatRankModel" "HatRankModel" "keptLying" "[I") ∈ lw_all := lw_g (lw_at lw_m6 159 rfl) rfl
theorem q1466 : (Jvm.Cond.soleField "HatRankModel" "keptLying") ∈ lw_all := lw_g (lw_at lw_m6 160 rfl) rfl
theorem q1467 : (Jvm.Cond.lays "HatRankModel" "HatRankModel" "untilHour" "I") ∈ lw_all := lw_g (lw_at lw_m6 161 rfl) rfl
theorem q1468 : (Jvm.Cond.soleField "HatRankModel" "untilHour") ∈ lw_all := lw_g (lw_at lw_m6 162 rfl) rfl
theorem q1469 : (Jvm.Cond.lays "HatRankModel" "HatRankModel" "asked" "I") ∈ lw_all := lw_g (lw_at lw_m6 163 rfl) rfl
theorem q1470 : (Jvm.Cond.soleField "HatRankModel" "asked") ∈ lw_all := lw_g (lw_at lw_m6 164 rfl) rfl
theorem q1471 : (Jvm.Cond.lays "HatRankModel" "HatRankModel" "commandsThen" "J") ∈ lw_all := lw_g (lw_at lw_m6 165 rfl) rfl
theorem q1472 : (Jvm.Cond.soleField "HatRankModel" "commandsThen") ∈ lw_all := lw_g (lw_at lw_m6 166 rfl) rfl
theorem q1473 : (Jvm.Cond.lays "HatRankModel" "HatRankModel" "hatsSum" "J") ∈ lw_all := lw_g (lw_at lw_m6 167 rfl) rfl
theorem q1474 : (Jvm.Cond.soleField "HatRankModel" "hatsSum") ∈ lw_all := lw_g (lw_at lw_m6 168 rfl) rfl
theorem q1475 : (Jvm.Cond.lays "HatRankModel" "HatRankModel" "hasImage" "Z") ∈ lw_all := lw_g (lw_at lw_m6 169 rfl) rfl
theorem q1476 : (Jvm.Cond.soleField "HatRankModel" "hasImage") ∈ lw_all := lw_g (lw_at lw_m6 170 rfl) rfl
theorem q1477 : (Jvm.Cond.lays "HatRankModel" "HatRankModel" "imageNow" "I") ∈ lw_all := lw_g (lw_at lw_m6 171 rfl) rfl
theorem q1478 : (Jvm.Cond.soleField "HatRankModel" "imageNow") ∈ lw_all := lw_g (lw_at lw_m6 172 rfl) rfl
theorem q1479 : (Jvm.Cond.lays "HatRankModel" "HatRankModel" "imagePeople" "I") ∈ lw_all := lw_g (lw_at lw_m6 173 rfl) rfl
theorem q1480 : (Jvm.Cond.soleField "HatRankModel" "imagePeople") ∈ lw_all := lw_g (lw_at lw_m6 174 rfl) rfl
theorem q1481 : (Jvm.Cond.lays "HatRankModel" "HatRankModel" "imagePlaces" "I") ∈ lw_all := lw_g (lw_at lw_m6 175 rfl) rfl
theorem q1482 : (Jvm.Cond.soleField "HatRankModel" "imagePlaces") ∈ lw_all := lw_g (lw_at lw_m6 176 rfl) rfl
theorem q1483 : (Jvm.Cond.laysFinal "HatRankModel" "HatRankModel" "imageHats" "[I") ∈ lw_all := lw_g (lw_at lw_m6 177 rfl) rfl
theorem q1484 : (Jvm.Cond.soleField "HatRankModel" "imageHats") ∈ lw_all := lw_g (lw_at lw_m6 178 rfl) rfl
theorem q1485 : (Jvm.Cond.laysFinal "HatRankModel" "HatRankModel" "imageAt" "[I") ∈ lw_all := lw_g (lw_at lw_m6 179 rfl) rfl
theorem q1486 : (Jvm.Cond.soleField "HatRankModel" "imageAt") ∈ lw_all := lw_g (lw_at lw_m6 180 rfl) rfl
theorem q1487 : (Jvm.Cond.laysFinal "HatRankModel" "HatRankModel" "imageLying" "[I") ∈ lw_all := lw_g (lw_at lw_m6 181 rfl) rfl
theorem q1488 : (Jvm.Cond.soleField "HatRankModel" "imageLying") ∈ lw_all := lw_g (lw_at lw_m6 182 rfl) rfl
theorem q1489 : (Jvm.Cond.lays "HatRankModel" "HatRankModel" "bodies" "I") ∈ lw_all := lw_g (lw_at lw_m6 183 rfl) rfl
theorem q1490 : (Jvm.Cond.soleField "HatRankModel" "bodies") ∈ lw_all := lw_g (lw_at lw_m6 184 rfl) rfl
theorem q1491 : (Jvm.Cond.laysFinal "HatRankModel" "HatRankModel" "kind" "[I") ∈ lw_all := lw_g (lw_at lw_m6 185 rfl) rfl
theorem q1492 : (Jvm.Cond.soleField "HatRankModel" "kind") ∈ lw_all := lw_g (lw_at lw_m6 186 rfl) rfl
theorem q1493 : (Jvm.Cond.lays "HatRankModel" "HatRankModel" "traces" "I") ∈ lw_all := lw_g (lw_at lw_m6 187 rfl) rfl
theorem q1494 : (Jvm.Cond.soleField "HatRankModel" "traces") ∈ lw_all := lw_g (lw_at lw_m6 188 rfl) rfl
theorem q1495 : (Jvm.Cond.laysFinal "HatRankModel" "HatRankModel" "traced" "[I") ∈ lw_all := lw_g (lw_at lw_m6 189 rfl) rfl
theorem q1496 : (Jvm.Cond.soleField "HatRankModel" "traced") ∈ lw_all := lw_g (lw_at lw_m6 190 rfl) rfl
theorem q1497 : (Jvm.Cond.laysFinal "HatRankModel" "HatRankModel" "holds" "[I") ∈ lw_all := lw_g (lw_at lw_m6 191 rfl) rfl
theorem q1498 : (Jvm.Cond.soleField "HatRankModel" "holds") ∈ lw_all := lw_g (lw_at lw_m6 192 rfl) rfl
theorem q1499 : (Jvm.Cond.laysFinal "HatRankModel" "HatRankModel" "size" "[I") ∈ lw_all := lw_g (lw_at lw_m6 193 rfl) rfl
theorem q1500 : (Jvm.Cond.soleField "HatRankModel" "size") ∈ lw_all := lw_g (lw_at lw_m6 194 rfl) rfl
theorem q1501 : (Jvm.Cond.laysFinal "HatRankModel" "HatRankModel" "elements" "[J") ∈ lw_all := lw_g (lw_at lw_m6 195 rfl) rfl
theorem q1502 : (Jvm.Cond.soleField "HatRankModel" "elements") ∈ lw_all := lw_g (lw_at lw_m6 196 rfl) rfl
theorem q1503 : (Jvm.Cond.laysFinal "HatRankModel" "HatRankModel" "shifted" "[J") ∈ lw_all := lw_g (lw_at lw_m6 197 rfl) rfl
theorem q1504 : (Jvm.Cond.soleField "HatRankModel" "shifted") ∈ lw_all := lw_g (lw_at lw_m6 198 rfl) rfl
theorem q1505 : (Jvm.Cond.superclass "HatRankModel" "java/lang/Object") ∈ lw_all := lw_g (lw_at lw_m6 199 rfl) rfl
theorem q1507 : (Jvm.Cond.instanceMethod ({ cls := "HatRankModel", name := "place", desc := "(I)I" } : Jvm.MethodName)) ∈ lw_all := lw_g (lw_at lw_m6 201 rfl) rfl
theorem q1508 : (Jvm.Cond.selects "HatRankModel" ({ cls := "HatRankModel", name := "place", desc := "(I)I" } : Jvm.MethodName) ({ cls := "HatRankModel", name := "place", desc := "(I)I" } : Jvm.MethodName)) ∈ lw_all := lw_g (lw_at lw_m6 202 rfl) rfl
theorem q1509 : (Jvm.Cond.code ({ cls := "HatRankModel", name := "place", desc := "(I)I" } : Jvm.MethodName) prog_26_method_7_code (2 : Nat) (Option.some Jvm.ClassFile.FieldType.int)) ∈ lw_all := lw_g (lw_at lw_m6 203 rfl) rfl
theorem q1510 : (Jvm.Cond.methodLink "HatRankModel" (134 : Nat) ({ cls := "HatRankModel", name := "in", desc := "(III)Z" } : Jvm.MethodName)) ∈ lw_all := lw_g (lw_at lw_m6 204 rfl) rfl
theorem q1511 : (Jvm.Cond.static ({ cls := "HatRankModel", name := "in", desc := "(III)Z" } : Jvm.MethodName)) ∈ lw_all := lw_g (lw_at lw_m6 205 rfl) rfl
theorem q1512 : (Jvm.Cond.code ({ cls := "HatRankModel", name := "in", desc := "(III)Z" } : Jvm.MethodName) prog_26_method_3_code (3 : Nat) (Option.some Jvm.ClassFile.FieldType.boolean)) ∈ lw_all := lw_g (lw_at lw_m6 206 rfl) rfl
theorem q1514 : (Jvm.Cond.instanceMethod ({ cls := "HatRankModel", name := "way", desc := "(I)I" } : Jvm.MethodName)) ∈ lw_all := lw_g (lw_at lw_m6 208 rfl) rfl
theorem q1515 : (Jvm.Cond.selects "HatRankModel" ({ cls := "HatRankModel", name := "way", desc := "(I)I" } : Jvm.MethodName) ({ cls := "HatRankModel", name := "way", desc := "(I)I" } : Jvm.MethodName)) ∈ lw_all := lw_g (lw_at lw_m6 209 rfl) rfl
theorem q1516 : (Jvm.Cond.code ({ cls := "HatRankModel", name := "way", desc := "(I)I" } : Jvm.MethodName) prog_26_method_9_code (2 : Nat) (Option.some Jvm.ClassFile.FieldType.int)) ∈ lw_all := lw_g (lw_at lw_m6 210 rfl) rfl
theorem q1517 : (Jvm.Cond.methodLink "HatRankModel" (144 : Nat) ({ cls := "HatRankModel", name := "isPlace", desc := "(I)Z" } : Jvm.MethodName)) ∈ lw_all := lw_g (lw_at lw_m6 211 rfl) rfl
theorem q1518 : (Jvm.Cond.privateMethod ({ cls := "HatRankModel", name := "isPlace", desc := "(I)Z" } : Jvm.MethodName)) ∈ lw_tbl := lw_at lw_m6 212 rfl
theorem q1519 : (Jvm.Cond.instanceMethod ({ cls := "HatRankModel", name := "isPlace", desc := "(I)Z" } : Jvm.MethodName)) ∈ lw_all := lw_g (lw_at lw_m6 213 rfl) rfl
theorem q1520 : (Jvm.Cond.code ({ cls := "HatRankModel", name := "isPlace", desc := "(I)Z" } : Jvm.MethodName) prog_26_method_4_code (2 : Nat) (Option.some Jvm.ClassFile.FieldType.boolean)) ∈ lw_all := lw_g (lw_at lw_m6 214 rfl) rfl
theorem q1521 : (Jvm.Cond.methodLink "HatRankModel" (148 : Nat) ({ cls := "HatRankModel", name := "isWay", desc := "(II)Z" } : Jvm.MethodName)) ∈ lw_all := lw_g (lw_at lw_m6 215 rfl) rfl
theorem q1522 : (Jvm.Cond.privateMethod ({ cls := "HatRankModel", name := "isWay", desc := "(II)Z" } : Jvm.MethodName)) ∈ lw_tbl := lw_at lw_m6 216 rfl
theorem q1523 : (Jvm.Cond.instanceMethod ({ cls := "HatRankModel", name := "isWay", desc := "(II)Z" } : Jvm.MethodName)) ∈ lw_all := lw_g (lw_at lw_m6 217 rfl) rfl
theorem q1524 : (Jvm.Cond.code ({ cls := "HatRankModel", name := "isWay", desc := "(II)Z" } : Jvm.MethodName) prog_26_method_8_code (4 : Nat) (Option.some Jvm.ClassFile.FieldType.boolean)) ∈ lw_all := lw_g (lw_at lw_m6 218 rfl) rfl
theorem q1526 : (Jvm.Cond.instanceMethod ({ cls := "HatRankModel", name := "person", desc := "(II)I" } : Jvm.MethodName)) ∈ lw_all := lw_g (lw_at lw_m6 220 rfl) rfl
theorem q1527 : (Jvm.Cond.selects "HatRankModel" ({ cls := "HatRankModel", name := "person", desc := "(II)I" } : Jvm.MethodName) ({ cls := "HatRankModel", name := "person", desc := "(II)I" } : Jvm.MethodName)) ∈ lw_all := lw_g (lw_at lw_m6 221 rfl) rfl
theorem q1528 : (Jvm.Cond.code ({ cls := "HatRankModel", name := "person", desc := "(II)I" } : Jvm.MethodName) prog_26_method_11_code (3 : Nat) (Option.some Jvm.ClassFile.FieldType.int)) ∈ lw_all := lw_g (lw_at lw_m6 222 rfl) rfl
theorem q1529 : (Jvm.Cond.methodLink "HatRankModel" (152 : Nat) ({ cls := "HatRankModel", name := "addPerson", desc := "(III)I" } : Jvm.MethodName)) ∈ lw_all := lw_g (lw_at lw_m6 223 rfl) rfl
theorem q1530 : (Jvm.Cond.privateMethod ({ cls := "HatRankModel", name := "addPerson", desc := "(III)I" } : Jvm.MethodName)) ∈ lw_tbl := lw_at lw_m6 224 rfl
theorem q1531 : (Jvm.Cond.instanceMethod ({ cls := "HatRankModel", name := "addPerson", desc := "(III)I" } : Jvm.MethodName)) ∈ lw_all := lw_g (lw_at lw_m6 225 rfl) rfl
theorem q1532 : (Jvm.Cond.code ({ cls := "HatRankModel", name := "addPerson", desc := "(III)I" } : Jvm.MethodName) prog_26_method_10_code (4 : Nat) (Option.some Jvm.ClassFile.FieldType.int)) ∈ lw_all := lw_g (lw_at lw_m6 226 rfl) rfl
theorem q1534 : (Jvm.Cond.instanceMethod ({ cls := "HatRankModel", name := "people", desc := "(III)I" } : Jvm.MethodName)) ∈ lw_all := lw_g (lw_at lw_m6 228 rfl) rfl
theorem q1535 : (Jvm.Cond.selects "HatRankModel" ({ cls := "HatRankModel", name := "people", desc := "(III)I" } : Jvm.MethodName) ({ cls := "HatRankModel", name := "people", desc := "(III)I" } : Jvm.MethodName)) ∈ lw_all := lw_g (lw_at lw_m6 229 rfl) rfl
theorem q1536 : (Jvm.Cond.code ({ cls := "HatRankModel", name := "people", desc := "(III)I" } : Jvm.MethodName) prog_26_method_12_code (8 : Nat) (Option.some Jvm.ClassFile.FieldType.int)) ∈ lw_all := lw_g (lw_at lw_m6 230 rfl) rfl
theorem q1537 : (Jvm.Cond.methodLink "HatRankModel" (156 : Nat) ({ cls := "HatRankModel", name := "isShelf", desc := "(I)Z" } : Jvm.MethodName)) ∈ lw_all := lw_g (lw_at lw_m6 231 rfl) rfl
theorem q1538 : (Jvm.Cond.static ({ cls := "HatRankModel", name := "isShelf", desc := "(I)Z" } : Jvm.MethodName)) ∈ lw_all := lw_g (lw_at lw_m6 232 rfl) rfl
theorem q1539 : (Jvm.Cond.code ({ cls := "HatRankModel", name := "isShelf", desc := "(I)Z" } : Jvm.MethodName) prog_26_method_94_code (1 : Nat) (Option.some Jvm.ClassFile.FieldType.boolean)) ∈ lw_all := lw_g (lw_at lw_m6 233 rfl) rfl
theorem q1540 : (Jvm.Cond.constantLong "HatRankModel" (159 : Nat) (2 : Int64)) ∈ lw_all := lw_g (lw_at lw_m6 234 rfl) rfl
theorem q1542 : (Jvm.Cond.instanceMethod ({ cls := "HatRankModel", name := "undo", desc := "()I" } : Jvm.MethodName)) ∈ lw_all := lw_g (lw_at lw_m6 236 rfl) rfl
theorem q1543 : (Jvm.Cond.selects "HatRankModel" ({ cls := "HatRankModel", name := "undo", desc := "()I" } : Jvm.MethodName) ({ cls := "HatRankModel", name := "undo", desc := "()I" } : Jvm.MethodName)) ∈ lw_all := lw_g (lw_at lw_m6 237 rfl) rfl
theorem q1544 : (Jvm.Cond.code ({ cls := "HatRankModel", name := "undo", desc := "()I" } : Jvm.MethodName) prog_26_method_16_code (1 : Nat) (Option.some Jvm.ClassFile.FieldType.int)) ∈ lw_all := lw_g (lw_at lw_m6 238 rfl) rfl
theorem q1545 : (Jvm.Cond.methodLink "HatRankModel" (171 : Nat) ({ cls := "HatRankModel", name := "lays", desc := "(III)V" } : Jvm.MethodName)) ∈ lw_all := lw_g (lw_at lw_m6 239 rfl) rfl
theorem q1546 : (Jvm.Cond.privateMethod ({ cls := "HatRankModel", name := "lays", desc := "(III)V" } : Jvm.MethodName)) ∈ lw_tbl := lw_at lw_m7 0 rfl
theorem q1547 : (Jvm.Cond.instanceMethod ({ cls := "HatRankModel", name := "lays", desc := "(III)V" } : Jvm.MethodName)) ∈ lw_all := lw_g (lw_at lw_m7 1 rfl) rfl
theorem q1548 : (Jvm.Cond.code ({ cls := "HatRankModel", name := "lays", desc := "(III)V" } : Jvm.MethodName) prog_26_method_14_code (4 : Nat) (Option.none : Option Jvm.ClassFile.FieldType)) ∈ lw_all := lw_g (lw_at lw_m7 2 rfl) rfl
theorem q1550 : (Jvm.Cond.instanceMethod ({ cls := "HatRankModel", name := "redo", desc := "()I" } : Jvm.MethodName)) ∈ lw_all := lw_g (lw_at lw_m7 4 rfl) rfl
theorem q1551 : (Jvm.Cond.selects "HatRankModel" ({ cls := "HatRankModel", name := "redo", desc := "()I" } : Jvm.MethodName) ({ cls := "HatRankModel", name := "redo", desc := "()I" } : Jvm.MethodName)) ∈ lw_all := lw_g (lw_at lw_m7 5 rfl) rfl
theorem q1552 : (Jvm.Cond.code ({ cls := "HatRankModel", name := "redo", desc := "()I" } : Jvm.MethodName) prog_26_method_17_code (1 : Nat) (Option.some Jvm.ClassFile.FieldType.int)) ∈ lw_all := lw_g (lw_at lw_m7 6 rfl) rfl
theorem q1554 : (Jvm.Cond.instanceMethod ({ cls := "HatRankModel", name := "mend", desc := "(III)I" } : Jvm.MethodName)) ∈ lw_all := lw_g (lw_at lw_m7 8 rfl) rfl
theorem q1555 : (Jvm.Cond.selects "HatRankModel" ({ cls := "HatRankModel", name := "mend", desc := "(III)I" } : Jvm.MethodName) ({ cls := "HatRankModel", name := "mend", desc := "(III)I" } : Jvm.MethodName)) ∈ lw_all := lw_g (lw_at lw_m7 9 rfl) rfl
theorem q1556 : (Jvm.Cond.code ({ cls := "HatRankModel", name := "mend", desc := "(III)I" } : Jvm.MethodName) prog_26_method_18_code (4 : Nat) (Option.some Jvm.ClassFile.FieldType.int)) ∈ lw_all := lw_g (lw_at lw_m7 10 rfl) rfl
theorem q1557 : (Jvm.Cond.methodLink "HatRankModel" (175 : Nat) ({ cls := "HatRankModel", name := "isPerson", desc := "(I)Z" } : Jvm.MethodName)) ∈ lw_all := lw_g (lw_at lw_m7 11 rfl) rfl
theorem q1558 : (Jvm.Cond.privateMethod ({ cls := "HatRankModel", name := "isPerson", desc := "(I)Z" } : Jvm.MethodName)) ∈ lw_tbl := lw_at lw_m7 12 rfl
theorem q1559 : (Jvm.Cond.instanceMethod ({ cls := "HatRankModel", name := "isPerson", desc := "(I)Z" } : Jvm.MethodName)) ∈ lw_all := lw_g (lw_at lw_m7 13 rfl) rfl
theorem q1560 : (Jvm.Cond.code ({ cls := "HatRankModel", name := "isPerson", desc := "(I)Z" } : Jvm.MethodName) prog_26_method_5_code (2 : Nat) (Option.some Jvm.ClassFile.FieldType.boolean)) ∈ lw_all := lw_g (lw_at lw_m7 14 rfl) rfl
theorem q1561 : (Jvm.Cond.methodLink "HatRankModel" (178 : Nat) ({ cls := "HatRankModel", name := "changes", desc := "(III)I" } : Jvm.MethodName)) ∈ lw_all := lw_g (lw_at lw_m7 15 rfl) rfl
theorem q1562 : (Jvm.Cond.privateMethod ({ cls := "HatRankModel", name := "changes", desc := "(III)I" } : Jvm.MethodName)) ∈ lw_tbl := lw_at lw_m7 16 rfl
theorem q1563 : (Jvm.Cond.instanceMethod ({ cls := "HatRankModel", name := "changes", desc := "(III)I" } : Jvm.MethodName)) ∈ lw_all := lw_g (lw_at lw_m7 17 rfl) rfl
theorem q1564 : (Jvm.Cond.code ({ cls := "HatRankModel", name := "changes", desc := "(III)I" } : Jvm.MethodName) prog_26_method_15_code (6 : Nat) (Option.some Jvm.ClassFile.FieldType.int)) ∈ lw_all := lw_g (lw_at lw_m7 18 rfl) rfl
theorem q1565 : (Jvm.Cond.methodLink "HatRankModel" (161 : Nat) ({ cls := "HatRankModel", name := "valueAt", desc := "(II)I" } : Jvm.MethodName)) ∈ lw_all := lw_g (lw_at lw_m7 19 rfl) rfl
theorem q1566 : (Jvm.Cond.privateMethod ({ cls := "HatRankModel", name := "valueAt", desc := "(II)I" } : Jvm.MethodName)) ∈ lw_tbl := lw_at lw_m7 20 rfl
theorem q1567 : (Jvm.Cond.instanceMethod ({ cls := "HatRankModel", name := "valueAt", desc := "(II)I" } : Jvm.MethodName)) ∈ lw_all := lw_g (lw_at lw_m7 21 rfl) rfl
theorem q1568 : (Jvm.Cond.code ({ cls := "HatRankModel", name := "valueAt", desc := "(II)I" } : Jvm.MethodName) prog_26_method_13_code (3 : Nat) (Option.some Jvm.ClassFile.FieldType.int)) ∈ lw_all := lw_g (lw_at lw_m7 22 rfl) rfl
theorem q1569 : (Jvm.Cond.methodLink "HatRankModel" (181 : Nat) ({ cls := "HatRankModel", name := "isHour", desc := "(I)Z" } : Jvm.MethodName)) ∈ lw_all := lw_g (lw_at lw_m7 23 rfl) rfl
theorem q1570 : (Jvm.Cond.static ({ cls := "HatRankModel", name := "isHour", desc := "(I)Z" } : Jvm.MethodName)) ∈ lw_all := lw_g (lw_at lw_m7 24 rfl) rfl
theorem q1571 : (Jvm.Cond.code ({ cls := "HatRankModel", name := "isHour", desc := "(I)Z" } : Jvm.MethodName) prog_26_method_6_code (1 : Nat) (Option.some Jvm.ClassFile.FieldType.boolean)) ∈ lw_all := lw_g (lw_at lw_m7 25 rfl) rfl
theorem q1573 : (Jvm.Cond.instanceMethod ({ cls := "HatRankModel", name := "feed", desc := "(I)I" } : Jvm.MethodName)) ∈ lw_all := lw_g (lw_at lw_m7 27 rfl) rfl
theorem q1574 : (Jvm.Cond.selects "HatRankModel" ({ cls := "HatRankModel", name := "feed", desc := "(I)I" } : Jvm.MethodName) ({ cls := "HatRankModel", name := "feed", desc := "(I)I" } : Jvm.MethodName)) ∈ lw_all := lw_g (lw_at lw_m7 28 rfl) rfl
theorem q1575 : (Jvm.Cond.code ({ cls := "HatRankModel", name := "feed", desc := "(I)I" } : Jvm.MethodName) prog_26_method_19_code (2 : Nat) (Option.some Jvm.ClassFile.FieldType.int)) ∈ lw_all := lw_g (lw_at lw_m7 29 rfl) rfl
theorem q1577 : (Jvm.Cond.instanceMethod ({ cls := "HatRankModel", name := "law", desc := "()I" } : Jvm.MethodName)) ∈ lw_all := lw_g (lw_at lw_m7 31 rfl) rfl
theorem q1578 : (Jvm.Cond.selects "HatRankModel" ({ cls := "HatRankModel", name := "law", desc := "()I" } : Jvm.MethodName) ({ cls := "HatRankModel", name := "law", desc := "()I" } : Jvm.MethodName)) ∈ lw_all := lw_g (lw_at lw_m7 32 rfl) rfl
theorem q1579 : (Jvm.Cond.code ({ cls := "HatRankModel", name := "law", desc := "()I" } : Jvm.MethodName) prog_26_method_37_code (2 : Nat) (Option.some Jvm.ClassFile.FieldType.int)) ∈ lw_all := lw_g (lw_at lw_m7 33 rfl) rfl
theorem q1580 : (Jvm.Cond.methodLink "HatRankModel" (248 : Nat) ({ cls := "HatRankModel", name := "readText", desc := "(I)I" } : Jvm.MethodName)) ∈ lw_all := lw_g (lw_at lw_m7 34 rfl) rfl
theorem q1581 : (Jvm.Cond.privateMethod ({ cls := "HatRankModel", name := "readText", desc := "(I)I" } : Jvm.MethodName)) ∈ lw_tbl := lw_at lw_m7 35 rfl
theorem q1582 : (Jvm.Cond.instanceMethod ({ cls := "HatRankModel", name := "readText", desc := "(I)I" } : Jvm.MethodName)) ∈ lw_all := lw_g (lw_at lw_m7 36 rfl) rfl
theorem q1583 : (Jvm.Cond.code ({ cls := "HatRankModel", name := "readText", desc := "(I)I" } : Jvm.MethodName) prog_26_method_33_code (3 : Nat) (Option.some Jvm.ClassFile.FieldType.int)) ∈ lw_all := lw_g (lw_at lw_m7 37 rfl) rfl
theorem q1584 : (Jvm.Cond.methodLink "HatRankModel" (239 : Nat) ({ cls := "HatRankModel", name := "line", desc := "()V" } : Jvm.MethodName)) ∈ lw_all := lw_g (lw_at lw_m7 38 rfl) rfl
theorem q1585 : (Jvm.Cond.privateMethod ({ cls := "HatRankModel", name := "line", desc := "()V" } : Jvm.MethodName)) ∈ lw_tbl := lw_at lw_m7 39 rfl
theorem q1586 : (Jvm.Cond.instanceMethod ({ cls := "HatRankModel", name := "line", desc := "()V" } : Jvm.MethodName)) ∈ lw_all := lw_g (lw_at lw_m7 40 rfl) rfl
theorem q1587 : (Jvm.Cond.code ({ cls := "HatRankModel", name := "line", desc := "()V" } : Jvm.MethodName) prog_26_method_32_code (2 : Nat) (Option.none : Option Jvm.ClassFile.FieldType)) ∈ lw_all := lw_g (lw_at lw_m7 41 rfl) rfl
theorem q1588 : (Jvm.Cond.methodLink "HatRankModel" (221 : Nat) ({ cls := "HatRankModel", name := "either", desc := "()V" } : Jvm.MethodName)) ∈ lw_all := lw_g (lw_at lw_m7 42 rfl) rfl
theorem q1589 : (Jvm.Cond.privateMethod ({ cls := "HatRankModel", name := "either", desc := "()V" } : Jvm.MethodName)) ∈ lw_tbl := lw_at lw_m7 43 rfl
theorem q1590 : (Jvm.Cond.instanceMethod ({ cls := "HatRankModel", name := "either", desc := "()V" } : Jvm.MethodName)) ∈ lw_all := lw_g (lw_at lw_m7 44 rfl) rfl
theorem q1591 : (Jvm.Cond.code ({ cls := "HatRankModel", name := "either", desc := "()V" } : Jvm.MethodName) prog_26_method_31_code (1 : Nat) (Option.none : Option Jvm.ClassFile.FieldType)) ∈ lw_all := lw_g (lw_at lw_m7 45 rfl) rfl
theorem q1592 : (Jvm.Cond.methodLink "HatRankModel" (236 : Nat) ({ cls := "HatRankModel", name := "both", desc := "()V" } : Jvm.MethodName)) ∈ lw_all := lw_g (lw_at lw_m7 46 rfl) rfl
theorem q1593 : (Jvm.Cond.privateMethod ({ cls := "HatRankModel", name := "both", desc := "()V" } : Jvm.MethodName)) ∈ lw_tbl := lw_at lw_m7 47 rfl
theorem q1594 : (Jvm.Cond.instanceMethod ({ cls := "HatRankModel", name := "both", desc := "()V" } : Jvm.MethodName)) ∈ lw_all := lw_g (lw_at lw_m7 48 rfl) rfl
theorem q1595 : (Jvm.Cond.code ({ cls := "HatRankModel", name := "both", desc := "()V" } : Jvm.MethodName) prog_26_method_30_code (1 : Nat) (Option.none : Option Jvm.ClassFile.FieldType)) ∈ lw_all := lw_g (lw_at lw_m7 49 rfl) rfl
theorem q1596 : (Jvm.Cond.methodLink "HatRankModel" (233 : Nat) ({ cls := "HatRankModel", name := "compared", desc := "()V" } : Jvm.MethodName)) ∈ lw_all := lw_g (lw_at lw_m7 50 rfl) rfl
theorem q1597 : (Jvm.Cond.privateMethod ({ cls := "HatRankModel", name := "compared", desc := "()V" } : Jvm.MethodName)) ∈ lw_tbl := lw_at lw_m7 51 rfl
theorem q1598 : (Jvm.Cond.instanceMethod ({ cls := "HatRankModel", name := "compared", desc := "()V" } : Jvm.MethodName)) ∈ lw_all := lw_g (lw_at lw_m7 52 rfl) rfl
theorem q1599 : (Jvm.Cond.code ({ cls := "HatRankModel", name := "compared", desc := "()V" } : Jvm.MethodName) prog_26_method_29_code (2 : Nat) (Option.none : Option Jvm.ClassFile.FieldType)) ∈ lw_all := lw_g (lw_at lw_m7 53 rfl) rfl
theorem q1600 : (Jvm.Cond.methodLink "HatRankModel" (230 : Nat) ({ cls := "HatRankModel", name := "sum", desc := "()V" } : Jvm.MethodName)) ∈ lw_all := lw_g (lw_at lw_m7 54 rfl) rfl
theorem q1601 : (Jvm.Cond.privateMethod ({ cls := "HatRankModel", name := "sum", desc := "()V" } : Jvm.MethodName)) ∈ lw_tbl := lw_at lw_m7 55 rfl
theorem q1602 : (Jvm.Cond.instanceMethod ({ cls := "HatRankModel", name := "sum", desc := "()V" } : Jvm.MethodName)) ∈ lw_all := lw_g (lw_at lw_m7 56 rfl) rfl
theorem q1603 : (Jvm.Cond.code ({ cls := "HatRankModel", name := "sum", desc := "()V" } : Jvm.MethodName) prog_26_method_28_code (2 : Nat) (Option.none : Option Jvm.ClassFile.FieldType)) ∈ lw_all := lw_g (lw_at lw_m7 57 rfl) rfl
theorem q1604 : (Jvm.Cond.methodLink "HatRankModel" (227 : Nat) ({ cls := "HatRankModel", name := "product", desc := "()V" } : Jvm.MethodName)) ∈ lw_all := lw_g (lw_at lw_m7 58 rfl) rfl
theorem q1605 : (Jvm.Cond.privateMethod ({ cls := "HatRankModel", name := "product", desc := "()V" } : Jvm.MethodName)) ∈ lw_tbl := lw_at lw_m7 59 rfl
theorem q1606 : (Jvm.Cond.instanceMethod ({ cls := "HatRankModel", name := "product", desc := "()V" } : Jvm.MethodName)) ∈ lw_all := lw_g (lw_at lw_m7 60 rfl) rfl
theorem q1607 : (Jvm.Cond.code ({ cls := "HatRankModel", name := "product", desc := "()V" } : Jvm.MethodName) prog_26_method_27_code (2 : Nat) (Option.none : Option Jvm.ClassFile.FieldType)) ∈ lw_all := lw_g (lw_at lw_m7 61 rfl) rfl
theorem q1608 : (Jvm.Cond.methodLink "HatRankModel" (218 : Nat) ({ cls := "HatRankModel", name := "operand", desc := "()V" } : Jvm.MethodName)) ∈ lw_all := lw_g (lw_at lw_m7 62 rfl) rfl
theorem q1609 : (Jvm.Cond.privateMethod ({ cls := "HatRankModel", name := "operand", desc := "()V" } : Jvm.MethodName)) ∈ lw_tbl := lw_at lw_m7 63 rfl
theorem q1610 : (Jvm.Cond.instanceMethod ({ cls := "HatRankModel", name := "operand", desc := "()V" } : Jvm.MethodName)) ∈ lw_all := lw_g (lw_at lw_m7 64 rfl) rfl
theorem q1611 : (Jvm.Cond.code ({ cls := "HatRankModel", name := "operand", desc := "()V" } : Jvm.MethodName) prog_26_method_26_code (2 : Nat) (Option.none : Option Jvm.ClassFile.FieldType)) ∈ lw_all := lw_g (lw_at lw_m7 65 rfl) rfl
theorem q1612 : (Jvm.Cond.methodLink "HatRankModel" (202 : Nat) ({ cls := "HatRankModel", name := "look", desc := "()I" } : Jvm.MethodName)) ∈ lw_all := lw_g (lw_at lw_m7 66 rfl) rfl
theorem q1613 : (Jvm.Cond.privateMethod ({ cls := "HatRankModel", name := "look", desc := "()I" } : Jvm.MethodName)) ∈ lw_tbl := lw_at lw_m7 67 rfl
theorem q1614 : (Jvm.Cond.instanceMethod ({ cls := "HatRankModel", name := "look", desc := "()I" } : Jvm.MethodName)) ∈ lw_all := lw_g (lw_at lw_m7 68 rfl) rfl
theorem q1615 : (Jvm.Cond.code ({ cls := "HatRankModel", name := "look", desc := "()I" } : Jvm.MethodName) prog_26_method_20_code (1 : Nat) (Option.some Jvm.ClassFile.FieldType.int)) ∈ lw_all := lw_g (lw_at lw_m7 69 rfl) rfl
theorem q1616 : (Jvm.Cond.methodLink "HatRankModel" (210 : Nat) ({ cls := "HatRankModel", name := "nameOf", desc := "(I)I" } : Jvm.MethodName)) ∈ lw_all := lw_g (lw_at lw_m7 70 rfl) rfl
theorem q1617 : (Jvm.Cond.static ({ cls := "HatRankModel", name := "nameOf", desc := "(I)I" } : Jvm.MethodName)) ∈ lw_all := lw_g (lw_at lw_m7 71 rfl) rfl
theorem q1618 : (Jvm.Cond.code ({ cls := "HatRankModel", name := "nameOf", desc := "(I)I" } : Jvm.MethodName) prog_26_method_23_code (1 : Nat) (Option.some Jvm.ClassFile.FieldType.int)) ∈ lw_all := lw_g (lw_at lw_m7 72 rfl) rfl
theorem q1619 : (Jvm.Cond.methodLink "HatRankModel" (206 : Nat) ({ cls := "HatRankModel", name := "addStep", desc := "(II)V" } : Jvm.MethodName)) ∈ lw_all := lw_g (lw_at lw_m7 73 rfl) rfl
theorem q1620 : (Jvm.Cond.privateMethod ({ cls := "HatRankModel", name := "addStep", desc := "(II)V" } : Jvm.MethodName)) ∈ lw_tbl := lw_at lw_m7 74 rfl
theorem q1621 : (Jvm.Cond.instanceMethod ({ cls := "HatRankModel", name := "addStep", desc := "(II)V" } : Jvm.MethodName)) ∈ lw_all := lw_g (lw_at lw_m7 75 rfl) rfl
theorem q1622 : (Jvm.Cond.code ({ cls := "HatRankModel", name := "addStep", desc := "(II)V" } : Jvm.MethodName) prog_26_method_22_code (3 : Nat) (Option.none : Option Jvm.ClassFile.FieldType)) ∈ lw_all := lw_g (lw_at lw_m7 76 rfl) rfl
theorem q1623 : (Jvm.Cond.methodLink "HatRankModel" (214 : Nat) ({ cls := "HatRankModel", name := "opens", desc := "()Z" } : Jvm.MethodName)) ∈ lw_all := lw_g (lw_at lw_m7 77 rfl) rfl
theorem q1624 : (Jvm.Cond.privateMethod ({ cls := "HatRankModel", name := "opens", desc := "()Z" } : Jvm.MethodName)) ∈ lw_tbl := lw_at lw_m7 78 rfl
theorem q1625 : (Jvm.Cond.instanceMethod ({ cls := "HatRankModel", name := "opens", desc := "()Z" } : Jvm.MethodName)) ∈ lw_all := lw_g (lw_at lw_m7 79 rfl) rfl
theorem q1626 : (Jvm.Cond.code ({ cls := "HatRankModel", name := "opens", desc := "()Z" } : Jvm.MethodName) prog_26_method_24_code (1 : Nat) (Option.some Jvm.ClassFile.FieldType.boolean)) ∈ lw_all := lw_g (lw_at lw_m7 80 rfl) rfl
theorem q1627 : (Jvm.Cond.methodLink "HatRankModel" (199 : Nat) ({ cls := "HatRankModel", name := "faulty", desc := "()V" } : Jvm.MethodName)) ∈ lw_all := lw_g (lw_at lw_m7 81 rfl) rfl
theorem q1628 : (Jvm.Cond.privateMethod ({ cls := "HatRankModel", name := "faulty", desc := "()V" } : Jvm.MethodName)) ∈ lw_tbl := lw_at lw_m7 82 rfl
theorem q1629 : (Jvm.Cond.instanceMethod ({ cls := "HatRankModel", name := "faulty", desc := "()V" } : Jvm.MethodName)) ∈ lw_all := lw_g (lw_at lw_m7 83 rfl) rfl
theorem q1630 : (Jvm.Cond.code ({ cls := "HatRankModel", name := "faulty", desc := "()V" } : Jvm.MethodName) prog_26_method_21_code (1 : Nat) (Option.none : Option Jvm.ClassFile.FieldType)) ∈ lw_all := lw_g (lw_at lw_m7 84 rfl) rfl
theorem q1631 : (Jvm.Cond.methodLink "HatRankModel" (224 : Nat) ({ cls := "HatRankModel", name := "figure", desc := "()V" } : Jvm.MethodName)) ∈ lw_all := lw_g (lw_at lw_m7 85 rfl) rfl
theorem q1632 : (Jvm.Cond.privateMethod ({ cls := "HatRankModel", name := "figure", desc := "()V" } : Jvm.MethodName)) ∈ lw_tbl := lw_at lw_m7 86 rfl
theorem q1633 : (Jvm.Cond.instanceMethod ({ cls := "HatRankModel", name := "figure", desc := "()V" } : Jvm.MethodName)) ∈ lw_all := lw_g (lw_at lw_m7 87 rfl) rfl
theorem q1634 : (Jvm.Cond.code ({ cls := "HatRankModel", name := "figure", desc := "()V" } : Jvm.MethodName) prog_26_method_25_code (3 : Nat) (Option.none : Option Jvm.ClassFile.FieldType)) ∈ lw_all := lw_g (lw_at lw_m7 88 rfl) rfl
theorem q1636 : (Jvm.Cond.instanceMethod ({ cls := "HatRankModel", name := "of", desc := "(II)I" } : Jvm.MethodName)) ∈ lw_all := lw_g (lw_at lw_m7 90 rfl) rfl
theorem q1637 : (Jvm.Cond.selects "HatRankModel" ({ cls := "HatRankModel", name := "of", desc := "(II)I" } : Jvm.MethodName) ({ cls := "HatRankModel", name := "of", desc := "(II)I" } : Jvm.MethodName)) ∈ lw_all := lw_g (lw_at lw_m7 91 rfl) rfl
theorem q1638 : (Jvm.Cond.code ({ cls := "HatRankModel", name := "of", desc := "(II)I" } : Jvm.MethodName) prog_26_method_44_code (3 : Nat) (Option.some Jvm.ClassFile.FieldType.int)) ∈ lw_all := lw_g (lw_at lw_m7 92 rfl) rfl
theorem q1639 : (Jvm.Cond.methodLink "HatRankModel" (268 : Nat) ({ cls := "HatRankModel", name := "rankOf", desc := "(I[I)I" } : Jvm.MethodName)) ∈ lw_all := lw_g (lw_at lw_m7 93 rfl) rfl
theorem q1640 : (Jvm.Cond.privateMethod ({ cls := "HatRankModel", name := "rankOf", desc := "(I[I)I" } : Jvm.MethodName)) ∈ lw_tbl := lw_at lw_m7 94 rfl
theorem q1641 : (Jvm.Cond.instanceMethod ({ cls := "HatRankModel", name := "rankOf", desc := "(I[I)I" } : Jvm.MethodName)) ∈ lw_all := lw_g (lw_at lw_m7 95 rfl) rfl
theorem q1642 : (Jvm.Cond.code ({ cls := "HatRankModel", name := "rankOf", desc := "(I[I)I" } : Jvm.MethodName) prog_26_method_42_code (5 : Nat) (Option.some Jvm.ClassFile.FieldType.int)) ∈ lw_all := lw_g (lw_at lw_m7 96 rfl) rfl
theorem q1643 : (Jvm.Cond.methodLink "HatRankModel" (275 : Nat) ({ cls := "HatRankModel", name := "think", desc := "()V" } : Jvm.MethodName)) ∈ lw_all := lw_g (lw_at lw_m7 97 rfl) rfl
theorem q1644 : (Jvm.Cond.privateMethod ({ cls := "HatRankModel", name := "think", desc := "()V" } : Jvm.MethodName)) ∈ lw_tbl := lw_at lw_m7 98 rfl
theorem q1645 : (Jvm.Cond.instanceMethod ({ cls := "HatRankModel", name := "think", desc := "()V" } : Jvm.MethodName)) ∈ lw_all := lw_g (lw_at lw_m7 99 rfl) rfl
theorem q1646 : (Jvm.Cond.code ({ cls := "HatRankModel", name := "think", desc := "()V" } : Jvm.MethodName) prog_26_method_39_code (2 : Nat) (Option.none : Option Jvm.ClassFile.FieldType)) ∈ lw_all := lw_g (lw_at lw_m7 100 rfl) rfl
theorem q1647 : (Jvm.Cond.methodLink "HatRankModel" (278 : Nat) ({ cls := "HatRankModel", name := "falls", desc := "(II)I" } : Jvm.MethodName)) ∈ lw_all := lw_g (lw_at lw_m7 101 rfl) rfl
theorem q1648 : (Jvm.Cond.privateMethod ({ cls := "HatRankModel", name := "falls", desc := "(II)I" } : Jvm.MethodName)) ∈ lw_tbl := lw_at lw_m7 102 rfl
theorem q1649 : (Jvm.Cond.instanceMethod ({ cls := "HatRankModel", name := "falls", desc := "(II)I" } : Jvm.MethodName)) ∈ lw_all := lw_g (lw_at lw_m7 103 rfl) rfl
theorem q1650 : (Jvm.Cond.code ({ cls := "HatRankModel", name := "falls", desc := "(II)I" } : Jvm.MethodName) prog_26_method_40_code (3 : Nat) (Option.some Jvm.ClassFile.FieldType.int)) ∈ lw_all := lw_g (lw_at lw_m7 104 rfl) rfl
theorem q1651 : (Jvm.Cond.methodLink "HatRankModel" (258 : Nat) ({ cls := "HatRankModel", name := "fallsBy", desc := "(IIII)I" } : Jvm.MethodName)) ∈ lw_all := lw_g (lw_at lw_m7 105 rfl) rfl
theorem q1652 : (Jvm.Cond.privateMethod ({ cls := "HatRankModel", name := "fallsBy", desc := "(IIII)I" } : Jvm.MethodName)) ∈ lw_tbl := lw_at lw_m7 106 rfl
theorem q1653 : (Jvm.Cond.instanceMethod ({ cls := "HatRankModel", name := "fallsBy", desc := "(IIII)I" } : Jvm.MethodName)) ∈ lw_all := lw_g (lw_at lw_m7 107 rfl) rfl
theorem q1654 : (Jvm.Cond.code ({ cls := "HatRankModel", name := "fallsBy", desc := "(IIII)I" } : Jvm.MethodName) prog_26_method_41_code (9 : Nat) (Option.some Jvm.ClassFile.FieldType.int)) ∈ lw_all := lw_g (lw_at lw_m7 108 rfl) rfl
theorem q1655 : (Jvm.Cond.methodLink "HatRankModel" (262 : Nat) ({ cls := "HatRankModel", name := "gustAt", desc := "(II)I" } : Jvm.MethodName)) ∈ lw_all := lw_g (lw_at lw_m7 109 rfl) rfl
theorem q1656 : (Jvm.Cond.privateMethod ({ cls := "HatRankModel", name := "gustAt", desc := "(II)I" } : Jvm.MethodName)) ∈ lw_tbl := lw_at lw_m7 110 rfl
theorem q1657 : (Jvm.Cond.instanceMethod ({ cls := "HatRankModel", name := "gustAt", desc := "(II)I" } : Jvm.MethodName)) ∈ lw_all := lw_g (lw_at lw_m7 111 rfl) rfl
theorem q1658 : (Jvm.Cond.code ({ cls := "HatRankModel", name := "gustAt", desc := "(II)I" } : Jvm.MethodName) prog_26_method_38_code (4 : Nat) (Option.some Jvm.ClassFile.FieldType.int)) ∈ lw_all := lw_g (lw_at lw_m7 112 rfl) rfl
theorem q1659 : (Jvm.Cond.methodLink "HatRankModel" (265 : Nat) ({ cls := "HatRankModel", name := "gives", desc := "(I)I" } : Jvm.MethodName)) ∈ lw_all := lw_g (lw_at lw_m7 113 rfl) rfl
theorem q1660 : (Jvm.Cond.privateMethod ({ cls := "HatRankModel", name := "gives", desc := "(I)I" } : Jvm.MethodName)) ∈ lw_tbl := lw_at lw_m7 114 rfl
theorem q1661 : (Jvm.Cond.instanceMethod ({ cls := "HatRankModel", name := "gives", desc := "(I)I" } : Jvm.MethodName)) ∈ lw_all := lw_g (lw_at lw_m7 115 rfl) rfl
theorem q1662 : (Jvm.Cond.code ({ cls := "HatRankModel", name := "gives", desc := "(I)I" } : Jvm.MethodName) prog_26_method_36_code (4 : Nat) (Option.some Jvm.ClassFile.FieldType.int)) ∈ lw_all := lw_g (lw_at lw_m7 116 rfl) rfl
theorem q1663 : (Jvm.Cond.methodLink "HatRankModel" (245 : Nat) ({ cls := "HatRankModel", name := "worked", desc := "(III)I" } : Jvm.MethodName)) ∈ lw_all := lw_g (lw_at lw_m7 117 rfl) rfl
theorem q1664 : (Jvm.Cond.privateMethod ({ cls := "HatRankModel", name := "worked", desc := "(III)I" } : Jvm.MethodName)) ∈ lw_tbl := lw_at lw_m7 118 rfl
theorem q1665 : (Jvm.Cond.instanceMethod ({ cls := "HatRankModel", name := "worked", desc := "(III)I" } : Jvm.MethodName)) ∈ lw_all := lw_g (lw_at lw_m7 119 rfl) rfl
theorem q1666 : (Jvm.Cond.code ({ cls := "HatRankModel", name := "worked", desc := "(III)I" } : Jvm.MethodName) prog_26_method_35_code (7 : Nat) (Option.some Jvm.ClassFile.FieldType.int)) ∈ lw_all := lw_g (lw_at lw_m7 120 rfl) rfl
theorem q1667 : (Jvm.Cond.methodLink "HatRankModel" (242 : Nat) ({ cls := "HatRankModel", name := "twoOf", desc := "(III)I" } : Jvm.MethodName)) ∈ lw_all := lw_g (lw_at lw_m7 121 rfl) rfl
theorem q1668 : (Jvm.Cond.static ({ cls := "HatRankModel", name := "twoOf", desc := "(III)I" } : Jvm.MethodName)) ∈ lw_all := lw_g (lw_at lw_m7 122 rfl) rfl
theorem q1669 : (Jvm.Cond.code ({ cls := "HatRankModel", name := "twoOf", desc := "(III)I" } : Jvm.MethodName) prog_26_method_34_code (3 : Nat) (Option.some Jvm.ClassFile.FieldType.int)) ∈ lw_all := lw_g (lw_at lw_m7 123 rfl) rfl
theorem q1671 : (Jvm.Cond.instanceMethod ({ cls := "HatRankModel", name := "go", desc := "(II)I" } : Jvm.MethodName)) ∈ lw_all := lw_g (lw_at lw_m7 125 rfl) rfl
theorem q1672 : (Jvm.Cond.selects "HatRankModel" ({ cls := "HatRankModel", name := "go", desc := "(II)I" } : Jvm.MethodName) ({ cls := "HatRankModel", name := "go", desc := "(II)I" } : Jvm.MethodName)) ∈ lw_all := lw_g (lw_at lw_m7 126 rfl) rfl
theorem q1673 : (Jvm.Cond.code ({ cls := "HatRankModel", name := "go", desc := "(II)I" } : Jvm.MethodName) prog_26_method_49_code (5 : Nat) (Option.some Jvm.ClassFile.FieldType.int)) ∈ lw_all := lw_g (lw_at lw_m7 127 rfl) rfl
theorem q1674 : (Jvm.Cond.methodLink "HatRankModel" (295 : Nat) ({ cls := "HatRankModel", name := "goHour", desc := "(I)I" } : Jvm.MethodName)) ∈ lw_all := lw_g (lw_at lw_m7 128 rfl) rfl
theorem q1675 : (Jvm.Cond.privateMethod ({ cls := "HatRankModel", name := "goHour", desc := "(I)I" } : Jvm.MethodName)) ∈ lw_tbl := lw_at lw_m7 129 rfl
theorem q1676 : (Jvm.Cond.instanceMethod ({ cls := "HatRankModel", name := "goHour", desc := "(I)I" } : Jvm.MethodName)) ∈ lw_all := lw_g (lw_at lw_m7 130 rfl) rfl
theorem q1677 : (Jvm.Cond.code ({ cls := "HatRankModel", name := "goHour", desc := "(I)I" } : Jvm.MethodName) prog_26_method_48_code (4 : Nat) (Option.some Jvm.ClassFile.FieldType.int)) ∈ lw_all := lw_g (lw_at lw_m7 131 rfl) rfl
theorem q1678 : (Jvm.Cond.methodLink "HatRankModel" (284 : Nat) ({ cls := "HatRankModel", name := "takeUp", desc := "()V" } : Jvm.MethodName)) ∈ lw_all := lw_g (lw_at lw_m7 132 rfl) rfl
theorem q1679 : (Jvm.Cond.privateMethod ({ cls := "HatRankModel", name := "takeUp", desc := "()V" } : Jvm.MethodName)) ∈ lw_tbl := lw_at lw_m7 133 rfl
theorem q1680 : (Jvm.Cond.instanceMethod ({ cls := "HatRankModel", name := "takeUp", desc := "()V" } : Jvm.MethodName)) ∈ lw_all := lw_g (lw_at lw_m7 134 rfl) rfl
theorem q1681 : (Jvm.Cond.code ({ cls := "HatRankModel", name := "takeUp", desc := "()V" } : Jvm.MethodName) prog_26_method_45_code (2 : Nat) (Option.none : Option Jvm.ClassFile.FieldType)) ∈ lw_all := lw_g (lw_at lw_m7 135 rfl) rfl
theorem q1682 : (Jvm.Cond.constant "HatRankModel" (290 : Nat) (1103515245 : Int32)) ∈ lw_all := lw_g (lw_at lw_m7 136 rfl) rfl
theorem q1683 : (Jvm.Cond.methodLink "HatRankModel" (291 : Nat) ({ cls := "HatRankModel", name := "fall", desc := "(I)V" } : Jvm.MethodName)) ∈ lw_all := lw_g (lw_at lw_m7 137 rfl) rfl
theorem q1684 : (Jvm.Cond.privateMethod ({ cls := "HatRankModel", name := "fall", desc := "(I)V" } : Jvm.MethodName)) ∈ lw_tbl := lw_at lw_m7 138 rfl
theorem q1685 : (Jvm.Cond.instanceMethod ({ cls := "HatRankModel", name := "fall", desc := "(I)V" } : Jvm.MethodName)) ∈ lw_all := lw_g (lw_at lw_m7 139 rfl) rfl
theorem q1686 : (Jvm.Cond.code ({ cls := "HatRankModel", name := "fall", desc := "(I)V" } : Jvm.MethodName) prog_26_method_47_code (4 : Nat) (Option.none : Option Jvm.ClassFile.FieldType)) ∈ lw_all := lw_g (lw_at lw_m7 140 rfl) rfl
theorem q1687 : (Jvm.Cond.methodLink "HatRankModel" (281 : Nat) ({ cls := "HatRankModel", name := "catcher", desc := "(I)I" } : Jvm.MethodName)) ∈ lw_all := lw_g (lw_at lw_m7 141 rfl) rfl
theorem q1688 : (Jvm.Cond.privateMethod ({ cls := "HatRankModel", name := "catcher", desc := "(I)I" } : Jvm.MethodName)) ∈ lw_tbl := lw_at lw_m7 142 rfl
theorem q1689 : (Jvm.Cond.instanceMethod ({ cls := "HatRankModel", name := "catcher", desc := "(I)I" } : Jvm.MethodName)) ∈ lw_all := lw_g (lw_at lw_m7 143 rfl) rfl
theorem q1690 : (Jvm.Cond.code ({ cls := "HatRankModel", name := "catcher", desc := "(I)I" } : Jvm.MethodName) prog_26_method_46_code (4 : Nat) (Option.some Jvm.ClassFile.FieldType.int)) ∈ lw_all := lw_g (lw_at lw_m7 144 rfl) rfl
theorem q1692 : (Jvm.Cond.instanceMethod ({ cls := "HatRankModel", name := "move", desc := "(II)I" } : Jvm.MethodName)) ∈ lw_all := lw_g (lw_at lw_m7 146 rfl) rfl
theorem q1693 : (Jvm.Cond.selects "HatRankModel" ({ cls := "HatRankModel", name := "move", desc := "(II)I" } : Jvm.MethodName) ({ cls := "HatRankModel", name := "move", desc := "(II)I" } : Jvm.MethodName)) ∈ lw_all := lw_g (lw_at lw_m7 147 rfl) rfl
theorem q1694 : (Jvm.Cond.code ({ cls := "HatRankModel", name := "move", desc := "(II)I" } : Jvm.MethodName) prog_26_method_50_code (3 : Nat) (Option.some Jvm.ClassFile.FieldType.int)) ∈ lw_all := lw_g (lw_at lw_m7 148 rfl) rfl
theorem q1696 : (Jvm.Cond.instanceMethod ({ cls := "HatRankModel", name := "lay", desc := "(I)I" } : Jvm.MethodName)) ∈ lw_all := lw_g (lw_at lw_m7 150 rfl) rfl
theorem q1697 : (Jvm.Cond.selects "HatRankModel" ({ cls := "HatRankModel", name := "lay", desc := "(I)I" } : Jvm.MethodName) ({ cls := "HatRankModel", name := "lay", desc := "(I)I" } : Jvm.MethodName)) ∈ lw_all := lw_g (lw_at lw_m7 151 rfl) rfl
theorem q1698 : (Jvm.Cond.code ({ cls := "HatRankModel", name := "lay", desc := "(I)I" } : Jvm.MethodName) prog_26_method_51_code (2 : Nat) (Option.some Jvm.ClassFile.FieldType.int)) ∈ lw_all := lw_g (lw_at lw_m7 152 rfl) rfl
theorem q1700 : (Jvm.Cond.instanceMethod ({ cls := "HatRankModel", name := "commands", desc := "()I" } : Jvm.MethodName)) ∈ lw_all := lw_g (lw_at lw_m7 154 rfl) rfl
theorem q1701 : (Jvm.Cond.selects "HatRankModel" ({ cls := "HatRankModel", name := "commands", desc := "()I" } : Jvm.MethodName) ({ cls := "HatRankModel", name := "commands", desc := "()I" } : Jvm.MethodName)) ∈ lw_all := lw_g (lw_at lw_m7 155 rfl) rfl
theorem q1702 : (Jvm.Cond.code ({ cls := "HatRankModel", name := "commands", desc := "()I" } : Jvm.MethodName) prog_26_method_52_code (1 : Nat) (Option.some Jvm.ClassFile.FieldType.int)) ∈ lw_all := lw_g (lw_at lw_m7 156 rfl) rfl
theorem q1703 : (Jvm.Cond.methodLink "HatRankModel" (298 : Nat) ({ cls := "HatRankModel", name := "firstOf", desc := "([I)I" } : Jvm.MethodName)) ∈ lw_all := lw_g (lw_at lw_m7 157 rfl) rfl
theorem q1704 : (Jvm.Cond.privateMethod ({ cls := "HatRankModel", name := "firstOf", desc := "([I)I" } : Jvm.MethodName)) ∈ lw_tbl := lw_at lw_m7 158 rfl
theorem q1705 : (Jvm.Cond.instanceMethod ({ cls := "HatRankModel", name := "firstOf", desc := "([I)I" } : Jvm.MethodName)) ∈ lw_all := lw_g (lw_at lw_m7 159 rfl) rfl
theorem q1706 : (Jvm.Cond.code ({ cls := "HatRankModel", name := "firstOf", desc := "([I)I" } : Jvm.MethodName) prog_26_method_43_code (3 : Nat) (Option.some Jvm.ClassFile.FieldType.int)) ∈ lw_all := lw_g (lw_at lw_m7 160 rfl) rfl
theorem q1708 : (Jvm.Cond.instanceMethod ({ cls := "HatRankModel", name := "led", desc := "(I)I" } : Jvm.MethodName)) ∈ lw_all := lw_g (lw_at lw_m7 162 rfl) rfl
theorem q1709 : (Jvm.Cond.selects "HatRankModel" ({ cls := "HatRankModel", name := "led", desc := "(I)I" } : Jvm.MethodName) ({ cls := "HatRankModel", name := "led", desc := "(I)I" } : Jvm.MethodName)) ∈ lw_all := lw_g (lw_at lw_m7 163 rfl) rfl
theorem q1710 : (Jvm.Cond.code ({ cls := "HatRankModel", name := "led", desc := "(I)I" } : Jvm.MethodName) prog_26_method_53_code (2 : Nat) (Option.some Jvm.ClassFile.FieldType.int)) ∈ lw_all := lw_g (lw_at lw_m7 164 rfl) rfl
theorem q1712 : (Jvm.Cond.instanceMethod ({ cls := "HatRankModel", name := "risk", desc := "(II)I" } : Jvm.MethodName)) ∈ lw_all := lw_g (lw_at lw_m7 166 rfl) rfl
theorem q1713 : (Jvm.Cond.selects "HatRankModel" ({ cls := "HatRankModel", name := "risk", desc := "(II)I" } : Jvm.MethodName) ({ cls := "HatRankModel", name := "risk", desc := "(II)I" } : Jvm.MethodName)) ∈ lw_all := lw_g (lw_at lw_m7 167 rfl) rfl
theorem q1714 : (Jvm.Cond.code ({ cls := "HatRankModel", name := "risk", desc := "(II)I" } : Jvm.MethodName) prog_26_method_57_code (4 : Nat) (Option.some Jvm.ClassFile.FieldType.int)) ∈ lw_all := lw_g (lw_at lw_m7 168 rfl) rfl
theorem q1715 : (Jvm.Cond.methodLink "HatRankModel" (306 : Nat) ({ cls := "HatRankModel", name := "isWalk", desc := "(II)Z" } : Jvm.MethodName)) ∈ lw_all := lw_g (lw_at lw_m7 169 rfl) rfl
theorem q1716 : (Jvm.Cond.privateMethod ({ cls := "HatRankModel", name := "isWalk", desc := "(II)Z" } : Jvm.MethodName)) ∈ lw_tbl := lw_at lw_m7 170 rfl
theorem q1717 : (Jvm.Cond.instanceMethod ({ cls := "HatRankModel", name := "isWalk", desc := "(II)Z" } : Jvm.MethodName)) ∈ lw_all := lw_g (lw_at lw_m7 171 rfl) rfl
theorem q1718 : (Jvm.Cond.code ({ cls := "HatRankModel", name := "isWalk", desc := "(II)Z" } : Jvm.MethodName) prog_26_method_56_code (3 : Nat) (Option.some Jvm.ClassFile.FieldType.boolean)) ∈ lw_all := lw_g (lw_at lw_m7 172 rfl) rfl
theorem q1719 : (Jvm.Cond.methodLink "HatRankModel" (309 : Nat) ({ cls := "HatRankModel", name := "findRisk", desc := "(III)V" } : Jvm.MethodName)) ∈ lw_all := lw_g (lw_at lw_m7 173 rfl) rfl
theorem q1720 : (Jvm.Cond.privateMethod ({ cls := "HatRankModel", name := "findRisk", desc := "(III)V" } : Jvm.MethodName)) ∈ lw_tbl := lw_at lw_m7 174 rfl
theorem q1721 : (Jvm.Cond.instanceMethod ({ cls := "HatRankModel", name := "findRisk", desc := "(III)V" } : Jvm.MethodName)) ∈ lw_all := lw_g (lw_at lw_m7 175 rfl) rfl
theorem q1722 : (Jvm.Cond.code ({ cls := "HatRankModel", name := "findRisk", desc := "(III)V" } : Jvm.MethodName) prog_26_method_55_code (8 : Nat) (Option.none : Option Jvm.ClassFile.FieldType)) ∈ lw_all := lw_g (lw_at lw_m7 176 rfl) rfl
theorem q1723 : (Jvm.Cond.constant "HatRankModel" (302 : Nat) (1000000 : Int32)) ∈ lw_all := lw_g (lw_at lw_m7 177 rfl) rfl
theorem q1724 : (Jvm.Cond.methodLink "HatRankModel" (303 : Nat) ({ cls := "HatRankModel", name := "mayGo", desc := "(II)Z" } : Jvm.MethodName)) ∈ lw_all := lw_g (lw_at lw_m7 178 rfl) rfl
theorem q1725 : (Jvm.Cond.privateMethod ({ cls := "HatRankModel", name := "mayGo", desc := "(II)Z" } : Jvm.MethodName)) ∈ lw_tbl := lw_at lw_m7 179 rfl
theorem q1726 : (Jvm.Cond.instanceMethod ({ cls := "HatRankModel", name := "mayGo", desc := "(II)Z" } : Jvm.MethodName)) ∈ lw_all := lw_g (lw_at lw_m7 180 rfl) rfl
theorem q1727 : (Jvm.Cond.code ({ cls := "HatRankModel", name := "mayGo", desc := "(II)Z" } : Jvm.MethodName) prog_26_method_54_code (3 : Nat) (Option.some Jvm.ClassFile.FieldType.boolean)) ∈ lw_all := lw_g (lw_at lw_m7 181 rfl) rfl
theorem q1729 : (Jvm.Cond.instanceMethod ({ cls := "HatRankModel", name := "walk", desc := "(III)I" } : Jvm.MethodName)) ∈ lw_all := lw_g (lw_at lw_m7 183 rfl) rfl
theorem q1730 : (Jvm.Cond.selects "HatRankModel" ({ cls := "HatRankModel", name := "walk", desc := "(III)I" } : Jvm.MethodName) ({ cls := "HatRankModel", name := "walk", desc := "(III)I" } : Jvm.MethodName)) ∈ lw_all := lw_g (lw_at lw_m7 184 rfl) rfl
theorem q1731 : (Jvm.Cond.code ({ cls := "HatRankModel", name := "walk", desc := "(III)I" } : Jvm.MethodName) prog_26_method_58_code (8 : Nat) (Option.some Jvm.ClassFile.FieldType.int)) ∈ lw_all := lw_g (lw_at lw_m7 185 rfl) rfl
theorem q1733 : (Jvm.Cond.instanceMethod ({ cls := "HatRankModel", name := "chance", desc := "(III)J" } : Jvm.MethodName)) ∈ lw_all := lw_g (lw_at lw_m7 187 rfl) rfl
theorem q1734 : (Jvm.Cond.selects "HatRankModel" ({ cls := "HatRankModel", name := "chance", desc := "(III)J" } : Jvm.MethodName) ({ cls := "HatRankModel", name := "chance", desc := "(III)J" } : Jvm.MethodName)) ∈ lw_all := lw_g (lw_at lw_m7 188 rfl) rfl
theorem q1735 : (Jvm.Cond.code ({ cls := "HatRankModel", name := "chance", desc := "(III)J" } : Jvm.MethodName) prog_26_method_66_code (4 : Nat) (Option.some Jvm.ClassFile.FieldType.long)) ∈ lw_all := lw_g (lw_at lw_m7 189 rfl) rfl
theorem q1736 : (Jvm.Cond.constantLong "HatRankModel" (347 : Nat) (-9223372036854775808 : Int64)) ∈ lw_all := lw_g (lw_at lw_m7 190 rfl) rfl
theorem q1737 : (Jvm.Cond.constantLong "HatRankModel" (349 : Nat) (-5 : Int64)) ∈ lw_all := lw_g (lw_at lw_m7 191 rfl) rfl
theorem q1738 : (Jvm.Cond.methodLink "HatRankModel" (351 : Nat) ({ cls := "HatRankModel", name := "findChance", desc := "(III)V" } : Jvm.MethodName)) ∈ lw_all := lw_g (lw_at lw_m7 192 rfl) rfl
theorem q1739 : (Jvm.Cond.privateMethod ({ cls := "HatRankModel", name := "findChance", desc := "(III)V" } : Jvm.MethodName)) ∈ lw_tbl := lw_at lw_m7 193 rfl
theorem q1740 : (Jvm.Cond.instanceMethod ({ cls := "HatRankModel", name := "findChance", desc := "(III)V" } : Jvm.MethodName)) ∈ lw_all := lw_g (lw_at lw_m7 194 rfl) rfl
theorem q1741 : (Jvm.Cond.code ({ cls := "HatRankModel", name := "findChance", desc := "(III)V" } : Jvm.MethodName) prog_26_method_62_code (4 : Nat) (Option.none : Option Jvm.ClassFile.FieldType)) ∈ lw_all := lw_g (lw_at lw_m7 195 rfl) rfl
theorem q1742 : (Jvm.Cond.methodLink "HatRankModel" (325 : Nat) ({ cls := "HatRankModel", name := "goThrough", desc := "(IIIJ)V" } : Jvm.MethodName)) ∈ lw_all := lw_g (lw_at lw_m7 196 rfl) rfl
theorem q1743 : (Jvm.Cond.privateMethod ({ cls := "HatRankModel", name := "goThrough", desc := "(IIIJ)V" } : Jvm.MethodName)) ∈ lw_tbl := lw_at lw_m7 197 rfl
theorem q1744 : (Jvm.Cond.instanceMethod ({ cls := "HatRankModel", name := "goThrough", desc := "(IIIJ)V" } : Jvm.MethodName)) ∈ lw_all := lw_g (lw_at lw_m7 198 rfl) rfl
theorem q1745 : (Jvm.Cond.code ({ cls := "HatRankModel", name := "goThrough", desc := "(IIIJ)V" } : Jvm.MethodName) prog_26_method_61_code (7 : Nat) (Option.none : Option Jvm.ClassFile.FieldType)) ∈ lw_all := lw_g (lw_at lw_m7 199 rfl) rfl
theorem q1746 : (Jvm.Cond.constantLong "HatRankModel" (329 : Nat) (12 : Int64)) ∈ lw_all := lw_g (lw_at lw_m7 200 rfl) rfl
theorem q1747 : (Jvm.Cond.methodLink "HatRankModel" (331 : Nat) ({ cls := "HatRankModel", name := "keepThen", desc := "(I)V" } : Jvm.MethodName)) ∈ lw_all := lw_g (lw_at lw_m7 201 rfl) rfl
theorem q1748 : (Jvm.Cond.privateMethod ({ cls := "HatRankModel", name := "keepThen", desc := "(I)V" } : Jvm.MethodName)) ∈ lw_tbl := lw_at lw_m7 202 rfl
theorem q1749 : (Jvm.Cond.instanceMethod ({ cls := "HatRankModel", name := "keepThen", desc := "(I)V" } : Jvm.MethodName)) ∈ lw_all := lw_g (lw_at lw_m7 203 rfl) rfl
theorem q1750 : (Jvm.Cond.code ({ cls := "HatRankModel", name := "keepThen", desc := "(I)V" } : Jvm.MethodName) prog_26_method_59_code (3 : Nat) (Option.none : Option Jvm.ClassFile.FieldType)) ∈ lw_all := lw_g (lw_at lw_m7 204 rfl) rfl
theorem q1751 : (Jvm.Cond.methodLink "HatRankModel" (334 : Nat) ({ cls := "HatRankModel", name := "layBack", desc := "(I)V" } : Jvm.MethodName)) ∈ lw_all := lw_g (lw_at lw_m7 205 rfl) rfl
theorem q1752 : (Jvm.Cond.privateMethod ({ cls := "HatRankModel", name := "layBack", desc := "(I)V" } : Jvm.MethodName)) ∈ lw_tbl := lw_at lw_m7 206 rfl
theorem q1753 : (Jvm.Cond.instanceMethod ({ cls := "HatRankModel", name := "layBack", desc := "(I)V" } : Jvm.MethodName)) ∈ lw_all := lw_g (lw_at lw_m7 207 rfl) rfl
theorem q1754 : (Jvm.Cond.code ({ cls := "HatRankModel", name := "layBack", desc := "(I)V" } : Jvm.MethodName) prog_26_method_60_code (3 : Nat) (Option.none : Option Jvm.ClassFile.FieldType)) ∈ lw_all := lw_g (lw_at lw_m7 208 rfl) rfl
theorem q1755 : (Jvm.Cond.methodLink "HatRankModel" (354 : Nat) ({ cls := "HatRankModel", name := "asPart", desc := "(JII)J" } : Jvm.MethodName)) ∈ lw_all := lw_g (lw_at lw_m7 209 rfl) rfl
theorem q1756 : (Jvm.Cond.privateMethod ({ cls := "HatRankModel", name := "asPart", desc := "(JII)J" } : Jvm.MethodName)) ∈ lw_tbl := lw_at lw_m7 210 rfl
theorem q1757 : (Jvm.Cond.instanceMethod ({ cls := "HatRankModel", name := "asPart", desc := "(JII)J" } : Jvm.MethodName)) ∈ lw_all := lw_g (lw_at lw_m7 211 rfl) rfl
theorem q1758 : (Jvm.Cond.code ({ cls := "HatRankModel", name := "asPart", desc := "(JII)J" } : Jvm.MethodName) prog_26_method_65_code (7 : Nat) (Option.some Jvm.ClassFile.FieldType.long)) ∈ lw_all := lw_g (lw_at lw_m7 212 rfl) rfl
theorem q1759 : (Jvm.Cond.methodLink "HatRankModel" (337 : Nat) ({ cls := "HatRankModel", name := "below", desc := "(I)J" } : Jvm.MethodName)) ∈ lw_all := lw_g (lw_at lw_m7 213 rfl) rfl
theorem q1760 : (Jvm.Cond.privateMethod ({ cls := "HatRankModel", name := "below", desc := "(I)J" } : Jvm.MethodName)) ∈ lw_tbl := lw_at lw_m7 214 rfl
theorem q1761 : (Jvm.Cond.instanceMethod ({ cls := "HatRankModel", name := "below", desc := "(I)J" } : Jvm.MethodName)) ∈ lw_all := lw_g (lw_at lw_m7 215 rfl) rfl
theorem q1762 : (Jvm.Cond.code ({ cls := "HatRankModel", name := "below", desc := "(I)J" } : Jvm.MethodName) prog_26_method_64_code (5 : Nat) (Option.some Jvm.ClassFile.FieldType.long)) ∈ lw_all := lw_g (lw_at lw_m7 216 rfl) rfl
theorem q1763 : (Jvm.Cond.methodLink "HatRankModel" (341 : Nat) ({ cls := "HatRankModel", name := "common", desc := "(JJ)J" } : Jvm.MethodName)) ∈ lw_all := lw_g (lw_at lw_m7 217 rfl) rfl
theorem q1764 : (Jvm.Cond.static ({ cls := "HatRankModel", name := "common", desc := "(JJ)J" } : Jvm.MethodName)) ∈ lw_all := lw_g (lw_at lw_m7 218 rfl) rfl
theorem q1765 : (Jvm.Cond.code ({ cls := "HatRankModel", name := "common", desc := "(JJ)J" } : Jvm.MethodName) prog_26_method_63_code (10 : Nat) (Option.some Jvm.ClassFile.FieldType.long)) ∈ lw_all := lw_g (lw_at lw_m7 219 rfl) rfl
theorem q1767 : (Jvm.Cond.instanceMethod ({ cls := "HatRankModel", name := "mean", desc := "(III)J" } : Jvm.MethodName)) ∈ lw_all := lw_g (lw_at lw_m7 221 rfl) rfl
theorem q1768 : (Jvm.Cond.selects "HatRankModel" ({ cls := "HatRankModel", name := "mean", desc := "(III)J" } : Jvm.MethodName) ({ cls := "HatRankModel", name := "mean", desc := "(III)J" } : Jvm.MethodName)) ∈ lw_all := lw_g (lw_at lw_m7 222 rfl) rfl
theorem q1769 : (Jvm.Cond.code ({ cls := "HatRankModel", name := "mean", desc := "(III)J" } : Jvm.MethodName) prog_26_method_67_code (4 : Nat) (Option.some Jvm.ClassFile.FieldType.long)) ∈ lw_all := lw_g (lw_at lw_m7 223 rfl) rfl
theorem q1771 : (Jvm.Cond.instanceMethod ({ cls := "HatRankModel", name := "stand", desc := "(II)I" } : Jvm.MethodName)) ∈ lw_all := lw_g (lw_at lw_m7 225 rfl) rfl
theorem q1772 : (Jvm.Cond.selects "HatRankModel" ({ cls := "HatRankModel", name := "stand", desc := "(II)I" } : Jvm.MethodName) ({ cls := "HatRankModel", name := "stand", desc := "(II)I" } : Jvm.MethodName)) ∈ lw_all := lw_g (lw_at lw_m7 226 rfl) rfl
theorem q1773 : (Jvm.Cond.code ({ cls := "HatRankModel", name := "stand", desc := "(II)I" } : Jvm.MethodName) prog_26_method_68_code (7 : Nat) (Option.some Jvm.ClassFile.FieldType.int)) ∈ lw_all := lw_g (lw_at lw_m7 227 rfl) rfl
theorem q1775 : (Jvm.Cond.instanceMethod ({ cls := "HatRankModel", name := "heavy", desc := "(II)I" } : Jvm.MethodName)) ∈ lw_all := lw_g (lw_at lw_m7 229 rfl) rfl
theorem q1776 : (Jvm.Cond.selects "HatRankModel" ({ cls := "HatRankModel", name := "heavy", desc := "(II)I" } : Jvm.MethodName) ({ cls := "HatRankModel", name := "heavy", desc := "(II)I" } : Jvm.MethodName)) ∈ lw_all := lw_g (lw_at lw_m7 230 rfl) rfl
theorem q1777 : (Jvm.Cond.code ({ cls := "HatRankModel", name := "heavy", desc := "(II)I" } : Jvm.MethodName) prog_26_method_69_code (4 : Nat) (Option.some Jvm.ClassFile.FieldType.int)) ∈ lw_all := lw_g (lw_at lw_m7 231 rfl) rfl
theorem q1779 : (Jvm.Cond.instanceMethod ({ cls := "HatRankModel", name := "ahead", desc := "(IIII)I" } : Jvm.MethodName)) ∈ lw_all := lw_g (lw_at lw_m7 233 rfl) rfl
theorem q1780 : (Jvm.Cond.selects "HatRankModel" ({ cls := "HatRankModel", name := "ahead", desc := "(IIII)I" } : Jvm.MethodName) ({ cls := "HatRankModel", name := "ahead", desc := "(IIII)I" } : Jvm.MethodName)) ∈ lw_all := lw_g (lw_at lw_m7 234 rfl) rfl
theorem q1781 : (Jvm.Cond.code ({ cls := "HatRankModel", name := "ahead", desc := "(IIII)I" } : Jvm.MethodName) prog_26_method_71_code (7 : Nat) (Option.some Jvm.ClassFile.FieldType.int)) ∈ lw_all := lw_g (lw_at lw_m7 235 rfl) rfl
theorem q1782 : (Jvm.Cond.methodLink "HatRankModel" (358 : Nat) ({ cls := "HatRankModel", name := "thinkOn", desc := "(II)V" } : Jvm.MethodName)) ∈ lw_all := lw_g (lw_at lw_m7 236 rfl) rfl
theorem q1783 : (Jvm.Cond.privateMethod ({ cls := "HatRankModel", name := "thinkOn", desc := "(II)V" } : Jvm.MethodName)) ∈ lw_tbl := lw_at lw_m7 237 rfl
theorem q1784 : (Jvm.Cond.instanceMethod ({ cls := "HatRankModel", name := "thinkOn", desc := "(II)V" } : Jvm.MethodName)) ∈ lw_all := lw_g (lw_at lw_m7 238 rfl) rfl
theorem q1785 : (Jvm.Cond.code ({ cls := "HatRankModel", name := "thinkOn", desc := "(II)V" } : Jvm.MethodName) prog_26_method_70_code (4 : Nat) (Option.none : Option Jvm.ClassFile.FieldType)) ∈ lw_all := lw_g (lw_at lw_m7 239 rfl) rfl
theorem q1787 : (Jvm.Cond.instanceMethod ({ cls := "HatRankModel", name := "storm", desc := "(I)I" } : Jvm.MethodName)) ∈ lw_all := lw_g (lw_at lw_m8 1 rfl) rfl
theorem q1788 : (Jvm.Cond.selects "HatRankModel" ({ cls := "HatRankModel", name := "storm", desc := "(I)I" } : Jvm.MethodName) ({ cls := "HatRankModel", name := "storm", desc := "(I)I" } : Jvm.MethodName)) ∈ lw_all := lw_g (lw_at lw_m8 2 rfl) rfl
theorem q1789 : (Jvm.Cond.code ({ cls := "HatRankModel", name := "storm", desc := "(I)I" } : Jvm.MethodName) prog_26_method_72_code (4 : Nat) (Option.some Jvm.ClassFile.FieldType.int)) ∈ lw_all := lw_g (lw_at lw_m8 3 rfl) rfl
theorem q1791 : (Jvm.Cond.instanceMethod ({ cls := "HatRankModel", name := "seeded", desc := "(II)I" } : Jvm.MethodName)) ∈ lw_all := lw_g (lw_at lw_m8 5 rfl) rfl
theorem q1792 : (Jvm.Cond.selects "HatRankModel" ({ cls := "HatRankModel", name := "seeded", desc := "(II)I" } : Jvm.MethodName) ({ cls := "HatRankModel", name := "seeded", desc := "(II)I" } : Jvm.MethodName)) ∈ lw_all := lw_g (lw_at lw_m8 6 rfl) rfl
theorem q1793 : (Jvm.Cond.code ({ cls := "HatRankModel", name := "seeded", desc := "(II)I" } : Jvm.MethodName) prog_26_method_73_code (6 : Nat) (Option.some Jvm.ClassFile.FieldType.int)) ∈ lw_all := lw_g (lw_at lw_m8 7 rfl) rfl
theorem q1795 : (Jvm.Cond.instanceMethod ({ cls := "HatRankModel", name := "image", desc := "()I" } : Jvm.MethodName)) ∈ lw_all := lw_g (lw_at lw_m8 9 rfl) rfl
theorem q1796 : (Jvm.Cond.selects "HatRankModel" ({ cls := "HatRankModel", name := "image", desc := "()I" } : Jvm.MethodName) ({ cls := "HatRankModel", name := "image", desc := "()I" } : Jvm.MethodName)) ∈ lw_all := lw_g (lw_at lw_m8 10 rfl) rfl
theorem q1797 : (Jvm.Cond.code ({ cls := "HatRankModel", name := "image", desc := "()I" } : Jvm.MethodName) prog_26_method_74_code (2 : Nat) (Option.some Jvm.ClassFile.FieldType.int)) ∈ lw_all := lw_g (lw_at lw_m8 11 rfl) rfl
theorem q1799 : (Jvm.Cond.instanceMethod ({ cls := "HatRankModel", name := "back", desc := "()I" } : Jvm.MethodName)) ∈ lw_all := lw_g (lw_at lw_m8 13 rfl) rfl
theorem q1800 : (Jvm.Cond.selects "HatRankModel" ({ cls := "HatRankModel", name := "back", desc := "()I" } : Jvm.MethodName) ({ cls := "HatRankModel", name := "back", desc := "()I" } : Jvm.MethodName)) ∈ lw_all := lw_g (lw_at lw_m8 14 rfl) rfl
theorem q1801 : (Jvm.Cond.code ({ cls := "HatRankModel", name := "back", desc := "()I" } : Jvm.MethodName) prog_26_method_75_code (2 : Nat) (Option.some Jvm.ClassFile.FieldType.int)) ∈ lw_all := lw_g (lw_at lw_m8 15 rfl) rfl
theorem q1803 : (Jvm.Cond.instanceMethod ({ cls := "HatRankModel", name := "trace", desc := "(I)I" } : Jvm.MethodName)) ∈ lw_all := lw_g (lw_at lw_m8 17 rfl) rfl
theorem q1804 : (Jvm.Cond.selects "HatRankModel" ({ cls := "HatRankModel", name := "trace", desc := "(I)I" } : Jvm.MethodName) ({ cls := "HatRankModel", name := "trace", desc := "(I)I" } : Jvm.MethodName)) ∈ lw_all := lw_g (lw_at lw_m8 18 rfl) rfl
theorem q1805 : (Jvm.Cond.code ({ cls := "HatRankModel", name := "trace", desc := "(I)I" } : Jvm.MethodName) prog_26_method_78_code (2 : Nat) (Option.some Jvm.ClassFile.FieldType.int)) ∈ lw_all := lw_g (lw_at lw_m8 19 rfl) rfl
theorem q1807 : (Jvm.Cond.instanceMethod ({ cls := "HatRankModel", name := "body", desc := "(I)I" } : Jvm.MethodName)) ∈ lw_all := lw_g (lw_at lw_m8 21 rfl) rfl
theorem q1808 : (Jvm.Cond.selects "HatRankModel" ({ cls := "HatRankModel", name := "body", desc := "(I)I" } : Jvm.MethodName) ({ cls := "HatRankModel", name := "body", desc := "(I)I" } : Jvm.MethodName)) ∈ lw_all := lw_g (lw_at lw_m8 22 rfl) rfl
theorem q1809 : (Jvm.Cond.code ({ cls := "HatRankModel", name := "body", desc := "(I)I" } : Jvm.MethodName) prog_26_method_79_code (2 : Nat) (Option.some Jvm.ClassFile.FieldType.int)) ∈ lw_all := lw_g (lw_at lw_m8 23 rfl) rfl
theorem q1811 : (Jvm.Cond.instanceMethod ({ cls := "HatRankModel", name := "act", desc := "(III)I" } : Jvm.MethodName)) ∈ lw_all := lw_g (lw_at lw_m8 25 rfl) rfl
theorem q1812 : (Jvm.Cond.selects "HatRankModel" ({ cls := "HatRankModel", name := "act", desc := "(III)I" } : Jvm.MethodName) ({ cls := "HatRankModel", name := "act", desc := "(III)I" } : Jvm.MethodName)) ∈ lw_all := lw_g (lw_at lw_m8 26 rfl) rfl
theorem q1813 : (Jvm.Cond.code ({ cls := "HatRankModel", name := "act", desc := "(III)I" } : Jvm.MethodName) prog_26_method_92_code (4 : Nat) (Option.some Jvm.ClassFile.FieldType.int)) ∈ lw_all := lw_g (lw_at lw_m8 27 rfl) rfl
theorem q1814 : (Jvm.Cond.methodLink "HatRankModel" (415 : Nat) ({ cls := "HatRankModel", name := "isBody", desc := "(I)Z" } : Jvm.MethodName)) ∈ lw_all := lw_g (lw_at lw_m8 28 rfl) rfl
theorem q1815 : (Jvm.Cond.privateMethod ({ cls := "HatRankModel", name := "isBody", desc := "(I)Z" } : Jvm.MethodName)) ∈ lw_tbl := lw_at lw_m8 29 rfl
theorem q1816 : (Jvm.Cond.instanceMethod ({ cls := "HatRankModel", name := "isBody", desc := "(I)Z" } : Jvm.MethodName)) ∈ lw_all := lw_g (lw_at lw_m8 30 rfl) rfl
theorem q1817 : (Jvm.Cond.code ({ cls := "HatRankModel", name := "isBody", desc := "(I)Z" } : Jvm.MethodName) prog_26_method_76_code (2 : Nat) (Option.some Jvm.ClassFile.FieldType.boolean)) ∈ lw_all := lw_g (lw_at lw_m8 31 rfl) rfl
theorem q1818 : (Jvm.Cond.methodLink "HatRankModel" (391 : Nat) ({ cls := "HatRankModel", name := "sitting", desc := "(II)I" } : Jvm.MethodName)) ∈ lw_all := lw_g (lw_at lw_m8 32 rfl) rfl
theorem q1819 : (Jvm.Cond.privateMethod ({ cls := "HatRankModel", name := "sitting", desc := "(II)I" } : Jvm.MethodName)) ∈ lw_tbl := lw_at lw_m8 33 rfl
theorem q1820 : (Jvm.Cond.instanceMethod ({ cls := "HatRankModel", name := "sitting", desc := "(II)I" } : Jvm.MethodName)) ∈ lw_all := lw_g (lw_at lw_m8 34 rfl) rfl
theorem q1821 : (Jvm.Cond.code ({ cls := "HatRankModel", name := "sitting", desc := "(II)I" } : Jvm.MethodName) prog_26_method_83_code (3 : Nat) (Option.some Jvm.ClassFile.FieldType.int)) ∈ lw_all := lw_g (lw_at lw_m8 35 rfl) rfl
theorem q1822 : (Jvm.Cond.methodLink "HatRankModel" (385 : Nat) ({ cls := "HatRankModel", name := "isUnder", desc := "(II)Z" } : Jvm.MethodName)) ∈ lw_all := lw_g (lw_at lw_m8 36 rfl) rfl
theorem q1823 : (Jvm.Cond.static ({ cls := "HatRankModel", name := "isUnder", desc := "(II)Z" } : Jvm.MethodName)) ∈ lw_all := lw_g (lw_at lw_m8 37 rfl) rfl
theorem q1824 : (Jvm.Cond.code ({ cls := "HatRankModel", name := "isUnder", desc := "(II)Z" } : Jvm.MethodName) prog_26_method_80_code (2 : Nat) (Option.some Jvm.ClassFile.FieldType.boolean)) ∈ lw_all := lw_g (lw_at lw_m8 38 rfl) rfl
theorem q1825 : (Jvm.Cond.methodLink "HatRankModel" (379 : Nat) ({ cls := "HatRankModel", name := "ran", desc := "(I)V" } : Jvm.MethodName)) ∈ lw_all := lw_g (lw_at lw_m8 39 rfl) rfl
theorem q1826 : (Jvm.Cond.privateMethod ({ cls := "HatRankModel", name := "ran", desc := "(I)V" } : Jvm.MethodName)) ∈ lw_tbl := lw_at lw_m8 40 rfl
theorem q1827 : (Jvm.Cond.instanceMethod ({ cls := "HatRankModel", name := "ran", desc := "(I)V" } : Jvm.MethodName)) ∈ lw_all := lw_g (lw_at lw_m8 41 rfl) rfl
theorem q1828 : (Jvm.Cond.code ({ cls := "HatRankModel", name := "ran", desc := "(I)V" } : Jvm.MethodName) prog_26_method_77_code (2 : Nat) (Option.none : Option Jvm.ClassFile.FieldType)) ∈ lw_all := lw_g (lw_at lw_m8 42 rfl) rfl
theorem q1829 : (Jvm.Cond.methodLink "HatRankModel" (382 : Nat) ({ cls := "HatRankModel", name := "plainSits", desc := "(II)I" } : Jvm.MethodName)) ∈ lw_all := lw_g (lw_at lw_m8 43 rfl) rfl
theorem q1830 : (Jvm.Cond.privateMethod ({ cls := "HatRankModel", name := "plainSits", desc := "(II)I" } : Jvm.MethodName)) ∈ lw_tbl := lw_at lw_m8 44 rfl
theorem q1831 : (Jvm.Cond.instanceMethod ({ cls := "HatRankModel", name := "plainSits", desc := "(II)I" } : Jvm.MethodName)) ∈ lw_all := lw_g (lw_at lw_m8 45 rfl) rfl
theorem q1832 : (Jvm.Cond.code ({ cls := "HatRankModel", name := "plainSits", desc := "(II)I" } : Jvm.MethodName) prog_26_method_81_code (3 : Nat) (Option.some Jvm.ClassFile.FieldType.int)) ∈ lw_all := lw_g (lw_at lw_m8 46 rfl) rfl
theorem q1833 : (Jvm.Cond.methodLink "HatRankModel" (388 : Nat) ({ cls := "HatRankModel", name := "newSits", desc := "(II)I" } : Jvm.MethodName)) ∈ lw_all := lw_g (lw_at lw_m8 47 rfl) rfl
theorem q1834 : (Jvm.Cond.privateMethod ({ cls := "HatRankModel", name := "newSits", desc := "(II)I" } : Jvm.MethodName)) ∈ lw_tbl := lw_at lw_m8 48 rfl
theorem q1835 : (Jvm.Cond.instanceMethod ({ cls := "HatRankModel", name := "newSits", desc := "(II)I" } : Jvm.MethodName)) ∈ lw_all := lw_g (lw_at lw_m8 49 rfl) rfl
theorem q1836 : (Jvm.Cond.code ({ cls := "HatRankModel", name := "newSits", desc := "(II)I" } : Jvm.MethodName) prog_26_method_82_code (3 : Nat) (Option.some Jvm.ClassFile.FieldType.int)) ∈ lw_all := lw_g (lw_at lw_m8 50 rfl) rfl
theorem q1837 : (Jvm.Cond.methodLink "HatRankModel" (409 : Nat) ({ cls := "HatRankModel", name := "falling", desc := "(II)I" } : Jvm.MethodName)) ∈ lw_all := lw_g (lw_at lw_m8 51 rfl) rfl
theorem q1838 : (Jvm.Cond.privateMethod ({ cls := "HatRankModel", name := "falling", desc := "(II)I" } : Jvm.MethodName)) ∈ lw_tbl := lw_at lw_m8 52 rfl
theorem q1839 : (Jvm.Cond.instanceMethod ({ cls := "HatRankModel", name := "falling", desc := "(II)I" } : Jvm.MethodName)) ∈ lw_all := lw_g (lw_at lw_m8 53 rfl) rfl
theorem q1840 : (Jvm.Cond.code ({ cls := "HatRankModel", name := "falling", desc := "(II)I" } : Jvm.MethodName) prog_26_method_86_code (4 : Nat) (Option.some Jvm.ClassFile.FieldType.int)) ∈ lw_all := lw_g (lw_at lw_m8 54 rfl) rfl
theorem q1841 : (Jvm.Cond.methodLink "HatRankModel" (397 : Nat) ({ cls := "HatRankModel", name := "blownFalls", desc := "(II)I" } : Jvm.MethodName)) ∈ lw_all := lw_g (lw_at lw_m8 55 rfl) rfl
theorem q1842 : (Jvm.Cond.privateMethod ({ cls := "HatRankModel", name := "blownFalls", desc := "(II)I" } : Jvm.MethodName)) ∈ lw_tbl := lw_at lw_m8 56 rfl
theorem q1843 : (Jvm.Cond.instanceMethod ({ cls := "HatRankModel", name := "blownFalls", desc := "(II)I" } : Jvm.MethodName)) ∈ lw_all := lw_g (lw_at lw_m8 57 rfl) rfl
theorem q1844 : (Jvm.Cond.code ({ cls := "HatRankModel", name := "blownFalls", desc := "(II)I" } : Jvm.MethodName) prog_26_method_85_code (3 : Nat) (Option.some Jvm.ClassFile.FieldType.int)) ∈ lw_all := lw_g (lw_at lw_m8 58 rfl) rfl
theorem q1845 : (Jvm.Cond.methodLink "HatRankModel" (394 : Nat) ({ cls := "HatRankModel", name := "plainFalls", desc := "(II)I" } : Jvm.MethodName)) ∈ lw_all := lw_g (lw_at lw_m8 59 rfl) rfl
theorem q1846 : (Jvm.Cond.privateMethod ({ cls := "HatRankModel", name := "plainFalls", desc := "(II)I" } : Jvm.MethodName)) ∈ lw_tbl := lw_at lw_m8 60 rfl
theorem q1847 : (Jvm.Cond.instanceMethod ({ cls := "HatRankModel", name := "plainFalls", desc := "(II)I" } : Jvm.MethodName)) ∈ lw_all := lw_g (lw_at lw_m8 61 rfl) rfl
theorem q1848 : (Jvm.Cond.code ({ cls := "HatRankModel", name := "plainFalls", desc := "(II)I" } : Jvm.MethodName) prog_26_method_84_code (3 : Nat) (Option.some Jvm.ClassFile.FieldType.int)) ∈ lw_all := lw_g (lw_at lw_m8 62 rfl) rfl
theorem q1849 : (Jvm.Cond.methodLink "HatRankModel" (400 : Nat) ({ cls := "HatRankModel", name := "landing", desc := "(II)I" } : Jvm.MethodName)) ∈ lw_all := lw_g (lw_at lw_m8 63 rfl) rfl
theorem q1850 : (Jvm.Cond.privateMethod ({ cls := "HatRankModel", name := "landing", desc := "(II)I" } : Jvm.MethodName)) ∈ lw_tbl := lw_at lw_m8 64 rfl
theorem q1851 : (Jvm.Cond.instanceMethod ({ cls := "HatRankModel", name := "landing", desc := "(II)I" } : Jvm.MethodName)) ∈ lw_all := lw_g (lw_at lw_m8 65 rfl) rfl
theorem q1852 : (Jvm.Cond.code ({ cls := "HatRankModel", name := "landing", desc := "(II)I" } : Jvm.MethodName) prog_26_method_89_code (4 : Nat) (Option.some Jvm.ClassFile.FieldType.int)) ∈ lw_all := lw_g (lw_at lw_m8 66 rfl) rfl
theorem q1853 : (Jvm.Cond.methodLink "HatRankModel" (406 : Nat) ({ cls := "HatRankModel", name := "caughtLands", desc := "(II)I" } : Jvm.MethodName)) ∈ lw_all := lw_g (lw_at lw_m8 67 rfl) rfl
theorem q1854 : (Jvm.Cond.privateMethod ({ cls := "HatRankModel", name := "caughtLands", desc := "(II)I" } : Jvm.MethodName)) ∈ lw_tbl := lw_at lw_m8 68 rfl
theorem q1855 : (Jvm.Cond.instanceMethod ({ cls := "HatRankModel", name := "caughtLands", desc := "(II)I" } : Jvm.MethodName)) ∈ lw_all := lw_g (lw_at lw_m8 69 rfl) rfl
theorem q1856 : (Jvm.Cond.code ({ cls := "HatRankModel", name := "caughtLands", desc := "(II)I" } : Jvm.MethodName) prog_26_method_88_code (3 : Nat) (Option.some Jvm.ClassFile.FieldType.int)) ∈ lw_all := lw_g (lw_at lw_m8 70 rfl) rfl
theorem q1857 : (Jvm.Cond.methodLink "HatRankModel" (403 : Nat) ({ cls := "HatRankModel", name := "plainLands", desc := "(II)I" } : Jvm.MethodName)) ∈ lw_all := lw_g (lw_at lw_m8 71 rfl) rfl
theorem q1858 : (Jvm.Cond.privateMethod ({ cls := "HatRankModel", name := "plainLands", desc := "(II)I" } : Jvm.MethodName)) ∈ lw_tbl := lw_at lw_m8 72 rfl
theorem q1859 : (Jvm.Cond.instanceMethod ({ cls := "HatRankModel", name := "plainLands", desc := "(II)I" } : Jvm.MethodName)) ∈ lw_all := lw_g (lw_at lw_m8 73 rfl) rfl
theorem q1860 : (Jvm.Cond.code ({ cls := "HatRankModel", name := "plainLands", desc := "(II)I" } : Jvm.MethodName) prog_26_method_87_code (3 : Nat) (Option.some Jvm.ClassFile.FieldType.int)) ∈ lw_all := lw_g (lw_at lw_m8 74 rfl) rfl
theorem q1861 : (Jvm.Cond.methodLink "HatRankModel" (418 : Nat) ({ cls := "HatRankModel", name := "ranking", desc := "(II)I" } : Jvm.MethodName)) ∈ lw_all := lw_g (lw_at lw_m8 75 rfl) rfl
theorem q1862 : (Jvm.Cond.privateMethod ({ cls := "HatRankModel", name := "ranking", desc := "(II)I" } : Jvm.MethodName)) ∈ lw_tbl := lw_at lw_m8 76 rfl
theorem q1863 : (Jvm.Cond.instanceMethod ({ cls := "HatRankModel", name := "ranking", desc := "(II)I" } : Jvm.MethodName)) ∈ lw_all := lw_g (lw_at lw_m8 77 rfl) rfl
theorem q1864 : (Jvm.Cond.code ({ cls := "HatRankModel", name := "ranking", desc := "(II)I" } : Jvm.MethodName) prog_26_method_91_code (3 : Nat) (Option.some Jvm.ClassFile.FieldType.int)) ∈ lw_all := lw_g (lw_at lw_m8 78 rfl) rfl
theorem q1865 : (Jvm.Cond.methodLink "HatRankModel" (412 : Nat) ({ cls := "HatRankModel", name := "plainRanks", desc := "(II)I" } : Jvm.MethodName)) ∈ lw_all := lw_g (lw_at lw_m8 79 rfl) rfl
theorem q1866 : (Jvm.Cond.privateMethod ({ cls := "HatRankModel", name := "plainRanks", desc := "(II)I" } : Jvm.MethodName)) ∈ lw_tbl := lw_at lw_m8 80 rfl
theorem q1867 : (Jvm.Cond.instanceMethod ({ cls := "HatRankModel", name := "plainRanks", desc := "(II)I" } : Jvm.MethodName)) ∈ lw_all := lw_g (lw_at lw_m8 81 rfl) rfl
theorem q1868 : (Jvm.Cond.code ({ cls := "HatRankModel", name := "plainRanks", desc := "(II)I" } : Jvm.MethodName) prog_26_method_90_code (4 : Nat) (Option.some Jvm.ClassFile.FieldType.int)) ∈ lw_all := lw_g (lw_at lw_m8 82 rfl) rfl
theorem q1870 : (Jvm.Cond.instanceMethod ({ cls := "HatRankModel", name := "count", desc := "(I)I" } : Jvm.MethodName)) ∈ lw_all := lw_g (lw_at lw_m8 84 rfl) rfl
theorem q1871 : (Jvm.Cond.selects "HatRankModel" ({ cls := "HatRankModel", name := "count", desc := "(I)I" } : Jvm.MethodName) ({ cls := "HatRankModel", name := "count", desc := "(I)I" } : Jvm.MethodName)) ∈ lw_all := lw_g (lw_at lw_m8 85 rfl) rfl
theorem q1872 : (Jvm.Cond.code ({ cls := "HatRankModel", name := "count", desc := "(I)I" } : Jvm.MethodName) prog_26_method_93_code (2 : Nat) (Option.some Jvm.ClassFile.FieldType.int)) ∈ lw_all := lw_g (lw_at lw_m8 86 rfl) rfl
theorem q1874 : (Jvm.Cond.instanceMethod ({ cls := "HatRankModel", name := "keep", desc := "(II)I" } : Jvm.MethodName)) ∈ lw_all := lw_g (lw_at lw_m8 88 rfl) rfl
theorem q1875 : (Jvm.Cond.selects "HatRankModel" ({ cls := "HatRankModel", name := "keep", desc := "(II)I" } : Jvm.MethodName) ({ cls := "HatRankModel", name := "keep", desc := "(II)I" } : Jvm.MethodName)) ∈ lw_all := lw_g (lw_at lw_m8 89 rfl) rfl
theorem q1876 : (Jvm.Cond.code ({ cls := "HatRankModel", name := "keep", desc := "(II)I" } : Jvm.MethodName) prog_26_method_95_code (3 : Nat) (Option.some Jvm.ClassFile.FieldType.int)) ∈ lw_all := lw_g (lw_at lw_m8 90 rfl) rfl
theorem q1878 : (Jvm.Cond.instanceMethod ({ cls := "HatRankModel", name := "row", desc := "(III)I" } : Jvm.MethodName)) ∈ lw_all := lw_g (lw_at lw_m8 92 rfl) rfl
theorem q1879 : (Jvm.Cond.selects "HatRankModel" ({ cls := "HatRankModel", name := "row", desc := "(III)I" } : Jvm.MethodName) ({ cls := "HatRankModel", name := "row", desc := "(III)I" } : Jvm.MethodName)) ∈ lw_all := lw_g (lw_at lw_m8 93 rfl) rfl
theorem q1880 : (Jvm.Cond.code ({ cls := "HatRankModel", name := "row", desc := "(III)I" } : Jvm.MethodName) prog_26_method_96_code (5 : Nat) (Option.some Jvm.ClassFile.FieldType.int)) ∈ lw_all := lw_g (lw_at lw_m8 94 rfl) rfl
theorem q1882 : (Jvm.Cond.instanceMethod ({ cls := "HatRankModel", name := "put", desc := "(IIJ)I" } : Jvm.MethodName)) ∈ lw_all := lw_g (lw_at lw_m8 96 rfl) rfl
theorem q1883 : (Jvm.Cond.selects "HatRankModel" ({ cls := "HatRankModel", name := "put", desc := "(IIJ)I" } : Jvm.MethodName) ({ cls := "HatRankModel", name := "put", desc := "(IIJ)I" } : Jvm.MethodName)) ∈ lw_all := lw_g (lw_at lw_m8 97 rfl) rfl
theorem q1884 : (Jvm.Cond.code ({ cls := "HatRankModel", name := "put", desc := "(IIJ)I" } : Jvm.MethodName) prog_26_method_98_code (7 : Nat) (Option.some Jvm.ClassFile.FieldType.int)) ∈ lw_all := lw_g (lw_at lw_m8 98 rfl) rfl
theorem q1885 : (Jvm.Cond.methodLink "HatRankModel" (421 : Nat) ({ cls := "HatRankModel", name := "whyNoPlace", desc := "(II)I" } : Jvm.MethodName)) ∈ lw_all := lw_g (lw_at lw_m8 99 rfl) rfl
theorem q1886 : (Jvm.Cond.privateMethod ({ cls := "HatRankModel", name := "whyNoPlace", desc := "(II)I" } : Jvm.MethodName)) ∈ lw_tbl := lw_at lw_m8 100 rfl
theorem q1887 : (Jvm.Cond.instanceMethod ({ cls := "HatRankModel", name := "whyNoPlace", desc := "(II)I" } : Jvm.MethodName)) ∈ lw_all := lw_g (lw_at lw_m8 101 rfl) rfl
theorem q1888 : (Jvm.Cond.code ({ cls := "HatRankModel", name := "whyNoPlace", desc := "(II)I" } : Jvm.MethodName) prog_26_method_97_code (3 : Nat) (Option.some Jvm.ClassFile.FieldType.int)) ∈ lw_all := lw_g (lw_at lw_m8 102 rfl) rfl
theorem q1890 : (Jvm.Cond.instanceMethod ({ cls := "HatRankModel", name := "element", desc := "(II)J" } : Jvm.MethodName)) ∈ lw_all := lw_g (lw_at lw_m8 104 rfl) rfl
theorem q1891 : (Jvm.Cond.selects "HatRankModel" ({ cls := "HatRankModel", name := "element", desc := "(II)J" } : Jvm.MethodName) ({ cls := "HatRankModel", name := "element", desc := "(II)J" } : Jvm.MethodName)) ∈ lw_all := lw_g (lw_at lw_m8 105 rfl) rfl
theorem q1892 : (Jvm.Cond.code ({ cls := "HatRankModel", name := "element", desc := "(II)J" } : Jvm.MethodName) prog_26_method_99_code (3 : Nat) (Option.some Jvm.ClassFile.FieldType.long)) ∈ lw_all := lw_g (lw_at lw_m8 106 rfl) rfl
theorem q1894 : (Jvm.Cond.instanceMethod ({ cls := "HatRankModel", name := "shift", desc := "(IIIII)I" } : Jvm.MethodName)) ∈ lw_all := lw_g (lw_at lw_m8 108 rfl) rfl
theorem q1895 : (Jvm.Cond.selects "HatRankModel" ({ cls := "HatRankModel", name := "shift", desc := "(IIIII)I" } : Jvm.MethodName) ({ cls := "HatRankModel", name := "shift", desc := "(IIIII)I" } : Jvm.MethodName)) ∈ lw_all := lw_g (lw_at lw_m8 109 rfl) rfl
theorem q1896 : (Jvm.Cond.code ({ cls := "HatRankModel", name := "shift", desc := "(IIIII)I" } : Jvm.MethodName) prog_26_method_100_code (7 : Nat) (Option.some Jvm.ClassFile.FieldType.int)) ∈ lw_all := lw_g (lw_at lw_m8 110 rfl) rfl
theorem q1898 : (Jvm.Cond.instanceMethod ({ cls := "HatRankModel", name := "taken", desc := "(II)I" } : Jvm.MethodName)) ∈ lw_all := lw_g (lw_at lw_m8 112 rfl) rfl
theorem q1899 : (Jvm.Cond.selects "HatRankModel" ({ cls := "HatRankModel", name := "taken", desc := "(II)I" } : Jvm.MethodName) ({ cls := "HatRankModel", name := "taken", desc := "(II)I" } : Jvm.MethodName)) ∈ lw_all := lw_g (lw_at lw_m8 113 rfl) rfl
theorem q1900 : (Jvm.Cond.code ({ cls := "HatRankModel", name := "taken", desc := "(II)I" } : Jvm.MethodName) prog_26_method_101_code (3 : Nat) (Option.some Jvm.ClassFile.FieldType.int)) ∈ lw_all := lw_g (lw_at lw_m8 114 rfl) rfl
theorem q1941 : (Jvm.Cond.castable "HatRankModel" "java/lang/Object") ∈ lw_tbl := lw_at lw_m8 155 rfl
theorem in_X6 : ∀ w ∈ wsX60, w ∈ lw_all := lw_in wsX60 [1379, 1381, 1383, 1385, 1387, 1389, 1391, 1393, 1395, 1397, 1399, 1401, 1403, 1405, 1407, 1409, 1411, 1413, 1415, 1417, 1419, 1421, 1423, 1425, 1427, 1429, 1431, 1433, 1435, 1437, 1439, 1441, 1443, 1445, 1447, 1449, 1451, 1453, 1455, 1457, 1459, 1461, 1463, 1465, 1467, 1469, 1471, 1473, 1475, 1477, 1479, 1481, 1483, 1485, 1487, 1489, 1491, 1493, 1495, 1497, 1499, 1501, 1503] (by decide +kernel) (by decide +kernel)
