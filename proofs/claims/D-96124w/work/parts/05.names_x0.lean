/-! HatRank -/
set_option maxRecDepth 100000
def RX0 : String := "HatRank"
def TX0 : u_T := fun k => match k with
  | 0 => ("HatRank", "changes", "[LHatRank$Change;", true)
  | 1 => ("HatRank", "changeMany", "I", false)
  | 2 => ("HatRank", "done", "I", false)
  | 3 => ("HatRank", "tape", "[I", true)
  | 4 => ("HatRank", "length", "I", false)
  | 5 => ("HatRank", "fault", "LHatRank$Fault;", true)
  | 6 => ("HatRank", "at", "I", false)
  | 7 => ("HatRank", "town", "LHatRank$Town;", true)
  | 8 => ("HatRank", "places", "[LHatRank$Place;", true)
  | 9 => ("HatRank", "placeMany", "I", false)
  | 10 => ("HatRank", "wayMany", "I", false)
  | 11 => ("HatRank", "people", "[LHatRank$Person;", true)
  | 12 => ("HatRank", "personMany", "I", false)
  | 13 => ("HatRank", "blows", "[LHatRank$Held;", true)
  | 14 => ("HatRank", "now", "I", false)
  | 15 => ("HatRank", "torn", "LHatRank$Torn;", true)
  | 16 => ("HatRank", "names", "[I", true)
  | 17 => ("HatRank", "opened", "I", false)
  | 18 => ("HatRank", "falling", "LHatRank$Line;", false)
  | 19 => ("HatRank", "storming", "I", false)
  | 20 => ("HatRank", "z", "I", false)
  | 21 => ("HatRank", "toCome", "[I", true)
  | 22 => ("HatRank", "towns", "[LHatRank$Town;", true)
  | 23 => ("HatRank", "commandSum", "J", false)
  | 24 => ("HatRank", "hatSum", "J", false)
  | 25 => ("HatRank", "askedFor", "I", false)
  | 26 => ("HatRank", "isKept", "Z", false)
  | 27 => ("HatRank", "imageNow", "I", false)
  | 28 => ("HatRank", "imagePeople", "I", false)
  | 29 => ("HatRank", "imagePlaces", "I", false)
  | 30 => ("HatRank", "image", "LHatRank$Town;", true)
  | 31 => ("HatRank", "bodies", "[LHatRank$Body;", true)
  | 32 => ("HatRank", "bodyMany", "I", false)
  | 33 => ("HatRank", "trace", "[I", true)
  | 34 => ("HatRank", "ran", "I", false)
  | _ => ("HatRank", "shelves", "[Ljava/lang/Object;", true)
def tyX0 : Nat → FieldType := fun k => match k with
  | 0 => .array (.object "HatRank$Change")
  | 1 => .int
  | 2 => .int
  | 3 => .array .int
  | 4 => .int
  | 5 => .object "HatRank$Fault"
  | 6 => .int
  | 7 => .object "HatRank$Town"
  | 8 => .array (.object "HatRank$Place")
  | 9 => .int
  | 10 => .int
  | 11 => .array (.object "HatRank$Person")
  | 12 => .int
  | 13 => .array (.object "HatRank$Held")
  | 14 => .int
  | 15 => .object "HatRank$Torn"
  | 16 => .array .int
  | 17 => .int
  | 18 => .object "HatRank$Line"
  | 19 => .int
  | 20 => .int
  | 21 => .array .int
  | 22 => .array (.object "HatRank$Town")
  | 23 => .long
  | 24 => .long
  | 25 => .int
  | 26 => .boolean
  | 27 => .int
  | 28 => .int
  | 29 => .int
  | 30 => .object "HatRank$Town"
  | 31 => .array (.object "HatRank$Body")
  | 32 => .int
  | 33 => .array .int
  | 34 => .int
  | _ => .array (.object "java/lang/Object")
abbrev wsX00 : List Cond := u_ws RX0 TX0 36
set_option maxRecDepth 100000 in
theorem nmX0 : ∀ a, a < 36 → ∀ b, b < 36 → a ≠ b → (TX0 a).2.1 ≠ (TX0 b).2.1 := by decide +kernel
set_option maxRecDepth 100000 in
theorem tyX0_ok : ∀ k, k < 36 → parseFieldDescriptor (TX0 k).2.2.1 = some (tyX0 k) := by decide +kernel
abbrev cX0_undo : ByteArray := prog_1_method_4_code
def yX0_undo : MethodName := ⟨RX0, "undo", "()I"⟩
def dkwX0_undo_2 : List UInt8 := [180, 0, 7, 172]
abbrev dktX0_undo_2 : List UInt8 := dkwX0_undo_2 ++ []
def dkwX0_undo_1 : List UInt8 := [42, 180, 0, 7, 50, 180, 0, 16, 42, 180, 0, 12, 42, 180, 0, 7, 50, 180, 0, 22, 181, 0, 1, 42]
abbrev dktX0_undo_1 : List UInt8 := dkwX0_undo_1 ++ dktX0_undo_2
def dkwX0_undo_0 : List UInt8 := [42, 180, 0, 7, 154, 0, 6, 16, 251, 172, 42, 89, 180, 0, 7, 4, 100, 181, 0, 7, 42, 180, 0, 12]
abbrev dktX0_undo_0 : List UInt8 := dkwX0_undo_0 ++ dktX0_undo_1
theorem dksX0_undo_0 : cX0_undo.data.toList.drop 0 = dktX0_undo_0 := by decide +kernel
theorem dksX0_undo_1 : cX0_undo.data.toList.drop 24 = dktX0_undo_1 := dk_seg dksX0_undo_0 24 rfl rfl
theorem dksX0_undo_2 : cX0_undo.data.toList.drop 48 = dktX0_undo_2 := dk_seg dksX0_undo_1 24 rfl rfl
theorem dX0_undo_0 : decode cX0_undo 0 = .ok (.aload_n 0, 1) := dk_42 (dk_at dksX0_undo_0 0 rfl rfl)
theorem dX0_undo_1 : decode cX0_undo 1 = .ok (.getfield 7, 3) := dk_180 0 7 (dk_at dksX0_undo_0 1 rfl rfl)
theorem dX0_undo_4 : decode cX0_undo 4 = .ok (.ifCond .ne 6, 3) := dk_154 0 6 (dk_at dksX0_undo_0 4 rfl rfl)
theorem dX0_undo_7 : decode cX0_undo 7 = .ok (.bipush (-5), 2) := dk_16 251 (dk_at dksX0_undo_0 7 rfl rfl)
theorem dX0_undo_9 : decode cX0_undo 9 = .ok (.ireturn, 1) := dk_172 (dk_at dksX0_undo_0 9 rfl rfl)
theorem dX0_undo_10 : decode cX0_undo 10 = .ok (.aload_n 0, 1) := dk_42 (dk_at dksX0_undo_0 10 rfl rfl)
theorem dX0_undo_11 : decode cX0_undo 11 = .ok (.dup, 1) := dk_89 (dk_at dksX0_undo_0 11 rfl rfl)
theorem dX0_undo_12 : decode cX0_undo 12 = .ok (.getfield 7, 3) := dk_180 0 7 (dk_at dksX0_undo_0 12 rfl rfl)
theorem dX0_undo_15 : decode cX0_undo 15 = .ok (.iconst 1, 1) := dk_4 (dk_at dksX0_undo_0 15 rfl rfl)
theorem dX0_undo_16 : decode cX0_undo 16 = .ok (.isub, 1) := dk_100 (dk_at dksX0_undo_0 16 rfl rfl)
theorem dX0_undo_17 : decode cX0_undo 17 = .ok (.putfield 7, 3) := dk_181 0 7 (dk_at dksX0_undo_0 17 rfl rfl)
theorem dX0_undo_20 : decode cX0_undo 20 = .ok (.aload_n 0, 1) := dk_42 (dk_at dksX0_undo_0 20 rfl rfl)
theorem dX0_undo_21 : decode cX0_undo 21 = .ok (.getfield 12, 3) := dk_180 0 12 (dk_at dksX0_undo_0 21 rfl rfl)
theorem dX0_undo_24 : decode cX0_undo 24 = .ok (.aload_n 0, 1) := dk_42 (dk_at dksX0_undo_1 0 rfl rfl)
theorem dX0_undo_25 : decode cX0_undo 25 = .ok (.getfield 7, 3) := dk_180 0 7 (dk_at dksX0_undo_1 1 rfl rfl)
theorem dX0_undo_28 : decode cX0_undo 28 = .ok (.aaload, 1) := dk_50 (dk_at dksX0_undo_1 4 rfl rfl)
theorem dX0_undo_29 : decode cX0_undo 29 = .ok (.getfield 16, 3) := dk_180 0 16 (dk_at dksX0_undo_1 5 rfl rfl)
theorem dX0_undo_32 : decode cX0_undo 32 = .ok (.aload_n 0, 1) := dk_42 (dk_at dksX0_undo_1 8 rfl rfl)
theorem dX0_undo_33 : decode cX0_undo 33 = .ok (.getfield 12, 3) := dk_180 0 12 (dk_at dksX0_undo_1 9 rfl rfl)
theorem dX0_undo_36 : decode cX0_undo 36 = .ok (.aload_n 0, 1) := dk_42 (dk_at dksX0_undo_1 12 rfl rfl)
theorem dX0_undo_37 : decode cX0_undo 37 = .ok (.getfield 7, 3) := dk_180 0 7 (dk_at dksX0_undo_1 13 rfl rfl)
theorem dX0_undo_40 : decode cX0_undo 40 = .ok (.aaload, 1) := dk_50 (dk_at dksX0_undo_1 16 rfl rfl)
theorem dX0_undo_41 : decode cX0_undo 41 = .ok (.getfield 22, 3) := dk_180 0 22 (dk_at dksX0_undo_1 17 rfl rfl)
theorem dX0_undo_44 : decode cX0_undo 44 = .ok (.putfield 1, 3) := dk_181 0 1 (dk_at dksX0_undo_1 20 rfl rfl)
theorem dX0_undo_47 : decode cX0_undo 47 = .ok (.aload_n 0, 1) := dk_42 (dk_at dksX0_undo_1 23 rfl rfl)
theorem dX0_undo_48 : decode cX0_undo 48 = .ok (.getfield 7, 3) := dk_180 0 7 (dk_at dksX0_undo_2 0 rfl rfl)
theorem dX0_undo_51 : decode cX0_undo 51 = .ok (.ireturn, 1) := dk_172 (dk_at dksX0_undo_2 3 rfl rfl)
abbrev cX0_redo : ByteArray := prog_1_method_5_code
def yX0_redo : MethodName := ⟨RX0, "redo", "()I"⟩
def dkwX0_redo_2 : List UInt8 := [96, 181, 0, 7, 42, 180, 0, 28, 42, 180, 0, 7, 100, 172]
abbrev dktX0_redo_2 : List UInt8 := dkwX0_redo_2 ++ []
def dkwX0_redo_1 : List UInt8 := [180, 0, 16, 42, 180, 0, 12, 42, 180, 0, 7, 50, 180, 0, 25, 181, 0, 1, 42, 89, 180, 0, 7, 4]
abbrev dktX0_redo_1 : List UInt8 := dkwX0_redo_1 ++ dktX0_redo_2
def dkwX0_redo_0 : List UInt8 := [42, 180, 0, 7, 42, 180, 0, 28, 160, 0, 6, 16, 251, 172, 42, 180, 0, 12, 42, 180, 0, 7, 50]
abbrev dktX0_redo_0 : List UInt8 := dkwX0_redo_0 ++ dktX0_redo_1
theorem dksX0_redo_0 : cX0_redo.data.toList.drop 0 = dktX0_redo_0 := by decide +kernel
theorem dksX0_redo_1 : cX0_redo.data.toList.drop 23 = dktX0_redo_1 := dk_seg dksX0_redo_0 23 rfl rfl
theorem dksX0_redo_2 : cX0_redo.data.toList.drop 47 = dktX0_redo_2 := dk_seg dksX0_redo_1 24 rfl rfl
theorem dX0_redo_0 : decode cX0_redo 0 = .ok (.aload_n 0, 1) := dk_42 (dk_at dksX0_redo_0 0 rfl rfl)
theorem dX0_redo_1 : decode cX0_redo 1 = .ok (.getfield 7, 3) := dk_180 0 7 (dk_at dksX0_redo_0 1 rfl rfl)
theorem dX0_redo_4 : decode cX0_redo 4 = .ok (.aload_n 0, 1) := dk_42 (dk_at dksX0_redo_0 4 rfl rfl)
theorem dX0_redo_5 : decode cX0_redo 5 = .ok (.getfield 28, 3) := dk_180 0 28 (dk_at dksX0_redo_0 5 rfl rfl)
theorem dX0_redo_8 : decode cX0_redo 8 = .ok (.if_icmp .ne 6, 3) := dk_160 0 6 (dk_at dksX0_redo_0 8 rfl rfl)
theorem dX0_redo_11 : decode cX0_redo 11 = .ok (.bipush (-5), 2) := dk_16 251 (dk_at dksX0_redo_0 11 rfl rfl)
theorem dX0_redo_13 : decode cX0_redo 13 = .ok (.ireturn, 1) := dk_172 (dk_at dksX0_redo_0 13 rfl rfl)
theorem dX0_redo_14 : decode cX0_redo 14 = .ok (.aload_n 0, 1) := dk_42 (dk_at dksX0_redo_0 14 rfl rfl)
theorem dX0_redo_15 : decode cX0_redo 15 = .ok (.getfield 12, 3) := dk_180 0 12 (dk_at dksX0_redo_0 15 rfl rfl)
theorem dX0_redo_18 : decode cX0_redo 18 = .ok (.aload_n 0, 1) := dk_42 (dk_at dksX0_redo_0 18 rfl rfl)
theorem dX0_redo_19 : decode cX0_redo 19 = .ok (.getfield 7, 3) := dk_180 0 7 (dk_at dksX0_redo_0 19 rfl rfl)
theorem dX0_redo_22 : decode cX0_redo 22 = .ok (.aaload, 1) := dk_50 (dk_at dksX0_redo_0 22 rfl rfl)
theorem dX0_redo_23 : decode cX0_redo 23 = .ok (.getfield 16, 3) := dk_180 0 16 (dk_at dksX0_redo_1 0 rfl rfl)
theorem dX0_redo_26 : decode cX0_redo 26 = .ok (.aload_n 0, 1) := dk_42 (dk_at dksX0_redo_1 3 rfl rfl)
theorem dX0_redo_27 : decode cX0_redo 27 = .ok (.getfield 12, 3) := dk_180 0 12 (dk_at dksX0_redo_1 4 rfl rfl)
theorem dX0_redo_30 : decode cX0_redo 30 = .ok (.aload_n 0, 1) := dk_42 (dk_at dksX0_redo_1 7 rfl rfl)
theorem dX0_redo_31 : decode cX0_redo 31 = .ok (.getfield 7, 3) := dk_180 0 7 (dk_at dksX0_redo_1 8 rfl rfl)
theorem dX0_redo_34 : decode cX0_redo 34 = .ok (.aaload, 1) := dk_50 (dk_at dksX0_redo_1 11 rfl rfl)
theorem dX0_redo_35 : decode cX0_redo 35 = .ok (.getfield 25, 3) := dk_180 0 25 (dk_at dksX0_redo_1 12 rfl rfl)
theorem dX0_redo_38 : decode cX0_redo 38 = .ok (.putfield 1, 3) := dk_181 0 1 (dk_at dksX0_redo_1 15 rfl rfl)
theorem dX0_redo_41 : decode cX0_redo 41 = .ok (.aload_n 0, 1) := dk_42 (dk_at dksX0_redo_1 18 rfl rfl)
theorem dX0_redo_42 : decode cX0_redo 42 = .ok (.dup, 1) := dk_89 (dk_at dksX0_redo_1 19 rfl rfl)
theorem dX0_redo_43 : decode cX0_redo 43 = .ok (.getfield 7, 3) := dk_180 0 7 (dk_at dksX0_redo_1 20 rfl rfl)
theorem dX0_redo_46 : decode cX0_redo 46 = .ok (.iconst 1, 1) := dk_4 (dk_at dksX0_redo_1 23 rfl rfl)
theorem dX0_redo_47 : decode cX0_redo 47 = .ok (.iadd, 1) := dk_96 (dk_at dksX0_redo_2 0 rfl rfl)
theorem dX0_redo_48 : decode cX0_redo 48 = .ok (.putfield 7, 3) := dk_181 0 7 (dk_at dksX0_redo_2 1 rfl rfl)
theorem dX0_redo_51 : decode cX0_redo 51 = .ok (.aload_n 0, 1) := dk_42 (dk_at dksX0_redo_2 4 rfl rfl)
theorem dX0_redo_52 : decode cX0_redo 52 = .ok (.getfield 28, 3) := dk_180 0 28 (dk_at dksX0_redo_2 5 rfl rfl)
theorem dX0_redo_55 : decode cX0_redo 55 = .ok (.aload_n 0, 1) := dk_42 (dk_at dksX0_redo_2 8 rfl rfl)
theorem dX0_redo_56 : decode cX0_redo 56 = .ok (.getfield 7, 3) := dk_180 0 7 (dk_at dksX0_redo_2 9 rfl rfl)
theorem dX0_redo_59 : decode cX0_redo 59 = .ok (.isub, 1) := dk_100 (dk_at dksX0_redo_2 12 rfl rfl)
theorem dX0_redo_60 : decode cX0_redo 60 = .ok (.ireturn, 1) := dk_172 (dk_at dksX0_redo_2 13 rfl rfl)
abbrev cX0_init : ByteArray := prog_1_method_6_code
def yX0_init : MethodName := ⟨RX0, "<init>", "()V"⟩
def dkwX0_init_10 : List UInt8 := [167, 255, 234, 177]
abbrev dktX0_init_10 : List UInt8 := dkwX0_init_10 ++ []
def dkwX0_init_9 : List UInt8 := [3, 60, 27, 16, 18, 162, 0, 22, 42, 180, 0, 84, 27, 187, 0, 48, 89, 183, 0, 50, 83, 132, 1, 1]
abbrev dktX0_init_9 : List UInt8 := dkwX0_init_9 ++ dktX0_init_10
def dkwX0_init_8 : List UInt8 := [187, 0, 2, 89, 183, 0, 105, 83, 42, 180, 0, 67, 27, 50, 6, 181, 0, 1, 132, 1, 1, 167, 255, 224]
abbrev dktX0_init_8 : List UInt8 := dkwX0_init_8 ++ dktX0_init_9
def dkwX0_init_7 : List UInt8 := [183, 0, 104, 83, 132, 1, 1, 167, 255, 234, 3, 60, 27, 16, 24, 162, 0, 32, 42, 180, 0, 67, 27]
abbrev dktX0_init_7 : List UInt8 := dkwX0_init_7 ++ dktX0_init_8
def dkwX0_init_6 : List UInt8 := [189, 0, 32, 181, 0, 100, 3, 60, 27, 16, 40, 162, 0, 22, 42, 180, 0, 12, 27, 187, 0, 17, 89]
abbrev dktX0_init_6 : List UInt8 := dkwX0_init_6 ++ dktX0_init_7
def dkwX0_init_5 : List UInt8 := [181, 0, 88, 42, 16, 50, 189, 0, 91, 181, 0, 93, 42, 16, 24, 188, 10, 181, 0, 97, 42, 16, 6]
abbrev dktX0_init_5 : List UInt8 := dkwX0_init_5 ++ dktX0_init_6
def dkwX0_init_4 : List UInt8 := [188, 10, 181, 0, 81, 42, 16, 18, 189, 0, 48, 181, 0, 84, 42, 187, 0, 48, 89, 183, 0, 50]
abbrev dktX0_init_4 : List UInt8 := dkwX0_init_4 ++ dktX0_init_5
def dkwX0_init_3 : List UInt8 := [42, 187, 0, 71, 89, 183, 0, 73, 181, 0, 74, 42, 16, 6, 188, 10, 181, 0, 78, 42, 17, 0, 175]
abbrev dktX0_init_3 : List UInt8 := dkwX0_init_3 ++ dktX0_init_4
def dkwX0_init_2 : List UInt8 := [189, 0, 55, 181, 0, 57, 42, 16, 6, 189, 0, 61, 181, 0, 63, 42, 16, 24, 189, 0, 2, 181, 0, 67]
abbrev dktX0_init_2 : List UInt8 := dkwX0_init_2 ++ dktX0_init_3
def dkwX0_init_1 : List UInt8 := [187, 0, 41, 89, 183, 0, 43, 181, 0, 44, 42, 187, 0, 48, 89, 183, 0, 50, 181, 0, 51, 42, 16, 7]
abbrev dktX0_init_1 : List UInt8 := dkwX0_init_1 ++ dktX0_init_2
def dkwX0_init_0 : List UInt8 := [42, 183, 0, 31, 42, 16, 40, 189, 0, 17, 181, 0, 12, 42, 16, 120, 188, 10, 181, 0, 37, 42]
abbrev dktX0_init_0 : List UInt8 := dkwX0_init_0 ++ dktX0_init_1
theorem dksX0_init_0 : cX0_init.data.toList.drop 0 = dktX0_init_0 := by decide +kernel
theorem dksX0_init_1 : cX0_init.data.toList.drop 22 = dktX0_init_1 := dk_seg dksX0_init_0 22 rfl rfl
theorem dksX0_init_2 : cX0_init.data.toList.drop 46 = dktX0_init_2 := dk_seg dksX0_init_1 24 rfl rfl
theorem dksX0_init_3 : cX0_init.data.toList.drop 70 = dktX0_init_3 := dk_seg dksX0_init_2 24 rfl rfl
theorem dksX0_init_4 : cX0_init.data.toList.drop 93 = dktX0_init_4 := dk_seg dksX0_init_3 23 rfl rfl
theorem dksX0_init_5 : cX0_init.data.toList.drop 115 = dktX0_init_5 := dk_seg dksX0_init_4 22 rfl rfl
theorem dksX0_init_6 : cX0_init.data.toList.drop 138 = dktX0_init_6 := dk_seg dksX0_init_5 23 rfl rfl
theorem dksX0_init_7 : cX0_init.data.toList.drop 161 = dktX0_init_7 := dk_seg dksX0_init_6 23 rfl rfl
theorem dksX0_init_8 : cX0_init.data.toList.drop 184 = dktX0_init_8 := dk_seg dksX0_init_7 23 rfl rfl
theorem dksX0_init_9 : cX0_init.data.toList.drop 208 = dktX0_init_9 := dk_seg dksX0_init_8 24 rfl rfl
theorem dksX0_init_10 : cX0_init.data.toList.drop 232 = dktX0_init_10 := dk_seg dksX0_init_9 24 rfl rfl
theorem dX0_init_0 : decode cX0_init 0 = .ok (.aload_n 0, 1) := dk_42 (dk_at dksX0_init_0 0 rfl rfl)
theorem dX0_init_1 : decode cX0_init 1 = .ok (.invokespecial 31, 3) := dk_183 0 31 (dk_at dksX0_init_0 1 rfl rfl)
theorem dX0_init_4 : decode cX0_init 4 = .ok (.aload_n 0, 1) := dk_42 (dk_at dksX0_init_0 4 rfl rfl)
theorem dX0_init_5 : decode cX0_init 5 = .ok (.bipush 40, 2) := dk_16 40 (dk_at dksX0_init_0 5 rfl rfl)
theorem dX0_init_7 : decode cX0_init 7 = .ok (.anewarray 17, 3) := dk_189 0 17 (dk_at dksX0_init_0 7 rfl rfl)
theorem dX0_init_10 : decode cX0_init 10 = .ok (.putfield 12, 3) := dk_181 0 12 (dk_at dksX0_init_0 10 rfl rfl)
theorem dX0_init_13 : decode cX0_init 13 = .ok (.aload_n 0, 1) := dk_42 (dk_at dksX0_init_0 13 rfl rfl)
theorem dX0_init_14 : decode cX0_init 14 = .ok (.bipush 120, 2) := dk_16 120 (dk_at dksX0_init_0 14 rfl rfl)
theorem dX0_init_16 : decode cX0_init 16 = .ok (.newarray .int, 2) := dk_188_10 (dk_at dksX0_init_0 16 rfl rfl)
theorem dX0_init_18 : decode cX0_init 18 = .ok (.putfield 37, 3) := dk_181 0 37 (dk_at dksX0_init_0 18 rfl rfl)
theorem dX0_init_21 : decode cX0_init 21 = .ok (.aload_n 0, 1) := dk_42 (dk_at dksX0_init_0 21 rfl rfl)
theorem dX0_init_22 : decode cX0_init 22 = .ok (.new 41, 3) := dk_187 0 41 (dk_at dksX0_init_1 0 rfl rfl)
theorem dX0_init_25 : decode cX0_init 25 = .ok (.dup, 1) := dk_89 (dk_at dksX0_init_1 3 rfl rfl)
theorem dX0_init_26 : decode cX0_init 26 = .ok (.invokespecial 43, 3) := dk_183 0 43 (dk_at dksX0_init_1 4 rfl rfl)
theorem dX0_init_29 : decode cX0_init 29 = .ok (.putfield 44, 3) := dk_181 0 44 (dk_at dksX0_init_1 7 rfl rfl)
theorem dX0_init_32 : decode cX0_init 32 = .ok (.aload_n 0, 1) := dk_42 (dk_at dksX0_init_1 10 rfl rfl)
theorem dX0_init_33 : decode cX0_init 33 = .ok (.new 48, 3) := dk_187 0 48 (dk_at dksX0_init_1 11 rfl rfl)
theorem dX0_init_36 : decode cX0_init 36 = .ok (.dup, 1) := dk_89 (dk_at dksX0_init_1 14 rfl rfl)
theorem dX0_init_37 : decode cX0_init 37 = .ok (.invokespecial 50, 3) := dk_183 0 50 (dk_at dksX0_init_1 15 rfl rfl)
theorem dX0_init_40 : decode cX0_init 40 = .ok (.putfield 51, 3) := dk_181 0 51 (dk_at dksX0_init_1 18 rfl rfl)
theorem dX0_init_43 : decode cX0_init 43 = .ok (.aload_n 0, 1) := dk_42 (dk_at dksX0_init_1 21 rfl rfl)
theorem dX0_init_44 : decode cX0_init 44 = .ok (.bipush 7, 2) := dk_16 7 (dk_at dksX0_init_1 22 rfl rfl)
theorem dX0_init_46 : decode cX0_init 46 = .ok (.anewarray 55, 3) := dk_189 0 55 (dk_at dksX0_init_2 0 rfl rfl)
theorem dX0_init_49 : decode cX0_init 49 = .ok (.putfield 57, 3) := dk_181 0 57 (dk_at dksX0_init_2 3 rfl rfl)
theorem dX0_init_52 : decode cX0_init 52 = .ok (.aload_n 0, 1) := dk_42 (dk_at dksX0_init_2 6 rfl rfl)
theorem dX0_init_53 : decode cX0_init 53 = .ok (.bipush 6, 2) := dk_16 6 (dk_at dksX0_init_2 7 rfl rfl)
theorem dX0_init_55 : decode cX0_init 55 = .ok (.anewarray 61, 3) := dk_189 0 61 (dk_at dksX0_init_2 9 rfl rfl)
theorem dX0_init_58 : decode cX0_init 58 = .ok (.putfield 63, 3) := dk_181 0 63 (dk_at dksX0_init_2 12 rfl rfl)
theorem dX0_init_61 : decode cX0_init 61 = .ok (.aload_n 0, 1) := dk_42 (dk_at dksX0_init_2 15 rfl rfl)
theorem dX0_init_62 : decode cX0_init 62 = .ok (.bipush 24, 2) := dk_16 24 (dk_at dksX0_init_2 16 rfl rfl)
theorem dX0_init_64 : decode cX0_init 64 = .ok (.anewarray 2, 3) := dk_189 0 2 (dk_at dksX0_init_2 18 rfl rfl)
theorem dX0_init_67 : decode cX0_init 67 = .ok (.putfield 67, 3) := dk_181 0 67 (dk_at dksX0_init_2 21 rfl rfl)
theorem dX0_init_70 : decode cX0_init 70 = .ok (.aload_n 0, 1) := dk_42 (dk_at dksX0_init_3 0 rfl rfl)
theorem dX0_init_71 : decode cX0_init 71 = .ok (.new 71, 3) := dk_187 0 71 (dk_at dksX0_init_3 1 rfl rfl)
theorem dX0_init_74 : decode cX0_init 74 = .ok (.dup, 1) := dk_89 (dk_at dksX0_init_3 4 rfl rfl)
theorem dX0_init_75 : decode cX0_init 75 = .ok (.invokespecial 73, 3) := dk_183 0 73 (dk_at dksX0_init_3 5 rfl rfl)
theorem dX0_init_78 : decode cX0_init 78 = .ok (.putfield 74, 3) := dk_181 0 74 (dk_at dksX0_init_3 8 rfl rfl)
theorem dX0_init_81 : decode cX0_init 81 = .ok (.aload_n 0, 1) := dk_42 (dk_at dksX0_init_3 11 rfl rfl)
theorem dX0_init_82 : decode cX0_init 82 = .ok (.bipush 6, 2) := dk_16 6 (dk_at dksX0_init_3 12 rfl rfl)
theorem dX0_init_84 : decode cX0_init 84 = .ok (.newarray .int, 2) := dk_188_10 (dk_at dksX0_init_3 14 rfl rfl)
theorem dX0_init_86 : decode cX0_init 86 = .ok (.putfield 78, 3) := dk_181 0 78 (dk_at dksX0_init_3 16 rfl rfl)
theorem dX0_init_89 : decode cX0_init 89 = .ok (.aload_n 0, 1) := dk_42 (dk_at dksX0_init_3 19 rfl rfl)
theorem dX0_init_90 : decode cX0_init 90 = .ok (.sipush 175, 3) := dk_17 0 175 (dk_at dksX0_init_3 20 rfl rfl)
theorem dX0_init_93 : decode cX0_init 93 = .ok (.newarray .int, 2) := dk_188_10 (dk_at dksX0_init_4 0 rfl rfl)
theorem dX0_init_95 : decode cX0_init 95 = .ok (.putfield 81, 3) := dk_181 0 81 (dk_at dksX0_init_4 2 rfl rfl)
theorem dX0_init_98 : decode cX0_init 98 = .ok (.aload_n 0, 1) := dk_42 (dk_at dksX0_init_4 5 rfl rfl)
theorem dX0_init_99 : decode cX0_init 99 = .ok (.bipush 18, 2) := dk_16 18 (dk_at dksX0_init_4 6 rfl rfl)
theorem dX0_init_101 : decode cX0_init 101 = .ok (.anewarray 48, 3) := dk_189 0 48 (dk_at dksX0_init_4 8 rfl rfl)
theorem dX0_init_104 : decode cX0_init 104 = .ok (.putfield 84, 3) := dk_181 0 84 (dk_at dksX0_init_4 11 rfl rfl)
theorem dX0_init_107 : decode cX0_init 107 = .ok (.aload_n 0, 1) := dk_42 (dk_at dksX0_init_4 14 rfl rfl)
theorem dX0_init_108 : decode cX0_init 108 = .ok (.new 48, 3) := dk_187 0 48 (dk_at dksX0_init_4 15 rfl rfl)
theorem dX0_init_111 : decode cX0_init 111 = .ok (.dup, 1) := dk_89 (dk_at dksX0_init_4 18 rfl rfl)
theorem dX0_init_112 : decode cX0_init 112 = .ok (.invokespecial 50, 3) := dk_183 0 50 (dk_at dksX0_init_4 19 rfl rfl)
theorem dX0_init_115 : decode cX0_init 115 = .ok (.putfield 88, 3) := dk_181 0 88 (dk_at dksX0_init_5 0 rfl rfl)
theorem dX0_init_118 : decode cX0_init 118 = .ok (.aload_n 0, 1) := dk_42 (dk_at dksX0_init_5 3 rfl rfl)
theorem dX0_init_119 : decode cX0_init 119 = .ok (.bipush 50, 2) := dk_16 50 (dk_at dksX0_init_5 4 rfl rfl)
theorem dX0_init_121 : decode cX0_init 121 = .ok (.anewarray 91, 3) := dk_189 0 91 (dk_at dksX0_init_5 6 rfl rfl)
theorem dX0_init_124 : decode cX0_init 124 = .ok (.putfield 93, 3) := dk_181 0 93 (dk_at dksX0_init_5 9 rfl rfl)
theorem dX0_init_127 : decode cX0_init 127 = .ok (.aload_n 0, 1) := dk_42 (dk_at dksX0_init_5 12 rfl rfl)
theorem dX0_init_128 : decode cX0_init 128 = .ok (.bipush 24, 2) := dk_16 24 (dk_at dksX0_init_5 13 rfl rfl)
theorem dX0_init_130 : decode cX0_init 130 = .ok (.newarray .int, 2) := dk_188_10 (dk_at dksX0_init_5 15 rfl rfl)
theorem dX0_init_132 : decode cX0_init 132 = .ok (.putfield 97, 3) := dk_181 0 97 (dk_at dksX0_init_5 17 rfl rfl)
theorem dX0_init_135 : decode cX0_init 135 = .ok (.aload_n 0, 1) := dk_42 (dk_at dksX0_init_5 20 rfl rfl)
theorem dX0_init_136 : decode cX0_init 136 = .ok (.bipush 6, 2) := dk_16 6 (dk_at dksX0_init_5 21 rfl rfl)
theorem dX0_init_138 : decode cX0_init 138 = .ok (.anewarray 32, 3) := dk_189 0 32 (dk_at dksX0_init_6 0 rfl rfl)
theorem dX0_init_141 : decode cX0_init 141 = .ok (.putfield 100, 3) := dk_181 0 100 (dk_at dksX0_init_6 3 rfl rfl)
theorem dX0_init_144 : decode cX0_init 144 = .ok (.iconst 0, 1) := dk_3 (dk_at dksX0_init_6 6 rfl rfl)
theorem dX0_init_145 : decode cX0_init 145 = .ok (.istore_n 1, 1) := dk_60 (dk_at dksX0_init_6 7 rfl rfl)
theorem dX0_init_146 : decode cX0_init 146 = .ok (.iload_n 1, 1) := dk_27 (dk_at dksX0_init_6 8 rfl rfl)
theorem dX0_init_147 : decode cX0_init 147 = .ok (.bipush 40, 2) := dk_16 40 (dk_at dksX0_init_6 9 rfl rfl)
theorem dX0_init_149 : decode cX0_init 149 = .ok (.if_icmp .ge 22, 3) := dk_162 0 22 (dk_at dksX0_init_6 11 rfl rfl)
theorem dX0_init_152 : decode cX0_init 152 = .ok (.aload_n 0, 1) := dk_42 (dk_at dksX0_init_6 14 rfl rfl)
theorem dX0_init_153 : decode cX0_init 153 = .ok (.getfield 12, 3) := dk_180 0 12 (dk_at dksX0_init_6 15 rfl rfl)
theorem dX0_init_156 : decode cX0_init 156 = .ok (.iload_n 1, 1) := dk_27 (dk_at dksX0_init_6 18 rfl rfl)
theorem dX0_init_157 : decode cX0_init 157 = .ok (.new 17, 3) := dk_187 0 17 (dk_at dksX0_init_6 19 rfl rfl)
theorem dX0_init_160 : decode cX0_init 160 = .ok (.dup, 1) := dk_89 (dk_at dksX0_init_6 22 rfl rfl)
theorem dX0_init_161 : decode cX0_init 161 = .ok (.invokespecial 104, 3) := dk_183 0 104 (dk_at dksX0_init_7 0 rfl rfl)
theorem dX0_init_164 : decode cX0_init 164 = .ok (.aastore, 1) := dk_83 (dk_at dksX0_init_7 3 rfl rfl)
theorem dX0_init_165 : decode cX0_init 165 = .ok (.iinc 1 1, 3) := dk_132 1 1 (dk_at dksX0_init_7 4 rfl rfl)
theorem dX0_init_168 : decode cX0_init 168 = .ok (.goto (-22), 3) := dk_167 255 234 (dk_at dksX0_init_7 7 rfl rfl)
theorem dX0_init_171 : decode cX0_init 171 = .ok (.iconst 0, 1) := dk_3 (dk_at dksX0_init_7 10 rfl rfl)
theorem dX0_init_172 : decode cX0_init 172 = .ok (.istore_n 1, 1) := dk_60 (dk_at dksX0_init_7 11 rfl rfl)
theorem dX0_init_173 : decode cX0_init 173 = .ok (.iload_n 1, 1) := dk_27 (dk_at dksX0_init_7 12 rfl rfl)
theorem dX0_init_174 : decode cX0_init 174 = .ok (.bipush 24, 2) := dk_16 24 (dk_at dksX0_init_7 13 rfl rfl)
theorem dX0_init_176 : decode cX0_init 176 = .ok (.if_icmp .ge 32, 3) := dk_162 0 32 (dk_at dksX0_init_7 15 rfl rfl)
theorem dX0_init_179 : decode cX0_init 179 = .ok (.aload_n 0, 1) := dk_42 (dk_at dksX0_init_7 18 rfl rfl)
theorem dX0_init_180 : decode cX0_init 180 = .ok (.getfield 67, 3) := dk_180 0 67 (dk_at dksX0_init_7 19 rfl rfl)
theorem dX0_init_183 : decode cX0_init 183 = .ok (.iload_n 1, 1) := dk_27 (dk_at dksX0_init_7 22 rfl rfl)
theorem dX0_init_184 : decode cX0_init 184 = .ok (.new 2, 3) := dk_187 0 2 (dk_at dksX0_init_8 0 rfl rfl)
theorem dX0_init_187 : decode cX0_init 187 = .ok (.dup, 1) := dk_89 (dk_at dksX0_init_8 3 rfl rfl)
theorem dX0_init_188 : decode cX0_init 188 = .ok (.invokespecial 105, 3) := dk_183 0 105 (dk_at dksX0_init_8 4 rfl rfl)
theorem dX0_init_191 : decode cX0_init 191 = .ok (.aastore, 1) := dk_83 (dk_at dksX0_init_8 7 rfl rfl)
theorem dX0_init_192 : decode cX0_init 192 = .ok (.aload_n 0, 1) := dk_42 (dk_at dksX0_init_8 8 rfl rfl)
theorem dX0_init_193 : decode cX0_init 193 = .ok (.getfield 67, 3) := dk_180 0 67 (dk_at dksX0_init_8 9 rfl rfl)
theorem dX0_init_196 : decode cX0_init 196 = .ok (.iload_n 1, 1) := dk_27 (dk_at dksX0_init_8 12 rfl rfl)
theorem dX0_init_197 : decode cX0_init 197 = .ok (.aaload, 1) := dk_50 (dk_at dksX0_init_8 13 rfl rfl)
theorem dX0_init_198 : decode cX0_init 198 = .ok (.iconst 3, 1) := dk_6 (dk_at dksX0_init_8 14 rfl rfl)
theorem dX0_init_199 : decode cX0_init 199 = .ok (.putfield 1, 3) := dk_181 0 1 (dk_at dksX0_init_8 15 rfl rfl)
theorem dX0_init_202 : decode cX0_init 202 = .ok (.iinc 1 1, 3) := dk_132 1 1 (dk_at dksX0_init_8 18 rfl rfl)
theorem dX0_init_205 : decode cX0_init 205 = .ok (.goto (-32), 3) := dk_167 255 224 (dk_at dksX0_init_8 21 rfl rfl)
theorem dX0_init_208 : decode cX0_init 208 = .ok (.iconst 0, 1) := dk_3 (dk_at dksX0_init_9 0 rfl rfl)
theorem dX0_init_209 : decode cX0_init 209 = .ok (.istore_n 1, 1) := dk_60 (dk_at dksX0_init_9 1 rfl rfl)
theorem dX0_init_210 : decode cX0_init 210 = .ok (.iload_n 1, 1) := dk_27 (dk_at dksX0_init_9 2 rfl rfl)
theorem dX0_init_211 : decode cX0_init 211 = .ok (.bipush 18, 2) := dk_16 18 (dk_at dksX0_init_9 3 rfl rfl)
theorem dX0_init_213 : decode cX0_init 213 = .ok (.if_icmp .ge 22, 3) := dk_162 0 22 (dk_at dksX0_init_9 5 rfl rfl)
theorem dX0_init_216 : decode cX0_init 216 = .ok (.aload_n 0, 1) := dk_42 (dk_at dksX0_init_9 8 rfl rfl)
theorem dX0_init_217 : decode cX0_init 217 = .ok (.getfield 84, 3) := dk_180 0 84 (dk_at dksX0_init_9 9 rfl rfl)
theorem dX0_init_220 : decode cX0_init 220 = .ok (.iload_n 1, 1) := dk_27 (dk_at dksX0_init_9 12 rfl rfl)
theorem dX0_init_221 : decode cX0_init 221 = .ok (.new 48, 3) := dk_187 0 48 (dk_at dksX0_init_9 13 rfl rfl)
theorem dX0_init_224 : decode cX0_init 224 = .ok (.dup, 1) := dk_89 (dk_at dksX0_init_9 16 rfl rfl)
theorem dX0_init_225 : decode cX0_init 225 = .ok (.invokespecial 50, 3) := dk_183 0 50 (dk_at dksX0_init_9 17 rfl rfl)
theorem dX0_init_228 : decode cX0_init 228 = .ok (.aastore, 1) := dk_83 (dk_at dksX0_init_9 20 rfl rfl)
theorem dX0_init_229 : decode cX0_init 229 = .ok (.iinc 1 1, 3) := dk_132 1 1 (dk_at dksX0_init_9 21 rfl rfl)
theorem dX0_init_232 : decode cX0_init 232 = .ok (.goto (-22), 3) := dk_167 255 234 (dk_at dksX0_init_10 0 rfl rfl)
theorem dX0_init_235 : decode cX0_init 235 = .ok (.return_, 1) := dk_177 (dk_at dksX0_init_10 3 rfl rfl)
abbrev cX0_feed : ByteArray := prog_1_method_7_code
def yX0_feed : MethodName := ⟨RX0, "feed", "(I)I"⟩
def dkwX0_feed_2 : List UInt8 := [172]
abbrev dktX0_feed_2 : List UInt8 := dkwX0_feed_2 ++ []
def dkwX0_feed_1 : List UInt8 := [16, 253, 172, 42, 180, 0, 37, 42, 89, 180, 0, 112, 90, 4, 96, 181, 0, 112, 27, 79, 42, 180, 0, 112]
abbrev dktX0_feed_1 : List UInt8 := dkwX0_feed_1 ++ dktX0_feed_2
def dkwX0_feed_0 : List UInt8 := [27, 133, 9, 20, 0, 106, 184, 0, 108, 154, 0, 5, 2, 172, 42, 180, 0, 112, 16, 120, 160, 0, 6]
abbrev dktX0_feed_0 : List UInt8 := dkwX0_feed_0 ++ dktX0_feed_1
theorem dksX0_feed_0 : cX0_feed.data.toList.drop 0 = dktX0_feed_0 := by decide +kernel
theorem dksX0_feed_1 : cX0_feed.data.toList.drop 23 = dktX0_feed_1 := dk_seg dksX0_feed_0 23 rfl rfl
theorem dksX0_feed_2 : cX0_feed.data.toList.drop 47 = dktX0_feed_2 := dk_seg dksX0_feed_1 24 rfl rfl
theorem dX0_feed_0 : decode cX0_feed 0 = .ok (.iload_n 1, 1) := dk_27 (dk_at dksX0_feed_0 0 rfl rfl)
theorem dX0_feed_1 : decode cX0_feed 1 = .ok (.i2l, 1) := dk_133 (dk_at dksX0_feed_0 1 rfl rfl)
theorem dX0_feed_2 : decode cX0_feed 2 = .ok (.lconst 0, 1) := dk_9 (dk_at dksX0_feed_0 2 rfl rfl)
theorem dX0_feed_3 : decode cX0_feed 3 = .ok (.ldc2_w 106, 3) := dk_20 0 106 (dk_at dksX0_feed_0 3 rfl rfl)
theorem dX0_feed_6 : decode cX0_feed 6 = .ok (.invokestatic 108, 3) := dk_184 0 108 (dk_at dksX0_feed_0 6 rfl rfl)
theorem dX0_feed_9 : decode cX0_feed 9 = .ok (.ifCond .ne 5, 3) := dk_154 0 5 (dk_at dksX0_feed_0 9 rfl rfl)
theorem dX0_feed_12 : decode cX0_feed 12 = .ok (.iconst (-1), 1) := dk_2 (dk_at dksX0_feed_0 12 rfl rfl)
theorem dX0_feed_13 : decode cX0_feed 13 = .ok (.ireturn, 1) := dk_172 (dk_at dksX0_feed_0 13 rfl rfl)
theorem dX0_feed_14 : decode cX0_feed 14 = .ok (.aload_n 0, 1) := dk_42 (dk_at dksX0_feed_0 14 rfl rfl)
theorem dX0_feed_15 : decode cX0_feed 15 = .ok (.getfield 112, 3) := dk_180 0 112 (dk_at dksX0_feed_0 15 rfl rfl)
theorem dX0_feed_18 : decode cX0_feed 18 = .ok (.bipush 120, 2) := dk_16 120 (dk_at dksX0_feed_0 18 rfl rfl)
theorem dX0_feed_20 : decode cX0_feed 20 = .ok (.if_icmp .ne 6, 3) := dk_160 0 6 (dk_at dksX0_feed_0 20 rfl rfl)
theorem dX0_feed_23 : decode cX0_feed 23 = .ok (.bipush (-3), 2) := dk_16 253 (dk_at dksX0_feed_1 0 rfl rfl)
theorem dX0_feed_25 : decode cX0_feed 25 = .ok (.ireturn, 1) := dk_172 (dk_at dksX0_feed_1 2 rfl rfl)
theorem dX0_feed_26 : decode cX0_feed 26 = .ok (.aload_n 0, 1) := dk_42 (dk_at dksX0_feed_1 3 rfl rfl)
theorem dX0_feed_27 : decode cX0_feed 27 = .ok (.getfield 37, 3) := dk_180 0 37 (dk_at dksX0_feed_1 4 rfl rfl)
theorem dX0_feed_30 : decode cX0_feed 30 = .ok (.aload_n 0, 1) := dk_42 (dk_at dksX0_feed_1 7 rfl rfl)
theorem dX0_feed_31 : decode cX0_feed 31 = .ok (.dup, 1) := dk_89 (dk_at dksX0_feed_1 8 rfl rfl)
theorem dX0_feed_32 : decode cX0_feed 32 = .ok (.getfield 112, 3) := dk_180 0 112 (dk_at dksX0_feed_1 9 rfl rfl)
theorem dX0_feed_35 : decode cX0_feed 35 = .ok (.dup_x1, 1) := dk_90 (dk_at dksX0_feed_1 12 rfl rfl)
theorem dX0_feed_36 : decode cX0_feed 36 = .ok (.iconst 1, 1) := dk_4 (dk_at dksX0_feed_1 13 rfl rfl)
theorem dX0_feed_37 : decode cX0_feed 37 = .ok (.iadd, 1) := dk_96 (dk_at dksX0_feed_1 14 rfl rfl)
theorem dX0_feed_38 : decode cX0_feed 38 = .ok (.putfield 112, 3) := dk_181 0 112 (dk_at dksX0_feed_1 15 rfl rfl)
theorem dX0_feed_41 : decode cX0_feed 41 = .ok (.iload_n 1, 1) := dk_27 (dk_at dksX0_feed_1 18 rfl rfl)
theorem dX0_feed_42 : decode cX0_feed 42 = .ok (.iastore, 1) := dk_79 (dk_at dksX0_feed_1 19 rfl rfl)
theorem dX0_feed_43 : decode cX0_feed 43 = .ok (.aload_n 0, 1) := dk_42 (dk_at dksX0_feed_1 20 rfl rfl)
theorem dX0_feed_44 : decode cX0_feed 44 = .ok (.getfield 112, 3) := dk_180 0 112 (dk_at dksX0_feed_1 21 rfl rfl)
theorem dX0_feed_47 : decode cX0_feed 47 = .ok (.ireturn, 1) := dk_172 (dk_at dksX0_feed_2 0 rfl rfl)
abbrev cX0_within : ByteArray := prog_1_method_1_code
def yX0_within : MethodName := ⟨RX0, "within", "(JJJ)Z"⟩
def dkwX0_within_0 : List UInt8 := [30, 32, 148, 155, 0, 14, 30, 22, 4, 148, 157, 0, 7, 4, 167, 0, 4, 3, 172]
abbrev dktX0_within_0 : List UInt8 := dkwX0_within_0 ++ []
theorem dksX0_within_0 : cX0_within.data.toList.drop 0 = dktX0_within_0 := by decide +kernel
theorem dX0_within_0 : decode cX0_within 0 = .ok (.lload_n 0, 1) := dk_30 (dk_at dksX0_within_0 0 rfl rfl)
theorem dX0_within_1 : decode cX0_within 1 = .ok (.lload_n 2, 1) := dk_32 (dk_at dksX0_within_0 1 rfl rfl)
theorem dX0_within_2 : decode cX0_within 2 = .ok (.lcmp, 1) := dk_148 (dk_at dksX0_within_0 2 rfl rfl)
theorem dX0_within_3 : decode cX0_within 3 = .ok (.ifCond .lt 14, 3) := dk_155 0 14 (dk_at dksX0_within_0 3 rfl rfl)
theorem dX0_within_6 : decode cX0_within 6 = .ok (.lload_n 0, 1) := dk_30 (dk_at dksX0_within_0 6 rfl rfl)
theorem dX0_within_7 : decode cX0_within 7 = .ok (.lload 4, 2) := dk_22 4 (dk_at dksX0_within_0 7 rfl rfl)
theorem dX0_within_9 : decode cX0_within 9 = .ok (.lcmp, 1) := dk_148 (dk_at dksX0_within_0 9 rfl rfl)
theorem dX0_within_10 : decode cX0_within 10 = .ok (.ifCond .gt 7, 3) := dk_157 0 7 (dk_at dksX0_within_0 10 rfl rfl)
theorem dX0_within_13 : decode cX0_within 13 = .ok (.iconst 1, 1) := dk_4 (dk_at dksX0_within_0 13 rfl rfl)
theorem dX0_within_14 : decode cX0_within 14 = .ok (.goto 4, 3) := dk_167 0 4 (dk_at dksX0_within_0 14 rfl rfl)
theorem dX0_within_17 : decode cX0_within 17 = .ok (.iconst 0, 1) := dk_3 (dk_at dksX0_within_0 17 rfl rfl)
theorem dX0_within_18 : decode cX0_within 18 = .ok (.ireturn, 1) := dk_172 (dk_at dksX0_within_0 18 rfl rfl)
abbrev cX0_place : ByteArray := prog_1_method_15_code
def yX0_place : MethodName := ⟨RX0, "place", "(I)I"⟩
def dkwX0_place_3 : List UInt8 := [180, 0, 130, 90, 4, 96, 181, 0, 130, 172]
abbrev dktX0_place_3 : List UInt8 := dkwX0_place_3 ++ []
def dkwX0_place_2 : List UInt8 := [180, 0, 141, 4, 50, 42, 180, 0, 130, 181, 0, 1, 42, 180, 0, 57, 42, 180, 0, 130, 44, 83, 42, 89]
abbrev dktX0_place_2 : List UInt8 := dkwX0_place_2 ++ dktX0_place_3
def dkwX0_place_1 : List UInt8 := [16, 253, 172, 187, 0, 55, 89, 183, 0, 140, 77, 44, 180, 0, 141, 3, 50, 27, 181, 0, 1, 44]
abbrev dktX0_place_1 : List UInt8 := dkwX0_place_1 ++ dktX0_place_2
def dkwX0_place_0 : List UInt8 := [27, 133, 9, 20, 0, 138, 184, 0, 108, 154, 0, 5, 2, 172, 42, 180, 0, 130, 16, 7, 160, 0, 6]
abbrev dktX0_place_0 : List UInt8 := dkwX0_place_0 ++ dktX0_place_1
theorem dksX0_place_0 : cX0_place.data.toList.drop 0 = dktX0_place_0 := by decide +kernel
theorem dksX0_place_1 : cX0_place.data.toList.drop 23 = dktX0_place_1 := dk_seg dksX0_place_0 23 rfl rfl
theorem dksX0_place_2 : cX0_place.data.toList.drop 45 = dktX0_place_2 := dk_seg dksX0_place_1 22 rfl rfl
theorem dksX0_place_3 : cX0_place.data.toList.drop 69 = dktX0_place_3 := dk_seg dksX0_place_2 24 rfl rfl
theorem dX0_place_0 : decode cX0_place 0 = .ok (.iload_n 1, 1) := dk_27 (dk_at dksX0_place_0 0 rfl rfl)
theorem dX0_place_1 : decode cX0_place 1 = .ok (.i2l, 1) := dk_133 (dk_at dksX0_place_0 1 rfl rfl)
theorem dX0_place_2 : decode cX0_place 2 = .ok (.lconst 0, 1) := dk_9 (dk_at dksX0_place_0 2 rfl rfl)
theorem dX0_place_3 : decode cX0_place 3 = .ok (.ldc2_w 138, 3) := dk_20 0 138 (dk_at dksX0_place_0 3 rfl rfl)
theorem dX0_place_6 : decode cX0_place 6 = .ok (.invokestatic 108, 3) := dk_184 0 108 (dk_at dksX0_place_0 6 rfl rfl)
theorem dX0_place_9 : decode cX0_place 9 = .ok (.ifCond .ne 5, 3) := dk_154 0 5 (dk_at dksX0_place_0 9 rfl rfl)
theorem dX0_place_12 : decode cX0_place 12 = .ok (.iconst (-1), 1) := dk_2 (dk_at dksX0_place_0 12 rfl rfl)
theorem dX0_place_13 : decode cX0_place 13 = .ok (.ireturn, 1) := dk_172 (dk_at dksX0_place_0 13 rfl rfl)
theorem dX0_place_14 : decode cX0_place 14 = .ok (.aload_n 0, 1) := dk_42 (dk_at dksX0_place_0 14 rfl rfl)
theorem dX0_place_15 : decode cX0_place 15 = .ok (.getfield 130, 3) := dk_180 0 130 (dk_at dksX0_place_0 15 rfl rfl)
theorem dX0_place_18 : decode cX0_place 18 = .ok (.bipush 7, 2) := dk_16 7 (dk_at dksX0_place_0 18 rfl rfl)
theorem dX0_place_20 : decode cX0_place 20 = .ok (.if_icmp .ne 6, 3) := dk_160 0 6 (dk_at dksX0_place_0 20 rfl rfl)
theorem dX0_place_23 : decode cX0_place 23 = .ok (.bipush (-3), 2) := dk_16 253 (dk_at dksX0_place_1 0 rfl rfl)
theorem dX0_place_25 : decode cX0_place 25 = .ok (.ireturn, 1) := dk_172 (dk_at dksX0_place_1 2 rfl rfl)
theorem dX0_place_26 : decode cX0_place 26 = .ok (.new 55, 3) := dk_187 0 55 (dk_at dksX0_place_1 3 rfl rfl)
theorem dX0_place_29 : decode cX0_place 29 = .ok (.dup, 1) := dk_89 (dk_at dksX0_place_1 6 rfl rfl)
theorem dX0_place_30 : decode cX0_place 30 = .ok (.invokespecial 140, 3) := dk_183 0 140 (dk_at dksX0_place_1 7 rfl rfl)
theorem dX0_place_33 : decode cX0_place 33 = .ok (.astore_n 2, 1) := dk_77 (dk_at dksX0_place_1 10 rfl rfl)
theorem dX0_place_34 : decode cX0_place 34 = .ok (.aload_n 2, 1) := dk_44 (dk_at dksX0_place_1 11 rfl rfl)
theorem dX0_place_35 : decode cX0_place 35 = .ok (.getfield 141, 3) := dk_180 0 141 (dk_at dksX0_place_1 12 rfl rfl)
theorem dX0_place_38 : decode cX0_place 38 = .ok (.iconst 0, 1) := dk_3 (dk_at dksX0_place_1 15 rfl rfl)
theorem dX0_place_39 : decode cX0_place 39 = .ok (.aaload, 1) := dk_50 (dk_at dksX0_place_1 16 rfl rfl)
theorem dX0_place_40 : decode cX0_place 40 = .ok (.iload_n 1, 1) := dk_27 (dk_at dksX0_place_1 17 rfl rfl)
theorem dX0_place_41 : decode cX0_place 41 = .ok (.putfield 1, 3) := dk_181 0 1 (dk_at dksX0_place_1 18 rfl rfl)
theorem dX0_place_44 : decode cX0_place 44 = .ok (.aload_n 2, 1) := dk_44 (dk_at dksX0_place_1 21 rfl rfl)
theorem dX0_place_45 : decode cX0_place 45 = .ok (.getfield 141, 3) := dk_180 0 141 (dk_at dksX0_place_2 0 rfl rfl)
theorem dX0_place_48 : decode cX0_place 48 = .ok (.iconst 1, 1) := dk_4 (dk_at dksX0_place_2 3 rfl rfl)
theorem dX0_place_49 : decode cX0_place 49 = .ok (.aaload, 1) := dk_50 (dk_at dksX0_place_2 4 rfl rfl)
theorem dX0_place_50 : decode cX0_place 50 = .ok (.aload_n 0, 1) := dk_42 (dk_at dksX0_place_2 5 rfl rfl)
theorem dX0_place_51 : decode cX0_place 51 = .ok (.getfield 130, 3) := dk_180 0 130 (dk_at dksX0_place_2 6 rfl rfl)
theorem dX0_place_54 : decode cX0_place 54 = .ok (.putfield 1, 3) := dk_181 0 1 (dk_at dksX0_place_2 9 rfl rfl)
theorem dX0_place_57 : decode cX0_place 57 = .ok (.aload_n 0, 1) := dk_42 (dk_at dksX0_place_2 12 rfl rfl)
theorem dX0_place_58 : decode cX0_place 58 = .ok (.getfield 57, 3) := dk_180 0 57 (dk_at dksX0_place_2 13 rfl rfl)
theorem dX0_place_61 : decode cX0_place 61 = .ok (.aload_n 0, 1) := dk_42 (dk_at dksX0_place_2 16 rfl rfl)
theorem dX0_place_62 : decode cX0_place 62 = .ok (.getfield 130, 3) := dk_180 0 130 (dk_at dksX0_place_2 17 rfl rfl)
theorem dX0_place_65 : decode cX0_place 65 = .ok (.aload_n 2, 1) := dk_44 (dk_at dksX0_place_2 20 rfl rfl)
theorem dX0_place_66 : decode cX0_place 66 = .ok (.aastore, 1) := dk_83 (dk_at dksX0_place_2 21 rfl rfl)
theorem dX0_place_67 : decode cX0_place 67 = .ok (.aload_n 0, 1) := dk_42 (dk_at dksX0_place_2 22 rfl rfl)
theorem dX0_place_68 : decode cX0_place 68 = .ok (.dup, 1) := dk_89 (dk_at dksX0_place_2 23 rfl rfl)
theorem dX0_place_69 : decode cX0_place 69 = .ok (.getfield 130, 3) := dk_180 0 130 (dk_at dksX0_place_3 0 rfl rfl)
theorem dX0_place_72 : decode cX0_place 72 = .ok (.dup_x1, 1) := dk_90 (dk_at dksX0_place_3 3 rfl rfl)
theorem dX0_place_73 : decode cX0_place 73 = .ok (.iconst 1, 1) := dk_4 (dk_at dksX0_place_3 4 rfl rfl)
theorem dX0_place_74 : decode cX0_place 74 = .ok (.iadd, 1) := dk_96 (dk_at dksX0_place_3 5 rfl rfl)
theorem dX0_place_75 : decode cX0_place 75 = .ok (.putfield 130, 3) := dk_181 0 130 (dk_at dksX0_place_3 6 rfl rfl)
theorem dX0_place_78 : decode cX0_place 78 = .ok (.ireturn, 1) := dk_172 (dk_at dksX0_place_3 9 rfl rfl)
abbrev cX0_way : ByteArray := prog_1_method_17_code
def yX0_way : MethodName := ⟨RX0, "way", "(I)I"⟩
def dkwX0_way_5 : List UInt8 := [96, 90, 181, 0, 154, 172]
abbrev dktX0_way_5 : List UInt8 := dkwX0_way_5 ++ []
def dkwX0_way_4 : List UInt8 := [16, 10, 112, 50, 89, 180, 0, 144, 4, 27, 16, 10, 108, 120, 128, 181, 0, 144, 42, 89, 180, 0, 154, 4]
abbrev dktX0_way_4 : List UInt8 := dkwX0_way_4 ++ dktX0_way_5
def dkwX0_way_3 : List UInt8 := [27, 16, 10, 108, 50, 89, 180, 0, 144, 4, 27, 16, 10, 112, 120, 128, 181, 0, 144, 42, 180, 0, 57, 27]
abbrev dktX0_way_3 : List UInt8 := dkwX0_way_3 ++ dktX0_way_4
def dkwX0_way_2 : List UInt8 := [182, 0, 150, 153, 0, 5, 2, 172, 42, 180, 0, 154, 16, 12, 160, 0, 6, 16, 253, 172, 42, 180, 0, 57]
abbrev dktX0_way_2 : List UInt8 := dkwX0_way_2 ++ dktX0_way_3
def dkwX0_way_1 : List UInt8 := [153, 0, 29, 27, 16, 10, 108, 27, 16, 10, 112, 159, 0, 18, 42, 27, 16, 10, 108, 27, 16, 10, 112]
abbrev dktX0_way_1 : List UInt8 := dkwX0_way_1 ++ dktX0_way_2
def dkwX0_way_0 : List UInt8 := [27, 155, 0, 51, 42, 27, 16, 10, 108, 182, 0, 147, 153, 0, 40, 42, 27, 16, 10, 112, 182, 0, 147]
abbrev dktX0_way_0 : List UInt8 := dkwX0_way_0 ++ dktX0_way_1
theorem dksX0_way_0 : cX0_way.data.toList.drop 0 = dktX0_way_0 := by decide +kernel
theorem dksX0_way_1 : cX0_way.data.toList.drop 23 = dktX0_way_1 := dk_seg dksX0_way_0 23 rfl rfl
theorem dksX0_way_2 : cX0_way.data.toList.drop 46 = dktX0_way_2 := dk_seg dksX0_way_1 23 rfl rfl
theorem dksX0_way_3 : cX0_way.data.toList.drop 70 = dktX0_way_3 := dk_seg dksX0_way_2 24 rfl rfl
theorem dksX0_way_4 : cX0_way.data.toList.drop 94 = dktX0_way_4 := dk_seg dksX0_way_3 24 rfl rfl
theorem dksX0_way_5 : cX0_way.data.toList.drop 118 = dktX0_way_5 := dk_seg dksX0_way_4 24 rfl rfl
theorem dX0_way_0 : decode cX0_way 0 = .ok (.iload_n 1, 1) := dk_27 (dk_at dksX0_way_0 0 rfl rfl)
theorem dX0_way_1 : decode cX0_way 1 = .ok (.ifCond .lt 51, 3) := dk_155 0 51 (dk_at dksX0_way_0 1 rfl rfl)
theorem dX0_way_4 : decode cX0_way 4 = .ok (.aload_n 0, 1) := dk_42 (dk_at dksX0_way_0 4 rfl rfl)
theorem dX0_way_5 : decode cX0_way 5 = .ok (.iload_n 1, 1) := dk_27 (dk_at dksX0_way_0 5 rfl rfl)
theorem dX0_way_6 : decode cX0_way 6 = .ok (.bipush 10, 2) := dk_16 10 (dk_at dksX0_way_0 6 rfl rfl)
theorem dX0_way_8 : decode cX0_way 8 = .ok (.idiv, 1) := dk_108 (dk_at dksX0_way_0 8 rfl rfl)
theorem dX0_way_9 : decode cX0_way 9 = .ok (.invokevirtual 147, 3) := dk_182 0 147 (dk_at dksX0_way_0 9 rfl rfl)
theorem dX0_way_12 : decode cX0_way 12 = .ok (.ifCond .eq 40, 3) := dk_153 0 40 (dk_at dksX0_way_0 12 rfl rfl)
theorem dX0_way_15 : decode cX0_way 15 = .ok (.aload_n 0, 1) := dk_42 (dk_at dksX0_way_0 15 rfl rfl)
theorem dX0_way_16 : decode cX0_way 16 = .ok (.iload_n 1, 1) := dk_27 (dk_at dksX0_way_0 16 rfl rfl)
theorem dX0_way_17 : decode cX0_way 17 = .ok (.bipush 10, 2) := dk_16 10 (dk_at dksX0_way_0 17 rfl rfl)
theorem dX0_way_19 : decode cX0_way 19 = .ok (.irem, 1) := dk_112 (dk_at dksX0_way_0 19 rfl rfl)
theorem dX0_way_20 : decode cX0_way 20 = .ok (.invokevirtual 147, 3) := dk_182 0 147 (dk_at dksX0_way_0 20 rfl rfl)
theorem dX0_way_23 : decode cX0_way 23 = .ok (.ifCond .eq 29, 3) := dk_153 0 29 (dk_at dksX0_way_1 0 rfl rfl)
theorem dX0_way_26 : decode cX0_way 26 = .ok (.iload_n 1, 1) := dk_27 (dk_at dksX0_way_1 3 rfl rfl)
theorem dX0_way_27 : decode cX0_way 27 = .ok (.bipush 10, 2) := dk_16 10 (dk_at dksX0_way_1 4 rfl rfl)
theorem dX0_way_29 : decode cX0_way 29 = .ok (.idiv, 1) := dk_108 (dk_at dksX0_way_1 6 rfl rfl)
theorem dX0_way_30 : decode cX0_way 30 = .ok (.iload_n 1, 1) := dk_27 (dk_at dksX0_way_1 7 rfl rfl)
theorem dX0_way_31 : decode cX0_way 31 = .ok (.bipush 10, 2) := dk_16 10 (dk_at dksX0_way_1 8 rfl rfl)
theorem dX0_way_33 : decode cX0_way 33 = .ok (.irem, 1) := dk_112 (dk_at dksX0_way_1 10 rfl rfl)
theorem dX0_way_34 : decode cX0_way 34 = .ok (.if_icmp .eq 18, 3) := dk_159 0 18 (dk_at dksX0_way_1 11 rfl rfl)
theorem dX0_way_37 : decode cX0_way 37 = .ok (.aload_n 0, 1) := dk_42 (dk_at dksX0_way_1 14 rfl rfl)
theorem dX0_way_38 : decode cX0_way 38 = .ok (.iload_n 1, 1) := dk_27 (dk_at dksX0_way_1 15 rfl rfl)
theorem dX0_way_39 : decode cX0_way 39 = .ok (.bipush 10, 2) := dk_16 10 (dk_at dksX0_way_1 16 rfl rfl)
theorem dX0_way_41 : decode cX0_way 41 = .ok (.idiv, 1) := dk_108 (dk_at dksX0_way_1 18 rfl rfl)
theorem dX0_way_42 : decode cX0_way 42 = .ok (.iload_n 1, 1) := dk_27 (dk_at dksX0_way_1 19 rfl rfl)
theorem dX0_way_43 : decode cX0_way 43 = .ok (.bipush 10, 2) := dk_16 10 (dk_at dksX0_way_1 20 rfl rfl)
theorem dX0_way_45 : decode cX0_way 45 = .ok (.irem, 1) := dk_112 (dk_at dksX0_way_1 22 rfl rfl)
theorem dX0_way_46 : decode cX0_way 46 = .ok (.invokevirtual 150, 3) := dk_182 0 150 (dk_at dksX0_way_2 0 rfl rfl)
theorem dX0_way_49 : decode cX0_way 49 = .ok (.ifCond .eq 5, 3) := dk_153 0 5 (dk_at dksX0_way_2 3 rfl rfl)
theorem dX0_way_52 : decode cX0_way 52 = .ok (.iconst (-1), 1) := dk_2 (dk_at dksX0_way_2 6 rfl rfl)
theorem dX0_way_53 : decode cX0_way 53 = .ok (.ireturn, 1) := dk_172 (dk_at dksX0_way_2 7 rfl rfl)
theorem dX0_way_54 : decode cX0_way 54 = .ok (.aload_n 0, 1) := dk_42 (dk_at dksX0_way_2 8 rfl rfl)
theorem dX0_way_55 : decode cX0_way 55 = .ok (.getfield 154, 3) := dk_180 0 154 (dk_at dksX0_way_2 9 rfl rfl)
theorem dX0_way_58 : decode cX0_way 58 = .ok (.bipush 12, 2) := dk_16 12 (dk_at dksX0_way_2 12 rfl rfl)
theorem dX0_way_60 : decode cX0_way 60 = .ok (.if_icmp .ne 6, 3) := dk_160 0 6 (dk_at dksX0_way_2 14 rfl rfl)
theorem dX0_way_63 : decode cX0_way 63 = .ok (.bipush (-3), 2) := dk_16 253 (dk_at dksX0_way_2 17 rfl rfl)
theorem dX0_way_65 : decode cX0_way 65 = .ok (.ireturn, 1) := dk_172 (dk_at dksX0_way_2 19 rfl rfl)
theorem dX0_way_66 : decode cX0_way 66 = .ok (.aload_n 0, 1) := dk_42 (dk_at dksX0_way_2 20 rfl rfl)
theorem dX0_way_67 : decode cX0_way 67 = .ok (.getfield 57, 3) := dk_180 0 57 (dk_at dksX0_way_2 21 rfl rfl)
theorem dX0_way_70 : decode cX0_way 70 = .ok (.iload_n 1, 1) := dk_27 (dk_at dksX0_way_3 0 rfl rfl)
theorem dX0_way_71 : decode cX0_way 71 = .ok (.bipush 10, 2) := dk_16 10 (dk_at dksX0_way_3 1 rfl rfl)
theorem dX0_way_73 : decode cX0_way 73 = .ok (.idiv, 1) := dk_108 (dk_at dksX0_way_3 3 rfl rfl)
theorem dX0_way_74 : decode cX0_way 74 = .ok (.aaload, 1) := dk_50 (dk_at dksX0_way_3 4 rfl rfl)
theorem dX0_way_75 : decode cX0_way 75 = .ok (.dup, 1) := dk_89 (dk_at dksX0_way_3 5 rfl rfl)
theorem dX0_way_76 : decode cX0_way 76 = .ok (.getfield 144, 3) := dk_180 0 144 (dk_at dksX0_way_3 6 rfl rfl)
theorem dX0_way_79 : decode cX0_way 79 = .ok (.iconst 1, 1) := dk_4 (dk_at dksX0_way_3 9 rfl rfl)
theorem dX0_way_80 : decode cX0_way 80 = .ok (.iload_n 1, 1) := dk_27 (dk_at dksX0_way_3 10 rfl rfl)
theorem dX0_way_81 : decode cX0_way 81 = .ok (.bipush 10, 2) := dk_16 10 (dk_at dksX0_way_3 11 rfl rfl)
theorem dX0_way_83 : decode cX0_way 83 = .ok (.irem, 1) := dk_112 (dk_at dksX0_way_3 13 rfl rfl)
theorem dX0_way_84 : decode cX0_way 84 = .ok (.ishl, 1) := dk_120 (dk_at dksX0_way_3 14 rfl rfl)
theorem dX0_way_85 : decode cX0_way 85 = .ok (.ior, 1) := dk_128 (dk_at dksX0_way_3 15 rfl rfl)
theorem dX0_way_86 : decode cX0_way 86 = .ok (.putfield 144, 3) := dk_181 0 144 (dk_at dksX0_way_3 16 rfl rfl)
theorem dX0_way_89 : decode cX0_way 89 = .ok (.aload_n 0, 1) := dk_42 (dk_at dksX0_way_3 19 rfl rfl)
theorem dX0_way_90 : decode cX0_way 90 = .ok (.getfield 57, 3) := dk_180 0 57 (dk_at dksX0_way_3 20 rfl rfl)
theorem dX0_way_93 : decode cX0_way 93 = .ok (.iload_n 1, 1) := dk_27 (dk_at dksX0_way_3 23 rfl rfl)
theorem dX0_way_94 : decode cX0_way 94 = .ok (.bipush 10, 2) := dk_16 10 (dk_at dksX0_way_4 0 rfl rfl)
theorem dX0_way_96 : decode cX0_way 96 = .ok (.irem, 1) := dk_112 (dk_at dksX0_way_4 2 rfl rfl)
theorem dX0_way_97 : decode cX0_way 97 = .ok (.aaload, 1) := dk_50 (dk_at dksX0_way_4 3 rfl rfl)
theorem dX0_way_98 : decode cX0_way 98 = .ok (.dup, 1) := dk_89 (dk_at dksX0_way_4 4 rfl rfl)
theorem dX0_way_99 : decode cX0_way 99 = .ok (.getfield 144, 3) := dk_180 0 144 (dk_at dksX0_way_4 5 rfl rfl)
theorem dX0_way_102 : decode cX0_way 102 = .ok (.iconst 1, 1) := dk_4 (dk_at dksX0_way_4 8 rfl rfl)
theorem dX0_way_103 : decode cX0_way 103 = .ok (.iload_n 1, 1) := dk_27 (dk_at dksX0_way_4 9 rfl rfl)
theorem dX0_way_104 : decode cX0_way 104 = .ok (.bipush 10, 2) := dk_16 10 (dk_at dksX0_way_4 10 rfl rfl)
theorem dX0_way_106 : decode cX0_way 106 = .ok (.idiv, 1) := dk_108 (dk_at dksX0_way_4 12 rfl rfl)
theorem dX0_way_107 : decode cX0_way 107 = .ok (.ishl, 1) := dk_120 (dk_at dksX0_way_4 13 rfl rfl)
theorem dX0_way_108 : decode cX0_way 108 = .ok (.ior, 1) := dk_128 (dk_at dksX0_way_4 14 rfl rfl)
theorem dX0_way_109 : decode cX0_way 109 = .ok (.putfield 144, 3) := dk_181 0 144 (dk_at dksX0_way_4 15 rfl rfl)
theorem dX0_way_112 : decode cX0_way 112 = .ok (.aload_n 0, 1) := dk_42 (dk_at dksX0_way_4 18 rfl rfl)
theorem dX0_way_113 : decode cX0_way 113 = .ok (.dup, 1) := dk_89 (dk_at dksX0_way_4 19 rfl rfl)
theorem dX0_way_114 : decode cX0_way 114 = .ok (.getfield 154, 3) := dk_180 0 154 (dk_at dksX0_way_4 20 rfl rfl)
theorem dX0_way_117 : decode cX0_way 117 = .ok (.iconst 1, 1) := dk_4 (dk_at dksX0_way_4 23 rfl rfl)
theorem dX0_way_118 : decode cX0_way 118 = .ok (.iadd, 1) := dk_96 (dk_at dksX0_way_5 0 rfl rfl)
theorem dX0_way_119 : decode cX0_way 119 = .ok (.dup_x1, 1) := dk_90 (dk_at dksX0_way_5 1 rfl rfl)
theorem dX0_way_120 : decode cX0_way 120 = .ok (.putfield 154, 3) := dk_181 0 154 (dk_at dksX0_way_5 2 rfl rfl)
theorem dX0_way_123 : decode cX0_way 123 = .ok (.ireturn, 1) := dk_172 (dk_at dksX0_way_5 5 rfl rfl)
abbrev cX0_isPlace : ByteArray := prog_1_method_12_code
def yX0_isPlace : MethodName := ⟨RX0, "isPlace", "(I)Z"⟩
def dkwX0_isPlace_0 : List UInt8 := [27, 133, 9, 42, 180, 0, 130, 4, 100, 133, 184, 0, 108, 172]
abbrev dktX0_isPlace_0 : List UInt8 := dkwX0_isPlace_0 ++ []
theorem dksX0_isPlace_0 : cX0_isPlace.data.toList.drop 0 = dktX0_isPlace_0 := by decide +kernel
theorem dX0_isPlace_0 : decode cX0_isPlace 0 = .ok (.iload_n 1, 1) := dk_27 (dk_at dksX0_isPlace_0 0 rfl rfl)
theorem dX0_isPlace_1 : decode cX0_isPlace 1 = .ok (.i2l, 1) := dk_133 (dk_at dksX0_isPlace_0 1 rfl rfl)
theorem dX0_isPlace_2 : decode cX0_isPlace 2 = .ok (.lconst 0, 1) := dk_9 (dk_at dksX0_isPlace_0 2 rfl rfl)
theorem dX0_isPlace_3 : decode cX0_isPlace 3 = .ok (.aload_n 0, 1) := dk_42 (dk_at dksX0_isPlace_0 3 rfl rfl)
theorem dX0_isPlace_4 : decode cX0_isPlace 4 = .ok (.getfield 130, 3) := dk_180 0 130 (dk_at dksX0_isPlace_0 4 rfl rfl)
theorem dX0_isPlace_7 : decode cX0_isPlace 7 = .ok (.iconst 1, 1) := dk_4 (dk_at dksX0_isPlace_0 7 rfl rfl)
theorem dX0_isPlace_8 : decode cX0_isPlace 8 = .ok (.isub, 1) := dk_100 (dk_at dksX0_isPlace_0 8 rfl rfl)
theorem dX0_isPlace_9 : decode cX0_isPlace 9 = .ok (.i2l, 1) := dk_133 (dk_at dksX0_isPlace_0 9 rfl rfl)
theorem dX0_isPlace_10 : decode cX0_isPlace 10 = .ok (.invokestatic 108, 3) := dk_184 0 108 (dk_at dksX0_isPlace_0 10 rfl rfl)
theorem dX0_isPlace_13 : decode cX0_isPlace 13 = .ok (.ireturn, 1) := dk_172 (dk_at dksX0_isPlace_0 13 rfl rfl)
abbrev cX0_isWay : ByteArray := prog_1_method_16_code
def yX0_isWay : MethodName := ⟨RX0, "isWay", "(II)Z"⟩
def dkwX0_isWay_0 : List UInt8 := [42, 180, 0, 57, 27, 50, 180, 0, 144, 28, 122, 4, 126, 4, 160, 0, 7, 4, 167, 0, 4, 3, 172]
abbrev dktX0_isWay_0 : List UInt8 := dkwX0_isWay_0 ++ []
theorem dksX0_isWay_0 : cX0_isWay.data.toList.drop 0 = dktX0_isWay_0 := by decide +kernel
theorem dX0_isWay_0 : decode cX0_isWay 0 = .ok (.aload_n 0, 1) := dk_42 (dk_at dksX0_isWay_0 0 rfl rfl)
theorem dX0_isWay_1 : decode cX0_isWay 1 = .ok (.getfield 57, 3) := dk_180 0 57 (dk_at dksX0_isWay_0 1 rfl rfl)
theorem dX0_isWay_4 : decode cX0_isWay 4 = .ok (.iload_n 1, 1) := dk_27 (dk_at dksX0_isWay_0 4 rfl rfl)
theorem dX0_isWay_5 : decode cX0_isWay 5 = .ok (.aaload, 1) := dk_50 (dk_at dksX0_isWay_0 5 rfl rfl)
theorem dX0_isWay_6 : decode cX0_isWay 6 = .ok (.getfield 144, 3) := dk_180 0 144 (dk_at dksX0_isWay_0 6 rfl rfl)
theorem dX0_isWay_9 : decode cX0_isWay 9 = .ok (.iload_n 2, 1) := dk_28 (dk_at dksX0_isWay_0 9 rfl rfl)
theorem dX0_isWay_10 : decode cX0_isWay 10 = .ok (.ishr, 1) := dk_122 (dk_at dksX0_isWay_0 10 rfl rfl)
theorem dX0_isWay_11 : decode cX0_isWay 11 = .ok (.iconst 1, 1) := dk_4 (dk_at dksX0_isWay_0 11 rfl rfl)
theorem dX0_isWay_12 : decode cX0_isWay 12 = .ok (.iand, 1) := dk_126 (dk_at dksX0_isWay_0 12 rfl rfl)
theorem dX0_isWay_13 : decode cX0_isWay 13 = .ok (.iconst 1, 1) := dk_4 (dk_at dksX0_isWay_0 13 rfl rfl)
theorem dX0_isWay_14 : decode cX0_isWay 14 = .ok (.if_icmp .ne 7, 3) := dk_160 0 7 (dk_at dksX0_isWay_0 14 rfl rfl)
theorem dX0_isWay_17 : decode cX0_isWay 17 = .ok (.iconst 1, 1) := dk_4 (dk_at dksX0_isWay_0 17 rfl rfl)
theorem dX0_isWay_18 : decode cX0_isWay 18 = .ok (.goto 4, 3) := dk_167 0 4 (dk_at dksX0_isWay_0 18 rfl rfl)
theorem dX0_isWay_21 : decode cX0_isWay 21 = .ok (.iconst 0, 1) := dk_3 (dk_at dksX0_isWay_0 21 rfl rfl)
theorem dX0_isWay_22 : decode cX0_isWay 22 = .ok (.ireturn, 1) := dk_172 (dk_at dksX0_isWay_0 22 rfl rfl)
abbrev cX0_person : ByteArray := prog_1_method_20_code
def yX0_person : MethodName := ⟨RX0, "person", "(II)I"⟩
def dkwX0_person_2 : List UInt8 := [42, 180, 0, 133, 4, 100, 172]
abbrev dktX0_person_2 : List UInt8 := dkwX0_person_2 ++ []
def dkwX0_person_1 : List UInt8 := [180, 0, 133, 16, 6, 160, 0, 6, 16, 253, 172, 42, 27, 16, 10, 108, 27, 16, 10, 112, 28, 182, 0, 170]
abbrev dktX0_person_1 : List UInt8 := dkwX0_person_1 ++ dktX0_person_2
def dkwX0_person_0 : List UInt8 := [27, 155, 0, 19, 42, 27, 16, 10, 108, 27, 16, 10, 112, 28, 182, 0, 166, 154, 0, 5, 2, 172, 42]
abbrev dktX0_person_0 : List UInt8 := dkwX0_person_0 ++ dktX0_person_1
theorem dksX0_person_0 : cX0_person.data.toList.drop 0 = dktX0_person_0 := by decide +kernel
theorem dksX0_person_1 : cX0_person.data.toList.drop 23 = dktX0_person_1 := dk_seg dksX0_person_0 23 rfl rfl
theorem dksX0_person_2 : cX0_person.data.toList.drop 47 = dktX0_person_2 := dk_seg dksX0_person_1 24 rfl rfl
theorem dX0_person_0 : decode cX0_person 0 = .ok (.iload_n 1, 1) := dk_27 (dk_at dksX0_person_0 0 rfl rfl)
theorem dX0_person_1 : decode cX0_person 1 = .ok (.ifCond .lt 19, 3) := dk_155 0 19 (dk_at dksX0_person_0 1 rfl rfl)
theorem dX0_person_4 : decode cX0_person 4 = .ok (.aload_n 0, 1) := dk_42 (dk_at dksX0_person_0 4 rfl rfl)
theorem dX0_person_5 : decode cX0_person 5 = .ok (.iload_n 1, 1) := dk_27 (dk_at dksX0_person_0 5 rfl rfl)
theorem dX0_person_6 : decode cX0_person 6 = .ok (.bipush 10, 2) := dk_16 10 (dk_at dksX0_person_0 6 rfl rfl)
theorem dX0_person_8 : decode cX0_person 8 = .ok (.idiv, 1) := dk_108 (dk_at dksX0_person_0 8 rfl rfl)
theorem dX0_person_9 : decode cX0_person 9 = .ok (.iload_n 1, 1) := dk_27 (dk_at dksX0_person_0 9 rfl rfl)
theorem dX0_person_10 : decode cX0_person 10 = .ok (.bipush 10, 2) := dk_16 10 (dk_at dksX0_person_0 10 rfl rfl)
theorem dX0_person_12 : decode cX0_person 12 = .ok (.irem, 1) := dk_112 (dk_at dksX0_person_0 12 rfl rfl)
theorem dX0_person_13 : decode cX0_person 13 = .ok (.iload_n 2, 1) := dk_28 (dk_at dksX0_person_0 13 rfl rfl)
theorem dX0_person_14 : decode cX0_person 14 = .ok (.invokevirtual 166, 3) := dk_182 0 166 (dk_at dksX0_person_0 14 rfl rfl)
theorem dX0_person_17 : decode cX0_person 17 = .ok (.ifCond .ne 5, 3) := dk_154 0 5 (dk_at dksX0_person_0 17 rfl rfl)
theorem dX0_person_20 : decode cX0_person 20 = .ok (.iconst (-1), 1) := dk_2 (dk_at dksX0_person_0 20 rfl rfl)
theorem dX0_person_21 : decode cX0_person 21 = .ok (.ireturn, 1) := dk_172 (dk_at dksX0_person_0 21 rfl rfl)
theorem dX0_person_22 : decode cX0_person 22 = .ok (.aload_n 0, 1) := dk_42 (dk_at dksX0_person_0 22 rfl rfl)
theorem dX0_person_23 : decode cX0_person 23 = .ok (.getfield 133, 3) := dk_180 0 133 (dk_at dksX0_person_1 0 rfl rfl)
theorem dX0_person_26 : decode cX0_person 26 = .ok (.bipush 6, 2) := dk_16 6 (dk_at dksX0_person_1 3 rfl rfl)
theorem dX0_person_28 : decode cX0_person 28 = .ok (.if_icmp .ne 6, 3) := dk_160 0 6 (dk_at dksX0_person_1 5 rfl rfl)
theorem dX0_person_31 : decode cX0_person 31 = .ok (.bipush (-3), 2) := dk_16 253 (dk_at dksX0_person_1 8 rfl rfl)
theorem dX0_person_33 : decode cX0_person 33 = .ok (.ireturn, 1) := dk_172 (dk_at dksX0_person_1 10 rfl rfl)
theorem dX0_person_34 : decode cX0_person 34 = .ok (.aload_n 0, 1) := dk_42 (dk_at dksX0_person_1 11 rfl rfl)
theorem dX0_person_35 : decode cX0_person 35 = .ok (.iload_n 1, 1) := dk_27 (dk_at dksX0_person_1 12 rfl rfl)
theorem dX0_person_36 : decode cX0_person 36 = .ok (.bipush 10, 2) := dk_16 10 (dk_at dksX0_person_1 13 rfl rfl)
theorem dX0_person_38 : decode cX0_person 38 = .ok (.idiv, 1) := dk_108 (dk_at dksX0_person_1 15 rfl rfl)
theorem dX0_person_39 : decode cX0_person 39 = .ok (.iload_n 1, 1) := dk_27 (dk_at dksX0_person_1 16 rfl rfl)
theorem dX0_person_40 : decode cX0_person 40 = .ok (.bipush 10, 2) := dk_16 10 (dk_at dksX0_person_1 17 rfl rfl)
theorem dX0_person_42 : decode cX0_person 42 = .ok (.irem, 1) := dk_112 (dk_at dksX0_person_1 19 rfl rfl)
theorem dX0_person_43 : decode cX0_person 43 = .ok (.iload_n 2, 1) := dk_28 (dk_at dksX0_person_1 20 rfl rfl)
theorem dX0_person_44 : decode cX0_person 44 = .ok (.invokevirtual 170, 3) := dk_182 0 170 (dk_at dksX0_person_1 21 rfl rfl)
theorem dX0_person_47 : decode cX0_person 47 = .ok (.aload_n 0, 1) := dk_42 (dk_at dksX0_person_2 0 rfl rfl)
theorem dX0_person_48 : decode cX0_person 48 = .ok (.getfield 133, 3) := dk_180 0 133 (dk_at dksX0_person_2 1 rfl rfl)
theorem dX0_person_51 : decode cX0_person 51 = .ok (.iconst 1, 1) := dk_4 (dk_at dksX0_person_2 4 rfl rfl)
theorem dX0_person_52 : decode cX0_person 52 = .ok (.isub, 1) := dk_100 (dk_at dksX0_person_2 5 rfl rfl)
theorem dX0_person_53 : decode cX0_person 53 = .ok (.ireturn, 1) := dk_172 (dk_at dksX0_person_2 6 rfl rfl)
abbrev cX0_mayBe : ByteArray := prog_1_method_18_code
def yX0_mayBe : MethodName := ⟨RX0, "mayBe", "(III)Z"⟩
def dkwX0_mayBe_1 : List UInt8 := [42, 29, 182, 0, 147, 153, 0, 7, 4, 167, 0, 4, 3, 172]
abbrev dktX0_mayBe_1 : List UInt8 := dkwX0_mayBe_1 ++ []
def dkwX0_mayBe_0 : List UInt8 := [27, 133, 9, 20, 0, 138, 184, 0, 108, 153, 0, 27, 28, 133, 9, 20, 0, 138, 184, 0, 108, 153, 0, 15]
abbrev dktX0_mayBe_0 : List UInt8 := dkwX0_mayBe_0 ++ dktX0_mayBe_1
theorem dksX0_mayBe_0 : cX0_mayBe.data.toList.drop 0 = dktX0_mayBe_0 := by decide +kernel
theorem dksX0_mayBe_1 : cX0_mayBe.data.toList.drop 24 = dktX0_mayBe_1 := dk_seg dksX0_mayBe_0 24 rfl rfl
theorem dX0_mayBe_0 : decode cX0_mayBe 0 = .ok (.iload_n 1, 1) := dk_27 (dk_at dksX0_mayBe_0 0 rfl rfl)
theorem dX0_mayBe_1 : decode cX0_mayBe 1 = .ok (.i2l, 1) := dk_133 (dk_at dksX0_mayBe_0 1 rfl rfl)
theorem dX0_mayBe_2 : decode cX0_mayBe 2 = .ok (.lconst 0, 1) := dk_9 (dk_at dksX0_mayBe_0 2 rfl rfl)
theorem dX0_mayBe_3 : decode cX0_mayBe 3 = .ok (.ldc2_w 138, 3) := dk_20 0 138 (dk_at dksX0_mayBe_0 3 rfl rfl)
theorem dX0_mayBe_6 : decode cX0_mayBe 6 = .ok (.invokestatic 108, 3) := dk_184 0 108 (dk_at dksX0_mayBe_0 6 rfl rfl)
theorem dX0_mayBe_9 : decode cX0_mayBe 9 = .ok (.ifCond .eq 27, 3) := dk_153 0 27 (dk_at dksX0_mayBe_0 9 rfl rfl)
theorem dX0_mayBe_12 : decode cX0_mayBe 12 = .ok (.iload_n 2, 1) := dk_28 (dk_at dksX0_mayBe_0 12 rfl rfl)
theorem dX0_mayBe_13 : decode cX0_mayBe 13 = .ok (.i2l, 1) := dk_133 (dk_at dksX0_mayBe_0 13 rfl rfl)
theorem dX0_mayBe_14 : decode cX0_mayBe 14 = .ok (.lconst 0, 1) := dk_9 (dk_at dksX0_mayBe_0 14 rfl rfl)
theorem dX0_mayBe_15 : decode cX0_mayBe 15 = .ok (.ldc2_w 138, 3) := dk_20 0 138 (dk_at dksX0_mayBe_0 15 rfl rfl)
theorem dX0_mayBe_18 : decode cX0_mayBe 18 = .ok (.invokestatic 108, 3) := dk_184 0 108 (dk_at dksX0_mayBe_0 18 rfl rfl)
theorem dX0_mayBe_21 : decode cX0_mayBe 21 = .ok (.ifCond .eq 15, 3) := dk_153 0 15 (dk_at dksX0_mayBe_0 21 rfl rfl)
theorem dX0_mayBe_24 : decode cX0_mayBe 24 = .ok (.aload_n 0, 1) := dk_42 (dk_at dksX0_mayBe_1 0 rfl rfl)
theorem dX0_mayBe_25 : decode cX0_mayBe 25 = .ok (.iload_n 3, 1) := dk_29 (dk_at dksX0_mayBe_1 1 rfl rfl)
theorem dX0_mayBe_26 : decode cX0_mayBe 26 = .ok (.invokevirtual 147, 3) := dk_182 0 147 (dk_at dksX0_mayBe_1 2 rfl rfl)
theorem dX0_mayBe_29 : decode cX0_mayBe 29 = .ok (.ifCond .eq 7, 3) := dk_153 0 7 (dk_at dksX0_mayBe_1 5 rfl rfl)
theorem dX0_mayBe_32 : decode cX0_mayBe 32 = .ok (.iconst 1, 1) := dk_4 (dk_at dksX0_mayBe_1 8 rfl rfl)
theorem dX0_mayBe_33 : decode cX0_mayBe 33 = .ok (.goto 4, 3) := dk_167 0 4 (dk_at dksX0_mayBe_1 9 rfl rfl)
theorem dX0_mayBe_36 : decode cX0_mayBe 36 = .ok (.iconst 0, 1) := dk_3 (dk_at dksX0_mayBe_1 12 rfl rfl)
theorem dX0_mayBe_37 : decode cX0_mayBe 37 = .ok (.ireturn, 1) := dk_172 (dk_at dksX0_mayBe_1 13 rfl rfl)
abbrev cX0_add : ByteArray := prog_1_method_19_code
def yX0_add : MethodName := ⟨RX0, "add", "(III)V"⟩
def dkwX0_add_2 : List UInt8 := [180, 0, 51, 180, 0, 164, 42, 89, 180, 0, 133, 90, 4, 96, 181, 0, 133, 29, 79, 177]
abbrev dktX0_add_2 : List UInt8 := dkwX0_add_2 ++ []
def dkwX0_add_1 : List UInt8 := [50, 180, 0, 158, 28, 181, 0, 1, 42, 180, 0, 51, 180, 0, 161, 42, 180, 0, 133, 27, 79, 42]
abbrev dktX0_add_1 : List UInt8 := dkwX0_add_1 ++ dktX0_add_2
def dkwX0_add_0 : List UInt8 := [42, 180, 0, 63, 42, 180, 0, 133, 187, 0, 61, 89, 183, 0, 157, 83, 42, 180, 0, 63, 42, 180, 0, 133]
abbrev dktX0_add_0 : List UInt8 := dkwX0_add_0 ++ dktX0_add_1
theorem dksX0_add_0 : cX0_add.data.toList.drop 0 = dktX0_add_0 := by decide +kernel
theorem dksX0_add_1 : cX0_add.data.toList.drop 24 = dktX0_add_1 := dk_seg dksX0_add_0 24 rfl rfl
theorem dksX0_add_2 : cX0_add.data.toList.drop 46 = dktX0_add_2 := dk_seg dksX0_add_1 22 rfl rfl
theorem dX0_add_0 : decode cX0_add 0 = .ok (.aload_n 0, 1) := dk_42 (dk_at dksX0_add_0 0 rfl rfl)
theorem dX0_add_1 : decode cX0_add 1 = .ok (.getfield 63, 3) := dk_180 0 63 (dk_at dksX0_add_0 1 rfl rfl)
theorem dX0_add_4 : decode cX0_add 4 = .ok (.aload_n 0, 1) := dk_42 (dk_at dksX0_add_0 4 rfl rfl)
theorem dX0_add_5 : decode cX0_add 5 = .ok (.getfield 133, 3) := dk_180 0 133 (dk_at dksX0_add_0 5 rfl rfl)
theorem dX0_add_8 : decode cX0_add 8 = .ok (.new 61, 3) := dk_187 0 61 (dk_at dksX0_add_0 8 rfl rfl)
theorem dX0_add_11 : decode cX0_add 11 = .ok (.dup, 1) := dk_89 (dk_at dksX0_add_0 11 rfl rfl)
theorem dX0_add_12 : decode cX0_add 12 = .ok (.invokespecial 157, 3) := dk_183 0 157 (dk_at dksX0_add_0 12 rfl rfl)
theorem dX0_add_15 : decode cX0_add 15 = .ok (.aastore, 1) := dk_83 (dk_at dksX0_add_0 15 rfl rfl)
theorem dX0_add_16 : decode cX0_add 16 = .ok (.aload_n 0, 1) := dk_42 (dk_at dksX0_add_0 16 rfl rfl)
theorem dX0_add_17 : decode cX0_add 17 = .ok (.getfield 63, 3) := dk_180 0 63 (dk_at dksX0_add_0 17 rfl rfl)
theorem dX0_add_20 : decode cX0_add 20 = .ok (.aload_n 0, 1) := dk_42 (dk_at dksX0_add_0 20 rfl rfl)
theorem dX0_add_21 : decode cX0_add 21 = .ok (.getfield 133, 3) := dk_180 0 133 (dk_at dksX0_add_0 21 rfl rfl)
theorem dX0_add_24 : decode cX0_add 24 = .ok (.aaload, 1) := dk_50 (dk_at dksX0_add_1 0 rfl rfl)
theorem dX0_add_25 : decode cX0_add 25 = .ok (.getfield 158, 3) := dk_180 0 158 (dk_at dksX0_add_1 1 rfl rfl)
theorem dX0_add_28 : decode cX0_add 28 = .ok (.iload_n 2, 1) := dk_28 (dk_at dksX0_add_1 4 rfl rfl)
theorem dX0_add_29 : decode cX0_add 29 = .ok (.putfield 1, 3) := dk_181 0 1 (dk_at dksX0_add_1 5 rfl rfl)
theorem dX0_add_32 : decode cX0_add 32 = .ok (.aload_n 0, 1) := dk_42 (dk_at dksX0_add_1 8 rfl rfl)
theorem dX0_add_33 : decode cX0_add 33 = .ok (.getfield 51, 3) := dk_180 0 51 (dk_at dksX0_add_1 9 rfl rfl)
theorem dX0_add_36 : decode cX0_add 36 = .ok (.getfield 161, 3) := dk_180 0 161 (dk_at dksX0_add_1 12 rfl rfl)
theorem dX0_add_39 : decode cX0_add 39 = .ok (.aload_n 0, 1) := dk_42 (dk_at dksX0_add_1 15 rfl rfl)
theorem dX0_add_40 : decode cX0_add 40 = .ok (.getfield 133, 3) := dk_180 0 133 (dk_at dksX0_add_1 16 rfl rfl)
theorem dX0_add_43 : decode cX0_add 43 = .ok (.iload_n 1, 1) := dk_27 (dk_at dksX0_add_1 19 rfl rfl)
theorem dX0_add_44 : decode cX0_add 44 = .ok (.iastore, 1) := dk_79 (dk_at dksX0_add_1 20 rfl rfl)
theorem dX0_add_45 : decode cX0_add 45 = .ok (.aload_n 0, 1) := dk_42 (dk_at dksX0_add_1 21 rfl rfl)
theorem dX0_add_46 : decode cX0_add 46 = .ok (.getfield 51, 3) := dk_180 0 51 (dk_at dksX0_add_2 0 rfl rfl)
theorem dX0_add_49 : decode cX0_add 49 = .ok (.getfield 164, 3) := dk_180 0 164 (dk_at dksX0_add_2 3 rfl rfl)
theorem dX0_add_52 : decode cX0_add 52 = .ok (.aload_n 0, 1) := dk_42 (dk_at dksX0_add_2 6 rfl rfl)
theorem dX0_add_53 : decode cX0_add 53 = .ok (.dup, 1) := dk_89 (dk_at dksX0_add_2 7 rfl rfl)
theorem dX0_add_54 : decode cX0_add 54 = .ok (.getfield 133, 3) := dk_180 0 133 (dk_at dksX0_add_2 8 rfl rfl)
theorem dX0_add_57 : decode cX0_add 57 = .ok (.dup_x1, 1) := dk_90 (dk_at dksX0_add_2 11 rfl rfl)
theorem dX0_add_58 : decode cX0_add 58 = .ok (.iconst 1, 1) := dk_4 (dk_at dksX0_add_2 12 rfl rfl)
theorem dX0_add_59 : decode cX0_add 59 = .ok (.iadd, 1) := dk_96 (dk_at dksX0_add_2 13 rfl rfl)
theorem dX0_add_60 : decode cX0_add 60 = .ok (.putfield 133, 3) := dk_181 0 133 (dk_at dksX0_add_2 14 rfl rfl)
theorem dX0_add_63 : decode cX0_add 63 = .ok (.iload_n 3, 1) := dk_29 (dk_at dksX0_add_2 17 rfl rfl)
theorem dX0_add_64 : decode cX0_add 64 = .ok (.iastore, 1) := dk_79 (dk_at dksX0_add_2 18 rfl rfl)
theorem dX0_add_65 : decode cX0_add 65 = .ok (.return_, 1) := dk_177 (dk_at dksX0_add_2 19 rfl rfl)
abbrev cX0_people : ByteArray := prog_1_method_22_code
def yX0_people : MethodName := ⟨RX0, "people", "(III)I"⟩
def dkwX0_people_7 : List UInt8 := [21, 6, 172]
abbrev dktX0_people_7 : List UInt8 := dkwX0_people_7 ++ []
def dkwX0_people_6 : List UInt8 := [182, 0, 170, 132, 6, 1, 167, 255, 162, 167, 0, 14, 58, 7, 42, 180, 0, 133, 21, 5, 100, 54, 6]
abbrev dktX0_people_6 : List UInt8 := dkwX0_people_6 ++ dktX0_people_7
def dkwX0_people_5 : List UInt8 := [21, 9, 21, 10, 21, 11, 182, 0, 166, 154, 0, 8, 42, 180, 0, 74, 191, 42, 21, 9, 21, 10, 21, 11]
abbrev dktX0_people_5 : List UInt8 := dkwX0_people_5 ++ dktX0_people_6
def dkwX0_people_4 : List UInt8 := [42, 25, 4, 22, 7, 20, 0, 191, 97, 182, 0, 187, 54, 11, 42, 180, 0, 133, 16, 6, 159, 0, 16, 42]
abbrev dktX0_people_4 : List UInt8 := dkwX0_people_4 ++ dktX0_people_5
def dkwX0_people_3 : List UInt8 := [55, 7, 42, 25, 4, 22, 7, 182, 0, 187, 54, 9, 42, 25, 4, 22, 7, 10, 97, 182, 0, 187, 54, 10]
abbrev dktX0_people_3 : List UInt8 := dkwX0_people_3 ++ dktX0_people_4
def dkwX0_people_2 : List UInt8 := [180, 0, 133, 54, 5, 3, 54, 6, 21, 6, 29, 162, 0, 94, 28, 133, 20, 0, 185, 21, 6, 133, 105, 97]
abbrev dktX0_people_2 : List UInt8 := dkwX0_people_2 ++ dktX0_people_3
def dkwX0_people_1 : List UInt8 := [180, 0, 100, 27, 50, 58, 4, 25, 4, 198, 0, 14, 25, 4, 184, 0, 181, 153, 0, 6, 16, 244, 172, 42]
abbrev dktX0_people_1 : List UInt8 := dkwX0_people_1 ++ dktX0_people_2
def dkwX0_people_0 : List UInt8 := [27, 184, 0, 176, 153, 0, 15, 29, 133, 10, 20, 0, 179, 184, 0, 108, 154, 0, 5, 2, 172, 42]
abbrev dktX0_people_0 : List UInt8 := dkwX0_people_0 ++ dktX0_people_1
theorem dksX0_people_0 : cX0_people.data.toList.drop 0 = dktX0_people_0 := by decide +kernel
theorem dksX0_people_1 : cX0_people.data.toList.drop 22 = dktX0_people_1 := dk_seg dksX0_people_0 22 rfl rfl
theorem dksX0_people_2 : cX0_people.data.toList.drop 46 = dktX0_people_2 := dk_seg dksX0_people_1 24 rfl rfl
theorem dksX0_people_3 : cX0_people.data.toList.drop 70 = dktX0_people_3 := dk_seg dksX0_people_2 24 rfl rfl
theorem dksX0_people_4 : cX0_people.data.toList.drop 94 = dktX0_people_4 := dk_seg dksX0_people_3 24 rfl rfl
theorem dksX0_people_5 : cX0_people.data.toList.drop 118 = dktX0_people_5 := dk_seg dksX0_people_4 24 rfl rfl
theorem dksX0_people_6 : cX0_people.data.toList.drop 142 = dktX0_people_6 := dk_seg dksX0_people_5 24 rfl rfl
theorem dksX0_people_7 : cX0_people.data.toList.drop 165 = dktX0_people_7 := dk_seg dksX0_people_6 23 rfl rfl
theorem dX0_people_0 : decode cX0_people 0 = .ok (.iload_n 1, 1) := dk_27 (dk_at dksX0_people_0 0 rfl rfl)
theorem dX0_people_1 : decode cX0_people 1 = .ok (.invokestatic 176, 3) := dk_184 0 176 (dk_at dksX0_people_0 1 rfl rfl)
theorem dX0_people_4 : decode cX0_people 4 = .ok (.ifCond .eq 15, 3) := dk_153 0 15 (dk_at dksX0_people_0 4 rfl rfl)
theorem dX0_people_7 : decode cX0_people 7 = .ok (.iload_n 3, 1) := dk_29 (dk_at dksX0_people_0 7 rfl rfl)
theorem dX0_people_8 : decode cX0_people 8 = .ok (.i2l, 1) := dk_133 (dk_at dksX0_people_0 8 rfl rfl)
theorem dX0_people_9 : decode cX0_people 9 = .ok (.lconst 1, 1) := dk_10 (dk_at dksX0_people_0 9 rfl rfl)
theorem dX0_people_10 : decode cX0_people 10 = .ok (.ldc2_w 179, 3) := dk_20 0 179 (dk_at dksX0_people_0 10 rfl rfl)
theorem dX0_people_13 : decode cX0_people 13 = .ok (.invokestatic 108, 3) := dk_184 0 108 (dk_at dksX0_people_0 13 rfl rfl)
theorem dX0_people_16 : decode cX0_people 16 = .ok (.ifCond .ne 5, 3) := dk_154 0 5 (dk_at dksX0_people_0 16 rfl rfl)
theorem dX0_people_19 : decode cX0_people 19 = .ok (.iconst (-1), 1) := dk_2 (dk_at dksX0_people_0 19 rfl rfl)
theorem dX0_people_20 : decode cX0_people 20 = .ok (.ireturn, 1) := dk_172 (dk_at dksX0_people_0 20 rfl rfl)
theorem dX0_people_21 : decode cX0_people 21 = .ok (.aload_n 0, 1) := dk_42 (dk_at dksX0_people_0 21 rfl rfl)
theorem dX0_people_22 : decode cX0_people 22 = .ok (.getfield 100, 3) := dk_180 0 100 (dk_at dksX0_people_1 0 rfl rfl)
theorem dX0_people_25 : decode cX0_people 25 = .ok (.iload_n 1, 1) := dk_27 (dk_at dksX0_people_1 3 rfl rfl)
theorem dX0_people_26 : decode cX0_people 26 = .ok (.aaload, 1) := dk_50 (dk_at dksX0_people_1 4 rfl rfl)
theorem dX0_people_27 : decode cX0_people 27 = .ok (.astore 4, 2) := dk_58 4 (dk_at dksX0_people_1 5 rfl rfl)
theorem dX0_people_29 : decode cX0_people 29 = .ok (.aload 4, 2) := dk_25 4 (dk_at dksX0_people_1 7 rfl rfl)
theorem dX0_people_31 : decode cX0_people 31 = .ok (.ifnull 14, 3) := dk_198 0 14 (dk_at dksX0_people_1 9 rfl rfl)
theorem dX0_people_34 : decode cX0_people 34 = .ok (.aload 4, 2) := dk_25 4 (dk_at dksX0_people_1 12 rfl rfl)
theorem dX0_people_36 : decode cX0_people 36 = .ok (.invokestatic 181, 3) := dk_184 0 181 (dk_at dksX0_people_1 14 rfl rfl)
theorem dX0_people_39 : decode cX0_people 39 = .ok (.ifCond .eq 6, 3) := dk_153 0 6 (dk_at dksX0_people_1 17 rfl rfl)
theorem dX0_people_42 : decode cX0_people 42 = .ok (.bipush (-12), 2) := dk_16 244 (dk_at dksX0_people_1 20 rfl rfl)
theorem dX0_people_44 : decode cX0_people 44 = .ok (.ireturn, 1) := dk_172 (dk_at dksX0_people_1 22 rfl rfl)
theorem dX0_people_45 : decode cX0_people 45 = .ok (.aload_n 0, 1) := dk_42 (dk_at dksX0_people_1 23 rfl rfl)
theorem dX0_people_46 : decode cX0_people 46 = .ok (.getfield 133, 3) := dk_180 0 133 (dk_at dksX0_people_2 0 rfl rfl)
theorem dX0_people_49 : decode cX0_people 49 = .ok (.istore 5, 2) := dk_54 5 (dk_at dksX0_people_2 3 rfl rfl)
theorem dX0_people_51 : decode cX0_people 51 = .ok (.iconst 0, 1) := dk_3 (dk_at dksX0_people_2 5 rfl rfl)
theorem dX0_people_52 : decode cX0_people 52 = .ok (.istore 6, 2) := dk_54 6 (dk_at dksX0_people_2 6 rfl rfl)
theorem dX0_people_54 : decode cX0_people 54 = .ok (.iload 6, 2) := dk_21 6 (dk_at dksX0_people_2 8 rfl rfl)
theorem dX0_people_56 : decode cX0_people 56 = .ok (.iload_n 3, 1) := dk_29 (dk_at dksX0_people_2 10 rfl rfl)
theorem dX0_people_57 : decode cX0_people 57 = .ok (.if_icmp .ge 94, 3) := dk_162 0 94 (dk_at dksX0_people_2 11 rfl rfl)
theorem dX0_people_60 : decode cX0_people 60 = .ok (.iload_n 2, 1) := dk_28 (dk_at dksX0_people_2 14 rfl rfl)
theorem dX0_people_61 : decode cX0_people 61 = .ok (.i2l, 1) := dk_133 (dk_at dksX0_people_2 15 rfl rfl)
theorem dX0_people_62 : decode cX0_people 62 = .ok (.ldc2_w 185, 3) := dk_20 0 185 (dk_at dksX0_people_2 16 rfl rfl)
theorem dX0_people_65 : decode cX0_people 65 = .ok (.iload 6, 2) := dk_21 6 (dk_at dksX0_people_2 19 rfl rfl)
theorem dX0_people_67 : decode cX0_people 67 = .ok (.i2l, 1) := dk_133 (dk_at dksX0_people_2 21 rfl rfl)
theorem dX0_people_68 : decode cX0_people 68 = .ok (.lmul, 1) := dk_105 (dk_at dksX0_people_2 22 rfl rfl)
theorem dX0_people_69 : decode cX0_people 69 = .ok (.ladd, 1) := dk_97 (dk_at dksX0_people_2 23 rfl rfl)
theorem dX0_people_70 : decode cX0_people 70 = .ok (.lstore 7, 2) := dk_55 7 (dk_at dksX0_people_3 0 rfl rfl)
theorem dX0_people_72 : decode cX0_people 72 = .ok (.aload_n 0, 1) := dk_42 (dk_at dksX0_people_3 2 rfl rfl)
theorem dX0_people_73 : decode cX0_people 73 = .ok (.aload 4, 2) := dk_25 4 (dk_at dksX0_people_3 3 rfl rfl)
theorem dX0_people_75 : decode cX0_people 75 = .ok (.lload 7, 2) := dk_22 7 (dk_at dksX0_people_3 5 rfl rfl)
theorem dX0_people_77 : decode cX0_people 77 = .ok (.invokevirtual 187, 3) := dk_182 0 187 (dk_at dksX0_people_3 7 rfl rfl)
theorem dX0_people_80 : decode cX0_people 80 = .ok (.istore 9, 2) := dk_54 9 (dk_at dksX0_people_3 10 rfl rfl)
theorem dX0_people_82 : decode cX0_people 82 = .ok (.aload_n 0, 1) := dk_42 (dk_at dksX0_people_3 12 rfl rfl)
theorem dX0_people_83 : decode cX0_people 83 = .ok (.aload 4, 2) := dk_25 4 (dk_at dksX0_people_3 13 rfl rfl)
theorem dX0_people_85 : decode cX0_people 85 = .ok (.lload 7, 2) := dk_22 7 (dk_at dksX0_people_3 15 rfl rfl)
theorem dX0_people_87 : decode cX0_people 87 = .ok (.lconst 1, 1) := dk_10 (dk_at dksX0_people_3 17 rfl rfl)
theorem dX0_people_88 : decode cX0_people 88 = .ok (.ladd, 1) := dk_97 (dk_at dksX0_people_3 18 rfl rfl)
theorem dX0_people_89 : decode cX0_people 89 = .ok (.invokevirtual 187, 3) := dk_182 0 187 (dk_at dksX0_people_3 19 rfl rfl)
theorem dX0_people_92 : decode cX0_people 92 = .ok (.istore 10, 2) := dk_54 10 (dk_at dksX0_people_3 22 rfl rfl)
theorem dX0_people_94 : decode cX0_people 94 = .ok (.aload_n 0, 1) := dk_42 (dk_at dksX0_people_4 0 rfl rfl)
theorem dX0_people_95 : decode cX0_people 95 = .ok (.aload 4, 2) := dk_25 4 (dk_at dksX0_people_4 1 rfl rfl)
theorem dX0_people_97 : decode cX0_people 97 = .ok (.lload 7, 2) := dk_22 7 (dk_at dksX0_people_4 3 rfl rfl)
theorem dX0_people_99 : decode cX0_people 99 = .ok (.ldc2_w 191, 3) := dk_20 0 191 (dk_at dksX0_people_4 5 rfl rfl)
theorem dX0_people_102 : decode cX0_people 102 = .ok (.ladd, 1) := dk_97 (dk_at dksX0_people_4 8 rfl rfl)
theorem dX0_people_103 : decode cX0_people 103 = .ok (.invokevirtual 187, 3) := dk_182 0 187 (dk_at dksX0_people_4 9 rfl rfl)
theorem dX0_people_106 : decode cX0_people 106 = .ok (.istore 11, 2) := dk_54 11 (dk_at dksX0_people_4 12 rfl rfl)
theorem dX0_people_108 : decode cX0_people 108 = .ok (.aload_n 0, 1) := dk_42 (dk_at dksX0_people_4 14 rfl rfl)
theorem dX0_people_109 : decode cX0_people 109 = .ok (.getfield 133, 3) := dk_180 0 133 (dk_at dksX0_people_4 15 rfl rfl)
theorem dX0_people_112 : decode cX0_people 112 = .ok (.bipush 6, 2) := dk_16 6 (dk_at dksX0_people_4 18 rfl rfl)
theorem dX0_people_114 : decode cX0_people 114 = .ok (.if_icmp .eq 16, 3) := dk_159 0 16 (dk_at dksX0_people_4 20 rfl rfl)
theorem dX0_people_117 : decode cX0_people 117 = .ok (.aload_n 0, 1) := dk_42 (dk_at dksX0_people_4 23 rfl rfl)
theorem dX0_people_118 : decode cX0_people 118 = .ok (.iload 9, 2) := dk_21 9 (dk_at dksX0_people_5 0 rfl rfl)
theorem dX0_people_120 : decode cX0_people 120 = .ok (.iload 10, 2) := dk_21 10 (dk_at dksX0_people_5 2 rfl rfl)
theorem dX0_people_122 : decode cX0_people 122 = .ok (.iload 11, 2) := dk_21 11 (dk_at dksX0_people_5 4 rfl rfl)
theorem dX0_people_124 : decode cX0_people 124 = .ok (.invokevirtual 166, 3) := dk_182 0 166 (dk_at dksX0_people_5 6 rfl rfl)
theorem dX0_people_127 : decode cX0_people 127 = .ok (.ifCond .ne 8, 3) := dk_154 0 8 (dk_at dksX0_people_5 9 rfl rfl)
theorem dX0_people_130 : decode cX0_people 130 = .ok (.aload_n 0, 1) := dk_42 (dk_at dksX0_people_5 12 rfl rfl)
theorem dX0_people_131 : decode cX0_people 131 = .ok (.getfield 74, 3) := dk_180 0 74 (dk_at dksX0_people_5 13 rfl rfl)
theorem dX0_people_134 : decode cX0_people 134 = .ok (.athrow, 1) := dk_191 (dk_at dksX0_people_5 16 rfl rfl)
theorem dX0_people_135 : decode cX0_people 135 = .ok (.aload_n 0, 1) := dk_42 (dk_at dksX0_people_5 17 rfl rfl)
theorem dX0_people_136 : decode cX0_people 136 = .ok (.iload 9, 2) := dk_21 9 (dk_at dksX0_people_5 18 rfl rfl)
theorem dX0_people_138 : decode cX0_people 138 = .ok (.iload 10, 2) := dk_21 10 (dk_at dksX0_people_5 20 rfl rfl)
theorem dX0_people_140 : decode cX0_people 140 = .ok (.iload 11, 2) := dk_21 11 (dk_at dksX0_people_5 22 rfl rfl)
theorem dX0_people_142 : decode cX0_people 142 = .ok (.invokevirtual 170, 3) := dk_182 0 170 (dk_at dksX0_people_6 0 rfl rfl)
theorem dX0_people_145 : decode cX0_people 145 = .ok (.iinc 6 1, 3) := dk_132 6 1 (dk_at dksX0_people_6 3 rfl rfl)
theorem dX0_people_148 : decode cX0_people 148 = .ok (.goto (-94), 3) := dk_167 255 162 (dk_at dksX0_people_6 6 rfl rfl)
theorem dX0_people_151 : decode cX0_people 151 = .ok (.goto 14, 3) := dk_167 0 14 (dk_at dksX0_people_6 9 rfl rfl)
theorem dX0_people_154 : decode cX0_people 154 = .ok (.astore 7, 2) := dk_58 7 (dk_at dksX0_people_6 12 rfl rfl)
theorem dX0_people_156 : decode cX0_people 156 = .ok (.aload_n 0, 1) := dk_42 (dk_at dksX0_people_6 14 rfl rfl)
theorem dX0_people_157 : decode cX0_people 157 = .ok (.getfield 133, 3) := dk_180 0 133 (dk_at dksX0_people_6 15 rfl rfl)
theorem dX0_people_160 : decode cX0_people 160 = .ok (.iload 5, 2) := dk_21 5 (dk_at dksX0_people_6 18 rfl rfl)
theorem dX0_people_162 : decode cX0_people 162 = .ok (.isub, 1) := dk_100 (dk_at dksX0_people_6 20 rfl rfl)
theorem dX0_people_163 : decode cX0_people 163 = .ok (.istore 6, 2) := dk_54 6 (dk_at dksX0_people_6 21 rfl rfl)
theorem dX0_people_165 : decode cX0_people 165 = .ok (.iload 6, 2) := dk_21 6 (dk_at dksX0_people_7 0 rfl rfl)
theorem dX0_people_167 : decode cX0_people 167 = .ok (.ireturn, 1) := dk_172 (dk_at dksX0_people_7 2 rfl rfl)
abbrev cX0_isShelf : ByteArray := prog_1_method_85_code
def yX0_isShelf : MethodName := ⟨RX0, "isShelf", "(I)Z"⟩
def dkwX0_isShelf_0 : List UInt8 := [26, 133, 9, 20, 2, 7, 184, 0, 108, 172]
abbrev dktX0_isShelf_0 : List UInt8 := dkwX0_isShelf_0 ++ []
theorem dksX0_isShelf_0 : cX0_isShelf.data.toList.drop 0 = dktX0_isShelf_0 := by decide +kernel
theorem dX0_isShelf_0 : decode cX0_isShelf 0 = .ok (.iload_n 0, 1) := dk_26 (dk_at dksX0_isShelf_0 0 rfl rfl)
theorem dX0_isShelf_1 : decode cX0_isShelf 1 = .ok (.i2l, 1) := dk_133 (dk_at dksX0_isShelf_0 1 rfl rfl)
theorem dX0_isShelf_2 : decode cX0_isShelf 2 = .ok (.lconst 0, 1) := dk_9 (dk_at dksX0_isShelf_0 2 rfl rfl)
theorem dX0_isShelf_3 : decode cX0_isShelf 3 = .ok (.ldc2_w 519, 3) := dk_20 2 7 (dk_at dksX0_isShelf_0 3 rfl rfl)
theorem dX0_isShelf_6 : decode cX0_isShelf 6 = .ok (.invokestatic 108, 3) := dk_184 0 108 (dk_at dksX0_isShelf_0 6 rfl rfl)
theorem dX0_isShelf_9 : decode cX0_isShelf 9 = .ok (.ireturn, 1) := dk_172 (dk_at dksX0_isShelf_0 9 rfl rfl)
abbrev cX0_sortOf : ByteArray := prog_1_method_88_code
def yX0_sortOf : MethodName := ⟨RX0, "sortOf", "(Ljava/lang/Object;)I"⟩
def dkwX0_sortOf_2 : List UInt8 := [193, 2, 14, 153, 0, 7, 7, 167, 0, 4, 2, 172]
abbrev dktX0_sortOf_2 : List UInt8 := dkwX0_sortOf_2 ++ []
def dkwX0_sortOf_1 : List UInt8 := [193, 2, 11, 153, 0, 7, 5, 167, 0, 26, 42, 193, 2, 12, 153, 0, 7, 6, 167, 0, 15, 42]
abbrev dktX0_sortOf_1 : List UInt8 := dkwX0_sortOf_1 ++ dktX0_sortOf_2
def dkwX0_sortOf_0 : List UInt8 := [42, 193, 0, 174, 153, 0, 7, 3, 167, 0, 48, 42, 193, 2, 9, 153, 0, 7, 4, 167, 0, 37, 42]
abbrev dktX0_sortOf_0 : List UInt8 := dkwX0_sortOf_0 ++ dktX0_sortOf_1
theorem dksX0_sortOf_0 : cX0_sortOf.data.toList.drop 0 = dktX0_sortOf_0 := by decide +kernel
theorem dksX0_sortOf_1 : cX0_sortOf.data.toList.drop 23 = dktX0_sortOf_1 := dk_seg dksX0_sortOf_0 23 rfl rfl
theorem dksX0_sortOf_2 : cX0_sortOf.data.toList.drop 45 = dktX0_sortOf_2 := dk_seg dksX0_sortOf_1 22 rfl rfl
theorem dX0_sortOf_0 : decode cX0_sortOf 0 = .ok (.aload_n 0, 1) := dk_42 (dk_at dksX0_sortOf_0 0 rfl rfl)
theorem dX0_sortOf_1 : decode cX0_sortOf 1 = .ok (.instanceof 174, 3) := dk_193 0 174 (dk_at dksX0_sortOf_0 1 rfl rfl)
theorem dX0_sortOf_4 : decode cX0_sortOf 4 = .ok (.ifCond .eq 7, 3) := dk_153 0 7 (dk_at dksX0_sortOf_0 4 rfl rfl)
theorem dX0_sortOf_7 : decode cX0_sortOf 7 = .ok (.iconst 0, 1) := dk_3 (dk_at dksX0_sortOf_0 7 rfl rfl)
theorem dX0_sortOf_8 : decode cX0_sortOf 8 = .ok (.goto 48, 3) := dk_167 0 48 (dk_at dksX0_sortOf_0 8 rfl rfl)
theorem dX0_sortOf_11 : decode cX0_sortOf 11 = .ok (.aload_n 0, 1) := dk_42 (dk_at dksX0_sortOf_0 11 rfl rfl)
theorem dX0_sortOf_12 : decode cX0_sortOf 12 = .ok (.instanceof 521, 3) := dk_193 2 9 (dk_at dksX0_sortOf_0 12 rfl rfl)
theorem dX0_sortOf_15 : decode cX0_sortOf 15 = .ok (.ifCond .eq 7, 3) := dk_153 0 7 (dk_at dksX0_sortOf_0 15 rfl rfl)
theorem dX0_sortOf_18 : decode cX0_sortOf 18 = .ok (.iconst 1, 1) := dk_4 (dk_at dksX0_sortOf_0 18 rfl rfl)
theorem dX0_sortOf_19 : decode cX0_sortOf 19 = .ok (.goto 37, 3) := dk_167 0 37 (dk_at dksX0_sortOf_0 19 rfl rfl)
theorem dX0_sortOf_22 : decode cX0_sortOf 22 = .ok (.aload_n 0, 1) := dk_42 (dk_at dksX0_sortOf_0 22 rfl rfl)
theorem dX0_sortOf_23 : decode cX0_sortOf 23 = .ok (.instanceof 523, 3) := dk_193 2 11 (dk_at dksX0_sortOf_1 0 rfl rfl)
theorem dX0_sortOf_26 : decode cX0_sortOf 26 = .ok (.ifCond .eq 7, 3) := dk_153 0 7 (dk_at dksX0_sortOf_1 3 rfl rfl)
theorem dX0_sortOf_29 : decode cX0_sortOf 29 = .ok (.iconst 2, 1) := dk_5 (dk_at dksX0_sortOf_1 6 rfl rfl)
theorem dX0_sortOf_30 : decode cX0_sortOf 30 = .ok (.goto 26, 3) := dk_167 0 26 (dk_at dksX0_sortOf_1 7 rfl rfl)
theorem dX0_sortOf_33 : decode cX0_sortOf 33 = .ok (.aload_n 0, 1) := dk_42 (dk_at dksX0_sortOf_1 10 rfl rfl)
theorem dX0_sortOf_34 : decode cX0_sortOf 34 = .ok (.instanceof 524, 3) := dk_193 2 12 (dk_at dksX0_sortOf_1 11 rfl rfl)
theorem dX0_sortOf_37 : decode cX0_sortOf 37 = .ok (.ifCond .eq 7, 3) := dk_153 0 7 (dk_at dksX0_sortOf_1 14 rfl rfl)
theorem dX0_sortOf_40 : decode cX0_sortOf 40 = .ok (.iconst 3, 1) := dk_6 (dk_at dksX0_sortOf_1 17 rfl rfl)
theorem dX0_sortOf_41 : decode cX0_sortOf 41 = .ok (.goto 15, 3) := dk_167 0 15 (dk_at dksX0_sortOf_1 18 rfl rfl)
theorem dX0_sortOf_44 : decode cX0_sortOf 44 = .ok (.aload_n 0, 1) := dk_42 (dk_at dksX0_sortOf_1 21 rfl rfl)
theorem dX0_sortOf_45 : decode cX0_sortOf 45 = .ok (.instanceof 526, 3) := dk_193 2 14 (dk_at dksX0_sortOf_2 0 rfl rfl)
theorem dX0_sortOf_48 : decode cX0_sortOf 48 = .ok (.ifCond .eq 7, 3) := dk_153 0 7 (dk_at dksX0_sortOf_2 3 rfl rfl)
theorem dX0_sortOf_51 : decode cX0_sortOf 51 = .ok (.iconst 4, 1) := dk_7 (dk_at dksX0_sortOf_2 6 rfl rfl)
theorem dX0_sortOf_52 : decode cX0_sortOf 52 = .ok (.goto 4, 3) := dk_167 0 4 (dk_at dksX0_sortOf_2 7 rfl rfl)
theorem dX0_sortOf_55 : decode cX0_sortOf 55 = .ok (.iconst (-1), 1) := dk_2 (dk_at dksX0_sortOf_2 10 rfl rfl)
theorem dX0_sortOf_56 : decode cX0_sortOf 56 = .ok (.ireturn, 1) := dk_172 (dk_at dksX0_sortOf_2 11 rfl rfl)
abbrev cX0_toldIn : ByteArray := prog_1_method_21_code
def yX0_toldIn : MethodName := ⟨RX0, "toldIn", "(Ljava/lang/Object;J)I"⟩
def dkwX0_toldIn_1 : List UInt8 := [180, 0, 74, 191, 43, 192, 0, 174, 32, 136, 51, 172]
abbrev dktX0_toldIn_1 : List UInt8 := dkwX0_toldIn_1 ++ []
def dkwX0_toldIn_0 : List UInt8 := [43, 198, 0, 20, 32, 9, 148, 155, 0, 14, 32, 43, 192, 0, 174, 190, 133, 148, 155, 0, 8, 42]
abbrev dktX0_toldIn_0 : List UInt8 := dkwX0_toldIn_0 ++ dktX0_toldIn_1
theorem dksX0_toldIn_0 : cX0_toldIn.data.toList.drop 0 = dktX0_toldIn_0 := by decide +kernel
theorem dksX0_toldIn_1 : cX0_toldIn.data.toList.drop 22 = dktX0_toldIn_1 := dk_seg dksX0_toldIn_0 22 rfl rfl
theorem dX0_toldIn_0 : decode cX0_toldIn 0 = .ok (.aload_n 1, 1) := dk_43 (dk_at dksX0_toldIn_0 0 rfl rfl)
theorem dX0_toldIn_1 : decode cX0_toldIn 1 = .ok (.ifnull 20, 3) := dk_198 0 20 (dk_at dksX0_toldIn_0 1 rfl rfl)
theorem dX0_toldIn_4 : decode cX0_toldIn 4 = .ok (.lload_n 2, 1) := dk_32 (dk_at dksX0_toldIn_0 4 rfl rfl)
theorem dX0_toldIn_5 : decode cX0_toldIn 5 = .ok (.lconst 0, 1) := dk_9 (dk_at dksX0_toldIn_0 5 rfl rfl)
theorem dX0_toldIn_6 : decode cX0_toldIn 6 = .ok (.lcmp, 1) := dk_148 (dk_at dksX0_toldIn_0 6 rfl rfl)
theorem dX0_toldIn_7 : decode cX0_toldIn 7 = .ok (.ifCond .lt 14, 3) := dk_155 0 14 (dk_at dksX0_toldIn_0 7 rfl rfl)
theorem dX0_toldIn_10 : decode cX0_toldIn 10 = .ok (.lload_n 2, 1) := dk_32 (dk_at dksX0_toldIn_0 10 rfl rfl)
theorem dX0_toldIn_11 : decode cX0_toldIn 11 = .ok (.aload_n 1, 1) := dk_43 (dk_at dksX0_toldIn_0 11 rfl rfl)
theorem dX0_toldIn_12 : decode cX0_toldIn 12 = .ok (.checkcast 174, 3) := dk_192 0 174 (dk_at dksX0_toldIn_0 12 rfl rfl)
theorem dX0_toldIn_15 : decode cX0_toldIn 15 = .ok (.arraylength, 1) := dk_190 (dk_at dksX0_toldIn_0 15 rfl rfl)
theorem dX0_toldIn_16 : decode cX0_toldIn 16 = .ok (.i2l, 1) := dk_133 (dk_at dksX0_toldIn_0 16 rfl rfl)
theorem dX0_toldIn_17 : decode cX0_toldIn 17 = .ok (.lcmp, 1) := dk_148 (dk_at dksX0_toldIn_0 17 rfl rfl)
theorem dX0_toldIn_18 : decode cX0_toldIn 18 = .ok (.ifCond .lt 8, 3) := dk_155 0 8 (dk_at dksX0_toldIn_0 18 rfl rfl)
theorem dX0_toldIn_21 : decode cX0_toldIn 21 = .ok (.aload_n 0, 1) := dk_42 (dk_at dksX0_toldIn_0 21 rfl rfl)
theorem dX0_toldIn_22 : decode cX0_toldIn 22 = .ok (.getfield 74, 3) := dk_180 0 74 (dk_at dksX0_toldIn_1 0 rfl rfl)
theorem dX0_toldIn_25 : decode cX0_toldIn 25 = .ok (.athrow, 1) := dk_191 (dk_at dksX0_toldIn_1 3 rfl rfl)
theorem dX0_toldIn_26 : decode cX0_toldIn 26 = .ok (.aload_n 1, 1) := dk_43 (dk_at dksX0_toldIn_1 4 rfl rfl)
theorem dX0_toldIn_27 : decode cX0_toldIn 27 = .ok (.checkcast 174, 3) := dk_192 0 174 (dk_at dksX0_toldIn_1 5 rfl rfl)
theorem dX0_toldIn_30 : decode cX0_toldIn 30 = .ok (.lload_n 2, 1) := dk_32 (dk_at dksX0_toldIn_1 8 rfl rfl)
theorem dX0_toldIn_31 : decode cX0_toldIn 31 = .ok (.l2i, 1) := dk_136 (dk_at dksX0_toldIn_1 9 rfl rfl)
theorem dX0_toldIn_32 : decode cX0_toldIn 32 = .ok (.baload, 1) := dk_51 (dk_at dksX0_toldIn_1 10 rfl rfl)
theorem dX0_toldIn_33 : decode cX0_toldIn 33 = .ok (.ireturn, 1) := dk_172 (dk_at dksX0_toldIn_1 11 rfl rfl)
abbrev cX0_mend : ByteArray := prog_1_method_23_code
def yX0_mend : MethodName := ⟨RX0, "mend", "(III)I"⟩
def dkwX0_mend_6 : List UInt8 := [27, 50, 29, 182, 0, 196, 167, 0, 4, 2, 172, 2, 172]
abbrev dktX0_mend_6 : List UInt8 := dkwX0_mend_6 ++ []
def dkwX0_mend_5 : List UInt8 := [4, 100, 50, 29, 182, 0, 196, 167, 0, 4, 2, 172, 27, 184, 0, 200, 153, 0, 17, 42, 42, 180, 0, 67]
abbrev dktX0_mend_5 : List UInt8 := dkwX0_mend_5 ++ dktX0_mend_6
def dkwX0_mend_4 : List UInt8 := [167, 0, 4, 2, 172, 42, 27, 182, 0, 147, 153, 0, 24, 42, 42, 180, 0, 57, 27, 50, 180, 0, 141, 28]
abbrev dktX0_mend_4 : List UInt8 := dkwX0_mend_4 ++ dktX0_mend_5
def dkwX0_mend_3 : List UInt8 := [42, 27, 182, 0, 193, 153, 0, 20, 42, 42, 180, 0, 63, 27, 50, 180, 0, 158, 29, 182, 0, 196]
abbrev dktX0_mend_3 : List UInt8 := dkwX0_mend_3 ++ dktX0_mend_4
def dkwX0_mend_2 : List UInt8 := [170, 0, 0, 0, 0, 111, 0, 0, 0, 0, 0, 0, 0, 3, 0, 0, 0, 30, 0, 0, 0, 57, 0, 0, 0, 57, 0, 0, 0, 88]
abbrev dktX0_mend_2 : List UInt8 := dkwX0_mend_2 ++ dktX0_mend_3
def dkwX0_mend_1 : List UInt8 := [172, 28]
abbrev dktX0_mend_1 : List UInt8 := dkwX0_mend_1 ++ dktX0_mend_2
def dkwX0_mend_0 : List UInt8 := [29, 133, 9, 28, 5, 160, 0, 9, 20, 0, 179, 167, 0, 6, 20, 0, 138, 184, 0, 108, 154, 0, 5, 2]
abbrev dktX0_mend_0 : List UInt8 := dkwX0_mend_0 ++ dktX0_mend_1
theorem dksX0_mend_0 : cX0_mend.data.toList.drop 0 = dktX0_mend_0 := by decide +kernel
theorem dksX0_mend_1 : cX0_mend.data.toList.drop 24 = dktX0_mend_1 := dk_seg dksX0_mend_0 24 rfl rfl
theorem dksX0_mend_2 : cX0_mend.data.toList.drop 26 = dktX0_mend_2 := dk_seg dksX0_mend_1 2 rfl rfl
theorem dksX0_mend_3 : cX0_mend.data.toList.drop 56 = dktX0_mend_3 := dk_seg dksX0_mend_2 30 rfl rfl
theorem dksX0_mend_4 : cX0_mend.data.toList.drop 78 = dktX0_mend_4 := dk_seg dksX0_mend_3 22 rfl rfl
theorem dksX0_mend_5 : cX0_mend.data.toList.drop 102 = dktX0_mend_5 := dk_seg dksX0_mend_4 24 rfl rfl
theorem dksX0_mend_6 : cX0_mend.data.toList.drop 126 = dktX0_mend_6 := dk_seg dksX0_mend_5 24 rfl rfl
theorem dX0_mend_0 : decode cX0_mend 0 = .ok (.iload_n 3, 1) := dk_29 (dk_at dksX0_mend_0 0 rfl rfl)
theorem dX0_mend_1 : decode cX0_mend 1 = .ok (.i2l, 1) := dk_133 (dk_at dksX0_mend_0 1 rfl rfl)
theorem dX0_mend_2 : decode cX0_mend 2 = .ok (.lconst 0, 1) := dk_9 (dk_at dksX0_mend_0 2 rfl rfl)
theorem dX0_mend_3 : decode cX0_mend 3 = .ok (.iload_n 2, 1) := dk_28 (dk_at dksX0_mend_0 3 rfl rfl)
theorem dX0_mend_4 : decode cX0_mend 4 = .ok (.iconst 2, 1) := dk_5 (dk_at dksX0_mend_0 4 rfl rfl)
theorem dX0_mend_5 : decode cX0_mend 5 = .ok (.if_icmp .ne 9, 3) := dk_160 0 9 (dk_at dksX0_mend_0 5 rfl rfl)
theorem dX0_mend_8 : decode cX0_mend 8 = .ok (.ldc2_w 179, 3) := dk_20 0 179 (dk_at dksX0_mend_0 8 rfl rfl)
theorem dX0_mend_11 : decode cX0_mend 11 = .ok (.goto 6, 3) := dk_167 0 6 (dk_at dksX0_mend_0 11 rfl rfl)
theorem dX0_mend_14 : decode cX0_mend 14 = .ok (.ldc2_w 138, 3) := dk_20 0 138 (dk_at dksX0_mend_0 14 rfl rfl)
theorem dX0_mend_17 : decode cX0_mend 17 = .ok (.invokestatic 108, 3) := dk_184 0 108 (dk_at dksX0_mend_0 17 rfl rfl)
theorem dX0_mend_20 : decode cX0_mend 20 = .ok (.ifCond .ne 5, 3) := dk_154 0 5 (dk_at dksX0_mend_0 20 rfl rfl)
theorem dX0_mend_23 : decode cX0_mend 23 = .ok (.iconst (-1), 1) := dk_2 (dk_at dksX0_mend_0 23 rfl rfl)
theorem dX0_mend_24 : decode cX0_mend 24 = .ok (.ireturn, 1) := dk_172 (dk_at dksX0_mend_1 0 rfl rfl)
theorem dX0_mend_25 : decode cX0_mend 25 = .ok (.iload_n 2, 1) := dk_28 (dk_at dksX0_mend_1 1 rfl rfl)
theorem dX0_mend_26 : decode cX0_mend 26 = .ok (.tableswitch 111 0 3 #[30, 57, 57, 88], 30) := by decide +kernel
theorem dX0_mend_56 : decode cX0_mend 56 = .ok (.aload_n 0, 1) := dk_42 (dk_at dksX0_mend_3 0 rfl rfl)
theorem dX0_mend_57 : decode cX0_mend 57 = .ok (.iload_n 1, 1) := dk_27 (dk_at dksX0_mend_3 1 rfl rfl)
theorem dX0_mend_58 : decode cX0_mend 58 = .ok (.invokevirtual 193, 3) := dk_182 0 193 (dk_at dksX0_mend_3 2 rfl rfl)
theorem dX0_mend_61 : decode cX0_mend 61 = .ok (.ifCond .eq 20, 3) := dk_153 0 20 (dk_at dksX0_mend_3 5 rfl rfl)
theorem dX0_mend_64 : decode cX0_mend 64 = .ok (.aload_n 0, 1) := dk_42 (dk_at dksX0_mend_3 8 rfl rfl)
theorem dX0_mend_65 : decode cX0_mend 65 = .ok (.aload_n 0, 1) := dk_42 (dk_at dksX0_mend_3 9 rfl rfl)
theorem dX0_mend_66 : decode cX0_mend 66 = .ok (.getfield 63, 3) := dk_180 0 63 (dk_at dksX0_mend_3 10 rfl rfl)
theorem dX0_mend_69 : decode cX0_mend 69 = .ok (.iload_n 1, 1) := dk_27 (dk_at dksX0_mend_3 13 rfl rfl)
theorem dX0_mend_70 : decode cX0_mend 70 = .ok (.aaload, 1) := dk_50 (dk_at dksX0_mend_3 14 rfl rfl)
theorem dX0_mend_71 : decode cX0_mend 71 = .ok (.getfield 158, 3) := dk_180 0 158 (dk_at dksX0_mend_3 15 rfl rfl)
theorem dX0_mend_74 : decode cX0_mend 74 = .ok (.iload_n 3, 1) := dk_29 (dk_at dksX0_mend_3 18 rfl rfl)
theorem dX0_mend_75 : decode cX0_mend 75 = .ok (.invokevirtual 196, 3) := dk_182 0 196 (dk_at dksX0_mend_3 19 rfl rfl)
theorem dX0_mend_78 : decode cX0_mend 78 = .ok (.goto 4, 3) := dk_167 0 4 (dk_at dksX0_mend_4 0 rfl rfl)
theorem dX0_mend_81 : decode cX0_mend 81 = .ok (.iconst (-1), 1) := dk_2 (dk_at dksX0_mend_4 3 rfl rfl)
theorem dX0_mend_82 : decode cX0_mend 82 = .ok (.ireturn, 1) := dk_172 (dk_at dksX0_mend_4 4 rfl rfl)
theorem dX0_mend_83 : decode cX0_mend 83 = .ok (.aload_n 0, 1) := dk_42 (dk_at dksX0_mend_4 5 rfl rfl)
theorem dX0_mend_84 : decode cX0_mend 84 = .ok (.iload_n 1, 1) := dk_27 (dk_at dksX0_mend_4 6 rfl rfl)
theorem dX0_mend_85 : decode cX0_mend 85 = .ok (.invokevirtual 147, 3) := dk_182 0 147 (dk_at dksX0_mend_4 7 rfl rfl)
theorem dX0_mend_88 : decode cX0_mend 88 = .ok (.ifCond .eq 24, 3) := dk_153 0 24 (dk_at dksX0_mend_4 10 rfl rfl)
theorem dX0_mend_91 : decode cX0_mend 91 = .ok (.aload_n 0, 1) := dk_42 (dk_at dksX0_mend_4 13 rfl rfl)
theorem dX0_mend_92 : decode cX0_mend 92 = .ok (.aload_n 0, 1) := dk_42 (dk_at dksX0_mend_4 14 rfl rfl)
theorem dX0_mend_93 : decode cX0_mend 93 = .ok (.getfield 57, 3) := dk_180 0 57 (dk_at dksX0_mend_4 15 rfl rfl)
theorem dX0_mend_96 : decode cX0_mend 96 = .ok (.iload_n 1, 1) := dk_27 (dk_at dksX0_mend_4 18 rfl rfl)
theorem dX0_mend_97 : decode cX0_mend 97 = .ok (.aaload, 1) := dk_50 (dk_at dksX0_mend_4 19 rfl rfl)
theorem dX0_mend_98 : decode cX0_mend 98 = .ok (.getfield 141, 3) := dk_180 0 141 (dk_at dksX0_mend_4 20 rfl rfl)
theorem dX0_mend_101 : decode cX0_mend 101 = .ok (.iload_n 2, 1) := dk_28 (dk_at dksX0_mend_4 23 rfl rfl)
theorem dX0_mend_102 : decode cX0_mend 102 = .ok (.iconst 1, 1) := dk_4 (dk_at dksX0_mend_5 0 rfl rfl)
theorem dX0_mend_103 : decode cX0_mend 103 = .ok (.isub, 1) := dk_100 (dk_at dksX0_mend_5 1 rfl rfl)
theorem dX0_mend_104 : decode cX0_mend 104 = .ok (.aaload, 1) := dk_50 (dk_at dksX0_mend_5 2 rfl rfl)
theorem dX0_mend_105 : decode cX0_mend 105 = .ok (.iload_n 3, 1) := dk_29 (dk_at dksX0_mend_5 3 rfl rfl)
theorem dX0_mend_106 : decode cX0_mend 106 = .ok (.invokevirtual 196, 3) := dk_182 0 196 (dk_at dksX0_mend_5 4 rfl rfl)
theorem dX0_mend_109 : decode cX0_mend 109 = .ok (.goto 4, 3) := dk_167 0 4 (dk_at dksX0_mend_5 7 rfl rfl)
theorem dX0_mend_112 : decode cX0_mend 112 = .ok (.iconst (-1), 1) := dk_2 (dk_at dksX0_mend_5 10 rfl rfl)
theorem dX0_mend_113 : decode cX0_mend 113 = .ok (.ireturn, 1) := dk_172 (dk_at dksX0_mend_5 11 rfl rfl)
theorem dX0_mend_114 : decode cX0_mend 114 = .ok (.iload_n 1, 1) := dk_27 (dk_at dksX0_mend_5 12 rfl rfl)
theorem dX0_mend_115 : decode cX0_mend 115 = .ok (.invokestatic 200, 3) := dk_184 0 200 (dk_at dksX0_mend_5 13 rfl rfl)
theorem dX0_mend_118 : decode cX0_mend 118 = .ok (.ifCond .eq 17, 3) := dk_153 0 17 (dk_at dksX0_mend_5 16 rfl rfl)
theorem dX0_mend_121 : decode cX0_mend 121 = .ok (.aload_n 0, 1) := dk_42 (dk_at dksX0_mend_5 19 rfl rfl)
theorem dX0_mend_122 : decode cX0_mend 122 = .ok (.aload_n 0, 1) := dk_42 (dk_at dksX0_mend_5 20 rfl rfl)
theorem dX0_mend_123 : decode cX0_mend 123 = .ok (.getfield 67, 3) := dk_180 0 67 (dk_at dksX0_mend_5 21 rfl rfl)
theorem dX0_mend_126 : decode cX0_mend 126 = .ok (.iload_n 1, 1) := dk_27 (dk_at dksX0_mend_6 0 rfl rfl)
theorem dX0_mend_127 : decode cX0_mend 127 = .ok (.aaload, 1) := dk_50 (dk_at dksX0_mend_6 1 rfl rfl)
theorem dX0_mend_128 : decode cX0_mend 128 = .ok (.iload_n 3, 1) := dk_29 (dk_at dksX0_mend_6 2 rfl rfl)
theorem dX0_mend_129 : decode cX0_mend 129 = .ok (.invokevirtual 196, 3) := dk_182 0 196 (dk_at dksX0_mend_6 3 rfl rfl)
theorem dX0_mend_132 : decode cX0_mend 132 = .ok (.goto 4, 3) := dk_167 0 4 (dk_at dksX0_mend_6 6 rfl rfl)
theorem dX0_mend_135 : decode cX0_mend 135 = .ok (.iconst (-1), 1) := dk_2 (dk_at dksX0_mend_6 9 rfl rfl)
theorem dX0_mend_136 : decode cX0_mend 136 = .ok (.ireturn, 1) := dk_172 (dk_at dksX0_mend_6 10 rfl rfl)
theorem dX0_mend_137 : decode cX0_mend 137 = .ok (.iconst (-1), 1) := dk_2 (dk_at dksX0_mend_6 11 rfl rfl)
theorem dX0_mend_138 : decode cX0_mend 138 = .ok (.ireturn, 1) := dk_172 (dk_at dksX0_mend_6 12 rfl rfl)
abbrev cX0_isPerson : ByteArray := prog_1_method_13_code
def yX0_isPerson : MethodName := ⟨RX0, "isPerson", "(I)Z"⟩
def dkwX0_isPerson_0 : List UInt8 := [27, 133, 9, 42, 180, 0, 133, 4, 100, 133, 184, 0, 108, 172]
abbrev dktX0_isPerson_0 : List UInt8 := dkwX0_isPerson_0 ++ []
theorem dksX0_isPerson_0 : cX0_isPerson.data.toList.drop 0 = dktX0_isPerson_0 := by decide +kernel
theorem dX0_isPerson_0 : decode cX0_isPerson 0 = .ok (.iload_n 1, 1) := dk_27 (dk_at dksX0_isPerson_0 0 rfl rfl)
theorem dX0_isPerson_1 : decode cX0_isPerson 1 = .ok (.i2l, 1) := dk_133 (dk_at dksX0_isPerson_0 1 rfl rfl)
theorem dX0_isPerson_2 : decode cX0_isPerson 2 = .ok (.lconst 0, 1) := dk_9 (dk_at dksX0_isPerson_0 2 rfl rfl)
theorem dX0_isPerson_3 : decode cX0_isPerson 3 = .ok (.aload_n 0, 1) := dk_42 (dk_at dksX0_isPerson_0 3 rfl rfl)
theorem dX0_isPerson_4 : decode cX0_isPerson 4 = .ok (.getfield 133, 3) := dk_180 0 133 (dk_at dksX0_isPerson_0 4 rfl rfl)
theorem dX0_isPerson_7 : decode cX0_isPerson 7 = .ok (.iconst 1, 1) := dk_4 (dk_at dksX0_isPerson_0 7 rfl rfl)
theorem dX0_isPerson_8 : decode cX0_isPerson 8 = .ok (.isub, 1) := dk_100 (dk_at dksX0_isPerson_0 8 rfl rfl)
theorem dX0_isPerson_9 : decode cX0_isPerson 9 = .ok (.i2l, 1) := dk_133 (dk_at dksX0_isPerson_0 9 rfl rfl)
theorem dX0_isPerson_10 : decode cX0_isPerson 10 = .ok (.invokestatic 108, 3) := dk_184 0 108 (dk_at dksX0_isPerson_0 10 rfl rfl)
theorem dX0_isPerson_13 : decode cX0_isPerson 13 = .ok (.ireturn, 1) := dk_172 (dk_at dksX0_isPerson_0 13 rfl rfl)
abbrev cX0_become : ByteArray := prog_1_method_3_code
def yX0_become : MethodName := ⟨RX0, "become", "(LHatRank$Held;I)I"⟩
def dkwX0_become_5 : List UInt8 := [180, 0, 7, 4, 96, 90, 181, 0, 7, 181, 0, 28, 29, 172]
abbrev dktX0_become_5 : List UInt8 := dkwX0_become_5 ++ []
def dkwX0_become_4 : List UInt8 := [181, 0, 16, 25, 4, 29, 181, 0, 22, 25, 4, 28, 181, 0, 25, 43, 28, 181, 0, 1, 42, 42, 89]
abbrev dktX0_become_4 : List UInt8 := dkwX0_become_4 ++ dktX0_become_5
def dkwX0_become_3 : List UInt8 := [42, 89, 180, 0, 7, 4, 100, 181, 0, 7, 42, 180, 0, 12, 42, 180, 0, 7, 50, 58, 4, 25, 4, 43]
abbrev dktX0_become_3 : List UInt8 := dkwX0_become_3 ++ dktX0_become_4
def dkwX0_become_2 : List UInt8 := [100, 42, 180, 0, 12, 21, 5, 50, 83, 132, 5, 1, 167, 255, 230, 42, 180, 0, 12, 16, 39, 25, 4, 83]
abbrev dktX0_become_2 : List UInt8 := dkwX0_become_2 ++ dktX0_become_3
def dkwX0_become_1 : List UInt8 := [180, 0, 12, 3, 50, 58, 4, 4, 54, 5, 21, 5, 16, 40, 162, 0, 25, 42, 180, 0, 12, 21, 5, 4]
abbrev dktX0_become_1 : List UInt8 := dkwX0_become_1 ++ dktX0_become_2
def dkwX0_become_0 : List UInt8 := [43, 180, 0, 1, 62, 29, 28, 160, 0, 5, 29, 172, 42, 180, 0, 7, 16, 40, 160, 0, 62, 42]
abbrev dktX0_become_0 : List UInt8 := dkwX0_become_0 ++ dktX0_become_1
theorem dksX0_become_0 : cX0_become.data.toList.drop 0 = dktX0_become_0 := by decide +kernel
theorem dksX0_become_1 : cX0_become.data.toList.drop 22 = dktX0_become_1 := dk_seg dksX0_become_0 22 rfl rfl
theorem dksX0_become_2 : cX0_become.data.toList.drop 46 = dktX0_become_2 := dk_seg dksX0_become_1 24 rfl rfl
theorem dksX0_become_3 : cX0_become.data.toList.drop 70 = dktX0_become_3 := dk_seg dksX0_become_2 24 rfl rfl
theorem dksX0_become_4 : cX0_become.data.toList.drop 94 = dktX0_become_4 := dk_seg dksX0_become_3 24 rfl rfl
theorem dksX0_become_5 : cX0_become.data.toList.drop 117 = dktX0_become_5 := dk_seg dksX0_become_4 23 rfl rfl
theorem dX0_become_0 : decode cX0_become 0 = .ok (.aload_n 1, 1) := dk_43 (dk_at dksX0_become_0 0 rfl rfl)
theorem dX0_become_1 : decode cX0_become 1 = .ok (.getfield 1, 3) := dk_180 0 1 (dk_at dksX0_become_0 1 rfl rfl)
theorem dX0_become_4 : decode cX0_become 4 = .ok (.istore_n 3, 1) := dk_62 (dk_at dksX0_become_0 4 rfl rfl)
theorem dX0_become_5 : decode cX0_become 5 = .ok (.iload_n 3, 1) := dk_29 (dk_at dksX0_become_0 5 rfl rfl)
theorem dX0_become_6 : decode cX0_become 6 = .ok (.iload_n 2, 1) := dk_28 (dk_at dksX0_become_0 6 rfl rfl)
theorem dX0_become_7 : decode cX0_become 7 = .ok (.if_icmp .ne 5, 3) := dk_160 0 5 (dk_at dksX0_become_0 7 rfl rfl)
theorem dX0_become_10 : decode cX0_become 10 = .ok (.iload_n 3, 1) := dk_29 (dk_at dksX0_become_0 10 rfl rfl)
theorem dX0_become_11 : decode cX0_become 11 = .ok (.ireturn, 1) := dk_172 (dk_at dksX0_become_0 11 rfl rfl)
theorem dX0_become_12 : decode cX0_become 12 = .ok (.aload_n 0, 1) := dk_42 (dk_at dksX0_become_0 12 rfl rfl)
theorem dX0_become_13 : decode cX0_become 13 = .ok (.getfield 7, 3) := dk_180 0 7 (dk_at dksX0_become_0 13 rfl rfl)
theorem dX0_become_16 : decode cX0_become 16 = .ok (.bipush 40, 2) := dk_16 40 (dk_at dksX0_become_0 16 rfl rfl)
theorem dX0_become_18 : decode cX0_become 18 = .ok (.if_icmp .ne 62, 3) := dk_160 0 62 (dk_at dksX0_become_0 18 rfl rfl)
theorem dX0_become_21 : decode cX0_become 21 = .ok (.aload_n 0, 1) := dk_42 (dk_at dksX0_become_0 21 rfl rfl)
theorem dX0_become_22 : decode cX0_become 22 = .ok (.getfield 12, 3) := dk_180 0 12 (dk_at dksX0_become_1 0 rfl rfl)
theorem dX0_become_25 : decode cX0_become 25 = .ok (.iconst 0, 1) := dk_3 (dk_at dksX0_become_1 3 rfl rfl)
theorem dX0_become_26 : decode cX0_become 26 = .ok (.aaload, 1) := dk_50 (dk_at dksX0_become_1 4 rfl rfl)
theorem dX0_become_27 : decode cX0_become 27 = .ok (.astore 4, 2) := dk_58 4 (dk_at dksX0_become_1 5 rfl rfl)
theorem dX0_become_29 : decode cX0_become 29 = .ok (.iconst 1, 1) := dk_4 (dk_at dksX0_become_1 7 rfl rfl)
theorem dX0_become_30 : decode cX0_become 30 = .ok (.istore 5, 2) := dk_54 5 (dk_at dksX0_become_1 8 rfl rfl)
theorem dX0_become_32 : decode cX0_become 32 = .ok (.iload 5, 2) := dk_21 5 (dk_at dksX0_become_1 10 rfl rfl)
theorem dX0_become_34 : decode cX0_become 34 = .ok (.bipush 40, 2) := dk_16 40 (dk_at dksX0_become_1 12 rfl rfl)
theorem dX0_become_36 : decode cX0_become 36 = .ok (.if_icmp .ge 25, 3) := dk_162 0 25 (dk_at dksX0_become_1 14 rfl rfl)
theorem dX0_become_39 : decode cX0_become 39 = .ok (.aload_n 0, 1) := dk_42 (dk_at dksX0_become_1 17 rfl rfl)
theorem dX0_become_40 : decode cX0_become 40 = .ok (.getfield 12, 3) := dk_180 0 12 (dk_at dksX0_become_1 18 rfl rfl)
theorem dX0_become_43 : decode cX0_become 43 = .ok (.iload 5, 2) := dk_21 5 (dk_at dksX0_become_1 21 rfl rfl)
theorem dX0_become_45 : decode cX0_become 45 = .ok (.iconst 1, 1) := dk_4 (dk_at dksX0_become_1 23 rfl rfl)
theorem dX0_become_46 : decode cX0_become 46 = .ok (.isub, 1) := dk_100 (dk_at dksX0_become_2 0 rfl rfl)
theorem dX0_become_47 : decode cX0_become 47 = .ok (.aload_n 0, 1) := dk_42 (dk_at dksX0_become_2 1 rfl rfl)
theorem dX0_become_48 : decode cX0_become 48 = .ok (.getfield 12, 3) := dk_180 0 12 (dk_at dksX0_become_2 2 rfl rfl)
theorem dX0_become_51 : decode cX0_become 51 = .ok (.iload 5, 2) := dk_21 5 (dk_at dksX0_become_2 5 rfl rfl)
theorem dX0_become_53 : decode cX0_become 53 = .ok (.aaload, 1) := dk_50 (dk_at dksX0_become_2 7 rfl rfl)
theorem dX0_become_54 : decode cX0_become 54 = .ok (.aastore, 1) := dk_83 (dk_at dksX0_become_2 8 rfl rfl)
theorem dX0_become_55 : decode cX0_become 55 = .ok (.iinc 5 1, 3) := dk_132 5 1 (dk_at dksX0_become_2 9 rfl rfl)
theorem dX0_become_58 : decode cX0_become 58 = .ok (.goto (-26), 3) := dk_167 255 230 (dk_at dksX0_become_2 12 rfl rfl)
theorem dX0_become_61 : decode cX0_become 61 = .ok (.aload_n 0, 1) := dk_42 (dk_at dksX0_become_2 15 rfl rfl)
theorem dX0_become_62 : decode cX0_become 62 = .ok (.getfield 12, 3) := dk_180 0 12 (dk_at dksX0_become_2 16 rfl rfl)
theorem dX0_become_65 : decode cX0_become 65 = .ok (.bipush 39, 2) := dk_16 39 (dk_at dksX0_become_2 19 rfl rfl)
theorem dX0_become_67 : decode cX0_become 67 = .ok (.aload 4, 2) := dk_25 4 (dk_at dksX0_become_2 21 rfl rfl)
theorem dX0_become_69 : decode cX0_become 69 = .ok (.aastore, 1) := dk_83 (dk_at dksX0_become_2 23 rfl rfl)
theorem dX0_become_70 : decode cX0_become 70 = .ok (.aload_n 0, 1) := dk_42 (dk_at dksX0_become_3 0 rfl rfl)
theorem dX0_become_71 : decode cX0_become 71 = .ok (.dup, 1) := dk_89 (dk_at dksX0_become_3 1 rfl rfl)
theorem dX0_become_72 : decode cX0_become 72 = .ok (.getfield 7, 3) := dk_180 0 7 (dk_at dksX0_become_3 2 rfl rfl)
theorem dX0_become_75 : decode cX0_become 75 = .ok (.iconst 1, 1) := dk_4 (dk_at dksX0_become_3 5 rfl rfl)
theorem dX0_become_76 : decode cX0_become 76 = .ok (.isub, 1) := dk_100 (dk_at dksX0_become_3 6 rfl rfl)
theorem dX0_become_77 : decode cX0_become 77 = .ok (.putfield 7, 3) := dk_181 0 7 (dk_at dksX0_become_3 7 rfl rfl)
theorem dX0_become_80 : decode cX0_become 80 = .ok (.aload_n 0, 1) := dk_42 (dk_at dksX0_become_3 10 rfl rfl)
theorem dX0_become_81 : decode cX0_become 81 = .ok (.getfield 12, 3) := dk_180 0 12 (dk_at dksX0_become_3 11 rfl rfl)
theorem dX0_become_84 : decode cX0_become 84 = .ok (.aload_n 0, 1) := dk_42 (dk_at dksX0_become_3 14 rfl rfl)
theorem dX0_become_85 : decode cX0_become 85 = .ok (.getfield 7, 3) := dk_180 0 7 (dk_at dksX0_become_3 15 rfl rfl)
theorem dX0_become_88 : decode cX0_become 88 = .ok (.aaload, 1) := dk_50 (dk_at dksX0_become_3 18 rfl rfl)
theorem dX0_become_89 : decode cX0_become 89 = .ok (.astore 4, 2) := dk_58 4 (dk_at dksX0_become_3 19 rfl rfl)
theorem dX0_become_91 : decode cX0_become 91 = .ok (.aload 4, 2) := dk_25 4 (dk_at dksX0_become_3 21 rfl rfl)
theorem dX0_become_93 : decode cX0_become 93 = .ok (.aload_n 1, 1) := dk_43 (dk_at dksX0_become_3 23 rfl rfl)
theorem dX0_become_94 : decode cX0_become 94 = .ok (.putfield 16, 3) := dk_181 0 16 (dk_at dksX0_become_4 0 rfl rfl)
theorem dX0_become_97 : decode cX0_become 97 = .ok (.aload 4, 2) := dk_25 4 (dk_at dksX0_become_4 3 rfl rfl)
theorem dX0_become_99 : decode cX0_become 99 = .ok (.iload_n 3, 1) := dk_29 (dk_at dksX0_become_4 5 rfl rfl)
theorem dX0_become_100 : decode cX0_become 100 = .ok (.putfield 22, 3) := dk_181 0 22 (dk_at dksX0_become_4 6 rfl rfl)
theorem dX0_become_103 : decode cX0_become 103 = .ok (.aload 4, 2) := dk_25 4 (dk_at dksX0_become_4 9 rfl rfl)
theorem dX0_become_105 : decode cX0_become 105 = .ok (.iload_n 2, 1) := dk_28 (dk_at dksX0_become_4 11 rfl rfl)
theorem dX0_become_106 : decode cX0_become 106 = .ok (.putfield 25, 3) := dk_181 0 25 (dk_at dksX0_become_4 12 rfl rfl)
theorem dX0_become_109 : decode cX0_become 109 = .ok (.aload_n 1, 1) := dk_43 (dk_at dksX0_become_4 15 rfl rfl)
theorem dX0_become_110 : decode cX0_become 110 = .ok (.iload_n 2, 1) := dk_28 (dk_at dksX0_become_4 16 rfl rfl)
theorem dX0_become_111 : decode cX0_become 111 = .ok (.putfield 1, 3) := dk_181 0 1 (dk_at dksX0_become_4 17 rfl rfl)
theorem dX0_become_114 : decode cX0_become 114 = .ok (.aload_n 0, 1) := dk_42 (dk_at dksX0_become_4 20 rfl rfl)
theorem dX0_become_115 : decode cX0_become 115 = .ok (.aload_n 0, 1) := dk_42 (dk_at dksX0_become_4 21 rfl rfl)
theorem dX0_become_116 : decode cX0_become 116 = .ok (.dup, 1) := dk_89 (dk_at dksX0_become_4 22 rfl rfl)
theorem dX0_become_117 : decode cX0_become 117 = .ok (.getfield 7, 3) := dk_180 0 7 (dk_at dksX0_become_5 0 rfl rfl)
theorem dX0_become_120 : decode cX0_become 120 = .ok (.iconst 1, 1) := dk_4 (dk_at dksX0_become_5 3 rfl rfl)
theorem dX0_become_121 : decode cX0_become 121 = .ok (.iadd, 1) := dk_96 (dk_at dksX0_become_5 4 rfl rfl)
theorem dX0_become_122 : decode cX0_become 122 = .ok (.dup_x1, 1) := dk_90 (dk_at dksX0_become_5 5 rfl rfl)
theorem dX0_become_123 : decode cX0_become 123 = .ok (.putfield 7, 3) := dk_181 0 7 (dk_at dksX0_become_5 6 rfl rfl)
theorem dX0_become_126 : decode cX0_become 126 = .ok (.putfield 28, 3) := dk_181 0 28 (dk_at dksX0_become_5 9 rfl rfl)
theorem dX0_become_129 : decode cX0_become 129 = .ok (.iload_n 3, 1) := dk_29 (dk_at dksX0_become_5 12 rfl rfl)
theorem dX0_become_130 : decode cX0_become 130 = .ok (.ireturn, 1) := dk_172 (dk_at dksX0_become_5 13 rfl rfl)
abbrev cX0_isHour : ByteArray := prog_1_method_14_code
def yX0_isHour : MethodName := ⟨RX0, "isHour", "(I)Z"⟩
def dkwX0_isHour_0 : List UInt8 := [26, 133, 9, 20, 0, 136, 184, 0, 108, 172]
abbrev dktX0_isHour_0 : List UInt8 := dkwX0_isHour_0 ++ []
theorem dksX0_isHour_0 : cX0_isHour.data.toList.drop 0 = dktX0_isHour_0 := by decide +kernel
theorem dX0_isHour_0 : decode cX0_isHour 0 = .ok (.iload_n 0, 1) := dk_26 (dk_at dksX0_isHour_0 0 rfl rfl)
theorem dX0_isHour_1 : decode cX0_isHour 1 = .ok (.i2l, 1) := dk_133 (dk_at dksX0_isHour_0 1 rfl rfl)
theorem dX0_isHour_2 : decode cX0_isHour 2 = .ok (.lconst 0, 1) := dk_9 (dk_at dksX0_isHour_0 2 rfl rfl)
theorem dX0_isHour_3 : decode cX0_isHour 3 = .ok (.ldc2_w 136, 3) := dk_20 0 136 (dk_at dksX0_isHour_0 3 rfl rfl)
theorem dX0_isHour_6 : decode cX0_isHour 6 = .ok (.invokestatic 108, 3) := dk_184 0 108 (dk_at dksX0_isHour_0 6 rfl rfl)
theorem dX0_isHour_9 : decode cX0_isHour 9 = .ok (.ireturn, 1) := dk_172 (dk_at dksX0_isHour_0 9 rfl rfl)
abbrev cX0_of : ByteArray := prog_1_method_29_code
def yX0_of : MethodName := ⟨RX0, "of", "(II)I"⟩
def dkwX0_of_3 : List UInt8 := [184, 0, 200, 153, 0, 15, 42, 180, 0, 67, 27, 50, 180, 0, 1, 167, 0, 4, 2, 172]
abbrev dktX0_of_3 : List UInt8 := dkwX0_of_3 ++ []
def dkwX0_of_2 : List UInt8 := [182, 0, 147, 153, 0, 12, 42, 27, 28, 182, 0, 244, 167, 0, 4, 2, 172, 28, 16, 20, 160, 0, 22, 27]
abbrev dktX0_of_2 : List UInt8 := dkwX0_of_2 ++ dktX0_of_3
def dkwX0_of_1 : List UInt8 := [182, 0, 237, 167, 0, 4, 2, 172, 28, 133, 20, 0, 240, 20, 0, 242, 184, 0, 108, 153, 0, 22, 42, 27]
abbrev dktX0_of_1 : List UInt8 := dkwX0_of_1 ++ dktX0_of_2
def dkwX0_of_0 : List UInt8 := [28, 133, 9, 20, 0, 235, 184, 0, 108, 153, 0, 22, 42, 27, 182, 0, 193, 153, 0, 12, 42, 27, 28]
abbrev dktX0_of_0 : List UInt8 := dkwX0_of_0 ++ dktX0_of_1
theorem dksX0_of_0 : cX0_of.data.toList.drop 0 = dktX0_of_0 := by decide +kernel
theorem dksX0_of_1 : cX0_of.data.toList.drop 23 = dktX0_of_1 := dk_seg dksX0_of_0 23 rfl rfl
theorem dksX0_of_2 : cX0_of.data.toList.drop 47 = dktX0_of_2 := dk_seg dksX0_of_1 24 rfl rfl
theorem dksX0_of_3 : cX0_of.data.toList.drop 71 = dktX0_of_3 := dk_seg dksX0_of_2 24 rfl rfl
theorem dX0_of_0 : decode cX0_of 0 = .ok (.iload_n 2, 1) := dk_28 (dk_at dksX0_of_0 0 rfl rfl)
theorem dX0_of_1 : decode cX0_of 1 = .ok (.i2l, 1) := dk_133 (dk_at dksX0_of_0 1 rfl rfl)
theorem dX0_of_2 : decode cX0_of 2 = .ok (.lconst 0, 1) := dk_9 (dk_at dksX0_of_0 2 rfl rfl)
theorem dX0_of_3 : decode cX0_of 3 = .ok (.ldc2_w 235, 3) := dk_20 0 235 (dk_at dksX0_of_0 3 rfl rfl)
theorem dX0_of_6 : decode cX0_of 6 = .ok (.invokestatic 108, 3) := dk_184 0 108 (dk_at dksX0_of_0 6 rfl rfl)
theorem dX0_of_9 : decode cX0_of 9 = .ok (.ifCond .eq 22, 3) := dk_153 0 22 (dk_at dksX0_of_0 9 rfl rfl)
theorem dX0_of_12 : decode cX0_of 12 = .ok (.aload_n 0, 1) := dk_42 (dk_at dksX0_of_0 12 rfl rfl)
theorem dX0_of_13 : decode cX0_of 13 = .ok (.iload_n 1, 1) := dk_27 (dk_at dksX0_of_0 13 rfl rfl)
theorem dX0_of_14 : decode cX0_of 14 = .ok (.invokevirtual 193, 3) := dk_182 0 193 (dk_at dksX0_of_0 14 rfl rfl)
theorem dX0_of_17 : decode cX0_of 17 = .ok (.ifCond .eq 12, 3) := dk_153 0 12 (dk_at dksX0_of_0 17 rfl rfl)
theorem dX0_of_20 : decode cX0_of 20 = .ok (.aload_n 0, 1) := dk_42 (dk_at dksX0_of_0 20 rfl rfl)
theorem dX0_of_21 : decode cX0_of 21 = .ok (.iload_n 1, 1) := dk_27 (dk_at dksX0_of_0 21 rfl rfl)
theorem dX0_of_22 : decode cX0_of 22 = .ok (.iload_n 2, 1) := dk_28 (dk_at dksX0_of_0 22 rfl rfl)
theorem dX0_of_23 : decode cX0_of 23 = .ok (.invokevirtual 237, 3) := dk_182 0 237 (dk_at dksX0_of_1 0 rfl rfl)
theorem dX0_of_26 : decode cX0_of 26 = .ok (.goto 4, 3) := dk_167 0 4 (dk_at dksX0_of_1 3 rfl rfl)
theorem dX0_of_29 : decode cX0_of 29 = .ok (.iconst (-1), 1) := dk_2 (dk_at dksX0_of_1 6 rfl rfl)
theorem dX0_of_30 : decode cX0_of 30 = .ok (.ireturn, 1) := dk_172 (dk_at dksX0_of_1 7 rfl rfl)
theorem dX0_of_31 : decode cX0_of 31 = .ok (.iload_n 2, 1) := dk_28 (dk_at dksX0_of_1 8 rfl rfl)
theorem dX0_of_32 : decode cX0_of 32 = .ok (.i2l, 1) := dk_133 (dk_at dksX0_of_1 9 rfl rfl)
theorem dX0_of_33 : decode cX0_of 33 = .ok (.ldc2_w 240, 3) := dk_20 0 240 (dk_at dksX0_of_1 10 rfl rfl)
theorem dX0_of_36 : decode cX0_of 36 = .ok (.ldc2_w 242, 3) := dk_20 0 242 (dk_at dksX0_of_1 13 rfl rfl)
theorem dX0_of_39 : decode cX0_of 39 = .ok (.invokestatic 108, 3) := dk_184 0 108 (dk_at dksX0_of_1 16 rfl rfl)
theorem dX0_of_42 : decode cX0_of 42 = .ok (.ifCond .eq 22, 3) := dk_153 0 22 (dk_at dksX0_of_1 19 rfl rfl)
theorem dX0_of_45 : decode cX0_of 45 = .ok (.aload_n 0, 1) := dk_42 (dk_at dksX0_of_1 22 rfl rfl)
theorem dX0_of_46 : decode cX0_of 46 = .ok (.iload_n 1, 1) := dk_27 (dk_at dksX0_of_1 23 rfl rfl)
theorem dX0_of_47 : decode cX0_of 47 = .ok (.invokevirtual 147, 3) := dk_182 0 147 (dk_at dksX0_of_2 0 rfl rfl)
theorem dX0_of_50 : decode cX0_of 50 = .ok (.ifCond .eq 12, 3) := dk_153 0 12 (dk_at dksX0_of_2 3 rfl rfl)
theorem dX0_of_53 : decode cX0_of 53 = .ok (.aload_n 0, 1) := dk_42 (dk_at dksX0_of_2 6 rfl rfl)
theorem dX0_of_54 : decode cX0_of 54 = .ok (.iload_n 1, 1) := dk_27 (dk_at dksX0_of_2 7 rfl rfl)
theorem dX0_of_55 : decode cX0_of 55 = .ok (.iload_n 2, 1) := dk_28 (dk_at dksX0_of_2 8 rfl rfl)
theorem dX0_of_56 : decode cX0_of 56 = .ok (.invokevirtual 244, 3) := dk_182 0 244 (dk_at dksX0_of_2 9 rfl rfl)
theorem dX0_of_59 : decode cX0_of 59 = .ok (.goto 4, 3) := dk_167 0 4 (dk_at dksX0_of_2 12 rfl rfl)
theorem dX0_of_62 : decode cX0_of 62 = .ok (.iconst (-1), 1) := dk_2 (dk_at dksX0_of_2 15 rfl rfl)
theorem dX0_of_63 : decode cX0_of 63 = .ok (.ireturn, 1) := dk_172 (dk_at dksX0_of_2 16 rfl rfl)
theorem dX0_of_64 : decode cX0_of 64 = .ok (.iload_n 2, 1) := dk_28 (dk_at dksX0_of_2 17 rfl rfl)
theorem dX0_of_65 : decode cX0_of 65 = .ok (.bipush 20, 2) := dk_16 20 (dk_at dksX0_of_2 18 rfl rfl)
theorem dX0_of_67 : decode cX0_of 67 = .ok (.if_icmp .ne 22, 3) := dk_160 0 22 (dk_at dksX0_of_2 20 rfl rfl)
theorem dX0_of_70 : decode cX0_of 70 = .ok (.iload_n 1, 1) := dk_27 (dk_at dksX0_of_2 23 rfl rfl)
theorem dX0_of_71 : decode cX0_of 71 = .ok (.invokestatic 200, 3) := dk_184 0 200 (dk_at dksX0_of_3 0 rfl rfl)
theorem dX0_of_74 : decode cX0_of 74 = .ok (.ifCond .eq 15, 3) := dk_153 0 15 (dk_at dksX0_of_3 3 rfl rfl)
theorem dX0_of_77 : decode cX0_of 77 = .ok (.aload_n 0, 1) := dk_42 (dk_at dksX0_of_3 6 rfl rfl)
theorem dX0_of_78 : decode cX0_of 78 = .ok (.getfield 67, 3) := dk_180 0 67 (dk_at dksX0_of_3 7 rfl rfl)
theorem dX0_of_81 : decode cX0_of 81 = .ok (.iload_n 1, 1) := dk_27 (dk_at dksX0_of_3 10 rfl rfl)
theorem dX0_of_82 : decode cX0_of 82 = .ok (.aaload, 1) := dk_50 (dk_at dksX0_of_3 11 rfl rfl)
theorem dX0_of_83 : decode cX0_of 83 = .ok (.getfield 1, 3) := dk_180 0 1 (dk_at dksX0_of_3 12 rfl rfl)
theorem dX0_of_86 : decode cX0_of 86 = .ok (.goto 4, 3) := dk_167 0 4 (dk_at dksX0_of_3 15 rfl rfl)
theorem dX0_of_89 : decode cX0_of 89 = .ok (.iconst (-1), 1) := dk_2 (dk_at dksX0_of_3 18 rfl rfl)
theorem dX0_of_90 : decode cX0_of 90 = .ok (.ireturn, 1) := dk_172 (dk_at dksX0_of_3 19 rfl rfl)
abbrev cX0_ofPerson : ByteArray := prog_1_method_27_code
def yX0_ofPerson : MethodName := ⟨RX0, "ofPerson", "(II)I"⟩
def dkwX0_ofPerson_4 : List UInt8 := [2, 167, 0, 16, 42, 42, 180, 0, 51, 27, 42, 180, 0, 215, 182, 0, 218, 172]
abbrev dktX0_ofPerson_4 : List UInt8 := dkwX0_ofPerson_4 ++ []
def dkwX0_ofPerson_3 : List UInt8 := [180, 0, 51, 180, 0, 164, 27, 46, 172, 42, 27, 182, 0, 211, 172, 42, 180, 0, 215, 16, 24, 160, 0, 7]
abbrev dktX0_ofPerson_3 : List UInt8 := dkwX0_ofPerson_3 ++ dktX0_ofPerson_4
def dkwX0_ofPerson_2 : List UInt8 := [42, 180, 0, 51, 180, 0, 161, 27, 46, 172, 42, 180, 0, 63, 27, 50, 180, 0, 158, 180, 0, 1, 172, 42]
abbrev dktX0_ofPerson_2 : List UInt8 := dkwX0_ofPerson_2 ++ dktX0_ofPerson_3
def dkwX0_ofPerson_1 : List UInt8 := [170, 0, 0, 0, 0, 0, 70, 0, 0, 0, 0, 0, 0, 0, 3, 0, 0, 0, 31, 0, 0, 0, 41, 0, 0, 0, 54, 0, 0, 0, 64]
abbrev dktX0_ofPerson_1 : List UInt8 := dkwX0_ofPerson_1 ++ dktX0_ofPerson_2
def dkwX0_ofPerson_0 : List UInt8 := [28]
abbrev dktX0_ofPerson_0 : List UInt8 := dkwX0_ofPerson_0 ++ dktX0_ofPerson_1
theorem dksX0_ofPerson_0 : cX0_ofPerson.data.toList.drop 0 = dktX0_ofPerson_0 := by decide +kernel
theorem dksX0_ofPerson_1 : cX0_ofPerson.data.toList.drop 1 = dktX0_ofPerson_1 := dk_seg dksX0_ofPerson_0 1 rfl rfl
theorem dksX0_ofPerson_2 : cX0_ofPerson.data.toList.drop 32 = dktX0_ofPerson_2 := dk_seg dksX0_ofPerson_1 31 rfl rfl
theorem dksX0_ofPerson_3 : cX0_ofPerson.data.toList.drop 56 = dktX0_ofPerson_3 := dk_seg dksX0_ofPerson_2 24 rfl rfl
theorem dksX0_ofPerson_4 : cX0_ofPerson.data.toList.drop 80 = dktX0_ofPerson_4 := dk_seg dksX0_ofPerson_3 24 rfl rfl
theorem dX0_ofPerson_0 : decode cX0_ofPerson 0 = .ok (.iload_n 2, 1) := dk_28 (dk_at dksX0_ofPerson_0 0 rfl rfl)
theorem dX0_ofPerson_1 : decode cX0_ofPerson 1 = .ok (.tableswitch 70 0 3 #[31, 41, 54, 64], 31) := by decide +kernel
theorem dX0_ofPerson_32 : decode cX0_ofPerson 32 = .ok (.aload_n 0, 1) := dk_42 (dk_at dksX0_ofPerson_2 0 rfl rfl)
theorem dX0_ofPerson_33 : decode cX0_ofPerson 33 = .ok (.getfield 51, 3) := dk_180 0 51 (dk_at dksX0_ofPerson_2 1 rfl rfl)
theorem dX0_ofPerson_36 : decode cX0_ofPerson 36 = .ok (.getfield 161, 3) := dk_180 0 161 (dk_at dksX0_ofPerson_2 4 rfl rfl)
theorem dX0_ofPerson_39 : decode cX0_ofPerson 39 = .ok (.iload_n 1, 1) := dk_27 (dk_at dksX0_ofPerson_2 7 rfl rfl)
theorem dX0_ofPerson_40 : decode cX0_ofPerson 40 = .ok (.iaload, 1) := dk_46 (dk_at dksX0_ofPerson_2 8 rfl rfl)
theorem dX0_ofPerson_41 : decode cX0_ofPerson 41 = .ok (.ireturn, 1) := dk_172 (dk_at dksX0_ofPerson_2 9 rfl rfl)
theorem dX0_ofPerson_42 : decode cX0_ofPerson 42 = .ok (.aload_n 0, 1) := dk_42 (dk_at dksX0_ofPerson_2 10 rfl rfl)
theorem dX0_ofPerson_43 : decode cX0_ofPerson 43 = .ok (.getfield 63, 3) := dk_180 0 63 (dk_at dksX0_ofPerson_2 11 rfl rfl)
theorem dX0_ofPerson_46 : decode cX0_ofPerson 46 = .ok (.iload_n 1, 1) := dk_27 (dk_at dksX0_ofPerson_2 14 rfl rfl)
theorem dX0_ofPerson_47 : decode cX0_ofPerson 47 = .ok (.aaload, 1) := dk_50 (dk_at dksX0_ofPerson_2 15 rfl rfl)
theorem dX0_ofPerson_48 : decode cX0_ofPerson 48 = .ok (.getfield 158, 3) := dk_180 0 158 (dk_at dksX0_ofPerson_2 16 rfl rfl)
theorem dX0_ofPerson_51 : decode cX0_ofPerson 51 = .ok (.getfield 1, 3) := dk_180 0 1 (dk_at dksX0_ofPerson_2 19 rfl rfl)
theorem dX0_ofPerson_54 : decode cX0_ofPerson 54 = .ok (.ireturn, 1) := dk_172 (dk_at dksX0_ofPerson_2 22 rfl rfl)
theorem dX0_ofPerson_55 : decode cX0_ofPerson 55 = .ok (.aload_n 0, 1) := dk_42 (dk_at dksX0_ofPerson_2 23 rfl rfl)
theorem dX0_ofPerson_56 : decode cX0_ofPerson 56 = .ok (.getfield 51, 3) := dk_180 0 51 (dk_at dksX0_ofPerson_3 0 rfl rfl)
theorem dX0_ofPerson_59 : decode cX0_ofPerson 59 = .ok (.getfield 164, 3) := dk_180 0 164 (dk_at dksX0_ofPerson_3 3 rfl rfl)
theorem dX0_ofPerson_62 : decode cX0_ofPerson 62 = .ok (.iload_n 1, 1) := dk_27 (dk_at dksX0_ofPerson_3 6 rfl rfl)
theorem dX0_ofPerson_63 : decode cX0_ofPerson 63 = .ok (.iaload, 1) := dk_46 (dk_at dksX0_ofPerson_3 7 rfl rfl)
theorem dX0_ofPerson_64 : decode cX0_ofPerson 64 = .ok (.ireturn, 1) := dk_172 (dk_at dksX0_ofPerson_3 8 rfl rfl)
theorem dX0_ofPerson_65 : decode cX0_ofPerson 65 = .ok (.aload_n 0, 1) := dk_42 (dk_at dksX0_ofPerson_3 9 rfl rfl)
theorem dX0_ofPerson_66 : decode cX0_ofPerson 66 = .ok (.iload_n 1, 1) := dk_27 (dk_at dksX0_ofPerson_3 10 rfl rfl)
theorem dX0_ofPerson_67 : decode cX0_ofPerson 67 = .ok (.invokevirtual 211, 3) := dk_182 0 211 (dk_at dksX0_ofPerson_3 11 rfl rfl)
theorem dX0_ofPerson_70 : decode cX0_ofPerson 70 = .ok (.ireturn, 1) := dk_172 (dk_at dksX0_ofPerson_3 14 rfl rfl)
theorem dX0_ofPerson_71 : decode cX0_ofPerson 71 = .ok (.aload_n 0, 1) := dk_42 (dk_at dksX0_ofPerson_3 15 rfl rfl)
theorem dX0_ofPerson_72 : decode cX0_ofPerson 72 = .ok (.getfield 215, 3) := dk_180 0 215 (dk_at dksX0_ofPerson_3 16 rfl rfl)
theorem dX0_ofPerson_75 : decode cX0_ofPerson 75 = .ok (.bipush 24, 2) := dk_16 24 (dk_at dksX0_ofPerson_3 19 rfl rfl)
theorem dX0_ofPerson_77 : decode cX0_ofPerson 77 = .ok (.if_icmp .ne 7, 3) := dk_160 0 7 (dk_at dksX0_ofPerson_3 21 rfl rfl)
theorem dX0_ofPerson_80 : decode cX0_ofPerson 80 = .ok (.iconst (-1), 1) := dk_2 (dk_at dksX0_ofPerson_4 0 rfl rfl)
theorem dX0_ofPerson_81 : decode cX0_ofPerson 81 = .ok (.goto 16, 3) := dk_167 0 16 (dk_at dksX0_ofPerson_4 1 rfl rfl)
theorem dX0_ofPerson_84 : decode cX0_ofPerson 84 = .ok (.aload_n 0, 1) := dk_42 (dk_at dksX0_ofPerson_4 4 rfl rfl)
theorem dX0_ofPerson_85 : decode cX0_ofPerson 85 = .ok (.aload_n 0, 1) := dk_42 (dk_at dksX0_ofPerson_4 5 rfl rfl)
theorem dX0_ofPerson_86 : decode cX0_ofPerson 86 = .ok (.getfield 51, 3) := dk_180 0 51 (dk_at dksX0_ofPerson_4 6 rfl rfl)
theorem dX0_ofPerson_89 : decode cX0_ofPerson 89 = .ok (.iload_n 1, 1) := dk_27 (dk_at dksX0_ofPerson_4 9 rfl rfl)
theorem dX0_ofPerson_90 : decode cX0_ofPerson 90 = .ok (.aload_n 0, 1) := dk_42 (dk_at dksX0_ofPerson_4 10 rfl rfl)
theorem dX0_ofPerson_91 : decode cX0_ofPerson 91 = .ok (.getfield 215, 3) := dk_180 0 215 (dk_at dksX0_ofPerson_4 11 rfl rfl)
theorem dX0_ofPerson_94 : decode cX0_ofPerson 94 = .ok (.invokevirtual 218, 3) := dk_182 0 218 (dk_at dksX0_ofPerson_4 14 rfl rfl)
theorem dX0_ofPerson_97 : decode cX0_ofPerson 97 = .ok (.ireturn, 1) := dk_172 (dk_at dksX0_ofPerson_4 17 rfl rfl)
abbrev cX0_rankOf : ByteArray := prog_1_method_25_code
def yX0_rankOf : MethodName := ⟨RX0, "rankOf", "(I)I"⟩
def dkwX0_rankOf_2 : List UInt8 := [172]
abbrev dktX0_rankOf_2 : List UInt8 := dkwX0_rankOf_2 ++ []
def dkwX0_rankOf_1 : List UInt8 := [27, 182, 0, 203, 153, 0, 7, 4, 167, 0, 4, 3, 184, 0, 207, 96, 61, 132, 3, 1, 167, 255, 216, 28]
abbrev dktX0_rankOf_1 : List UInt8 := dkwX0_rankOf_1 ++ dktX0_rankOf_2
def dkwX0_rankOf_0 : List UInt8 := [3, 61, 3, 62, 29, 42, 180, 0, 133, 162, 0, 38, 28, 29, 27, 159, 0, 20, 42, 42, 180, 0, 51, 29]
abbrev dktX0_rankOf_0 : List UInt8 := dkwX0_rankOf_0 ++ dktX0_rankOf_1
theorem dksX0_rankOf_0 : cX0_rankOf.data.toList.drop 0 = dktX0_rankOf_0 := by decide +kernel
theorem dksX0_rankOf_1 : cX0_rankOf.data.toList.drop 24 = dktX0_rankOf_1 := dk_seg dksX0_rankOf_0 24 rfl rfl
theorem dksX0_rankOf_2 : cX0_rankOf.data.toList.drop 48 = dktX0_rankOf_2 := dk_seg dksX0_rankOf_1 24 rfl rfl
theorem dX0_rankOf_0 : decode cX0_rankOf 0 = .ok (.iconst 0, 1) := dk_3 (dk_at dksX0_rankOf_0 0 rfl rfl)
theorem dX0_rankOf_1 : decode cX0_rankOf 1 = .ok (.istore_n 2, 1) := dk_61 (dk_at dksX0_rankOf_0 1 rfl rfl)
theorem dX0_rankOf_2 : decode cX0_rankOf 2 = .ok (.iconst 0, 1) := dk_3 (dk_at dksX0_rankOf_0 2 rfl rfl)
theorem dX0_rankOf_3 : decode cX0_rankOf 3 = .ok (.istore_n 3, 1) := dk_62 (dk_at dksX0_rankOf_0 3 rfl rfl)
theorem dX0_rankOf_4 : decode cX0_rankOf 4 = .ok (.iload_n 3, 1) := dk_29 (dk_at dksX0_rankOf_0 4 rfl rfl)
theorem dX0_rankOf_5 : decode cX0_rankOf 5 = .ok (.aload_n 0, 1) := dk_42 (dk_at dksX0_rankOf_0 5 rfl rfl)
theorem dX0_rankOf_6 : decode cX0_rankOf 6 = .ok (.getfield 133, 3) := dk_180 0 133 (dk_at dksX0_rankOf_0 6 rfl rfl)
theorem dX0_rankOf_9 : decode cX0_rankOf 9 = .ok (.if_icmp .ge 38, 3) := dk_162 0 38 (dk_at dksX0_rankOf_0 9 rfl rfl)
theorem dX0_rankOf_12 : decode cX0_rankOf 12 = .ok (.iload_n 2, 1) := dk_28 (dk_at dksX0_rankOf_0 12 rfl rfl)
theorem dX0_rankOf_13 : decode cX0_rankOf 13 = .ok (.iload_n 3, 1) := dk_29 (dk_at dksX0_rankOf_0 13 rfl rfl)
theorem dX0_rankOf_14 : decode cX0_rankOf 14 = .ok (.iload_n 1, 1) := dk_27 (dk_at dksX0_rankOf_0 14 rfl rfl)
theorem dX0_rankOf_15 : decode cX0_rankOf 15 = .ok (.if_icmp .eq 20, 3) := dk_159 0 20 (dk_at dksX0_rankOf_0 15 rfl rfl)
theorem dX0_rankOf_18 : decode cX0_rankOf 18 = .ok (.aload_n 0, 1) := dk_42 (dk_at dksX0_rankOf_0 18 rfl rfl)
theorem dX0_rankOf_19 : decode cX0_rankOf 19 = .ok (.aload_n 0, 1) := dk_42 (dk_at dksX0_rankOf_0 19 rfl rfl)
theorem dX0_rankOf_20 : decode cX0_rankOf 20 = .ok (.getfield 51, 3) := dk_180 0 51 (dk_at dksX0_rankOf_0 20 rfl rfl)
theorem dX0_rankOf_23 : decode cX0_rankOf 23 = .ok (.iload_n 3, 1) := dk_29 (dk_at dksX0_rankOf_0 23 rfl rfl)
theorem dX0_rankOf_24 : decode cX0_rankOf 24 = .ok (.iload_n 1, 1) := dk_27 (dk_at dksX0_rankOf_1 0 rfl rfl)
theorem dX0_rankOf_25 : decode cX0_rankOf 25 = .ok (.invokevirtual 203, 3) := dk_182 0 203 (dk_at dksX0_rankOf_1 1 rfl rfl)
theorem dX0_rankOf_28 : decode cX0_rankOf 28 = .ok (.ifCond .eq 7, 3) := dk_153 0 7 (dk_at dksX0_rankOf_1 4 rfl rfl)
theorem dX0_rankOf_31 : decode cX0_rankOf 31 = .ok (.iconst 1, 1) := dk_4 (dk_at dksX0_rankOf_1 7 rfl rfl)
theorem dX0_rankOf_32 : decode cX0_rankOf 32 = .ok (.goto 4, 3) := dk_167 0 4 (dk_at dksX0_rankOf_1 8 rfl rfl)
theorem dX0_rankOf_35 : decode cX0_rankOf 35 = .ok (.iconst 0, 1) := dk_3 (dk_at dksX0_rankOf_1 11 rfl rfl)
theorem dX0_rankOf_36 : decode cX0_rankOf 36 = .ok (.invokestatic 207, 3) := dk_184 0 207 (dk_at dksX0_rankOf_1 12 rfl rfl)
theorem dX0_rankOf_39 : decode cX0_rankOf 39 = .ok (.iadd, 1) := dk_96 (dk_at dksX0_rankOf_1 15 rfl rfl)
theorem dX0_rankOf_40 : decode cX0_rankOf 40 = .ok (.istore_n 2, 1) := dk_61 (dk_at dksX0_rankOf_1 16 rfl rfl)
theorem dX0_rankOf_41 : decode cX0_rankOf 41 = .ok (.iinc 3 1, 3) := dk_132 3 1 (dk_at dksX0_rankOf_1 17 rfl rfl)
theorem dX0_rankOf_44 : decode cX0_rankOf 44 = .ok (.goto (-40), 3) := dk_167 255 216 (dk_at dksX0_rankOf_1 20 rfl rfl)
theorem dX0_rankOf_47 : decode cX0_rankOf 47 = .ok (.iload_n 2, 1) := dk_28 (dk_at dksX0_rankOf_1 23 rfl rfl)
theorem dX0_rankOf_48 : decode cX0_rankOf 48 = .ok (.ireturn, 1) := dk_172 (dk_at dksX0_rankOf_2 0 rfl rfl)
abbrev cX0_isAbove : ByteArray := prog_1_method_24_code
def yX0_isAbove : MethodName := ⟨RX0, "isAbove", "(LHatRank$Town;II)Z"⟩
def dkwX0_isAbove_1 : List UInt8 := [180, 0, 161, 29, 46, 160, 0, 12, 28, 29, 162, 0, 7, 4, 167, 0, 4, 3, 172]
abbrev dktX0_isAbove_1 : List UInt8 := dkwX0_isAbove_1 ++ []
def dkwX0_isAbove_0 : List UInt8 := [43, 180, 0, 161, 28, 46, 43, 180, 0, 161, 29, 46, 163, 0, 23, 43, 180, 0, 161, 28, 46, 43]
abbrev dktX0_isAbove_0 : List UInt8 := dkwX0_isAbove_0 ++ dktX0_isAbove_1
theorem dksX0_isAbove_0 : cX0_isAbove.data.toList.drop 0 = dktX0_isAbove_0 := by decide +kernel
theorem dksX0_isAbove_1 : cX0_isAbove.data.toList.drop 22 = dktX0_isAbove_1 := dk_seg dksX0_isAbove_0 22 rfl rfl
theorem dX0_isAbove_0 : decode cX0_isAbove 0 = .ok (.aload_n 1, 1) := dk_43 (dk_at dksX0_isAbove_0 0 rfl rfl)
theorem dX0_isAbove_1 : decode cX0_isAbove 1 = .ok (.getfield 161, 3) := dk_180 0 161 (dk_at dksX0_isAbove_0 1 rfl rfl)
theorem dX0_isAbove_4 : decode cX0_isAbove 4 = .ok (.iload_n 2, 1) := dk_28 (dk_at dksX0_isAbove_0 4 rfl rfl)
theorem dX0_isAbove_5 : decode cX0_isAbove 5 = .ok (.iaload, 1) := dk_46 (dk_at dksX0_isAbove_0 5 rfl rfl)
theorem dX0_isAbove_6 : decode cX0_isAbove 6 = .ok (.aload_n 1, 1) := dk_43 (dk_at dksX0_isAbove_0 6 rfl rfl)
theorem dX0_isAbove_7 : decode cX0_isAbove 7 = .ok (.getfield 161, 3) := dk_180 0 161 (dk_at dksX0_isAbove_0 7 rfl rfl)
theorem dX0_isAbove_10 : decode cX0_isAbove 10 = .ok (.iload_n 3, 1) := dk_29 (dk_at dksX0_isAbove_0 10 rfl rfl)
theorem dX0_isAbove_11 : decode cX0_isAbove 11 = .ok (.iaload, 1) := dk_46 (dk_at dksX0_isAbove_0 11 rfl rfl)
theorem dX0_isAbove_12 : decode cX0_isAbove 12 = .ok (.if_icmp .gt 23, 3) := dk_163 0 23 (dk_at dksX0_isAbove_0 12 rfl rfl)
theorem dX0_isAbove_15 : decode cX0_isAbove 15 = .ok (.aload_n 1, 1) := dk_43 (dk_at dksX0_isAbove_0 15 rfl rfl)
theorem dX0_isAbove_16 : decode cX0_isAbove 16 = .ok (.getfield 161, 3) := dk_180 0 161 (dk_at dksX0_isAbove_0 16 rfl rfl)
theorem dX0_isAbove_19 : decode cX0_isAbove 19 = .ok (.iload_n 2, 1) := dk_28 (dk_at dksX0_isAbove_0 19 rfl rfl)
theorem dX0_isAbove_20 : decode cX0_isAbove 20 = .ok (.iaload, 1) := dk_46 (dk_at dksX0_isAbove_0 20 rfl rfl)
theorem dX0_isAbove_21 : decode cX0_isAbove 21 = .ok (.aload_n 1, 1) := dk_43 (dk_at dksX0_isAbove_0 21 rfl rfl)
theorem dX0_isAbove_22 : decode cX0_isAbove 22 = .ok (.getfield 161, 3) := dk_180 0 161 (dk_at dksX0_isAbove_1 0 rfl rfl)
theorem dX0_isAbove_25 : decode cX0_isAbove 25 = .ok (.iload_n 3, 1) := dk_29 (dk_at dksX0_isAbove_1 3 rfl rfl)
theorem dX0_isAbove_26 : decode cX0_isAbove 26 = .ok (.iaload, 1) := dk_46 (dk_at dksX0_isAbove_1 4 rfl rfl)
theorem dX0_isAbove_27 : decode cX0_isAbove 27 = .ok (.if_icmp .ne 12, 3) := dk_160 0 12 (dk_at dksX0_isAbove_1 5 rfl rfl)
theorem dX0_isAbove_30 : decode cX0_isAbove 30 = .ok (.iload_n 2, 1) := dk_28 (dk_at dksX0_isAbove_1 8 rfl rfl)
theorem dX0_isAbove_31 : decode cX0_isAbove 31 = .ok (.iload_n 3, 1) := dk_29 (dk_at dksX0_isAbove_1 9 rfl rfl)
theorem dX0_isAbove_32 : decode cX0_isAbove 32 = .ok (.if_icmp .ge 7, 3) := dk_162 0 7 (dk_at dksX0_isAbove_1 10 rfl rfl)
theorem dX0_isAbove_35 : decode cX0_isAbove 35 = .ok (.iconst 1, 1) := dk_4 (dk_at dksX0_isAbove_1 13 rfl rfl)
theorem dX0_isAbove_36 : decode cX0_isAbove 36 = .ok (.goto 4, 3) := dk_167 0 4 (dk_at dksX0_isAbove_1 14 rfl rfl)
theorem dX0_isAbove_39 : decode cX0_isAbove 39 = .ok (.iconst 0, 1) := dk_3 (dk_at dksX0_isAbove_1 17 rfl rfl)
theorem dX0_isAbove_40 : decode cX0_isAbove 40 = .ok (.ireturn, 1) := dk_172 (dk_at dksX0_isAbove_1 18 rfl rfl)
abbrev cX0_bit : ByteArray := prog_1_method_2_code
def yX0_bit : MethodName := ⟨RX0, "bit", "(Z)I"⟩
def dkwX0_bit_0 : List UInt8 := [26, 153, 0, 7, 4, 167, 0, 4, 3, 172]
abbrev dktX0_bit_0 : List UInt8 := dkwX0_bit_0 ++ []
theorem dksX0_bit_0 : cX0_bit.data.toList.drop 0 = dktX0_bit_0 := by decide +kernel
theorem dX0_bit_0 : decode cX0_bit 0 = .ok (.iload_n 0, 1) := dk_26 (dk_at dksX0_bit_0 0 rfl rfl)
theorem dX0_bit_1 : decode cX0_bit 1 = .ok (.ifCond .eq 7, 3) := dk_153 0 7 (dk_at dksX0_bit_0 1 rfl rfl)
theorem dX0_bit_4 : decode cX0_bit 4 = .ok (.iconst 1, 1) := dk_4 (dk_at dksX0_bit_0 4 rfl rfl)
theorem dX0_bit_5 : decode cX0_bit 5 = .ok (.goto 4, 3) := dk_167 0 4 (dk_at dksX0_bit_0 5 rfl rfl)
theorem dX0_bit_8 : decode cX0_bit 8 = .ok (.iconst 0, 1) := dk_3 (dk_at dksX0_bit_0 8 rfl rfl)
theorem dX0_bit_9 : decode cX0_bit 9 = .ok (.ireturn, 1) := dk_172 (dk_at dksX0_bit_0 9 rfl rfl)
abbrev cX0_fallsOf : ByteArray := prog_1_method_44_code
def yX0_fallsOf : MethodName := ⟨RX0, "fallsOf", "(LHatRank$Town;II)I"⟩
def dkwX0_fallsOf_1 : List UInt8 := [182, 1, 89, 172]
abbrev dktX0_fallsOf_1 : List UInt8 := dkwX0_fallsOf_1 ++ []
def dkwX0_fallsOf_0 : List UInt8 := [42, 43, 28, 43, 180, 0, 164, 28, 46, 29, 42, 180, 0, 63, 28, 50, 180, 0, 158, 180, 0, 1]
abbrev dktX0_fallsOf_0 : List UInt8 := dkwX0_fallsOf_0 ++ dktX0_fallsOf_1
theorem dksX0_fallsOf_0 : cX0_fallsOf.data.toList.drop 0 = dktX0_fallsOf_0 := by decide +kernel
theorem dksX0_fallsOf_1 : cX0_fallsOf.data.toList.drop 22 = dktX0_fallsOf_1 := dk_seg dksX0_fallsOf_0 22 rfl rfl
theorem dX0_fallsOf_0 : decode cX0_fallsOf 0 = .ok (.aload_n 0, 1) := dk_42 (dk_at dksX0_fallsOf_0 0 rfl rfl)
theorem dX0_fallsOf_1 : decode cX0_fallsOf 1 = .ok (.aload_n 1, 1) := dk_43 (dk_at dksX0_fallsOf_0 1 rfl rfl)
theorem dX0_fallsOf_2 : decode cX0_fallsOf 2 = .ok (.iload_n 2, 1) := dk_28 (dk_at dksX0_fallsOf_0 2 rfl rfl)
theorem dX0_fallsOf_3 : decode cX0_fallsOf 3 = .ok (.aload_n 1, 1) := dk_43 (dk_at dksX0_fallsOf_0 3 rfl rfl)
theorem dX0_fallsOf_4 : decode cX0_fallsOf 4 = .ok (.getfield 164, 3) := dk_180 0 164 (dk_at dksX0_fallsOf_0 4 rfl rfl)
theorem dX0_fallsOf_7 : decode cX0_fallsOf 7 = .ok (.iload_n 2, 1) := dk_28 (dk_at dksX0_fallsOf_0 7 rfl rfl)
theorem dX0_fallsOf_8 : decode cX0_fallsOf 8 = .ok (.iaload, 1) := dk_46 (dk_at dksX0_fallsOf_0 8 rfl rfl)
theorem dX0_fallsOf_9 : decode cX0_fallsOf 9 = .ok (.iload_n 3, 1) := dk_29 (dk_at dksX0_fallsOf_0 9 rfl rfl)
theorem dX0_fallsOf_10 : decode cX0_fallsOf 10 = .ok (.aload_n 0, 1) := dk_42 (dk_at dksX0_fallsOf_0 10 rfl rfl)
theorem dX0_fallsOf_11 : decode cX0_fallsOf 11 = .ok (.getfield 63, 3) := dk_180 0 63 (dk_at dksX0_fallsOf_0 11 rfl rfl)
theorem dX0_fallsOf_14 : decode cX0_fallsOf 14 = .ok (.iload_n 2, 1) := dk_28 (dk_at dksX0_fallsOf_0 14 rfl rfl)
theorem dX0_fallsOf_15 : decode cX0_fallsOf 15 = .ok (.aaload, 1) := dk_50 (dk_at dksX0_fallsOf_0 15 rfl rfl)
theorem dX0_fallsOf_16 : decode cX0_fallsOf 16 = .ok (.getfield 158, 3) := dk_180 0 158 (dk_at dksX0_fallsOf_0 16 rfl rfl)
theorem dX0_fallsOf_19 : decode cX0_fallsOf 19 = .ok (.getfield 1, 3) := dk_180 0 1 (dk_at dksX0_fallsOf_0 19 rfl rfl)
theorem dX0_fallsOf_22 : decode cX0_fallsOf 22 = .ok (.invokevirtual 345, 3) := dk_182 1 89 (dk_at dksX0_fallsOf_1 0 rfl rfl)
theorem dX0_fallsOf_25 : decode cX0_fallsOf 25 = .ok (.ireturn, 1) := dk_172 (dk_at dksX0_fallsOf_1 3 rfl rfl)
abbrev cX0_fallsAt : ByteArray := prog_1_method_43_code
def yX0_fallsAt : MethodName := ⟨RX0, "fallsAt", "(LHatRank$Town;IIII)I"⟩
def dkwX0_fallsAt_4 : List UInt8 := [42, 182, 1, 83, 54, 7, 3, 16, 12, 21, 7, 184, 1, 86, 184, 1, 75, 172]
abbrev dktX0_fallsAt_4 : List UInt8 := dkwX0_fallsAt_4 ++ []
def dkwX0_fallsAt_3 : List UInt8 := [6, 21, 4, 79, 42, 180, 0, 78, 7, 28, 79, 42, 180, 0, 78, 8, 42, 43, 28, 29, 182, 1, 80, 79]
abbrev dktX0_fallsAt_3 : List UInt8 := dkwX0_fallsAt_3 ++ dktX0_fallsAt_4
def dkwX0_fallsAt_2 : List UInt8 := [182, 0, 231, 79, 42, 180, 0, 78, 4, 21, 6, 79, 42, 180, 0, 78, 5, 21, 5, 79, 42, 180, 0, 78]
abbrev dktX0_fallsAt_2 : List UInt8 := dkwX0_fallsAt_2 ++ dktX0_fallsAt_3
def dkwX0_fallsAt_1 : List UInt8 := [96, 21, 5, 100, 54, 7, 42, 180, 1, 64, 198, 0, 66, 42, 180, 0, 78, 3, 42, 29, 21, 4]
abbrev dktX0_fallsAt_1 : List UInt8 := dkwX0_fallsAt_1 ++ dktX0_fallsAt_2
def dkwX0_fallsAt_0 : List UInt8 := [43, 180, 0, 161, 28, 46, 54, 6, 21, 6, 154, 0, 5, 3, 172, 42, 29, 21, 4, 182, 0, 231, 21, 6]
abbrev dktX0_fallsAt_0 : List UInt8 := dkwX0_fallsAt_0 ++ dktX0_fallsAt_1
theorem dksX0_fallsAt_0 : cX0_fallsAt.data.toList.drop 0 = dktX0_fallsAt_0 := by decide +kernel
theorem dksX0_fallsAt_1 : cX0_fallsAt.data.toList.drop 24 = dktX0_fallsAt_1 := dk_seg dksX0_fallsAt_0 24 rfl rfl
theorem dksX0_fallsAt_2 : cX0_fallsAt.data.toList.drop 46 = dktX0_fallsAt_2 := dk_seg dksX0_fallsAt_1 22 rfl rfl
theorem dksX0_fallsAt_3 : cX0_fallsAt.data.toList.drop 70 = dktX0_fallsAt_3 := dk_seg dksX0_fallsAt_2 24 rfl rfl
theorem dksX0_fallsAt_4 : cX0_fallsAt.data.toList.drop 94 = dktX0_fallsAt_4 := dk_seg dksX0_fallsAt_3 24 rfl rfl
theorem dX0_fallsAt_0 : decode cX0_fallsAt 0 = .ok (.aload_n 1, 1) := dk_43 (dk_at dksX0_fallsAt_0 0 rfl rfl)
theorem dX0_fallsAt_1 : decode cX0_fallsAt 1 = .ok (.getfield 161, 3) := dk_180 0 161 (dk_at dksX0_fallsAt_0 1 rfl rfl)
theorem dX0_fallsAt_4 : decode cX0_fallsAt 4 = .ok (.iload_n 2, 1) := dk_28 (dk_at dksX0_fallsAt_0 4 rfl rfl)
theorem dX0_fallsAt_5 : decode cX0_fallsAt 5 = .ok (.iaload, 1) := dk_46 (dk_at dksX0_fallsAt_0 5 rfl rfl)
theorem dX0_fallsAt_6 : decode cX0_fallsAt 6 = .ok (.istore 6, 2) := dk_54 6 (dk_at dksX0_fallsAt_0 6 rfl rfl)
theorem dX0_fallsAt_8 : decode cX0_fallsAt 8 = .ok (.iload 6, 2) := dk_21 6 (dk_at dksX0_fallsAt_0 8 rfl rfl)
theorem dX0_fallsAt_10 : decode cX0_fallsAt 10 = .ok (.ifCond .ne 5, 3) := dk_154 0 5 (dk_at dksX0_fallsAt_0 10 rfl rfl)
theorem dX0_fallsAt_13 : decode cX0_fallsAt 13 = .ok (.iconst 0, 1) := dk_3 (dk_at dksX0_fallsAt_0 13 rfl rfl)
theorem dX0_fallsAt_14 : decode cX0_fallsAt 14 = .ok (.ireturn, 1) := dk_172 (dk_at dksX0_fallsAt_0 14 rfl rfl)
theorem dX0_fallsAt_15 : decode cX0_fallsAt 15 = .ok (.aload_n 0, 1) := dk_42 (dk_at dksX0_fallsAt_0 15 rfl rfl)
theorem dX0_fallsAt_16 : decode cX0_fallsAt 16 = .ok (.iload_n 3, 1) := dk_29 (dk_at dksX0_fallsAt_0 16 rfl rfl)
theorem dX0_fallsAt_17 : decode cX0_fallsAt 17 = .ok (.iload 4, 2) := dk_21 4 (dk_at dksX0_fallsAt_0 17 rfl rfl)
theorem dX0_fallsAt_19 : decode cX0_fallsAt 19 = .ok (.invokevirtual 231, 3) := dk_182 0 231 (dk_at dksX0_fallsAt_0 19 rfl rfl)
theorem dX0_fallsAt_22 : decode cX0_fallsAt 22 = .ok (.iload 6, 2) := dk_21 6 (dk_at dksX0_fallsAt_0 22 rfl rfl)
theorem dX0_fallsAt_24 : decode cX0_fallsAt 24 = .ok (.iadd, 1) := dk_96 (dk_at dksX0_fallsAt_1 0 rfl rfl)
theorem dX0_fallsAt_25 : decode cX0_fallsAt 25 = .ok (.iload 5, 2) := dk_21 5 (dk_at dksX0_fallsAt_1 1 rfl rfl)
theorem dX0_fallsAt_27 : decode cX0_fallsAt 27 = .ok (.isub, 1) := dk_100 (dk_at dksX0_fallsAt_1 3 rfl rfl)
theorem dX0_fallsAt_28 : decode cX0_fallsAt 28 = .ok (.istore 7, 2) := dk_54 7 (dk_at dksX0_fallsAt_1 4 rfl rfl)
theorem dX0_fallsAt_30 : decode cX0_fallsAt 30 = .ok (.aload_n 0, 1) := dk_42 (dk_at dksX0_fallsAt_1 6 rfl rfl)
theorem dX0_fallsAt_31 : decode cX0_fallsAt 31 = .ok (.getfield 320, 3) := dk_180 1 64 (dk_at dksX0_fallsAt_1 7 rfl rfl)
theorem dX0_fallsAt_34 : decode cX0_fallsAt 34 = .ok (.ifnull 66, 3) := dk_198 0 66 (dk_at dksX0_fallsAt_1 10 rfl rfl)
theorem dX0_fallsAt_37 : decode cX0_fallsAt 37 = .ok (.aload_n 0, 1) := dk_42 (dk_at dksX0_fallsAt_1 13 rfl rfl)
theorem dX0_fallsAt_38 : decode cX0_fallsAt 38 = .ok (.getfield 78, 3) := dk_180 0 78 (dk_at dksX0_fallsAt_1 14 rfl rfl)
theorem dX0_fallsAt_41 : decode cX0_fallsAt 41 = .ok (.iconst 0, 1) := dk_3 (dk_at dksX0_fallsAt_1 17 rfl rfl)
theorem dX0_fallsAt_42 : decode cX0_fallsAt 42 = .ok (.aload_n 0, 1) := dk_42 (dk_at dksX0_fallsAt_1 18 rfl rfl)
theorem dX0_fallsAt_43 : decode cX0_fallsAt 43 = .ok (.iload_n 3, 1) := dk_29 (dk_at dksX0_fallsAt_1 19 rfl rfl)
theorem dX0_fallsAt_44 : decode cX0_fallsAt 44 = .ok (.iload 4, 2) := dk_21 4 (dk_at dksX0_fallsAt_1 20 rfl rfl)
theorem dX0_fallsAt_46 : decode cX0_fallsAt 46 = .ok (.invokevirtual 231, 3) := dk_182 0 231 (dk_at dksX0_fallsAt_2 0 rfl rfl)
theorem dX0_fallsAt_49 : decode cX0_fallsAt 49 = .ok (.iastore, 1) := dk_79 (dk_at dksX0_fallsAt_2 3 rfl rfl)
theorem dX0_fallsAt_50 : decode cX0_fallsAt 50 = .ok (.aload_n 0, 1) := dk_42 (dk_at dksX0_fallsAt_2 4 rfl rfl)
theorem dX0_fallsAt_51 : decode cX0_fallsAt 51 = .ok (.getfield 78, 3) := dk_180 0 78 (dk_at dksX0_fallsAt_2 5 rfl rfl)
theorem dX0_fallsAt_54 : decode cX0_fallsAt 54 = .ok (.iconst 1, 1) := dk_4 (dk_at dksX0_fallsAt_2 8 rfl rfl)
theorem dX0_fallsAt_55 : decode cX0_fallsAt 55 = .ok (.iload 6, 2) := dk_21 6 (dk_at dksX0_fallsAt_2 9 rfl rfl)
theorem dX0_fallsAt_57 : decode cX0_fallsAt 57 = .ok (.iastore, 1) := dk_79 (dk_at dksX0_fallsAt_2 11 rfl rfl)
theorem dX0_fallsAt_58 : decode cX0_fallsAt 58 = .ok (.aload_n 0, 1) := dk_42 (dk_at dksX0_fallsAt_2 12 rfl rfl)
theorem dX0_fallsAt_59 : decode cX0_fallsAt 59 = .ok (.getfield 78, 3) := dk_180 0 78 (dk_at dksX0_fallsAt_2 13 rfl rfl)
theorem dX0_fallsAt_62 : decode cX0_fallsAt 62 = .ok (.iconst 2, 1) := dk_5 (dk_at dksX0_fallsAt_2 16 rfl rfl)
theorem dX0_fallsAt_63 : decode cX0_fallsAt 63 = .ok (.iload 5, 2) := dk_21 5 (dk_at dksX0_fallsAt_2 17 rfl rfl)
theorem dX0_fallsAt_65 : decode cX0_fallsAt 65 = .ok (.iastore, 1) := dk_79 (dk_at dksX0_fallsAt_2 19 rfl rfl)
theorem dX0_fallsAt_66 : decode cX0_fallsAt 66 = .ok (.aload_n 0, 1) := dk_42 (dk_at dksX0_fallsAt_2 20 rfl rfl)
theorem dX0_fallsAt_67 : decode cX0_fallsAt 67 = .ok (.getfield 78, 3) := dk_180 0 78 (dk_at dksX0_fallsAt_2 21 rfl rfl)
theorem dX0_fallsAt_70 : decode cX0_fallsAt 70 = .ok (.iconst 3, 1) := dk_6 (dk_at dksX0_fallsAt_3 0 rfl rfl)
theorem dX0_fallsAt_71 : decode cX0_fallsAt 71 = .ok (.iload 4, 2) := dk_21 4 (dk_at dksX0_fallsAt_3 1 rfl rfl)
theorem dX0_fallsAt_73 : decode cX0_fallsAt 73 = .ok (.iastore, 1) := dk_79 (dk_at dksX0_fallsAt_3 3 rfl rfl)
theorem dX0_fallsAt_74 : decode cX0_fallsAt 74 = .ok (.aload_n 0, 1) := dk_42 (dk_at dksX0_fallsAt_3 4 rfl rfl)
theorem dX0_fallsAt_75 : decode cX0_fallsAt 75 = .ok (.getfield 78, 3) := dk_180 0 78 (dk_at dksX0_fallsAt_3 5 rfl rfl)
theorem dX0_fallsAt_78 : decode cX0_fallsAt 78 = .ok (.iconst 4, 1) := dk_7 (dk_at dksX0_fallsAt_3 8 rfl rfl)
theorem dX0_fallsAt_79 : decode cX0_fallsAt 79 = .ok (.iload_n 2, 1) := dk_28 (dk_at dksX0_fallsAt_3 9 rfl rfl)
theorem dX0_fallsAt_80 : decode cX0_fallsAt 80 = .ok (.iastore, 1) := dk_79 (dk_at dksX0_fallsAt_3 10 rfl rfl)
theorem dX0_fallsAt_81 : decode cX0_fallsAt 81 = .ok (.aload_n 0, 1) := dk_42 (dk_at dksX0_fallsAt_3 11 rfl rfl)
theorem dX0_fallsAt_82 : decode cX0_fallsAt 82 = .ok (.getfield 78, 3) := dk_180 0 78 (dk_at dksX0_fallsAt_3 12 rfl rfl)
theorem dX0_fallsAt_85 : decode cX0_fallsAt 85 = .ok (.iconst 5, 1) := dk_8 (dk_at dksX0_fallsAt_3 15 rfl rfl)
theorem dX0_fallsAt_86 : decode cX0_fallsAt 86 = .ok (.aload_n 0, 1) := dk_42 (dk_at dksX0_fallsAt_3 16 rfl rfl)
theorem dX0_fallsAt_87 : decode cX0_fallsAt 87 = .ok (.aload_n 1, 1) := dk_43 (dk_at dksX0_fallsAt_3 17 rfl rfl)
theorem dX0_fallsAt_88 : decode cX0_fallsAt 88 = .ok (.iload_n 2, 1) := dk_28 (dk_at dksX0_fallsAt_3 18 rfl rfl)
theorem dX0_fallsAt_89 : decode cX0_fallsAt 89 = .ok (.iload_n 3, 1) := dk_29 (dk_at dksX0_fallsAt_3 19 rfl rfl)
theorem dX0_fallsAt_90 : decode cX0_fallsAt 90 = .ok (.invokevirtual 336, 3) := dk_182 1 80 (dk_at dksX0_fallsAt_3 20 rfl rfl)
theorem dX0_fallsAt_93 : decode cX0_fallsAt 93 = .ok (.iastore, 1) := dk_79 (dk_at dksX0_fallsAt_3 23 rfl rfl)
theorem dX0_fallsAt_94 : decode cX0_fallsAt 94 = .ok (.aload_n 0, 1) := dk_42 (dk_at dksX0_fallsAt_4 0 rfl rfl)
theorem dX0_fallsAt_95 : decode cX0_fallsAt 95 = .ok (.invokevirtual 339, 3) := dk_182 1 83 (dk_at dksX0_fallsAt_4 1 rfl rfl)
theorem dX0_fallsAt_98 : decode cX0_fallsAt 98 = .ok (.istore 7, 2) := dk_54 7 (dk_at dksX0_fallsAt_4 4 rfl rfl)
theorem dX0_fallsAt_100 : decode cX0_fallsAt 100 = .ok (.iconst 0, 1) := dk_3 (dk_at dksX0_fallsAt_4 6 rfl rfl)
theorem dX0_fallsAt_101 : decode cX0_fallsAt 101 = .ok (.bipush 12, 2) := dk_16 12 (dk_at dksX0_fallsAt_4 7 rfl rfl)
theorem dX0_fallsAt_103 : decode cX0_fallsAt 103 = .ok (.iload 7, 2) := dk_21 7 (dk_at dksX0_fallsAt_4 9 rfl rfl)
theorem dX0_fallsAt_105 : decode cX0_fallsAt 105 = .ok (.invokestatic 342, 3) := dk_184 1 86 (dk_at dksX0_fallsAt_4 11 rfl rfl)
theorem dX0_fallsAt_108 : decode cX0_fallsAt 108 = .ok (.invokestatic 331, 3) := dk_184 1 75 (dk_at dksX0_fallsAt_4 14 rfl rfl)
theorem dX0_fallsAt_111 : decode cX0_fallsAt 111 = .ok (.ireturn, 1) := dk_172 (dk_at dksX0_fallsAt_4 17 rfl rfl)
abbrev cX0_gustAt : ByteArray := prog_1_method_41_code
def yX0_gustAt : MethodName := ⟨RX0, "gustAt", "(II)I"⟩
def dkwX0_gustAt_1 : List UInt8 := [100, 184, 1, 75, 172]
abbrev dktX0_gustAt_1 : List UInt8 := dkwX0_gustAt_1 ++ []
def dkwX0_gustAt_0 : List UInt8 := [3, 42, 180, 0, 67, 28, 50, 180, 0, 1, 42, 180, 1, 72, 96, 42, 180, 0, 57, 27, 50, 182, 0, 222]
abbrev dktX0_gustAt_0 : List UInt8 := dkwX0_gustAt_0 ++ dktX0_gustAt_1
theorem dksX0_gustAt_0 : cX0_gustAt.data.toList.drop 0 = dktX0_gustAt_0 := by decide +kernel
theorem dksX0_gustAt_1 : cX0_gustAt.data.toList.drop 24 = dktX0_gustAt_1 := dk_seg dksX0_gustAt_0 24 rfl rfl
theorem dX0_gustAt_0 : decode cX0_gustAt 0 = .ok (.iconst 0, 1) := dk_3 (dk_at dksX0_gustAt_0 0 rfl rfl)
theorem dX0_gustAt_1 : decode cX0_gustAt 1 = .ok (.aload_n 0, 1) := dk_42 (dk_at dksX0_gustAt_0 1 rfl rfl)
theorem dX0_gustAt_2 : decode cX0_gustAt 2 = .ok (.getfield 67, 3) := dk_180 0 67 (dk_at dksX0_gustAt_0 2 rfl rfl)
theorem dX0_gustAt_5 : decode cX0_gustAt 5 = .ok (.iload_n 2, 1) := dk_28 (dk_at dksX0_gustAt_0 5 rfl rfl)
theorem dX0_gustAt_6 : decode cX0_gustAt 6 = .ok (.aaload, 1) := dk_50 (dk_at dksX0_gustAt_0 6 rfl rfl)
theorem dX0_gustAt_7 : decode cX0_gustAt 7 = .ok (.getfield 1, 3) := dk_180 0 1 (dk_at dksX0_gustAt_0 7 rfl rfl)
theorem dX0_gustAt_10 : decode cX0_gustAt 10 = .ok (.aload_n 0, 1) := dk_42 (dk_at dksX0_gustAt_0 10 rfl rfl)
theorem dX0_gustAt_11 : decode cX0_gustAt 11 = .ok (.getfield 328, 3) := dk_180 1 72 (dk_at dksX0_gustAt_0 11 rfl rfl)
theorem dX0_gustAt_14 : decode cX0_gustAt 14 = .ok (.iadd, 1) := dk_96 (dk_at dksX0_gustAt_0 14 rfl rfl)
theorem dX0_gustAt_15 : decode cX0_gustAt 15 = .ok (.aload_n 0, 1) := dk_42 (dk_at dksX0_gustAt_0 15 rfl rfl)
theorem dX0_gustAt_16 : decode cX0_gustAt 16 = .ok (.getfield 57, 3) := dk_180 0 57 (dk_at dksX0_gustAt_0 16 rfl rfl)
theorem dX0_gustAt_19 : decode cX0_gustAt 19 = .ok (.iload_n 1, 1) := dk_27 (dk_at dksX0_gustAt_0 19 rfl rfl)
theorem dX0_gustAt_20 : decode cX0_gustAt 20 = .ok (.aaload, 1) := dk_50 (dk_at dksX0_gustAt_0 20 rfl rfl)
theorem dX0_gustAt_21 : decode cX0_gustAt 21 = .ok (.invokevirtual 222, 3) := dk_182 0 222 (dk_at dksX0_gustAt_0 21 rfl rfl)
theorem dX0_gustAt_24 : decode cX0_gustAt 24 = .ok (.isub, 1) := dk_100 (dk_at dksX0_gustAt_1 0 rfl rfl)
theorem dX0_gustAt_25 : decode cX0_gustAt 25 = .ok (.invokestatic 331, 3) := dk_184 1 75 (dk_at dksX0_gustAt_1 1 rfl rfl)
theorem dX0_gustAt_28 : decode cX0_gustAt 28 = .ok (.ireturn, 1) := dk_172 (dk_at dksX0_gustAt_1 4 rfl rfl)
abbrev cX0_othersAt : ByteArray := prog_1_method_42_code
def yX0_othersAt : MethodName := ⟨RX0, "othersAt", "(LHatRank$Town;II)I"⟩
def dkwX0_othersAt_2 : List UInt8 := [167, 255, 214, 21, 4, 172]
abbrev dktX0_othersAt_2 : List UInt8 := dkwX0_othersAt_2 ++ []
def dkwX0_othersAt_1 : List UInt8 := [180, 0, 164, 21, 5, 46, 29, 160, 0, 7, 4, 167, 0, 4, 3, 184, 0, 207, 96, 54, 4, 132, 5, 1]
abbrev dktX0_othersAt_1 : List UInt8 := dkwX0_othersAt_1 ++ dktX0_othersAt_2
def dkwX0_othersAt_0 : List UInt8 := [3, 54, 4, 3, 54, 5, 21, 5, 42, 180, 0, 133, 162, 0, 39, 21, 4, 21, 5, 28, 159, 0, 18, 43]
abbrev dktX0_othersAt_0 : List UInt8 := dkwX0_othersAt_0 ++ dktX0_othersAt_1
theorem dksX0_othersAt_0 : cX0_othersAt.data.toList.drop 0 = dktX0_othersAt_0 := by decide +kernel
theorem dksX0_othersAt_1 : cX0_othersAt.data.toList.drop 24 = dktX0_othersAt_1 := dk_seg dksX0_othersAt_0 24 rfl rfl
theorem dksX0_othersAt_2 : cX0_othersAt.data.toList.drop 48 = dktX0_othersAt_2 := dk_seg dksX0_othersAt_1 24 rfl rfl
theorem dX0_othersAt_0 : decode cX0_othersAt 0 = .ok (.iconst 0, 1) := dk_3 (dk_at dksX0_othersAt_0 0 rfl rfl)
theorem dX0_othersAt_1 : decode cX0_othersAt 1 = .ok (.istore 4, 2) := dk_54 4 (dk_at dksX0_othersAt_0 1 rfl rfl)
theorem dX0_othersAt_3 : decode cX0_othersAt 3 = .ok (.iconst 0, 1) := dk_3 (dk_at dksX0_othersAt_0 3 rfl rfl)
theorem dX0_othersAt_4 : decode cX0_othersAt 4 = .ok (.istore 5, 2) := dk_54 5 (dk_at dksX0_othersAt_0 4 rfl rfl)
theorem dX0_othersAt_6 : decode cX0_othersAt 6 = .ok (.iload 5, 2) := dk_21 5 (dk_at dksX0_othersAt_0 6 rfl rfl)
theorem dX0_othersAt_8 : decode cX0_othersAt 8 = .ok (.aload_n 0, 1) := dk_42 (dk_at dksX0_othersAt_0 8 rfl rfl)
theorem dX0_othersAt_9 : decode cX0_othersAt 9 = .ok (.getfield 133, 3) := dk_180 0 133 (dk_at dksX0_othersAt_0 9 rfl rfl)
theorem dX0_othersAt_12 : decode cX0_othersAt 12 = .ok (.if_icmp .ge 39, 3) := dk_162 0 39 (dk_at dksX0_othersAt_0 12 rfl rfl)
theorem dX0_othersAt_15 : decode cX0_othersAt 15 = .ok (.iload 4, 2) := dk_21 4 (dk_at dksX0_othersAt_0 15 rfl rfl)
theorem dX0_othersAt_17 : decode cX0_othersAt 17 = .ok (.iload 5, 2) := dk_21 5 (dk_at dksX0_othersAt_0 17 rfl rfl)
theorem dX0_othersAt_19 : decode cX0_othersAt 19 = .ok (.iload_n 2, 1) := dk_28 (dk_at dksX0_othersAt_0 19 rfl rfl)
theorem dX0_othersAt_20 : decode cX0_othersAt 20 = .ok (.if_icmp .eq 18, 3) := dk_159 0 18 (dk_at dksX0_othersAt_0 20 rfl rfl)
theorem dX0_othersAt_23 : decode cX0_othersAt 23 = .ok (.aload_n 1, 1) := dk_43 (dk_at dksX0_othersAt_0 23 rfl rfl)
theorem dX0_othersAt_24 : decode cX0_othersAt 24 = .ok (.getfield 164, 3) := dk_180 0 164 (dk_at dksX0_othersAt_1 0 rfl rfl)
theorem dX0_othersAt_27 : decode cX0_othersAt 27 = .ok (.iload 5, 2) := dk_21 5 (dk_at dksX0_othersAt_1 3 rfl rfl)
theorem dX0_othersAt_29 : decode cX0_othersAt 29 = .ok (.iaload, 1) := dk_46 (dk_at dksX0_othersAt_1 5 rfl rfl)
theorem dX0_othersAt_30 : decode cX0_othersAt 30 = .ok (.iload_n 3, 1) := dk_29 (dk_at dksX0_othersAt_1 6 rfl rfl)
theorem dX0_othersAt_31 : decode cX0_othersAt 31 = .ok (.if_icmp .ne 7, 3) := dk_160 0 7 (dk_at dksX0_othersAt_1 7 rfl rfl)
theorem dX0_othersAt_34 : decode cX0_othersAt 34 = .ok (.iconst 1, 1) := dk_4 (dk_at dksX0_othersAt_1 10 rfl rfl)
theorem dX0_othersAt_35 : decode cX0_othersAt 35 = .ok (.goto 4, 3) := dk_167 0 4 (dk_at dksX0_othersAt_1 11 rfl rfl)
theorem dX0_othersAt_38 : decode cX0_othersAt 38 = .ok (.iconst 0, 1) := dk_3 (dk_at dksX0_othersAt_1 14 rfl rfl)
theorem dX0_othersAt_39 : decode cX0_othersAt 39 = .ok (.invokestatic 207, 3) := dk_184 0 207 (dk_at dksX0_othersAt_1 15 rfl rfl)
theorem dX0_othersAt_42 : decode cX0_othersAt 42 = .ok (.iadd, 1) := dk_96 (dk_at dksX0_othersAt_1 18 rfl rfl)
theorem dX0_othersAt_43 : decode cX0_othersAt 43 = .ok (.istore 4, 2) := dk_54 4 (dk_at dksX0_othersAt_1 19 rfl rfl)
theorem dX0_othersAt_45 : decode cX0_othersAt 45 = .ok (.iinc 5 1, 3) := dk_132 5 1 (dk_at dksX0_othersAt_1 21 rfl rfl)
theorem dX0_othersAt_48 : decode cX0_othersAt 48 = .ok (.goto (-42), 3) := dk_167 255 214 (dk_at dksX0_othersAt_2 0 rfl rfl)
theorem dX0_othersAt_51 : decode cX0_othersAt 51 = .ok (.iload 4, 2) := dk_21 4 (dk_at dksX0_othersAt_2 3 rfl rfl)
theorem dX0_othersAt_53 : decode cX0_othersAt 53 = .ok (.ireturn, 1) := dk_172 (dk_at dksX0_othersAt_2 5 rfl rfl)
abbrev cX0_ruled : ByteArray := prog_1_method_40_code
def yX0_ruled : MethodName := ⟨RX0, "ruled", "()I"⟩
def dkwX0_ruled_1 : List UInt8 := [154, 0, 6, 167, 0, 11, 43, 180, 1, 46, 182, 1, 67, 172, 43, 180, 1, 57, 76, 167, 255, 219, 3, 172]
abbrev dktX0_ruled_1 : List UInt8 := dkwX0_ruled_1 ++ []
def dkwX0_ruled_0 : List UInt8 := [42, 180, 1, 64, 76, 43, 198, 0, 39, 43, 180, 1, 50, 198, 0, 16, 43, 180, 1, 50, 182, 1, 67]
abbrev dktX0_ruled_0 : List UInt8 := dkwX0_ruled_0 ++ dktX0_ruled_1
theorem dksX0_ruled_0 : cX0_ruled.data.toList.drop 0 = dktX0_ruled_0 := by decide +kernel
theorem dksX0_ruled_1 : cX0_ruled.data.toList.drop 23 = dktX0_ruled_1 := dk_seg dksX0_ruled_0 23 rfl rfl
theorem dX0_ruled_0 : decode cX0_ruled 0 = .ok (.aload_n 0, 1) := dk_42 (dk_at dksX0_ruled_0 0 rfl rfl)
theorem dX0_ruled_1 : decode cX0_ruled 1 = .ok (.getfield 320, 3) := dk_180 1 64 (dk_at dksX0_ruled_0 1 rfl rfl)
theorem dX0_ruled_4 : decode cX0_ruled 4 = .ok (.astore_n 1, 1) := dk_76 (dk_at dksX0_ruled_0 4 rfl rfl)
theorem dX0_ruled_5 : decode cX0_ruled 5 = .ok (.aload_n 1, 1) := dk_43 (dk_at dksX0_ruled_0 5 rfl rfl)
theorem dX0_ruled_6 : decode cX0_ruled 6 = .ok (.ifnull 39, 3) := dk_198 0 39 (dk_at dksX0_ruled_0 6 rfl rfl)
theorem dX0_ruled_9 : decode cX0_ruled 9 = .ok (.aload_n 1, 1) := dk_43 (dk_at dksX0_ruled_0 9 rfl rfl)
theorem dX0_ruled_10 : decode cX0_ruled 10 = .ok (.getfield 306, 3) := dk_180 1 50 (dk_at dksX0_ruled_0 10 rfl rfl)
theorem dX0_ruled_13 : decode cX0_ruled 13 = .ok (.ifnull 16, 3) := dk_198 0 16 (dk_at dksX0_ruled_0 13 rfl rfl)
theorem dX0_ruled_16 : decode cX0_ruled 16 = .ok (.aload_n 1, 1) := dk_43 (dk_at dksX0_ruled_0 16 rfl rfl)
theorem dX0_ruled_17 : decode cX0_ruled 17 = .ok (.getfield 306, 3) := dk_180 1 50 (dk_at dksX0_ruled_0 17 rfl rfl)
theorem dX0_ruled_20 : decode cX0_ruled 20 = .ok (.invokevirtual 323, 3) := dk_182 1 67 (dk_at dksX0_ruled_0 20 rfl rfl)
theorem dX0_ruled_23 : decode cX0_ruled 23 = .ok (.ifCond .ne 6, 3) := dk_154 0 6 (dk_at dksX0_ruled_1 0 rfl rfl)
theorem dX0_ruled_26 : decode cX0_ruled 26 = .ok (.goto 11, 3) := dk_167 0 11 (dk_at dksX0_ruled_1 3 rfl rfl)
theorem dX0_ruled_29 : decode cX0_ruled 29 = .ok (.aload_n 1, 1) := dk_43 (dk_at dksX0_ruled_1 6 rfl rfl)
theorem dX0_ruled_30 : decode cX0_ruled 30 = .ok (.getfield 302, 3) := dk_180 1 46 (dk_at dksX0_ruled_1 7 rfl rfl)
theorem dX0_ruled_33 : decode cX0_ruled 33 = .ok (.invokevirtual 323, 3) := dk_182 1 67 (dk_at dksX0_ruled_1 10 rfl rfl)
theorem dX0_ruled_36 : decode cX0_ruled 36 = .ok (.ireturn, 1) := dk_172 (dk_at dksX0_ruled_1 13 rfl rfl)
theorem dX0_ruled_37 : decode cX0_ruled 37 = .ok (.aload_n 1, 1) := dk_43 (dk_at dksX0_ruled_1 14 rfl rfl)
theorem dX0_ruled_38 : decode cX0_ruled 38 = .ok (.getfield 313, 3) := dk_180 1 57 (dk_at dksX0_ruled_1 15 rfl rfl)
theorem dX0_ruled_41 : decode cX0_ruled 41 = .ok (.astore_n 1, 1) := dk_76 (dk_at dksX0_ruled_1 18 rfl rfl)
theorem dX0_ruled_42 : decode cX0_ruled 42 = .ok (.goto (-37), 3) := dk_167 255 219 (dk_at dksX0_ruled_1 19 rfl rfl)
theorem dX0_ruled_45 : decode cX0_ruled 45 = .ok (.iconst 0, 1) := dk_3 (dk_at dksX0_ruled_1 22 rfl rfl)
theorem dX0_ruled_46 : decode cX0_ruled 46 = .ok (.ireturn, 1) := dk_172 (dk_at dksX0_ruled_1 23 rfl rfl)
abbrev cX0_ofPlace : ByteArray := prog_1_method_28_code
def yX0_ofPlace : MethodName := ⟨RX0, "ofPlace", "(II)I"⟩
def dkwX0_ofPlace_4 : List UInt8 := [180, 0, 215, 182, 0, 231, 172]
abbrev dktX0_ofPlace_4 : List UInt8 := dkwX0_ofPlace_4 ++ []
def dkwX0_ofPlace_3 : List UInt8 := [180, 0, 228, 27, 46, 172, 42, 180, 0, 215, 16, 24, 160, 0, 7, 2, 167, 0, 12, 42, 27, 42]
abbrev dktX0_ofPlace_3 : List UInt8 := dkwX0_ofPlace_3 ++ dktX0_ofPlace_4
def dkwX0_ofPlace_2 : List UInt8 := [42, 180, 0, 57, 27, 50, 182, 0, 222, 172, 42, 180, 0, 57, 27, 50, 182, 0, 225, 172, 42, 180, 0, 51]
abbrev dktX0_ofPlace_2 : List UInt8 := dkwX0_ofPlace_2 ++ dktX0_ofPlace_3
def dkwX0_ofPlace_1 : List UInt8 := [170, 0, 0, 0, 0, 0, 57, 0, 0, 0, 10, 0, 0, 0, 12, 0, 0, 0, 27, 0, 0, 0, 37, 0, 0, 0, 47]
abbrev dktX0_ofPlace_1 : List UInt8 := dkwX0_ofPlace_1 ++ dktX0_ofPlace_2
def dkwX0_ofPlace_0 : List UInt8 := [28]
abbrev dktX0_ofPlace_0 : List UInt8 := dkwX0_ofPlace_0 ++ dktX0_ofPlace_1
theorem dksX0_ofPlace_0 : cX0_ofPlace.data.toList.drop 0 = dktX0_ofPlace_0 := by decide +kernel
theorem dksX0_ofPlace_1 : cX0_ofPlace.data.toList.drop 1 = dktX0_ofPlace_1 := dk_seg dksX0_ofPlace_0 1 rfl rfl
theorem dksX0_ofPlace_2 : cX0_ofPlace.data.toList.drop 28 = dktX0_ofPlace_2 := dk_seg dksX0_ofPlace_1 27 rfl rfl
theorem dksX0_ofPlace_3 : cX0_ofPlace.data.toList.drop 52 = dktX0_ofPlace_3 := dk_seg dksX0_ofPlace_2 24 rfl rfl
theorem dksX0_ofPlace_4 : cX0_ofPlace.data.toList.drop 74 = dktX0_ofPlace_4 := dk_seg dksX0_ofPlace_3 22 rfl rfl
theorem dX0_ofPlace_0 : decode cX0_ofPlace 0 = .ok (.iload_n 2, 1) := dk_28 (dk_at dksX0_ofPlace_0 0 rfl rfl)
theorem dX0_ofPlace_1 : decode cX0_ofPlace 1 = .ok (.tableswitch 57 10 12 #[27, 37, 47], 27) := by decide +kernel
theorem dX0_ofPlace_28 : decode cX0_ofPlace 28 = .ok (.aload_n 0, 1) := dk_42 (dk_at dksX0_ofPlace_2 0 rfl rfl)
theorem dX0_ofPlace_29 : decode cX0_ofPlace 29 = .ok (.getfield 57, 3) := dk_180 0 57 (dk_at dksX0_ofPlace_2 1 rfl rfl)
theorem dX0_ofPlace_32 : decode cX0_ofPlace 32 = .ok (.iload_n 1, 1) := dk_27 (dk_at dksX0_ofPlace_2 4 rfl rfl)
theorem dX0_ofPlace_33 : decode cX0_ofPlace 33 = .ok (.aaload, 1) := dk_50 (dk_at dksX0_ofPlace_2 5 rfl rfl)
theorem dX0_ofPlace_34 : decode cX0_ofPlace 34 = .ok (.invokevirtual 222, 3) := dk_182 0 222 (dk_at dksX0_ofPlace_2 6 rfl rfl)
theorem dX0_ofPlace_37 : decode cX0_ofPlace 37 = .ok (.ireturn, 1) := dk_172 (dk_at dksX0_ofPlace_2 9 rfl rfl)
theorem dX0_ofPlace_38 : decode cX0_ofPlace 38 = .ok (.aload_n 0, 1) := dk_42 (dk_at dksX0_ofPlace_2 10 rfl rfl)
theorem dX0_ofPlace_39 : decode cX0_ofPlace 39 = .ok (.getfield 57, 3) := dk_180 0 57 (dk_at dksX0_ofPlace_2 11 rfl rfl)
theorem dX0_ofPlace_42 : decode cX0_ofPlace 42 = .ok (.iload_n 1, 1) := dk_27 (dk_at dksX0_ofPlace_2 14 rfl rfl)
theorem dX0_ofPlace_43 : decode cX0_ofPlace 43 = .ok (.aaload, 1) := dk_50 (dk_at dksX0_ofPlace_2 15 rfl rfl)
theorem dX0_ofPlace_44 : decode cX0_ofPlace 44 = .ok (.invokevirtual 225, 3) := dk_182 0 225 (dk_at dksX0_ofPlace_2 16 rfl rfl)
theorem dX0_ofPlace_47 : decode cX0_ofPlace 47 = .ok (.ireturn, 1) := dk_172 (dk_at dksX0_ofPlace_2 19 rfl rfl)
theorem dX0_ofPlace_48 : decode cX0_ofPlace 48 = .ok (.aload_n 0, 1) := dk_42 (dk_at dksX0_ofPlace_2 20 rfl rfl)
theorem dX0_ofPlace_49 : decode cX0_ofPlace 49 = .ok (.getfield 51, 3) := dk_180 0 51 (dk_at dksX0_ofPlace_2 21 rfl rfl)
theorem dX0_ofPlace_52 : decode cX0_ofPlace 52 = .ok (.getfield 228, 3) := dk_180 0 228 (dk_at dksX0_ofPlace_3 0 rfl rfl)
theorem dX0_ofPlace_55 : decode cX0_ofPlace 55 = .ok (.iload_n 1, 1) := dk_27 (dk_at dksX0_ofPlace_3 3 rfl rfl)
theorem dX0_ofPlace_56 : decode cX0_ofPlace 56 = .ok (.iaload, 1) := dk_46 (dk_at dksX0_ofPlace_3 4 rfl rfl)
theorem dX0_ofPlace_57 : decode cX0_ofPlace 57 = .ok (.ireturn, 1) := dk_172 (dk_at dksX0_ofPlace_3 5 rfl rfl)
theorem dX0_ofPlace_58 : decode cX0_ofPlace 58 = .ok (.aload_n 0, 1) := dk_42 (dk_at dksX0_ofPlace_3 6 rfl rfl)
theorem dX0_ofPlace_59 : decode cX0_ofPlace 59 = .ok (.getfield 215, 3) := dk_180 0 215 (dk_at dksX0_ofPlace_3 7 rfl rfl)
theorem dX0_ofPlace_62 : decode cX0_ofPlace 62 = .ok (.bipush 24, 2) := dk_16 24 (dk_at dksX0_ofPlace_3 10 rfl rfl)
theorem dX0_ofPlace_64 : decode cX0_ofPlace 64 = .ok (.if_icmp .ne 7, 3) := dk_160 0 7 (dk_at dksX0_ofPlace_3 12 rfl rfl)
theorem dX0_ofPlace_67 : decode cX0_ofPlace 67 = .ok (.iconst (-1), 1) := dk_2 (dk_at dksX0_ofPlace_3 15 rfl rfl)
theorem dX0_ofPlace_68 : decode cX0_ofPlace 68 = .ok (.goto 12, 3) := dk_167 0 12 (dk_at dksX0_ofPlace_3 16 rfl rfl)
theorem dX0_ofPlace_71 : decode cX0_ofPlace 71 = .ok (.aload_n 0, 1) := dk_42 (dk_at dksX0_ofPlace_3 19 rfl rfl)
theorem dX0_ofPlace_72 : decode cX0_ofPlace 72 = .ok (.iload_n 1, 1) := dk_27 (dk_at dksX0_ofPlace_3 20 rfl rfl)
theorem dX0_ofPlace_73 : decode cX0_ofPlace 73 = .ok (.aload_n 0, 1) := dk_42 (dk_at dksX0_ofPlace_3 21 rfl rfl)
theorem dX0_ofPlace_74 : decode cX0_ofPlace 74 = .ok (.getfield 215, 3) := dk_180 0 215 (dk_at dksX0_ofPlace_4 0 rfl rfl)
theorem dX0_ofPlace_77 : decode cX0_ofPlace 77 = .ok (.invokevirtual 231, 3) := dk_182 0 231 (dk_at dksX0_ofPlace_4 3 rfl rfl)
theorem dX0_ofPlace_80 : decode cX0_ofPlace 80 = .ok (.ireturn, 1) := dk_172 (dk_at dksX0_ofPlace_4 6 rfl rfl)
abbrev cX0_law : ByteArray := prog_1_method_39_code
def yX0_law : MethodName := ⟨RX0, "law", "()I"⟩
def dkwX0_law_1 : List UInt8 := [16, 156, 42, 180, 0, 115, 100, 61, 42, 3, 181, 0, 112, 28, 172, 78, 42, 3, 181, 0, 112, 45, 191]
abbrev dktX0_law_1 : List UInt8 := dkwX0_law_1 ++ []
def dkwX0_law_0 : List UInt8 := [42, 3, 181, 0, 115, 42, 42, 182, 1, 61, 181, 1, 64, 4, 60, 42, 3, 181, 0, 112, 27, 172, 76]
abbrev dktX0_law_0 : List UInt8 := dkwX0_law_0 ++ dktX0_law_1
theorem dksX0_law_0 : cX0_law.data.toList.drop 0 = dktX0_law_0 := by decide +kernel
theorem dksX0_law_1 : cX0_law.data.toList.drop 23 = dktX0_law_1 := dk_seg dksX0_law_0 23 rfl rfl
theorem dX0_law_0 : decode cX0_law 0 = .ok (.aload_n 0, 1) := dk_42 (dk_at dksX0_law_0 0 rfl rfl)
theorem dX0_law_1 : decode cX0_law 1 = .ok (.iconst 0, 1) := dk_3 (dk_at dksX0_law_0 1 rfl rfl)
theorem dX0_law_2 : decode cX0_law 2 = .ok (.putfield 115, 3) := dk_181 0 115 (dk_at dksX0_law_0 2 rfl rfl)
theorem dX0_law_5 : decode cX0_law 5 = .ok (.aload_n 0, 1) := dk_42 (dk_at dksX0_law_0 5 rfl rfl)
theorem dX0_law_6 : decode cX0_law 6 = .ok (.aload_n 0, 1) := dk_42 (dk_at dksX0_law_0 6 rfl rfl)
theorem dX0_law_7 : decode cX0_law 7 = .ok (.invokevirtual 317, 3) := dk_182 1 61 (dk_at dksX0_law_0 7 rfl rfl)
theorem dX0_law_10 : decode cX0_law 10 = .ok (.putfield 320, 3) := dk_181 1 64 (dk_at dksX0_law_0 10 rfl rfl)
theorem dX0_law_13 : decode cX0_law 13 = .ok (.iconst 1, 1) := dk_4 (dk_at dksX0_law_0 13 rfl rfl)
theorem dX0_law_14 : decode cX0_law 14 = .ok (.istore_n 1, 1) := dk_60 (dk_at dksX0_law_0 14 rfl rfl)
theorem dX0_law_15 : decode cX0_law 15 = .ok (.aload_n 0, 1) := dk_42 (dk_at dksX0_law_0 15 rfl rfl)
theorem dX0_law_16 : decode cX0_law 16 = .ok (.iconst 0, 1) := dk_3 (dk_at dksX0_law_0 16 rfl rfl)
theorem dX0_law_17 : decode cX0_law 17 = .ok (.putfield 112, 3) := dk_181 0 112 (dk_at dksX0_law_0 17 rfl rfl)
theorem dX0_law_20 : decode cX0_law 20 = .ok (.iload_n 1, 1) := dk_27 (dk_at dksX0_law_0 20 rfl rfl)
theorem dX0_law_21 : decode cX0_law 21 = .ok (.ireturn, 1) := dk_172 (dk_at dksX0_law_0 21 rfl rfl)
theorem dX0_law_22 : decode cX0_law 22 = .ok (.astore_n 1, 1) := dk_76 (dk_at dksX0_law_0 22 rfl rfl)
theorem dX0_law_23 : decode cX0_law 23 = .ok (.bipush (-100), 2) := dk_16 156 (dk_at dksX0_law_1 0 rfl rfl)
theorem dX0_law_25 : decode cX0_law 25 = .ok (.aload_n 0, 1) := dk_42 (dk_at dksX0_law_1 2 rfl rfl)
theorem dX0_law_26 : decode cX0_law 26 = .ok (.getfield 115, 3) := dk_180 0 115 (dk_at dksX0_law_1 3 rfl rfl)
theorem dX0_law_29 : decode cX0_law 29 = .ok (.isub, 1) := dk_100 (dk_at dksX0_law_1 6 rfl rfl)
theorem dX0_law_30 : decode cX0_law 30 = .ok (.istore_n 2, 1) := dk_61 (dk_at dksX0_law_1 7 rfl rfl)
theorem dX0_law_31 : decode cX0_law 31 = .ok (.aload_n 0, 1) := dk_42 (dk_at dksX0_law_1 8 rfl rfl)
theorem dX0_law_32 : decode cX0_law 32 = .ok (.iconst 0, 1) := dk_3 (dk_at dksX0_law_1 9 rfl rfl)
theorem dX0_law_33 : decode cX0_law 33 = .ok (.putfield 112, 3) := dk_181 0 112 (dk_at dksX0_law_1 10 rfl rfl)
theorem dX0_law_36 : decode cX0_law 36 = .ok (.iload_n 2, 1) := dk_28 (dk_at dksX0_law_1 13 rfl rfl)
theorem dX0_law_37 : decode cX0_law 37 = .ok (.ireturn, 1) := dk_172 (dk_at dksX0_law_1 14 rfl rfl)
theorem dX0_law_38 : decode cX0_law 38 = .ok (.astore_n 3, 1) := dk_78 (dk_at dksX0_law_1 15 rfl rfl)
theorem dX0_law_39 : decode cX0_law 39 = .ok (.aload_n 0, 1) := dk_42 (dk_at dksX0_law_1 16 rfl rfl)
theorem dX0_law_40 : decode cX0_law 40 = .ok (.iconst 0, 1) := dk_3 (dk_at dksX0_law_1 17 rfl rfl)
theorem dX0_law_41 : decode cX0_law 41 = .ok (.putfield 112, 3) := dk_181 0 112 (dk_at dksX0_law_1 18 rfl rfl)
theorem dX0_law_44 : decode cX0_law 44 = .ok (.aload_n 3, 1) := dk_45 (dk_at dksX0_law_1 21 rfl rfl)
theorem dX0_law_45 : decode cX0_law 45 = .ok (.athrow, 1) := dk_191 (dk_at dksX0_law_1 22 rfl rfl)
abbrev cX0_readLaw : ByteArray := prog_1_method_38_code
def yX0_readLaw : MethodName := ⟨RX0, "readLaw", "()LHatRank$Line;"⟩
def dkwX0_readLaw_2 : List UInt8 := [162, 0, 8, 42, 180, 0, 44, 191, 43, 176]
abbrev dktX0_readLaw_2 : List UInt8 := dkwX0_readLaw_2 ++ []
def dkwX0_readLaw_1 : List UInt8 := [182, 1, 53, 181, 1, 57, 44, 180, 1, 57, 77, 167, 255, 234, 42, 180, 0, 115, 42, 180, 0, 112]
abbrev dktX0_readLaw_1 : List UInt8 := dkwX0_readLaw_1 ++ dktX0_readLaw_2
def dkwX0_readLaw_0 : List UInt8 := [42, 3, 181, 1, 8, 42, 182, 1, 53, 76, 43, 77, 42, 16, 59, 182, 0, 122, 153, 0, 19, 44, 42]
abbrev dktX0_readLaw_0 : List UInt8 := dkwX0_readLaw_0 ++ dktX0_readLaw_1
theorem dksX0_readLaw_0 : cX0_readLaw.data.toList.drop 0 = dktX0_readLaw_0 := by decide +kernel
theorem dksX0_readLaw_1 : cX0_readLaw.data.toList.drop 23 = dktX0_readLaw_1 := dk_seg dksX0_readLaw_0 23 rfl rfl
theorem dksX0_readLaw_2 : cX0_readLaw.data.toList.drop 45 = dktX0_readLaw_2 := dk_seg dksX0_readLaw_1 22 rfl rfl
theorem dX0_readLaw_0 : decode cX0_readLaw 0 = .ok (.aload_n 0, 1) := dk_42 (dk_at dksX0_readLaw_0 0 rfl rfl)
theorem dX0_readLaw_1 : decode cX0_readLaw 1 = .ok (.iconst 0, 1) := dk_3 (dk_at dksX0_readLaw_0 1 rfl rfl)
theorem dX0_readLaw_2 : decode cX0_readLaw 2 = .ok (.putfield 264, 3) := dk_181 1 8 (dk_at dksX0_readLaw_0 2 rfl rfl)
theorem dX0_readLaw_5 : decode cX0_readLaw 5 = .ok (.aload_n 0, 1) := dk_42 (dk_at dksX0_readLaw_0 5 rfl rfl)
theorem dX0_readLaw_6 : decode cX0_readLaw 6 = .ok (.invokevirtual 309, 3) := dk_182 1 53 (dk_at dksX0_readLaw_0 6 rfl rfl)
theorem dX0_readLaw_9 : decode cX0_readLaw 9 = .ok (.astore_n 1, 1) := dk_76 (dk_at dksX0_readLaw_0 9 rfl rfl)
theorem dX0_readLaw_10 : decode cX0_readLaw 10 = .ok (.aload_n 1, 1) := dk_43 (dk_at dksX0_readLaw_0 10 rfl rfl)
theorem dX0_readLaw_11 : decode cX0_readLaw 11 = .ok (.astore_n 2, 1) := dk_77 (dk_at dksX0_readLaw_0 11 rfl rfl)
theorem dX0_readLaw_12 : decode cX0_readLaw 12 = .ok (.aload_n 0, 1) := dk_42 (dk_at dksX0_readLaw_0 12 rfl rfl)
theorem dX0_readLaw_13 : decode cX0_readLaw 13 = .ok (.bipush 59, 2) := dk_16 59 (dk_at dksX0_readLaw_0 13 rfl rfl)
theorem dX0_readLaw_15 : decode cX0_readLaw 15 = .ok (.invokevirtual 122, 3) := dk_182 0 122 (dk_at dksX0_readLaw_0 15 rfl rfl)
theorem dX0_readLaw_18 : decode cX0_readLaw 18 = .ok (.ifCond .eq 19, 3) := dk_153 0 19 (dk_at dksX0_readLaw_0 18 rfl rfl)
theorem dX0_readLaw_21 : decode cX0_readLaw 21 = .ok (.aload_n 2, 1) := dk_44 (dk_at dksX0_readLaw_0 21 rfl rfl)
theorem dX0_readLaw_22 : decode cX0_readLaw 22 = .ok (.aload_n 0, 1) := dk_42 (dk_at dksX0_readLaw_0 22 rfl rfl)
theorem dX0_readLaw_23 : decode cX0_readLaw 23 = .ok (.invokevirtual 309, 3) := dk_182 1 53 (dk_at dksX0_readLaw_1 0 rfl rfl)
theorem dX0_readLaw_26 : decode cX0_readLaw 26 = .ok (.putfield 313, 3) := dk_181 1 57 (dk_at dksX0_readLaw_1 3 rfl rfl)
theorem dX0_readLaw_29 : decode cX0_readLaw 29 = .ok (.aload_n 2, 1) := dk_44 (dk_at dksX0_readLaw_1 6 rfl rfl)
theorem dX0_readLaw_30 : decode cX0_readLaw 30 = .ok (.getfield 313, 3) := dk_180 1 57 (dk_at dksX0_readLaw_1 7 rfl rfl)
theorem dX0_readLaw_33 : decode cX0_readLaw 33 = .ok (.astore_n 2, 1) := dk_77 (dk_at dksX0_readLaw_1 10 rfl rfl)
theorem dX0_readLaw_34 : decode cX0_readLaw 34 = .ok (.goto (-22), 3) := dk_167 255 234 (dk_at dksX0_readLaw_1 11 rfl rfl)
theorem dX0_readLaw_37 : decode cX0_readLaw 37 = .ok (.aload_n 0, 1) := dk_42 (dk_at dksX0_readLaw_1 14 rfl rfl)
theorem dX0_readLaw_38 : decode cX0_readLaw 38 = .ok (.getfield 115, 3) := dk_180 0 115 (dk_at dksX0_readLaw_1 15 rfl rfl)
theorem dX0_readLaw_41 : decode cX0_readLaw 41 = .ok (.aload_n 0, 1) := dk_42 (dk_at dksX0_readLaw_1 18 rfl rfl)
theorem dX0_readLaw_42 : decode cX0_readLaw 42 = .ok (.getfield 112, 3) := dk_180 0 112 (dk_at dksX0_readLaw_1 19 rfl rfl)
theorem dX0_readLaw_45 : decode cX0_readLaw 45 = .ok (.if_icmp .ge 8, 3) := dk_162 0 8 (dk_at dksX0_readLaw_2 0 rfl rfl)
theorem dX0_readLaw_48 : decode cX0_readLaw 48 = .ok (.aload_n 0, 1) := dk_42 (dk_at dksX0_readLaw_2 3 rfl rfl)
theorem dX0_readLaw_49 : decode cX0_readLaw 49 = .ok (.getfield 44, 3) := dk_180 0 44 (dk_at dksX0_readLaw_2 4 rfl rfl)
theorem dX0_readLaw_52 : decode cX0_readLaw 52 = .ok (.athrow, 1) := dk_191 (dk_at dksX0_readLaw_2 7 rfl rfl)
theorem dX0_readLaw_53 : decode cX0_readLaw 53 = .ok (.aload_n 1, 1) := dk_43 (dk_at dksX0_readLaw_2 8 rfl rfl)
theorem dX0_readLaw_54 : decode cX0_readLaw 54 = .ok (.areturn, 1) := dk_176 (dk_at dksX0_readLaw_2 9 rfl rfl)
abbrev cX0_readLine : ByteArray := prog_1_method_37_code
def yX0_readLine : MethodName := ⟨RX0, "readLine", "()LHatRank$Line;"⟩
def dkwX0_readLine_1 : List UInt8 := [153, 0, 19, 43, 43, 180, 1, 46, 181, 1, 50, 43, 42, 182, 1, 11, 181, 1, 46, 43, 176]
abbrev dktX0_readLine_1 : List UInt8 := dkwX0_readLine_1 ++ []
def dkwX0_readLine_0 : List UInt8 := [187, 1, 43, 89, 183, 1, 45, 76, 43, 42, 182, 1, 11, 181, 1, 46, 42, 16, 63, 182, 0, 122]
abbrev dktX0_readLine_0 : List UInt8 := dkwX0_readLine_0 ++ dktX0_readLine_1
theorem dksX0_readLine_0 : cX0_readLine.data.toList.drop 0 = dktX0_readLine_0 := by decide +kernel
theorem dksX0_readLine_1 : cX0_readLine.data.toList.drop 22 = dktX0_readLine_1 := dk_seg dksX0_readLine_0 22 rfl rfl
theorem dX0_readLine_0 : decode cX0_readLine 0 = .ok (.new 299, 3) := dk_187 1 43 (dk_at dksX0_readLine_0 0 rfl rfl)
theorem dX0_readLine_3 : decode cX0_readLine 3 = .ok (.dup, 1) := dk_89 (dk_at dksX0_readLine_0 3 rfl rfl)
theorem dX0_readLine_4 : decode cX0_readLine 4 = .ok (.invokespecial 301, 3) := dk_183 1 45 (dk_at dksX0_readLine_0 4 rfl rfl)
theorem dX0_readLine_7 : decode cX0_readLine 7 = .ok (.astore_n 1, 1) := dk_76 (dk_at dksX0_readLine_0 7 rfl rfl)
theorem dX0_readLine_8 : decode cX0_readLine 8 = .ok (.aload_n 1, 1) := dk_43 (dk_at dksX0_readLine_0 8 rfl rfl)
theorem dX0_readLine_9 : decode cX0_readLine 9 = .ok (.aload_n 0, 1) := dk_42 (dk_at dksX0_readLine_0 9 rfl rfl)
theorem dX0_readLine_10 : decode cX0_readLine 10 = .ok (.invokevirtual 267, 3) := dk_182 1 11 (dk_at dksX0_readLine_0 10 rfl rfl)
theorem dX0_readLine_13 : decode cX0_readLine 13 = .ok (.putfield 302, 3) := dk_181 1 46 (dk_at dksX0_readLine_0 13 rfl rfl)
theorem dX0_readLine_16 : decode cX0_readLine 16 = .ok (.aload_n 0, 1) := dk_42 (dk_at dksX0_readLine_0 16 rfl rfl)
theorem dX0_readLine_17 : decode cX0_readLine 17 = .ok (.bipush 63, 2) := dk_16 63 (dk_at dksX0_readLine_0 17 rfl rfl)
theorem dX0_readLine_19 : decode cX0_readLine 19 = .ok (.invokevirtual 122, 3) := dk_182 0 122 (dk_at dksX0_readLine_0 19 rfl rfl)
theorem dX0_readLine_22 : decode cX0_readLine 22 = .ok (.ifCond .eq 19, 3) := dk_153 0 19 (dk_at dksX0_readLine_1 0 rfl rfl)
theorem dX0_readLine_25 : decode cX0_readLine 25 = .ok (.aload_n 1, 1) := dk_43 (dk_at dksX0_readLine_1 3 rfl rfl)
theorem dX0_readLine_26 : decode cX0_readLine 26 = .ok (.aload_n 1, 1) := dk_43 (dk_at dksX0_readLine_1 4 rfl rfl)
theorem dX0_readLine_27 : decode cX0_readLine 27 = .ok (.getfield 302, 3) := dk_180 1 46 (dk_at dksX0_readLine_1 5 rfl rfl)
theorem dX0_readLine_30 : decode cX0_readLine 30 = .ok (.putfield 306, 3) := dk_181 1 50 (dk_at dksX0_readLine_1 8 rfl rfl)
theorem dX0_readLine_33 : decode cX0_readLine 33 = .ok (.aload_n 1, 1) := dk_43 (dk_at dksX0_readLine_1 11 rfl rfl)
theorem dX0_readLine_34 : decode cX0_readLine 34 = .ok (.aload_n 0, 1) := dk_42 (dk_at dksX0_readLine_1 12 rfl rfl)
theorem dX0_readLine_35 : decode cX0_readLine 35 = .ok (.invokevirtual 267, 3) := dk_182 1 11 (dk_at dksX0_readLine_1 13 rfl rfl)
theorem dX0_readLine_38 : decode cX0_readLine 38 = .ok (.putfield 302, 3) := dk_181 1 46 (dk_at dksX0_readLine_1 16 rfl rfl)
theorem dX0_readLine_41 : decode cX0_readLine 41 = .ok (.aload_n 1, 1) := dk_43 (dk_at dksX0_readLine_1 19 rfl rfl)
theorem dX0_readLine_42 : decode cX0_readLine 42 = .ok (.areturn, 1) := dk_176 (dk_at dksX0_readLine_1 20 rfl rfl)
abbrev cX0_readEither : ByteArray := prog_1_method_36_code
def yX0_readEither : MethodName := ⟨RX0, "readEither", "()LHatRank$Term;"⟩
def dkwX0_readEither_1 : List UInt8 := [182, 1, 40, 183, 1, 28, 76, 167, 255, 232, 43, 176]
abbrev dktX0_readEither_1 : List UInt8 := dkwX0_readEither_1 ++ []
def dkwX0_readEither_0 : List UInt8 := [42, 182, 1, 40, 76, 42, 16, 124, 182, 0, 122, 153, 0, 21, 187, 1, 26, 89, 16, 124, 43, 42]
abbrev dktX0_readEither_0 : List UInt8 := dkwX0_readEither_0 ++ dktX0_readEither_1
theorem dksX0_readEither_0 : cX0_readEither.data.toList.drop 0 = dktX0_readEither_0 := by decide +kernel
theorem dksX0_readEither_1 : cX0_readEither.data.toList.drop 22 = dktX0_readEither_1 := dk_seg dksX0_readEither_0 22 rfl rfl
theorem dX0_readEither_0 : decode cX0_readEither 0 = .ok (.aload_n 0, 1) := dk_42 (dk_at dksX0_readEither_0 0 rfl rfl)
theorem dX0_readEither_1 : decode cX0_readEither 1 = .ok (.invokevirtual 296, 3) := dk_182 1 40 (dk_at dksX0_readEither_0 1 rfl rfl)
theorem dX0_readEither_4 : decode cX0_readEither 4 = .ok (.astore_n 1, 1) := dk_76 (dk_at dksX0_readEither_0 4 rfl rfl)
theorem dX0_readEither_5 : decode cX0_readEither 5 = .ok (.aload_n 0, 1) := dk_42 (dk_at dksX0_readEither_0 5 rfl rfl)
theorem dX0_readEither_6 : decode cX0_readEither 6 = .ok (.bipush 124, 2) := dk_16 124 (dk_at dksX0_readEither_0 6 rfl rfl)
theorem dX0_readEither_8 : decode cX0_readEither 8 = .ok (.invokevirtual 122, 3) := dk_182 0 122 (dk_at dksX0_readEither_0 8 rfl rfl)
theorem dX0_readEither_11 : decode cX0_readEither 11 = .ok (.ifCond .eq 21, 3) := dk_153 0 21 (dk_at dksX0_readEither_0 11 rfl rfl)
theorem dX0_readEither_14 : decode cX0_readEither 14 = .ok (.new 282, 3) := dk_187 1 26 (dk_at dksX0_readEither_0 14 rfl rfl)
theorem dX0_readEither_17 : decode cX0_readEither 17 = .ok (.dup, 1) := dk_89 (dk_at dksX0_readEither_0 17 rfl rfl)
theorem dX0_readEither_18 : decode cX0_readEither 18 = .ok (.bipush 124, 2) := dk_16 124 (dk_at dksX0_readEither_0 18 rfl rfl)
theorem dX0_readEither_20 : decode cX0_readEither 20 = .ok (.aload_n 1, 1) := dk_43 (dk_at dksX0_readEither_0 20 rfl rfl)
theorem dX0_readEither_21 : decode cX0_readEither 21 = .ok (.aload_n 0, 1) := dk_42 (dk_at dksX0_readEither_0 21 rfl rfl)
theorem dX0_readEither_22 : decode cX0_readEither 22 = .ok (.invokevirtual 296, 3) := dk_182 1 40 (dk_at dksX0_readEither_1 0 rfl rfl)
theorem dX0_readEither_25 : decode cX0_readEither 25 = .ok (.invokespecial 284, 3) := dk_183 1 28 (dk_at dksX0_readEither_1 3 rfl rfl)
theorem dX0_readEither_28 : decode cX0_readEither 28 = .ok (.astore_n 1, 1) := dk_76 (dk_at dksX0_readEither_1 6 rfl rfl)
theorem dX0_readEither_29 : decode cX0_readEither 29 = .ok (.goto (-24), 3) := dk_167 255 232 (dk_at dksX0_readEither_1 7 rfl rfl)
theorem dX0_readEither_32 : decode cX0_readEither 32 = .ok (.aload_n 1, 1) := dk_43 (dk_at dksX0_readEither_1 10 rfl rfl)
theorem dX0_readEither_33 : decode cX0_readEither 33 = .ok (.areturn, 1) := dk_176 (dk_at dksX0_readEither_1 11 rfl rfl)
abbrev cX0_readAll : ByteArray := prog_1_method_35_code
def yX0_readAll : MethodName := ⟨RX0, "readAll", "()LHatRank$Term;"⟩
def dkwX0_readAll_1 : List UInt8 := [182, 1, 37, 183, 1, 28, 76, 167, 255, 232, 43, 176]
abbrev dktX0_readAll_1 : List UInt8 := dkwX0_readAll_1 ++ []
def dkwX0_readAll_0 : List UInt8 := [42, 182, 1, 37, 76, 42, 16, 38, 182, 0, 122, 153, 0, 21, 187, 1, 26, 89, 16, 38, 43, 42]
abbrev dktX0_readAll_0 : List UInt8 := dkwX0_readAll_0 ++ dktX0_readAll_1
theorem dksX0_readAll_0 : cX0_readAll.data.toList.drop 0 = dktX0_readAll_0 := by decide +kernel
theorem dksX0_readAll_1 : cX0_readAll.data.toList.drop 22 = dktX0_readAll_1 := dk_seg dksX0_readAll_0 22 rfl rfl
theorem dX0_readAll_0 : decode cX0_readAll 0 = .ok (.aload_n 0, 1) := dk_42 (dk_at dksX0_readAll_0 0 rfl rfl)
theorem dX0_readAll_1 : decode cX0_readAll 1 = .ok (.invokevirtual 293, 3) := dk_182 1 37 (dk_at dksX0_readAll_0 1 rfl rfl)
theorem dX0_readAll_4 : decode cX0_readAll 4 = .ok (.astore_n 1, 1) := dk_76 (dk_at dksX0_readAll_0 4 rfl rfl)
theorem dX0_readAll_5 : decode cX0_readAll 5 = .ok (.aload_n 0, 1) := dk_42 (dk_at dksX0_readAll_0 5 rfl rfl)
theorem dX0_readAll_6 : decode cX0_readAll 6 = .ok (.bipush 38, 2) := dk_16 38 (dk_at dksX0_readAll_0 6 rfl rfl)
theorem dX0_readAll_8 : decode cX0_readAll 8 = .ok (.invokevirtual 122, 3) := dk_182 0 122 (dk_at dksX0_readAll_0 8 rfl rfl)
theorem dX0_readAll_11 : decode cX0_readAll 11 = .ok (.ifCond .eq 21, 3) := dk_153 0 21 (dk_at dksX0_readAll_0 11 rfl rfl)
theorem dX0_readAll_14 : decode cX0_readAll 14 = .ok (.new 282, 3) := dk_187 1 26 (dk_at dksX0_readAll_0 14 rfl rfl)
theorem dX0_readAll_17 : decode cX0_readAll 17 = .ok (.dup, 1) := dk_89 (dk_at dksX0_readAll_0 17 rfl rfl)
theorem dX0_readAll_18 : decode cX0_readAll 18 = .ok (.bipush 38, 2) := dk_16 38 (dk_at dksX0_readAll_0 18 rfl rfl)
theorem dX0_readAll_20 : decode cX0_readAll 20 = .ok (.aload_n 1, 1) := dk_43 (dk_at dksX0_readAll_0 20 rfl rfl)
theorem dX0_readAll_21 : decode cX0_readAll 21 = .ok (.aload_n 0, 1) := dk_42 (dk_at dksX0_readAll_0 21 rfl rfl)
theorem dX0_readAll_22 : decode cX0_readAll 22 = .ok (.invokevirtual 293, 3) := dk_182 1 37 (dk_at dksX0_readAll_1 0 rfl rfl)
theorem dX0_readAll_25 : decode cX0_readAll 25 = .ok (.invokespecial 284, 3) := dk_183 1 28 (dk_at dksX0_readAll_1 3 rfl rfl)
theorem dX0_readAll_28 : decode cX0_readAll 28 = .ok (.astore_n 1, 1) := dk_76 (dk_at dksX0_readAll_1 6 rfl rfl)
theorem dX0_readAll_29 : decode cX0_readAll 29 = .ok (.goto (-24), 3) := dk_167 255 232 (dk_at dksX0_readAll_1 7 rfl rfl)
theorem dX0_readAll_32 : decode cX0_readAll 32 = .ok (.aload_n 1, 1) := dk_43 (dk_at dksX0_readAll_1 10 rfl rfl)
theorem dX0_readAll_33 : decode cX0_readAll 33 = .ok (.areturn, 1) := dk_176 (dk_at dksX0_readAll_1 11 rfl rfl)
abbrev cX0_readLike : ByteArray := prog_1_method_34_code
def yX0_readLike : MethodName := ⟨RX0, "readLike", "()LHatRank$Term;"⟩
def dkwX0_readLike_2 : List UInt8 := [181, 0, 115, 46, 61, 187, 1, 26, 89, 28, 43, 42, 182, 1, 34, 183, 1, 28, 176]
abbrev dktX0_readLike_2 : List UInt8 := dkwX0_readLike_2 ++ []
def dkwX0_readLike_1 : List UInt8 := [182, 0, 118, 16, 62, 159, 0, 5, 43, 176, 42, 180, 0, 37, 42, 89, 180, 0, 115, 90, 4, 96]
abbrev dktX0_readLike_1 : List UInt8 := dkwX0_readLike_1 ++ dktX0_readLike_2
def dkwX0_readLike_0 : List UInt8 := [42, 182, 1, 34, 76, 42, 182, 0, 118, 16, 60, 159, 0, 23, 42, 182, 0, 118, 16, 61, 159, 0, 14, 42]
abbrev dktX0_readLike_0 : List UInt8 := dkwX0_readLike_0 ++ dktX0_readLike_1
theorem dksX0_readLike_0 : cX0_readLike.data.toList.drop 0 = dktX0_readLike_0 := by decide +kernel
theorem dksX0_readLike_1 : cX0_readLike.data.toList.drop 24 = dktX0_readLike_1 := dk_seg dksX0_readLike_0 24 rfl rfl
theorem dksX0_readLike_2 : cX0_readLike.data.toList.drop 46 = dktX0_readLike_2 := dk_seg dksX0_readLike_1 22 rfl rfl
theorem dX0_readLike_0 : decode cX0_readLike 0 = .ok (.aload_n 0, 1) := dk_42 (dk_at dksX0_readLike_0 0 rfl rfl)
theorem dX0_readLike_1 : decode cX0_readLike 1 = .ok (.invokevirtual 290, 3) := dk_182 1 34 (dk_at dksX0_readLike_0 1 rfl rfl)
theorem dX0_readLike_4 : decode cX0_readLike 4 = .ok (.astore_n 1, 1) := dk_76 (dk_at dksX0_readLike_0 4 rfl rfl)
theorem dX0_readLike_5 : decode cX0_readLike 5 = .ok (.aload_n 0, 1) := dk_42 (dk_at dksX0_readLike_0 5 rfl rfl)
theorem dX0_readLike_6 : decode cX0_readLike 6 = .ok (.invokevirtual 118, 3) := dk_182 0 118 (dk_at dksX0_readLike_0 6 rfl rfl)
theorem dX0_readLike_9 : decode cX0_readLike 9 = .ok (.bipush 60, 2) := dk_16 60 (dk_at dksX0_readLike_0 9 rfl rfl)
theorem dX0_readLike_11 : decode cX0_readLike 11 = .ok (.if_icmp .eq 23, 3) := dk_159 0 23 (dk_at dksX0_readLike_0 11 rfl rfl)
theorem dX0_readLike_14 : decode cX0_readLike 14 = .ok (.aload_n 0, 1) := dk_42 (dk_at dksX0_readLike_0 14 rfl rfl)
theorem dX0_readLike_15 : decode cX0_readLike 15 = .ok (.invokevirtual 118, 3) := dk_182 0 118 (dk_at dksX0_readLike_0 15 rfl rfl)
theorem dX0_readLike_18 : decode cX0_readLike 18 = .ok (.bipush 61, 2) := dk_16 61 (dk_at dksX0_readLike_0 18 rfl rfl)
theorem dX0_readLike_20 : decode cX0_readLike 20 = .ok (.if_icmp .eq 14, 3) := dk_159 0 14 (dk_at dksX0_readLike_0 20 rfl rfl)
theorem dX0_readLike_23 : decode cX0_readLike 23 = .ok (.aload_n 0, 1) := dk_42 (dk_at dksX0_readLike_0 23 rfl rfl)
theorem dX0_readLike_24 : decode cX0_readLike 24 = .ok (.invokevirtual 118, 3) := dk_182 0 118 (dk_at dksX0_readLike_1 0 rfl rfl)
theorem dX0_readLike_27 : decode cX0_readLike 27 = .ok (.bipush 62, 2) := dk_16 62 (dk_at dksX0_readLike_1 3 rfl rfl)
theorem dX0_readLike_29 : decode cX0_readLike 29 = .ok (.if_icmp .eq 5, 3) := dk_159 0 5 (dk_at dksX0_readLike_1 5 rfl rfl)
theorem dX0_readLike_32 : decode cX0_readLike 32 = .ok (.aload_n 1, 1) := dk_43 (dk_at dksX0_readLike_1 8 rfl rfl)
theorem dX0_readLike_33 : decode cX0_readLike 33 = .ok (.areturn, 1) := dk_176 (dk_at dksX0_readLike_1 9 rfl rfl)
theorem dX0_readLike_34 : decode cX0_readLike 34 = .ok (.aload_n 0, 1) := dk_42 (dk_at dksX0_readLike_1 10 rfl rfl)
theorem dX0_readLike_35 : decode cX0_readLike 35 = .ok (.getfield 37, 3) := dk_180 0 37 (dk_at dksX0_readLike_1 11 rfl rfl)
theorem dX0_readLike_38 : decode cX0_readLike 38 = .ok (.aload_n 0, 1) := dk_42 (dk_at dksX0_readLike_1 14 rfl rfl)
theorem dX0_readLike_39 : decode cX0_readLike 39 = .ok (.dup, 1) := dk_89 (dk_at dksX0_readLike_1 15 rfl rfl)
theorem dX0_readLike_40 : decode cX0_readLike 40 = .ok (.getfield 115, 3) := dk_180 0 115 (dk_at dksX0_readLike_1 16 rfl rfl)
theorem dX0_readLike_43 : decode cX0_readLike 43 = .ok (.dup_x1, 1) := dk_90 (dk_at dksX0_readLike_1 19 rfl rfl)
theorem dX0_readLike_44 : decode cX0_readLike 44 = .ok (.iconst 1, 1) := dk_4 (dk_at dksX0_readLike_1 20 rfl rfl)
theorem dX0_readLike_45 : decode cX0_readLike 45 = .ok (.iadd, 1) := dk_96 (dk_at dksX0_readLike_1 21 rfl rfl)
theorem dX0_readLike_46 : decode cX0_readLike 46 = .ok (.putfield 115, 3) := dk_181 0 115 (dk_at dksX0_readLike_2 0 rfl rfl)
theorem dX0_readLike_49 : decode cX0_readLike 49 = .ok (.iaload, 1) := dk_46 (dk_at dksX0_readLike_2 3 rfl rfl)
theorem dX0_readLike_50 : decode cX0_readLike 50 = .ok (.istore_n 2, 1) := dk_61 (dk_at dksX0_readLike_2 4 rfl rfl)
theorem dX0_readLike_51 : decode cX0_readLike 51 = .ok (.new 282, 3) := dk_187 1 26 (dk_at dksX0_readLike_2 5 rfl rfl)
theorem dX0_readLike_54 : decode cX0_readLike 54 = .ok (.dup, 1) := dk_89 (dk_at dksX0_readLike_2 8 rfl rfl)
theorem dX0_readLike_55 : decode cX0_readLike 55 = .ok (.iload_n 2, 1) := dk_28 (dk_at dksX0_readLike_2 9 rfl rfl)
theorem dX0_readLike_56 : decode cX0_readLike 56 = .ok (.aload_n 1, 1) := dk_43 (dk_at dksX0_readLike_2 10 rfl rfl)
theorem dX0_readLike_57 : decode cX0_readLike 57 = .ok (.aload_n 0, 1) := dk_42 (dk_at dksX0_readLike_2 11 rfl rfl)
theorem dX0_readLike_58 : decode cX0_readLike 58 = .ok (.invokevirtual 290, 3) := dk_182 1 34 (dk_at dksX0_readLike_2 12 rfl rfl)
theorem dX0_readLike_61 : decode cX0_readLike 61 = .ok (.invokespecial 284, 3) := dk_183 1 28 (dk_at dksX0_readLike_2 15 rfl rfl)
theorem dX0_readLike_64 : decode cX0_readLike 64 = .ok (.areturn, 1) := dk_176 (dk_at dksX0_readLike_2 18 rfl rfl)
abbrev cX0_readPlus : ByteArray := prog_1_method_33_code
def yX0_readPlus : MethodName := ⟨RX0, "readPlus", "()LHatRank$Term;"⟩
def dkwX0_readPlus_2 : List UInt8 := [182, 1, 31, 183, 1, 28, 76, 167, 255, 207, 43, 176]
abbrev dktX0_readPlus_2 : List UInt8 := dkwX0_readPlus_2 ++ []
def dkwX0_readPlus_1 : List UInt8 := [180, 0, 37, 42, 89, 180, 0, 115, 90, 4, 96, 181, 0, 115, 46, 61, 187, 1, 26, 89, 28, 43, 42]
abbrev dktX0_readPlus_1 : List UInt8 := dkwX0_readPlus_1 ++ dktX0_readPlus_2
def dkwX0_readPlus_0 : List UInt8 := [42, 182, 1, 31, 76, 42, 182, 0, 118, 16, 43, 159, 0, 12, 42, 182, 0, 118, 16, 45, 160, 0, 37, 42]
abbrev dktX0_readPlus_0 : List UInt8 := dkwX0_readPlus_0 ++ dktX0_readPlus_1
theorem dksX0_readPlus_0 : cX0_readPlus.data.toList.drop 0 = dktX0_readPlus_0 := by decide +kernel
theorem dksX0_readPlus_1 : cX0_readPlus.data.toList.drop 24 = dktX0_readPlus_1 := dk_seg dksX0_readPlus_0 24 rfl rfl
theorem dksX0_readPlus_2 : cX0_readPlus.data.toList.drop 47 = dktX0_readPlus_2 := dk_seg dksX0_readPlus_1 23 rfl rfl
theorem dX0_readPlus_0 : decode cX0_readPlus 0 = .ok (.aload_n 0, 1) := dk_42 (dk_at dksX0_readPlus_0 0 rfl rfl)
theorem dX0_readPlus_1 : decode cX0_readPlus 1 = .ok (.invokevirtual 287, 3) := dk_182 1 31 (dk_at dksX0_readPlus_0 1 rfl rfl)
theorem dX0_readPlus_4 : decode cX0_readPlus 4 = .ok (.astore_n 1, 1) := dk_76 (dk_at dksX0_readPlus_0 4 rfl rfl)
theorem dX0_readPlus_5 : decode cX0_readPlus 5 = .ok (.aload_n 0, 1) := dk_42 (dk_at dksX0_readPlus_0 5 rfl rfl)
theorem dX0_readPlus_6 : decode cX0_readPlus 6 = .ok (.invokevirtual 118, 3) := dk_182 0 118 (dk_at dksX0_readPlus_0 6 rfl rfl)
theorem dX0_readPlus_9 : decode cX0_readPlus 9 = .ok (.bipush 43, 2) := dk_16 43 (dk_at dksX0_readPlus_0 9 rfl rfl)
theorem dX0_readPlus_11 : decode cX0_readPlus 11 = .ok (.if_icmp .eq 12, 3) := dk_159 0 12 (dk_at dksX0_readPlus_0 11 rfl rfl)
theorem dX0_readPlus_14 : decode cX0_readPlus 14 = .ok (.aload_n 0, 1) := dk_42 (dk_at dksX0_readPlus_0 14 rfl rfl)
theorem dX0_readPlus_15 : decode cX0_readPlus 15 = .ok (.invokevirtual 118, 3) := dk_182 0 118 (dk_at dksX0_readPlus_0 15 rfl rfl)
theorem dX0_readPlus_18 : decode cX0_readPlus 18 = .ok (.bipush 45, 2) := dk_16 45 (dk_at dksX0_readPlus_0 18 rfl rfl)
theorem dX0_readPlus_20 : decode cX0_readPlus 20 = .ok (.if_icmp .ne 37, 3) := dk_160 0 37 (dk_at dksX0_readPlus_0 20 rfl rfl)
theorem dX0_readPlus_23 : decode cX0_readPlus 23 = .ok (.aload_n 0, 1) := dk_42 (dk_at dksX0_readPlus_0 23 rfl rfl)
theorem dX0_readPlus_24 : decode cX0_readPlus 24 = .ok (.getfield 37, 3) := dk_180 0 37 (dk_at dksX0_readPlus_1 0 rfl rfl)
theorem dX0_readPlus_27 : decode cX0_readPlus 27 = .ok (.aload_n 0, 1) := dk_42 (dk_at dksX0_readPlus_1 3 rfl rfl)
theorem dX0_readPlus_28 : decode cX0_readPlus 28 = .ok (.dup, 1) := dk_89 (dk_at dksX0_readPlus_1 4 rfl rfl)
theorem dX0_readPlus_29 : decode cX0_readPlus 29 = .ok (.getfield 115, 3) := dk_180 0 115 (dk_at dksX0_readPlus_1 5 rfl rfl)
theorem dX0_readPlus_32 : decode cX0_readPlus 32 = .ok (.dup_x1, 1) := dk_90 (dk_at dksX0_readPlus_1 8 rfl rfl)
theorem dX0_readPlus_33 : decode cX0_readPlus 33 = .ok (.iconst 1, 1) := dk_4 (dk_at dksX0_readPlus_1 9 rfl rfl)
theorem dX0_readPlus_34 : decode cX0_readPlus 34 = .ok (.iadd, 1) := dk_96 (dk_at dksX0_readPlus_1 10 rfl rfl)
theorem dX0_readPlus_35 : decode cX0_readPlus 35 = .ok (.putfield 115, 3) := dk_181 0 115 (dk_at dksX0_readPlus_1 11 rfl rfl)
theorem dX0_readPlus_38 : decode cX0_readPlus 38 = .ok (.iaload, 1) := dk_46 (dk_at dksX0_readPlus_1 14 rfl rfl)
theorem dX0_readPlus_39 : decode cX0_readPlus 39 = .ok (.istore_n 2, 1) := dk_61 (dk_at dksX0_readPlus_1 15 rfl rfl)
theorem dX0_readPlus_40 : decode cX0_readPlus 40 = .ok (.new 282, 3) := dk_187 1 26 (dk_at dksX0_readPlus_1 16 rfl rfl)
theorem dX0_readPlus_43 : decode cX0_readPlus 43 = .ok (.dup, 1) := dk_89 (dk_at dksX0_readPlus_1 19 rfl rfl)
theorem dX0_readPlus_44 : decode cX0_readPlus 44 = .ok (.iload_n 2, 1) := dk_28 (dk_at dksX0_readPlus_1 20 rfl rfl)
theorem dX0_readPlus_45 : decode cX0_readPlus 45 = .ok (.aload_n 1, 1) := dk_43 (dk_at dksX0_readPlus_1 21 rfl rfl)
theorem dX0_readPlus_46 : decode cX0_readPlus 46 = .ok (.aload_n 0, 1) := dk_42 (dk_at dksX0_readPlus_1 22 rfl rfl)
theorem dX0_readPlus_47 : decode cX0_readPlus 47 = .ok (.invokevirtual 287, 3) := dk_182 1 31 (dk_at dksX0_readPlus_2 0 rfl rfl)
theorem dX0_readPlus_50 : decode cX0_readPlus 50 = .ok (.invokespecial 284, 3) := dk_183 1 28 (dk_at dksX0_readPlus_2 3 rfl rfl)
theorem dX0_readPlus_53 : decode cX0_readPlus 53 = .ok (.astore_n 1, 1) := dk_76 (dk_at dksX0_readPlus_2 6 rfl rfl)
theorem dX0_readPlus_54 : decode cX0_readPlus 54 = .ok (.goto (-49), 3) := dk_167 255 207 (dk_at dksX0_readPlus_2 7 rfl rfl)
theorem dX0_readPlus_57 : decode cX0_readPlus 57 = .ok (.aload_n 1, 1) := dk_43 (dk_at dksX0_readPlus_2 10 rfl rfl)
theorem dX0_readPlus_58 : decode cX0_readPlus 58 = .ok (.areturn, 1) := dk_176 (dk_at dksX0_readPlus_2 11 rfl rfl)
abbrev cX0_readTimes : ByteArray := prog_1_method_32_code
def yX0_readTimes : MethodName := ⟨RX0, "readTimes", "()LHatRank$Term;"⟩
def dkwX0_readTimes_2 : List UInt8 := [61, 187, 1, 26, 89, 28, 43, 42, 182, 1, 17, 183, 1, 28, 76, 167, 255, 198, 43, 176]
abbrev dktX0_readTimes_2 : List UInt8 := dkwX0_readTimes_2 ++ []
def dkwX0_readTimes_1 : List UInt8 := [182, 0, 118, 16, 37, 160, 0, 37, 42, 180, 0, 37, 42, 89, 180, 0, 115, 90, 4, 96, 181, 0, 115, 46]
abbrev dktX0_readTimes_1 : List UInt8 := dkwX0_readTimes_1 ++ dktX0_readTimes_2
def dkwX0_readTimes_0 : List UInt8 := [42, 182, 1, 17, 76, 42, 182, 0, 118, 16, 42, 159, 0, 21, 42, 182, 0, 118, 16, 47, 159, 0, 12, 42]
abbrev dktX0_readTimes_0 : List UInt8 := dkwX0_readTimes_0 ++ dktX0_readTimes_1
theorem dksX0_readTimes_0 : cX0_readTimes.data.toList.drop 0 = dktX0_readTimes_0 := by decide +kernel
theorem dksX0_readTimes_1 : cX0_readTimes.data.toList.drop 24 = dktX0_readTimes_1 := dk_seg dksX0_readTimes_0 24 rfl rfl
theorem dksX0_readTimes_2 : cX0_readTimes.data.toList.drop 48 = dktX0_readTimes_2 := dk_seg dksX0_readTimes_1 24 rfl rfl
theorem dX0_readTimes_0 : decode cX0_readTimes 0 = .ok (.aload_n 0, 1) := dk_42 (dk_at dksX0_readTimes_0 0 rfl rfl)
theorem dX0_readTimes_1 : decode cX0_readTimes 1 = .ok (.invokevirtual 273, 3) := dk_182 1 17 (dk_at dksX0_readTimes_0 1 rfl rfl)
theorem dX0_readTimes_4 : decode cX0_readTimes 4 = .ok (.astore_n 1, 1) := dk_76 (dk_at dksX0_readTimes_0 4 rfl rfl)
theorem dX0_readTimes_5 : decode cX0_readTimes 5 = .ok (.aload_n 0, 1) := dk_42 (dk_at dksX0_readTimes_0 5 rfl rfl)
theorem dX0_readTimes_6 : decode cX0_readTimes 6 = .ok (.invokevirtual 118, 3) := dk_182 0 118 (dk_at dksX0_readTimes_0 6 rfl rfl)
theorem dX0_readTimes_9 : decode cX0_readTimes 9 = .ok (.bipush 42, 2) := dk_16 42 (dk_at dksX0_readTimes_0 9 rfl rfl)
theorem dX0_readTimes_11 : decode cX0_readTimes 11 = .ok (.if_icmp .eq 21, 3) := dk_159 0 21 (dk_at dksX0_readTimes_0 11 rfl rfl)
theorem dX0_readTimes_14 : decode cX0_readTimes 14 = .ok (.aload_n 0, 1) := dk_42 (dk_at dksX0_readTimes_0 14 rfl rfl)
theorem dX0_readTimes_15 : decode cX0_readTimes 15 = .ok (.invokevirtual 118, 3) := dk_182 0 118 (dk_at dksX0_readTimes_0 15 rfl rfl)
theorem dX0_readTimes_18 : decode cX0_readTimes 18 = .ok (.bipush 47, 2) := dk_16 47 (dk_at dksX0_readTimes_0 18 rfl rfl)
theorem dX0_readTimes_20 : decode cX0_readTimes 20 = .ok (.if_icmp .eq 12, 3) := dk_159 0 12 (dk_at dksX0_readTimes_0 20 rfl rfl)
theorem dX0_readTimes_23 : decode cX0_readTimes 23 = .ok (.aload_n 0, 1) := dk_42 (dk_at dksX0_readTimes_0 23 rfl rfl)
theorem dX0_readTimes_24 : decode cX0_readTimes 24 = .ok (.invokevirtual 118, 3) := dk_182 0 118 (dk_at dksX0_readTimes_1 0 rfl rfl)
theorem dX0_readTimes_27 : decode cX0_readTimes 27 = .ok (.bipush 37, 2) := dk_16 37 (dk_at dksX0_readTimes_1 3 rfl rfl)
theorem dX0_readTimes_29 : decode cX0_readTimes 29 = .ok (.if_icmp .ne 37, 3) := dk_160 0 37 (dk_at dksX0_readTimes_1 5 rfl rfl)
theorem dX0_readTimes_32 : decode cX0_readTimes 32 = .ok (.aload_n 0, 1) := dk_42 (dk_at dksX0_readTimes_1 8 rfl rfl)
theorem dX0_readTimes_33 : decode cX0_readTimes 33 = .ok (.getfield 37, 3) := dk_180 0 37 (dk_at dksX0_readTimes_1 9 rfl rfl)
theorem dX0_readTimes_36 : decode cX0_readTimes 36 = .ok (.aload_n 0, 1) := dk_42 (dk_at dksX0_readTimes_1 12 rfl rfl)
theorem dX0_readTimes_37 : decode cX0_readTimes 37 = .ok (.dup, 1) := dk_89 (dk_at dksX0_readTimes_1 13 rfl rfl)
theorem dX0_readTimes_38 : decode cX0_readTimes 38 = .ok (.getfield 115, 3) := dk_180 0 115 (dk_at dksX0_readTimes_1 14 rfl rfl)
theorem dX0_readTimes_41 : decode cX0_readTimes 41 = .ok (.dup_x1, 1) := dk_90 (dk_at dksX0_readTimes_1 17 rfl rfl)
theorem dX0_readTimes_42 : decode cX0_readTimes 42 = .ok (.iconst 1, 1) := dk_4 (dk_at dksX0_readTimes_1 18 rfl rfl)
theorem dX0_readTimes_43 : decode cX0_readTimes 43 = .ok (.iadd, 1) := dk_96 (dk_at dksX0_readTimes_1 19 rfl rfl)
theorem dX0_readTimes_44 : decode cX0_readTimes 44 = .ok (.putfield 115, 3) := dk_181 0 115 (dk_at dksX0_readTimes_1 20 rfl rfl)
theorem dX0_readTimes_47 : decode cX0_readTimes 47 = .ok (.iaload, 1) := dk_46 (dk_at dksX0_readTimes_1 23 rfl rfl)
theorem dX0_readTimes_48 : decode cX0_readTimes 48 = .ok (.istore_n 2, 1) := dk_61 (dk_at dksX0_readTimes_2 0 rfl rfl)
theorem dX0_readTimes_49 : decode cX0_readTimes 49 = .ok (.new 282, 3) := dk_187 1 26 (dk_at dksX0_readTimes_2 1 rfl rfl)
theorem dX0_readTimes_52 : decode cX0_readTimes 52 = .ok (.dup, 1) := dk_89 (dk_at dksX0_readTimes_2 4 rfl rfl)
theorem dX0_readTimes_53 : decode cX0_readTimes 53 = .ok (.iload_n 2, 1) := dk_28 (dk_at dksX0_readTimes_2 5 rfl rfl)
theorem dX0_readTimes_54 : decode cX0_readTimes 54 = .ok (.aload_n 1, 1) := dk_43 (dk_at dksX0_readTimes_2 6 rfl rfl)
theorem dX0_readTimes_55 : decode cX0_readTimes 55 = .ok (.aload_n 0, 1) := dk_42 (dk_at dksX0_readTimes_2 7 rfl rfl)
theorem dX0_readTimes_56 : decode cX0_readTimes 56 = .ok (.invokevirtual 273, 3) := dk_182 1 17 (dk_at dksX0_readTimes_2 8 rfl rfl)
theorem dX0_readTimes_59 : decode cX0_readTimes 59 = .ok (.invokespecial 284, 3) := dk_183 1 28 (dk_at dksX0_readTimes_2 11 rfl rfl)
theorem dX0_readTimes_62 : decode cX0_readTimes 62 = .ok (.astore_n 1, 1) := dk_76 (dk_at dksX0_readTimes_2 14 rfl rfl)
theorem dX0_readTimes_63 : decode cX0_readTimes 63 = .ok (.goto (-58), 3) := dk_167 255 198 (dk_at dksX0_readTimes_2 15 rfl rfl)
theorem dX0_readTimes_66 : decode cX0_readTimes 66 = .ok (.aload_n 1, 1) := dk_43 (dk_at dksX0_readTimes_2 18 rfl rfl)
theorem dX0_readTimes_67 : decode cX0_readTimes 67 = .ok (.areturn, 1) := dk_176 (dk_at dksX0_readTimes_2 19 rfl rfl)
abbrev cX0_readOne : ByteArray := prog_1_method_31_code
def yX0_readOne : MethodName := ⟨RX0, "readOne", "()LHatRank$Term;"⟩
def dkwX0_readOne_8 : List UInt8 := [16, 40, 160, 0, 9, 42, 16, 41, 182, 1, 23, 42, 89, 180, 1, 8, 4, 100, 181, 1, 8, 45, 176]
abbrev dktX0_readOne_8 : List UInt8 := dkwX0_readOne_8 ++ []
def dkwX0_readOne_7 : List UInt8 := [160, 0, 10, 42, 182, 1, 11, 167, 0, 15, 187, 1, 15, 89, 28, 42, 182, 1, 17, 183, 1, 20, 78, 28]
abbrev dktX0_readOne_7 : List UInt8 := dkwX0_readOne_7 ++ dktX0_readOne_8
def dkwX0_readOne_6 : List UInt8 := [89, 180, 0, 115, 4, 96, 181, 0, 115, 42, 89, 180, 1, 8, 4, 96, 181, 1, 8, 28, 16, 40]
abbrev dktX0_readOne_6 : List UInt8 := dkwX0_readOne_6 ++ dktX0_readOne_7
def dkwX0_readOne_5 : List UInt8 := [159, 0, 9, 28, 16, 40, 160, 0, 12, 42, 180, 1, 8, 16, 6, 160, 0, 8, 42, 180, 0, 44, 191, 42]
abbrev dktX0_readOne_5 : List UInt8 := dkwX0_readOne_5 ++ dktX0_readOne_6
def dkwX0_readOne_4 : List UInt8 := [187, 1, 3, 89, 42, 27, 183, 1, 5, 176, 42, 182, 0, 118, 61, 28, 16, 33, 159, 0, 15, 28, 16, 45]
abbrev dktX0_readOne_4 : List UInt8 := dkwX0_readOne_4 ++ dktX0_readOne_5
def dkwX0_readOne_3 : List UInt8 := [182, 0, 118, 184, 1, 0, 60, 27, 2, 159, 0, 23, 42, 89, 180, 0, 115, 4, 96, 181, 0, 115]
abbrev dktX0_readOne_3 : List UInt8 := dkwX0_readOne_3 ++ dktX0_readOne_4
def dkwX0_readOne_2 : List UInt8 := [181, 0, 115, 46, 96, 16, 48, 100, 60, 167, 255, 214, 187, 0, 251, 89, 27, 183, 0, 253, 176, 42]
abbrev dktX0_readOne_2 : List UInt8 := dkwX0_readOne_2 ++ dktX0_readOne_3
def dkwX0_readOne_1 : List UInt8 := [42, 182, 0, 247, 153, 0, 31, 16, 10, 27, 104, 42, 180, 0, 37, 42, 89, 180, 0, 115, 90, 4, 96]
abbrev dktX0_readOne_1 : List UInt8 := dkwX0_readOne_1 ++ dktX0_readOne_2
def dkwX0_readOne_0 : List UInt8 := [42, 182, 0, 247, 153, 0, 64, 3, 60, 42, 180, 0, 115, 61, 42, 180, 0, 115, 28, 7, 96, 162, 0, 38]
abbrev dktX0_readOne_0 : List UInt8 := dkwX0_readOne_0 ++ dktX0_readOne_1
theorem dksX0_readOne_0 : cX0_readOne.data.toList.drop 0 = dktX0_readOne_0 := by decide +kernel
theorem dksX0_readOne_1 : cX0_readOne.data.toList.drop 24 = dktX0_readOne_1 := dk_seg dksX0_readOne_0 24 rfl rfl
theorem dksX0_readOne_2 : cX0_readOne.data.toList.drop 47 = dktX0_readOne_2 := dk_seg dksX0_readOne_1 23 rfl rfl
theorem dksX0_readOne_3 : cX0_readOne.data.toList.drop 69 = dktX0_readOne_3 := dk_seg dksX0_readOne_2 22 rfl rfl
theorem dksX0_readOne_4 : cX0_readOne.data.toList.drop 91 = dktX0_readOne_4 := dk_seg dksX0_readOne_3 22 rfl rfl
theorem dksX0_readOne_5 : cX0_readOne.data.toList.drop 115 = dktX0_readOne_5 := dk_seg dksX0_readOne_4 24 rfl rfl
theorem dksX0_readOne_6 : cX0_readOne.data.toList.drop 139 = dktX0_readOne_6 := dk_seg dksX0_readOne_5 24 rfl rfl
theorem dksX0_readOne_7 : cX0_readOne.data.toList.drop 161 = dktX0_readOne_7 := dk_seg dksX0_readOne_6 22 rfl rfl
theorem dksX0_readOne_8 : cX0_readOne.data.toList.drop 185 = dktX0_readOne_8 := dk_seg dksX0_readOne_7 24 rfl rfl
theorem dX0_readOne_0 : decode cX0_readOne 0 = .ok (.aload_n 0, 1) := dk_42 (dk_at dksX0_readOne_0 0 rfl rfl)
theorem dX0_readOne_1 : decode cX0_readOne 1 = .ok (.invokevirtual 247, 3) := dk_182 0 247 (dk_at dksX0_readOne_0 1 rfl rfl)
theorem dX0_readOne_4 : decode cX0_readOne 4 = .ok (.ifCond .eq 64, 3) := dk_153 0 64 (dk_at dksX0_readOne_0 4 rfl rfl)
theorem dX0_readOne_7 : decode cX0_readOne 7 = .ok (.iconst 0, 1) := dk_3 (dk_at dksX0_readOne_0 7 rfl rfl)
theorem dX0_readOne_8 : decode cX0_readOne 8 = .ok (.istore_n 1, 1) := dk_60 (dk_at dksX0_readOne_0 8 rfl rfl)
theorem dX0_readOne_9 : decode cX0_readOne 9 = .ok (.aload_n 0, 1) := dk_42 (dk_at dksX0_readOne_0 9 rfl rfl)
theorem dX0_readOne_10 : decode cX0_readOne 10 = .ok (.getfield 115, 3) := dk_180 0 115 (dk_at dksX0_readOne_0 10 rfl rfl)
theorem dX0_readOne_13 : decode cX0_readOne 13 = .ok (.istore_n 2, 1) := dk_61 (dk_at dksX0_readOne_0 13 rfl rfl)
theorem dX0_readOne_14 : decode cX0_readOne 14 = .ok (.aload_n 0, 1) := dk_42 (dk_at dksX0_readOne_0 14 rfl rfl)
theorem dX0_readOne_15 : decode cX0_readOne 15 = .ok (.getfield 115, 3) := dk_180 0 115 (dk_at dksX0_readOne_0 15 rfl rfl)
theorem dX0_readOne_18 : decode cX0_readOne 18 = .ok (.iload_n 2, 1) := dk_28 (dk_at dksX0_readOne_0 18 rfl rfl)
theorem dX0_readOne_19 : decode cX0_readOne 19 = .ok (.iconst 4, 1) := dk_7 (dk_at dksX0_readOne_0 19 rfl rfl)
theorem dX0_readOne_20 : decode cX0_readOne 20 = .ok (.iadd, 1) := dk_96 (dk_at dksX0_readOne_0 20 rfl rfl)
theorem dX0_readOne_21 : decode cX0_readOne 21 = .ok (.if_icmp .ge 38, 3) := dk_162 0 38 (dk_at dksX0_readOne_0 21 rfl rfl)
theorem dX0_readOne_24 : decode cX0_readOne 24 = .ok (.aload_n 0, 1) := dk_42 (dk_at dksX0_readOne_1 0 rfl rfl)
theorem dX0_readOne_25 : decode cX0_readOne 25 = .ok (.invokevirtual 247, 3) := dk_182 0 247 (dk_at dksX0_readOne_1 1 rfl rfl)
theorem dX0_readOne_28 : decode cX0_readOne 28 = .ok (.ifCond .eq 31, 3) := dk_153 0 31 (dk_at dksX0_readOne_1 4 rfl rfl)
theorem dX0_readOne_31 : decode cX0_readOne 31 = .ok (.bipush 10, 2) := dk_16 10 (dk_at dksX0_readOne_1 7 rfl rfl)
theorem dX0_readOne_33 : decode cX0_readOne 33 = .ok (.iload_n 1, 1) := dk_27 (dk_at dksX0_readOne_1 9 rfl rfl)
theorem dX0_readOne_34 : decode cX0_readOne 34 = .ok (.imul, 1) := dk_104 (dk_at dksX0_readOne_1 10 rfl rfl)
theorem dX0_readOne_35 : decode cX0_readOne 35 = .ok (.aload_n 0, 1) := dk_42 (dk_at dksX0_readOne_1 11 rfl rfl)
theorem dX0_readOne_36 : decode cX0_readOne 36 = .ok (.getfield 37, 3) := dk_180 0 37 (dk_at dksX0_readOne_1 12 rfl rfl)
theorem dX0_readOne_39 : decode cX0_readOne 39 = .ok (.aload_n 0, 1) := dk_42 (dk_at dksX0_readOne_1 15 rfl rfl)
theorem dX0_readOne_40 : decode cX0_readOne 40 = .ok (.dup, 1) := dk_89 (dk_at dksX0_readOne_1 16 rfl rfl)
theorem dX0_readOne_41 : decode cX0_readOne 41 = .ok (.getfield 115, 3) := dk_180 0 115 (dk_at dksX0_readOne_1 17 rfl rfl)
theorem dX0_readOne_44 : decode cX0_readOne 44 = .ok (.dup_x1, 1) := dk_90 (dk_at dksX0_readOne_1 20 rfl rfl)
theorem dX0_readOne_45 : decode cX0_readOne 45 = .ok (.iconst 1, 1) := dk_4 (dk_at dksX0_readOne_1 21 rfl rfl)
theorem dX0_readOne_46 : decode cX0_readOne 46 = .ok (.iadd, 1) := dk_96 (dk_at dksX0_readOne_1 22 rfl rfl)
theorem dX0_readOne_47 : decode cX0_readOne 47 = .ok (.putfield 115, 3) := dk_181 0 115 (dk_at dksX0_readOne_2 0 rfl rfl)
theorem dX0_readOne_50 : decode cX0_readOne 50 = .ok (.iaload, 1) := dk_46 (dk_at dksX0_readOne_2 3 rfl rfl)
theorem dX0_readOne_51 : decode cX0_readOne 51 = .ok (.iadd, 1) := dk_96 (dk_at dksX0_readOne_2 4 rfl rfl)
theorem dX0_readOne_52 : decode cX0_readOne 52 = .ok (.bipush 48, 2) := dk_16 48 (dk_at dksX0_readOne_2 5 rfl rfl)
theorem dX0_readOne_54 : decode cX0_readOne 54 = .ok (.isub, 1) := dk_100 (dk_at dksX0_readOne_2 7 rfl rfl)
theorem dX0_readOne_55 : decode cX0_readOne 55 = .ok (.istore_n 1, 1) := dk_60 (dk_at dksX0_readOne_2 8 rfl rfl)
theorem dX0_readOne_56 : decode cX0_readOne 56 = .ok (.goto (-42), 3) := dk_167 255 214 (dk_at dksX0_readOne_2 9 rfl rfl)
theorem dX0_readOne_59 : decode cX0_readOne 59 = .ok (.new 251, 3) := dk_187 0 251 (dk_at dksX0_readOne_2 12 rfl rfl)
theorem dX0_readOne_62 : decode cX0_readOne 62 = .ok (.dup, 1) := dk_89 (dk_at dksX0_readOne_2 15 rfl rfl)
theorem dX0_readOne_63 : decode cX0_readOne 63 = .ok (.iload_n 1, 1) := dk_27 (dk_at dksX0_readOne_2 16 rfl rfl)
theorem dX0_readOne_64 : decode cX0_readOne 64 = .ok (.invokespecial 253, 3) := dk_183 0 253 (dk_at dksX0_readOne_2 17 rfl rfl)
theorem dX0_readOne_67 : decode cX0_readOne 67 = .ok (.areturn, 1) := dk_176 (dk_at dksX0_readOne_2 20 rfl rfl)
theorem dX0_readOne_68 : decode cX0_readOne 68 = .ok (.aload_n 0, 1) := dk_42 (dk_at dksX0_readOne_2 21 rfl rfl)
theorem dX0_readOne_69 : decode cX0_readOne 69 = .ok (.invokevirtual 118, 3) := dk_182 0 118 (dk_at dksX0_readOne_3 0 rfl rfl)
theorem dX0_readOne_72 : decode cX0_readOne 72 = .ok (.invokestatic 256, 3) := dk_184 1 0 (dk_at dksX0_readOne_3 3 rfl rfl)
theorem dX0_readOne_75 : decode cX0_readOne 75 = .ok (.istore_n 1, 1) := dk_60 (dk_at dksX0_readOne_3 6 rfl rfl)
theorem dX0_readOne_76 : decode cX0_readOne 76 = .ok (.iload_n 1, 1) := dk_27 (dk_at dksX0_readOne_3 7 rfl rfl)
theorem dX0_readOne_77 : decode cX0_readOne 77 = .ok (.iconst (-1), 1) := dk_2 (dk_at dksX0_readOne_3 8 rfl rfl)
theorem dX0_readOne_78 : decode cX0_readOne 78 = .ok (.if_icmp .eq 23, 3) := dk_159 0 23 (dk_at dksX0_readOne_3 9 rfl rfl)
theorem dX0_readOne_81 : decode cX0_readOne 81 = .ok (.aload_n 0, 1) := dk_42 (dk_at dksX0_readOne_3 12 rfl rfl)
theorem dX0_readOne_82 : decode cX0_readOne 82 = .ok (.dup, 1) := dk_89 (dk_at dksX0_readOne_3 13 rfl rfl)
theorem dX0_readOne_83 : decode cX0_readOne 83 = .ok (.getfield 115, 3) := dk_180 0 115 (dk_at dksX0_readOne_3 14 rfl rfl)
theorem dX0_readOne_86 : decode cX0_readOne 86 = .ok (.iconst 1, 1) := dk_4 (dk_at dksX0_readOne_3 17 rfl rfl)
theorem dX0_readOne_87 : decode cX0_readOne 87 = .ok (.iadd, 1) := dk_96 (dk_at dksX0_readOne_3 18 rfl rfl)
theorem dX0_readOne_88 : decode cX0_readOne 88 = .ok (.putfield 115, 3) := dk_181 0 115 (dk_at dksX0_readOne_3 19 rfl rfl)
theorem dX0_readOne_91 : decode cX0_readOne 91 = .ok (.new 259, 3) := dk_187 1 3 (dk_at dksX0_readOne_4 0 rfl rfl)
theorem dX0_readOne_94 : decode cX0_readOne 94 = .ok (.dup, 1) := dk_89 (dk_at dksX0_readOne_4 3 rfl rfl)
theorem dX0_readOne_95 : decode cX0_readOne 95 = .ok (.aload_n 0, 1) := dk_42 (dk_at dksX0_readOne_4 4 rfl rfl)
theorem dX0_readOne_96 : decode cX0_readOne 96 = .ok (.iload_n 1, 1) := dk_27 (dk_at dksX0_readOne_4 5 rfl rfl)
theorem dX0_readOne_97 : decode cX0_readOne 97 = .ok (.invokespecial 261, 3) := dk_183 1 5 (dk_at dksX0_readOne_4 6 rfl rfl)
theorem dX0_readOne_100 : decode cX0_readOne 100 = .ok (.areturn, 1) := dk_176 (dk_at dksX0_readOne_4 9 rfl rfl)
theorem dX0_readOne_101 : decode cX0_readOne 101 = .ok (.aload_n 0, 1) := dk_42 (dk_at dksX0_readOne_4 10 rfl rfl)
theorem dX0_readOne_102 : decode cX0_readOne 102 = .ok (.invokevirtual 118, 3) := dk_182 0 118 (dk_at dksX0_readOne_4 11 rfl rfl)
theorem dX0_readOne_105 : decode cX0_readOne 105 = .ok (.istore_n 2, 1) := dk_61 (dk_at dksX0_readOne_4 14 rfl rfl)
theorem dX0_readOne_106 : decode cX0_readOne 106 = .ok (.iload_n 2, 1) := dk_28 (dk_at dksX0_readOne_4 15 rfl rfl)
theorem dX0_readOne_107 : decode cX0_readOne 107 = .ok (.bipush 33, 2) := dk_16 33 (dk_at dksX0_readOne_4 16 rfl rfl)
theorem dX0_readOne_109 : decode cX0_readOne 109 = .ok (.if_icmp .eq 15, 3) := dk_159 0 15 (dk_at dksX0_readOne_4 18 rfl rfl)
theorem dX0_readOne_112 : decode cX0_readOne 112 = .ok (.iload_n 2, 1) := dk_28 (dk_at dksX0_readOne_4 21 rfl rfl)
theorem dX0_readOne_113 : decode cX0_readOne 113 = .ok (.bipush 45, 2) := dk_16 45 (dk_at dksX0_readOne_4 22 rfl rfl)
theorem dX0_readOne_115 : decode cX0_readOne 115 = .ok (.if_icmp .eq 9, 3) := dk_159 0 9 (dk_at dksX0_readOne_5 0 rfl rfl)
theorem dX0_readOne_118 : decode cX0_readOne 118 = .ok (.iload_n 2, 1) := dk_28 (dk_at dksX0_readOne_5 3 rfl rfl)
theorem dX0_readOne_119 : decode cX0_readOne 119 = .ok (.bipush 40, 2) := dk_16 40 (dk_at dksX0_readOne_5 4 rfl rfl)
theorem dX0_readOne_121 : decode cX0_readOne 121 = .ok (.if_icmp .ne 12, 3) := dk_160 0 12 (dk_at dksX0_readOne_5 6 rfl rfl)
theorem dX0_readOne_124 : decode cX0_readOne 124 = .ok (.aload_n 0, 1) := dk_42 (dk_at dksX0_readOne_5 9 rfl rfl)
theorem dX0_readOne_125 : decode cX0_readOne 125 = .ok (.getfield 264, 3) := dk_180 1 8 (dk_at dksX0_readOne_5 10 rfl rfl)
theorem dX0_readOne_128 : decode cX0_readOne 128 = .ok (.bipush 6, 2) := dk_16 6 (dk_at dksX0_readOne_5 13 rfl rfl)
theorem dX0_readOne_130 : decode cX0_readOne 130 = .ok (.if_icmp .ne 8, 3) := dk_160 0 8 (dk_at dksX0_readOne_5 15 rfl rfl)
theorem dX0_readOne_133 : decode cX0_readOne 133 = .ok (.aload_n 0, 1) := dk_42 (dk_at dksX0_readOne_5 18 rfl rfl)
theorem dX0_readOne_134 : decode cX0_readOne 134 = .ok (.getfield 44, 3) := dk_180 0 44 (dk_at dksX0_readOne_5 19 rfl rfl)
theorem dX0_readOne_137 : decode cX0_readOne 137 = .ok (.athrow, 1) := dk_191 (dk_at dksX0_readOne_5 22 rfl rfl)
theorem dX0_readOne_138 : decode cX0_readOne 138 = .ok (.aload_n 0, 1) := dk_42 (dk_at dksX0_readOne_5 23 rfl rfl)
theorem dX0_readOne_139 : decode cX0_readOne 139 = .ok (.dup, 1) := dk_89 (dk_at dksX0_readOne_6 0 rfl rfl)
theorem dX0_readOne_140 : decode cX0_readOne 140 = .ok (.getfield 115, 3) := dk_180 0 115 (dk_at dksX0_readOne_6 1 rfl rfl)
theorem dX0_readOne_143 : decode cX0_readOne 143 = .ok (.iconst 1, 1) := dk_4 (dk_at dksX0_readOne_6 4 rfl rfl)
theorem dX0_readOne_144 : decode cX0_readOne 144 = .ok (.iadd, 1) := dk_96 (dk_at dksX0_readOne_6 5 rfl rfl)
theorem dX0_readOne_145 : decode cX0_readOne 145 = .ok (.putfield 115, 3) := dk_181 0 115 (dk_at dksX0_readOne_6 6 rfl rfl)
theorem dX0_readOne_148 : decode cX0_readOne 148 = .ok (.aload_n 0, 1) := dk_42 (dk_at dksX0_readOne_6 9 rfl rfl)
theorem dX0_readOne_149 : decode cX0_readOne 149 = .ok (.dup, 1) := dk_89 (dk_at dksX0_readOne_6 10 rfl rfl)
theorem dX0_readOne_150 : decode cX0_readOne 150 = .ok (.getfield 264, 3) := dk_180 1 8 (dk_at dksX0_readOne_6 11 rfl rfl)
theorem dX0_readOne_153 : decode cX0_readOne 153 = .ok (.iconst 1, 1) := dk_4 (dk_at dksX0_readOne_6 14 rfl rfl)
theorem dX0_readOne_154 : decode cX0_readOne 154 = .ok (.iadd, 1) := dk_96 (dk_at dksX0_readOne_6 15 rfl rfl)
theorem dX0_readOne_155 : decode cX0_readOne 155 = .ok (.putfield 264, 3) := dk_181 1 8 (dk_at dksX0_readOne_6 16 rfl rfl)
theorem dX0_readOne_158 : decode cX0_readOne 158 = .ok (.iload_n 2, 1) := dk_28 (dk_at dksX0_readOne_6 19 rfl rfl)
theorem dX0_readOne_159 : decode cX0_readOne 159 = .ok (.bipush 40, 2) := dk_16 40 (dk_at dksX0_readOne_6 20 rfl rfl)
theorem dX0_readOne_161 : decode cX0_readOne 161 = .ok (.if_icmp .ne 10, 3) := dk_160 0 10 (dk_at dksX0_readOne_7 0 rfl rfl)
theorem dX0_readOne_164 : decode cX0_readOne 164 = .ok (.aload_n 0, 1) := dk_42 (dk_at dksX0_readOne_7 3 rfl rfl)
theorem dX0_readOne_165 : decode cX0_readOne 165 = .ok (.invokevirtual 267, 3) := dk_182 1 11 (dk_at dksX0_readOne_7 4 rfl rfl)
theorem dX0_readOne_168 : decode cX0_readOne 168 = .ok (.goto 15, 3) := dk_167 0 15 (dk_at dksX0_readOne_7 7 rfl rfl)
theorem dX0_readOne_171 : decode cX0_readOne 171 = .ok (.new 271, 3) := dk_187 1 15 (dk_at dksX0_readOne_7 10 rfl rfl)
theorem dX0_readOne_174 : decode cX0_readOne 174 = .ok (.dup, 1) := dk_89 (dk_at dksX0_readOne_7 13 rfl rfl)
theorem dX0_readOne_175 : decode cX0_readOne 175 = .ok (.iload_n 2, 1) := dk_28 (dk_at dksX0_readOne_7 14 rfl rfl)
theorem dX0_readOne_176 : decode cX0_readOne 176 = .ok (.aload_n 0, 1) := dk_42 (dk_at dksX0_readOne_7 15 rfl rfl)
theorem dX0_readOne_177 : decode cX0_readOne 177 = .ok (.invokevirtual 273, 3) := dk_182 1 17 (dk_at dksX0_readOne_7 16 rfl rfl)
theorem dX0_readOne_180 : decode cX0_readOne 180 = .ok (.invokespecial 276, 3) := dk_183 1 20 (dk_at dksX0_readOne_7 19 rfl rfl)
theorem dX0_readOne_183 : decode cX0_readOne 183 = .ok (.astore_n 3, 1) := dk_78 (dk_at dksX0_readOne_7 22 rfl rfl)
theorem dX0_readOne_184 : decode cX0_readOne 184 = .ok (.iload_n 2, 1) := dk_28 (dk_at dksX0_readOne_7 23 rfl rfl)
theorem dX0_readOne_185 : decode cX0_readOne 185 = .ok (.bipush 40, 2) := dk_16 40 (dk_at dksX0_readOne_8 0 rfl rfl)
theorem dX0_readOne_187 : decode cX0_readOne 187 = .ok (.if_icmp .ne 9, 3) := dk_160 0 9 (dk_at dksX0_readOne_8 2 rfl rfl)
theorem dX0_readOne_190 : decode cX0_readOne 190 = .ok (.aload_n 0, 1) := dk_42 (dk_at dksX0_readOne_8 5 rfl rfl)
theorem dX0_readOne_191 : decode cX0_readOne 191 = .ok (.bipush 41, 2) := dk_16 41 (dk_at dksX0_readOne_8 6 rfl rfl)
theorem dX0_readOne_193 : decode cX0_readOne 193 = .ok (.invokevirtual 279, 3) := dk_182 1 23 (dk_at dksX0_readOne_8 8 rfl rfl)
theorem dX0_readOne_196 : decode cX0_readOne 196 = .ok (.aload_n 0, 1) := dk_42 (dk_at dksX0_readOne_8 11 rfl rfl)
theorem dX0_readOne_197 : decode cX0_readOne 197 = .ok (.dup, 1) := dk_89 (dk_at dksX0_readOne_8 12 rfl rfl)
theorem dX0_readOne_198 : decode cX0_readOne 198 = .ok (.getfield 264, 3) := dk_180 1 8 (dk_at dksX0_readOne_8 13 rfl rfl)
theorem dX0_readOne_201 : decode cX0_readOne 201 = .ok (.iconst 1, 1) := dk_4 (dk_at dksX0_readOne_8 16 rfl rfl)
theorem dX0_readOne_202 : decode cX0_readOne 202 = .ok (.isub, 1) := dk_100 (dk_at dksX0_readOne_8 17 rfl rfl)
theorem dX0_readOne_203 : decode cX0_readOne 203 = .ok (.putfield 264, 3) := dk_181 1 8 (dk_at dksX0_readOne_8 18 rfl rfl)
theorem dX0_readOne_206 : decode cX0_readOne 206 = .ok (.aload_n 3, 1) := dk_45 (dk_at dksX0_readOne_8 21 rfl rfl)
theorem dX0_readOne_207 : decode cX0_readOne 207 = .ok (.areturn, 1) := dk_176 (dk_at dksX0_readOne_8 22 rfl rfl)
abbrev cX0_isDigit : ByteArray := prog_1_method_11_code
def yX0_isDigit : MethodName := ⟨RX0, "isDigit", "()Z"⟩
def dkwX0_isDigit_0 : List UInt8 := [42, 182, 0, 118, 133, 20, 0, 126, 20, 0, 128, 184, 0, 108, 172]
abbrev dktX0_isDigit_0 : List UInt8 := dkwX0_isDigit_0 ++ []
theorem dksX0_isDigit_0 : cX0_isDigit.data.toList.drop 0 = dktX0_isDigit_0 := by decide +kernel
theorem dX0_isDigit_0 : decode cX0_isDigit 0 = .ok (.aload_n 0, 1) := dk_42 (dk_at dksX0_isDigit_0 0 rfl rfl)
theorem dX0_isDigit_1 : decode cX0_isDigit 1 = .ok (.invokevirtual 118, 3) := dk_182 0 118 (dk_at dksX0_isDigit_0 1 rfl rfl)
theorem dX0_isDigit_4 : decode cX0_isDigit 4 = .ok (.i2l, 1) := dk_133 (dk_at dksX0_isDigit_0 4 rfl rfl)
theorem dX0_isDigit_5 : decode cX0_isDigit 5 = .ok (.ldc2_w 126, 3) := dk_20 0 126 (dk_at dksX0_isDigit_0 5 rfl rfl)
theorem dX0_isDigit_8 : decode cX0_isDigit 8 = .ok (.ldc2_w 128, 3) := dk_20 0 128 (dk_at dksX0_isDigit_0 8 rfl rfl)
theorem dX0_isDigit_11 : decode cX0_isDigit 11 = .ok (.invokestatic 108, 3) := dk_184 0 108 (dk_at dksX0_isDigit_0 11 rfl rfl)
theorem dX0_isDigit_14 : decode cX0_isDigit 14 = .ok (.ireturn, 1) := dk_172 (dk_at dksX0_isDigit_0 14 rfl rfl)
abbrev cX0_peek : ByteArray := prog_1_method_8_code
def yX0_peek : MethodName := ⟨RX0, "peek", "()I"⟩
def dkwX0_peek_1 : List UInt8 := [172]
abbrev dktX0_peek_1 : List UInt8 := dkwX0_peek_1 ++ []
def dkwX0_peek_0 : List UInt8 := [42, 180, 0, 115, 42, 180, 0, 112, 162, 0, 15, 42, 180, 0, 37, 42, 180, 0, 115, 46, 167, 0, 4, 2]
abbrev dktX0_peek_0 : List UInt8 := dkwX0_peek_0 ++ dktX0_peek_1
theorem dksX0_peek_0 : cX0_peek.data.toList.drop 0 = dktX0_peek_0 := by decide +kernel
theorem dksX0_peek_1 : cX0_peek.data.toList.drop 24 = dktX0_peek_1 := dk_seg dksX0_peek_0 24 rfl rfl
theorem dX0_peek_0 : decode cX0_peek 0 = .ok (.aload_n 0, 1) := dk_42 (dk_at dksX0_peek_0 0 rfl rfl)
theorem dX0_peek_1 : decode cX0_peek 1 = .ok (.getfield 115, 3) := dk_180 0 115 (dk_at dksX0_peek_0 1 rfl rfl)
theorem dX0_peek_4 : decode cX0_peek 4 = .ok (.aload_n 0, 1) := dk_42 (dk_at dksX0_peek_0 4 rfl rfl)
theorem dX0_peek_5 : decode cX0_peek 5 = .ok (.getfield 112, 3) := dk_180 0 112 (dk_at dksX0_peek_0 5 rfl rfl)
theorem dX0_peek_8 : decode cX0_peek 8 = .ok (.if_icmp .ge 15, 3) := dk_162 0 15 (dk_at dksX0_peek_0 8 rfl rfl)
theorem dX0_peek_11 : decode cX0_peek 11 = .ok (.aload_n 0, 1) := dk_42 (dk_at dksX0_peek_0 11 rfl rfl)
theorem dX0_peek_12 : decode cX0_peek 12 = .ok (.getfield 37, 3) := dk_180 0 37 (dk_at dksX0_peek_0 12 rfl rfl)
theorem dX0_peek_15 : decode cX0_peek 15 = .ok (.aload_n 0, 1) := dk_42 (dk_at dksX0_peek_0 15 rfl rfl)
theorem dX0_peek_16 : decode cX0_peek 16 = .ok (.getfield 115, 3) := dk_180 0 115 (dk_at dksX0_peek_0 16 rfl rfl)
theorem dX0_peek_19 : decode cX0_peek 19 = .ok (.iaload, 1) := dk_46 (dk_at dksX0_peek_0 19 rfl rfl)
theorem dX0_peek_20 : decode cX0_peek 20 = .ok (.goto 4, 3) := dk_167 0 4 (dk_at dksX0_peek_0 20 rfl rfl)
theorem dX0_peek_23 : decode cX0_peek 23 = .ok (.iconst (-1), 1) := dk_2 (dk_at dksX0_peek_0 23 rfl rfl)
theorem dX0_peek_24 : decode cX0_peek 24 = .ok (.ireturn, 1) := dk_172 (dk_at dksX0_peek_1 0 rfl rfl)
abbrev cX0_nameOf : ByteArray := prog_1_method_30_code
def yX0_nameOf : MethodName := ⟨RX0, "nameOf", "(I)I"⟩
def dkwX0_nameOf_2 : List UInt8 := [3, 172, 4, 172, 5, 172, 6, 172, 7, 172, 8, 172, 2, 172]
abbrev dktX0_nameOf_2 : List UInt8 := dkwX0_nameOf_2 ++ []
def dkwX0_nameOf_1 : List UInt8 := [170, 0, 0, 0, 0, 0, 87, 0, 0, 0, 98, 0, 0, 0, 112, 0, 0, 0, 79, 0, 0, 0, 87, 0, 0, 0, 87, 0, 0, 0, 87, 0, 0, 0, 87, 0, 0, 0, 75, 0, 0, 0, 81, 0, 0, 0, 87, 0, 0, 0, 87, 0, 0, 0, 87, 0, 0, 0, 87, 0, 0, 0, 87, 0, 0, 0, 77, 0, 0, 0, 85, 0, 0, 0, 83]
abbrev dktX0_nameOf_1 : List UInt8 := dkwX0_nameOf_1 ++ dktX0_nameOf_2
def dkwX0_nameOf_0 : List UInt8 := [26]
abbrev dktX0_nameOf_0 : List UInt8 := dkwX0_nameOf_0 ++ dktX0_nameOf_1
theorem dksX0_nameOf_0 : cX0_nameOf.data.toList.drop 0 = dktX0_nameOf_0 := by decide +kernel
theorem dksX0_nameOf_1 : cX0_nameOf.data.toList.drop 1 = dktX0_nameOf_1 := dk_seg dksX0_nameOf_0 1 rfl rfl
theorem dksX0_nameOf_2 : cX0_nameOf.data.toList.drop 76 = dktX0_nameOf_2 := dk_seg dksX0_nameOf_1 75 rfl rfl
theorem dX0_nameOf_0 : decode cX0_nameOf 0 = .ok (.iload_n 0, 1) := dk_26 (dk_at dksX0_nameOf_0 0 rfl rfl)
theorem dX0_nameOf_1 : decode cX0_nameOf 1 = .ok (.tableswitch 87 98 112 #[79, 87, 87, 87, 87, 75, 81, 87, 87, 87, 87, 87, 77, 85, 83], 75) := by decide +kernel
theorem dX0_nameOf_76 : decode cX0_nameOf 76 = .ok (.iconst 0, 1) := dk_3 (dk_at dksX0_nameOf_2 0 rfl rfl)
theorem dX0_nameOf_77 : decode cX0_nameOf 77 = .ok (.ireturn, 1) := dk_172 (dk_at dksX0_nameOf_2 1 rfl rfl)
theorem dX0_nameOf_78 : decode cX0_nameOf 78 = .ok (.iconst 1, 1) := dk_4 (dk_at dksX0_nameOf_2 2 rfl rfl)
theorem dX0_nameOf_79 : decode cX0_nameOf 79 = .ok (.ireturn, 1) := dk_172 (dk_at dksX0_nameOf_2 3 rfl rfl)
theorem dX0_nameOf_80 : decode cX0_nameOf 80 = .ok (.iconst 2, 1) := dk_5 (dk_at dksX0_nameOf_2 4 rfl rfl)
theorem dX0_nameOf_81 : decode cX0_nameOf 81 = .ok (.ireturn, 1) := dk_172 (dk_at dksX0_nameOf_2 5 rfl rfl)
theorem dX0_nameOf_82 : decode cX0_nameOf 82 = .ok (.iconst 3, 1) := dk_6 (dk_at dksX0_nameOf_2 6 rfl rfl)
theorem dX0_nameOf_83 : decode cX0_nameOf 83 = .ok (.ireturn, 1) := dk_172 (dk_at dksX0_nameOf_2 7 rfl rfl)
theorem dX0_nameOf_84 : decode cX0_nameOf 84 = .ok (.iconst 4, 1) := dk_7 (dk_at dksX0_nameOf_2 8 rfl rfl)
theorem dX0_nameOf_85 : decode cX0_nameOf 85 = .ok (.ireturn, 1) := dk_172 (dk_at dksX0_nameOf_2 9 rfl rfl)
theorem dX0_nameOf_86 : decode cX0_nameOf 86 = .ok (.iconst 5, 1) := dk_8 (dk_at dksX0_nameOf_2 10 rfl rfl)
theorem dX0_nameOf_87 : decode cX0_nameOf 87 = .ok (.ireturn, 1) := dk_172 (dk_at dksX0_nameOf_2 11 rfl rfl)
theorem dX0_nameOf_88 : decode cX0_nameOf 88 = .ok (.iconst (-1), 1) := dk_2 (dk_at dksX0_nameOf_2 12 rfl rfl)
theorem dX0_nameOf_89 : decode cX0_nameOf 89 = .ok (.ireturn, 1) := dk_172 (dk_at dksX0_nameOf_2 13 rfl rfl)
abbrev cX0_expect : ByteArray := prog_1_method_10_code
def yX0_expect : MethodName := ⟨RX0, "expect", "(I)V"⟩
def dkwX0_expect_0 : List UInt8 := [42, 27, 182, 0, 122, 154, 0, 8, 42, 180, 0, 44, 191, 177]
abbrev dktX0_expect_0 : List UInt8 := dkwX0_expect_0 ++ []
theorem dksX0_expect_0 : cX0_expect.data.toList.drop 0 = dktX0_expect_0 := by decide +kernel
theorem dX0_expect_0 : decode cX0_expect 0 = .ok (.aload_n 0, 1) := dk_42 (dk_at dksX0_expect_0 0 rfl rfl)
theorem dX0_expect_1 : decode cX0_expect 1 = .ok (.iload_n 1, 1) := dk_27 (dk_at dksX0_expect_0 1 rfl rfl)
theorem dX0_expect_2 : decode cX0_expect 2 = .ok (.invokevirtual 122, 3) := dk_182 0 122 (dk_at dksX0_expect_0 2 rfl rfl)
theorem dX0_expect_5 : decode cX0_expect 5 = .ok (.ifCond .ne 8, 3) := dk_154 0 8 (dk_at dksX0_expect_0 5 rfl rfl)
theorem dX0_expect_8 : decode cX0_expect 8 = .ok (.aload_n 0, 1) := dk_42 (dk_at dksX0_expect_0 8 rfl rfl)
theorem dX0_expect_9 : decode cX0_expect 9 = .ok (.getfield 44, 3) := dk_180 0 44 (dk_at dksX0_expect_0 9 rfl rfl)
theorem dX0_expect_12 : decode cX0_expect 12 = .ok (.athrow, 1) := dk_191 (dk_at dksX0_expect_0 12 rfl rfl)
theorem dX0_expect_13 : decode cX0_expect 13 = .ok (.return_, 1) := dk_177 (dk_at dksX0_expect_0 13 rfl rfl)
abbrev cX0_take : ByteArray := prog_1_method_9_code
def yX0_take : MethodName := ⟨RX0, "take", "(I)Z"⟩
def dkwX0_take_0 : List UInt8 := [42, 182, 0, 118, 27, 159, 0, 5, 3, 172, 42, 89, 180, 0, 115, 4, 96, 181, 0, 115, 4, 172]
abbrev dktX0_take_0 : List UInt8 := dkwX0_take_0 ++ []
theorem dksX0_take_0 : cX0_take.data.toList.drop 0 = dktX0_take_0 := by decide +kernel
theorem dX0_take_0 : decode cX0_take 0 = .ok (.aload_n 0, 1) := dk_42 (dk_at dksX0_take_0 0 rfl rfl)
theorem dX0_take_1 : decode cX0_take 1 = .ok (.invokevirtual 118, 3) := dk_182 0 118 (dk_at dksX0_take_0 1 rfl rfl)
theorem dX0_take_4 : decode cX0_take 4 = .ok (.iload_n 1, 1) := dk_27 (dk_at dksX0_take_0 4 rfl rfl)
theorem dX0_take_5 : decode cX0_take 5 = .ok (.if_icmp .eq 5, 3) := dk_159 0 5 (dk_at dksX0_take_0 5 rfl rfl)
theorem dX0_take_8 : decode cX0_take 8 = .ok (.iconst 0, 1) := dk_3 (dk_at dksX0_take_0 8 rfl rfl)
theorem dX0_take_9 : decode cX0_take 9 = .ok (.ireturn, 1) := dk_172 (dk_at dksX0_take_0 9 rfl rfl)
theorem dX0_take_10 : decode cX0_take 10 = .ok (.aload_n 0, 1) := dk_42 (dk_at dksX0_take_0 10 rfl rfl)
theorem dX0_take_11 : decode cX0_take 11 = .ok (.dup, 1) := dk_89 (dk_at dksX0_take_0 11 rfl rfl)
theorem dX0_take_12 : decode cX0_take 12 = .ok (.getfield 115, 3) := dk_180 0 115 (dk_at dksX0_take_0 12 rfl rfl)
theorem dX0_take_15 : decode cX0_take 15 = .ok (.iconst 1, 1) := dk_4 (dk_at dksX0_take_0 15 rfl rfl)
theorem dX0_take_16 : decode cX0_take 16 = .ok (.iadd, 1) := dk_96 (dk_at dksX0_take_0 16 rfl rfl)
theorem dX0_take_17 : decode cX0_take 17 = .ok (.putfield 115, 3) := dk_181 0 115 (dk_at dksX0_take_0 17 rfl rfl)
theorem dX0_take_20 : decode cX0_take 20 = .ok (.iconst 1, 1) := dk_4 (dk_at dksX0_take_0 20 rfl rfl)
theorem dX0_take_21 : decode cX0_take 21 = .ok (.ireturn, 1) := dk_172 (dk_at dksX0_take_0 21 rfl rfl)
abbrev cX0_go : ByteArray := prog_1_method_50_code
def yX0_go : MethodName := ⟨RX0, "go", "(II)I"⟩
def dkwX0_go_3 : List UInt8 := [167, 255, 224, 29, 172]
abbrev dktX0_go_3 : List UInt8 := dkwX0_go_3 ++ []
def dkwX0_go_2 : List UInt8 := [42, 180, 0, 51, 42, 89, 180, 0, 215, 90, 4, 96, 181, 0, 215, 4, 182, 1, 117, 96, 62, 132, 4, 1]
abbrev dktX0_go_2 : List UInt8 := dkwX0_go_2 ++ dktX0_go_3
def dkwX0_go_1 : List UInt8 := [164, 0, 6, 16, 251, 172, 42, 27, 181, 1, 93, 3, 62, 3, 54, 4, 21, 4, 28, 162, 0, 32, 29, 42]
abbrev dktX0_go_1 : List UInt8 := dkwX0_go_1 ++ dktX0_go_2
def dkwX0_go_0 : List UInt8 := [28, 133, 10, 20, 1, 115, 184, 0, 108, 154, 0, 5, 2, 172, 42, 180, 0, 215, 28, 96, 16, 24]
abbrev dktX0_go_0 : List UInt8 := dkwX0_go_0 ++ dktX0_go_1
theorem dksX0_go_0 : cX0_go.data.toList.drop 0 = dktX0_go_0 := by decide +kernel
theorem dksX0_go_1 : cX0_go.data.toList.drop 22 = dktX0_go_1 := dk_seg dksX0_go_0 22 rfl rfl
theorem dksX0_go_2 : cX0_go.data.toList.drop 46 = dktX0_go_2 := dk_seg dksX0_go_1 24 rfl rfl
theorem dksX0_go_3 : cX0_go.data.toList.drop 70 = dktX0_go_3 := dk_seg dksX0_go_2 24 rfl rfl
theorem dX0_go_0 : decode cX0_go 0 = .ok (.iload_n 2, 1) := dk_28 (dk_at dksX0_go_0 0 rfl rfl)
theorem dX0_go_1 : decode cX0_go 1 = .ok (.i2l, 1) := dk_133 (dk_at dksX0_go_0 1 rfl rfl)
theorem dX0_go_2 : decode cX0_go 2 = .ok (.lconst 1, 1) := dk_10 (dk_at dksX0_go_0 2 rfl rfl)
theorem dX0_go_3 : decode cX0_go 3 = .ok (.ldc2_w 371, 3) := dk_20 1 115 (dk_at dksX0_go_0 3 rfl rfl)
theorem dX0_go_6 : decode cX0_go 6 = .ok (.invokestatic 108, 3) := dk_184 0 108 (dk_at dksX0_go_0 6 rfl rfl)
theorem dX0_go_9 : decode cX0_go 9 = .ok (.ifCond .ne 5, 3) := dk_154 0 5 (dk_at dksX0_go_0 9 rfl rfl)
theorem dX0_go_12 : decode cX0_go 12 = .ok (.iconst (-1), 1) := dk_2 (dk_at dksX0_go_0 12 rfl rfl)
theorem dX0_go_13 : decode cX0_go 13 = .ok (.ireturn, 1) := dk_172 (dk_at dksX0_go_0 13 rfl rfl)
theorem dX0_go_14 : decode cX0_go 14 = .ok (.aload_n 0, 1) := dk_42 (dk_at dksX0_go_0 14 rfl rfl)
theorem dX0_go_15 : decode cX0_go 15 = .ok (.getfield 215, 3) := dk_180 0 215 (dk_at dksX0_go_0 15 rfl rfl)
theorem dX0_go_18 : decode cX0_go 18 = .ok (.iload_n 2, 1) := dk_28 (dk_at dksX0_go_0 18 rfl rfl)
theorem dX0_go_19 : decode cX0_go 19 = .ok (.iadd, 1) := dk_96 (dk_at dksX0_go_0 19 rfl rfl)
theorem dX0_go_20 : decode cX0_go 20 = .ok (.bipush 24, 2) := dk_16 24 (dk_at dksX0_go_0 20 rfl rfl)
theorem dX0_go_22 : decode cX0_go 22 = .ok (.if_icmp .le 6, 3) := dk_164 0 6 (dk_at dksX0_go_1 0 rfl rfl)
theorem dX0_go_25 : decode cX0_go 25 = .ok (.bipush (-5), 2) := dk_16 251 (dk_at dksX0_go_1 3 rfl rfl)
theorem dX0_go_27 : decode cX0_go 27 = .ok (.ireturn, 1) := dk_172 (dk_at dksX0_go_1 5 rfl rfl)
theorem dX0_go_28 : decode cX0_go 28 = .ok (.aload_n 0, 1) := dk_42 (dk_at dksX0_go_1 6 rfl rfl)
theorem dX0_go_29 : decode cX0_go 29 = .ok (.iload_n 1, 1) := dk_27 (dk_at dksX0_go_1 7 rfl rfl)
theorem dX0_go_30 : decode cX0_go 30 = .ok (.putfield 349, 3) := dk_181 1 93 (dk_at dksX0_go_1 8 rfl rfl)
theorem dX0_go_33 : decode cX0_go 33 = .ok (.iconst 0, 1) := dk_3 (dk_at dksX0_go_1 11 rfl rfl)
theorem dX0_go_34 : decode cX0_go 34 = .ok (.istore_n 3, 1) := dk_62 (dk_at dksX0_go_1 12 rfl rfl)
theorem dX0_go_35 : decode cX0_go 35 = .ok (.iconst 0, 1) := dk_3 (dk_at dksX0_go_1 13 rfl rfl)
theorem dX0_go_36 : decode cX0_go 36 = .ok (.istore 4, 2) := dk_54 4 (dk_at dksX0_go_1 14 rfl rfl)
theorem dX0_go_38 : decode cX0_go 38 = .ok (.iload 4, 2) := dk_21 4 (dk_at dksX0_go_1 16 rfl rfl)
theorem dX0_go_40 : decode cX0_go 40 = .ok (.iload_n 2, 1) := dk_28 (dk_at dksX0_go_1 18 rfl rfl)
theorem dX0_go_41 : decode cX0_go 41 = .ok (.if_icmp .ge 32, 3) := dk_162 0 32 (dk_at dksX0_go_1 19 rfl rfl)
theorem dX0_go_44 : decode cX0_go 44 = .ok (.iload_n 3, 1) := dk_29 (dk_at dksX0_go_1 22 rfl rfl)
theorem dX0_go_45 : decode cX0_go 45 = .ok (.aload_n 0, 1) := dk_42 (dk_at dksX0_go_1 23 rfl rfl)
theorem dX0_go_46 : decode cX0_go 46 = .ok (.aload_n 0, 1) := dk_42 (dk_at dksX0_go_2 0 rfl rfl)
theorem dX0_go_47 : decode cX0_go 47 = .ok (.getfield 51, 3) := dk_180 0 51 (dk_at dksX0_go_2 1 rfl rfl)
theorem dX0_go_50 : decode cX0_go 50 = .ok (.aload_n 0, 1) := dk_42 (dk_at dksX0_go_2 4 rfl rfl)
theorem dX0_go_51 : decode cX0_go 51 = .ok (.dup, 1) := dk_89 (dk_at dksX0_go_2 5 rfl rfl)
theorem dX0_go_52 : decode cX0_go 52 = .ok (.getfield 215, 3) := dk_180 0 215 (dk_at dksX0_go_2 6 rfl rfl)
theorem dX0_go_55 : decode cX0_go 55 = .ok (.dup_x1, 1) := dk_90 (dk_at dksX0_go_2 9 rfl rfl)
theorem dX0_go_56 : decode cX0_go 56 = .ok (.iconst 1, 1) := dk_4 (dk_at dksX0_go_2 10 rfl rfl)
theorem dX0_go_57 : decode cX0_go 57 = .ok (.iadd, 1) := dk_96 (dk_at dksX0_go_2 11 rfl rfl)
theorem dX0_go_58 : decode cX0_go 58 = .ok (.putfield 215, 3) := dk_181 0 215 (dk_at dksX0_go_2 12 rfl rfl)
theorem dX0_go_61 : decode cX0_go 61 = .ok (.iconst 1, 1) := dk_4 (dk_at dksX0_go_2 15 rfl rfl)
theorem dX0_go_62 : decode cX0_go 62 = .ok (.invokevirtual 373, 3) := dk_182 1 117 (dk_at dksX0_go_2 16 rfl rfl)
theorem dX0_go_65 : decode cX0_go 65 = .ok (.iadd, 1) := dk_96 (dk_at dksX0_go_2 19 rfl rfl)
theorem dX0_go_66 : decode cX0_go 66 = .ok (.istore_n 3, 1) := dk_62 (dk_at dksX0_go_2 20 rfl rfl)
theorem dX0_go_67 : decode cX0_go 67 = .ok (.iinc 4 1, 3) := dk_132 4 1 (dk_at dksX0_go_2 21 rfl rfl)
theorem dX0_go_70 : decode cX0_go 70 = .ok (.goto (-32), 3) := dk_167 255 224 (dk_at dksX0_go_3 0 rfl rfl)
theorem dX0_go_73 : decode cX0_go 73 = .ok (.iload_n 3, 1) := dk_29 (dk_at dksX0_go_3 3 rfl rfl)
theorem dX0_go_74 : decode cX0_go 74 = .ok (.ireturn, 1) := dk_172 (dk_at dksX0_go_3 4 rfl rfl)
abbrev cX0_goHour : ByteArray := prog_1_method_49_code
def yX0_goHour : MethodName := ⟨RX0, "goHour", "(LHatRank$Town;IZ)I"⟩
def dkwX0_goHour_4 : List UInt8 := [21, 7, 181, 1, 112, 132, 5, 1, 167, 255, 167, 21, 4, 172]
abbrev dktX0_goHour_4 : List UInt8 := dkwX0_goHour_4 ++ []
def dkwX0_goHour_3 : List UInt8 := [54, 7, 21, 4, 21, 6, 184, 0, 207, 96, 54, 4, 29, 153, 0, 15, 42, 180, 0, 63, 21, 5, 50]
abbrev dktX0_goHour_3 : List UInt8 := dkwX0_goHour_3 ++ dktX0_goHour_4
def dkwX0_goHour_2 : List UInt8 := [167, 0, 4, 3, 54, 6, 21, 6, 153, 0, 13, 42, 43, 21, 5, 182, 1, 108, 167, 0, 5, 21, 5]
abbrev dktX0_goHour_2 : List UInt8 := dkwX0_goHour_2 ++ dktX0_goHour_3
def dkwX0_goHour_1 : List UInt8 := [21, 5, 46, 158, 0, 22, 42, 182, 1, 105, 42, 43, 21, 5, 28, 182, 0, 218, 162, 0, 7, 4]
abbrev dktX0_goHour_1 : List UInt8 := dkwX0_goHour_1 ++ dktX0_goHour_2
def dkwX0_goHour_0 : List UInt8 := [42, 43, 182, 1, 101, 3, 54, 4, 3, 54, 5, 21, 5, 42, 180, 0, 133, 162, 0, 86, 43, 180, 0, 161]
abbrev dktX0_goHour_0 : List UInt8 := dkwX0_goHour_0 ++ dktX0_goHour_1
theorem dksX0_goHour_0 : cX0_goHour.data.toList.drop 0 = dktX0_goHour_0 := by decide +kernel
theorem dksX0_goHour_1 : cX0_goHour.data.toList.drop 24 = dktX0_goHour_1 := dk_seg dksX0_goHour_0 24 rfl rfl
theorem dksX0_goHour_2 : cX0_goHour.data.toList.drop 46 = dktX0_goHour_2 := dk_seg dksX0_goHour_1 22 rfl rfl
theorem dksX0_goHour_3 : cX0_goHour.data.toList.drop 69 = dktX0_goHour_3 := dk_seg dksX0_goHour_2 23 rfl rfl
theorem dksX0_goHour_4 : cX0_goHour.data.toList.drop 92 = dktX0_goHour_4 := dk_seg dksX0_goHour_3 23 rfl rfl
theorem dX0_goHour_0 : decode cX0_goHour 0 = .ok (.aload_n 0, 1) := dk_42 (dk_at dksX0_goHour_0 0 rfl rfl)
theorem dX0_goHour_1 : decode cX0_goHour 1 = .ok (.aload_n 1, 1) := dk_43 (dk_at dksX0_goHour_0 1 rfl rfl)
theorem dX0_goHour_2 : decode cX0_goHour 2 = .ok (.invokevirtual 357, 3) := dk_182 1 101 (dk_at dksX0_goHour_0 2 rfl rfl)
theorem dX0_goHour_5 : decode cX0_goHour 5 = .ok (.iconst 0, 1) := dk_3 (dk_at dksX0_goHour_0 5 rfl rfl)
theorem dX0_goHour_6 : decode cX0_goHour 6 = .ok (.istore 4, 2) := dk_54 4 (dk_at dksX0_goHour_0 6 rfl rfl)
theorem dX0_goHour_8 : decode cX0_goHour 8 = .ok (.iconst 0, 1) := dk_3 (dk_at dksX0_goHour_0 8 rfl rfl)
theorem dX0_goHour_9 : decode cX0_goHour 9 = .ok (.istore 5, 2) := dk_54 5 (dk_at dksX0_goHour_0 9 rfl rfl)
theorem dX0_goHour_11 : decode cX0_goHour 11 = .ok (.iload 5, 2) := dk_21 5 (dk_at dksX0_goHour_0 11 rfl rfl)
theorem dX0_goHour_13 : decode cX0_goHour 13 = .ok (.aload_n 0, 1) := dk_42 (dk_at dksX0_goHour_0 13 rfl rfl)
theorem dX0_goHour_14 : decode cX0_goHour 14 = .ok (.getfield 133, 3) := dk_180 0 133 (dk_at dksX0_goHour_0 14 rfl rfl)
theorem dX0_goHour_17 : decode cX0_goHour 17 = .ok (.if_icmp .ge 86, 3) := dk_162 0 86 (dk_at dksX0_goHour_0 17 rfl rfl)
theorem dX0_goHour_20 : decode cX0_goHour 20 = .ok (.aload_n 1, 1) := dk_43 (dk_at dksX0_goHour_0 20 rfl rfl)
theorem dX0_goHour_21 : decode cX0_goHour 21 = .ok (.getfield 161, 3) := dk_180 0 161 (dk_at dksX0_goHour_0 21 rfl rfl)
theorem dX0_goHour_24 : decode cX0_goHour 24 = .ok (.iload 5, 2) := dk_21 5 (dk_at dksX0_goHour_1 0 rfl rfl)
theorem dX0_goHour_26 : decode cX0_goHour 26 = .ok (.iaload, 1) := dk_46 (dk_at dksX0_goHour_1 2 rfl rfl)
theorem dX0_goHour_27 : decode cX0_goHour 27 = .ok (.ifCond .le 22, 3) := dk_158 0 22 (dk_at dksX0_goHour_1 3 rfl rfl)
theorem dX0_goHour_30 : decode cX0_goHour 30 = .ok (.aload_n 0, 1) := dk_42 (dk_at dksX0_goHour_1 6 rfl rfl)
theorem dX0_goHour_31 : decode cX0_goHour 31 = .ok (.invokevirtual 361, 3) := dk_182 1 105 (dk_at dksX0_goHour_1 7 rfl rfl)
theorem dX0_goHour_34 : decode cX0_goHour 34 = .ok (.aload_n 0, 1) := dk_42 (dk_at dksX0_goHour_1 10 rfl rfl)
theorem dX0_goHour_35 : decode cX0_goHour 35 = .ok (.aload_n 1, 1) := dk_43 (dk_at dksX0_goHour_1 11 rfl rfl)
theorem dX0_goHour_36 : decode cX0_goHour 36 = .ok (.iload 5, 2) := dk_21 5 (dk_at dksX0_goHour_1 12 rfl rfl)
theorem dX0_goHour_38 : decode cX0_goHour 38 = .ok (.iload_n 2, 1) := dk_28 (dk_at dksX0_goHour_1 14 rfl rfl)
theorem dX0_goHour_39 : decode cX0_goHour 39 = .ok (.invokevirtual 218, 3) := dk_182 0 218 (dk_at dksX0_goHour_1 15 rfl rfl)
theorem dX0_goHour_42 : decode cX0_goHour 42 = .ok (.if_icmp .ge 7, 3) := dk_162 0 7 (dk_at dksX0_goHour_1 18 rfl rfl)
theorem dX0_goHour_45 : decode cX0_goHour 45 = .ok (.iconst 1, 1) := dk_4 (dk_at dksX0_goHour_1 21 rfl rfl)
theorem dX0_goHour_46 : decode cX0_goHour 46 = .ok (.goto 4, 3) := dk_167 0 4 (dk_at dksX0_goHour_2 0 rfl rfl)
theorem dX0_goHour_49 : decode cX0_goHour 49 = .ok (.iconst 0, 1) := dk_3 (dk_at dksX0_goHour_2 3 rfl rfl)
theorem dX0_goHour_50 : decode cX0_goHour 50 = .ok (.istore 6, 2) := dk_54 6 (dk_at dksX0_goHour_2 4 rfl rfl)
theorem dX0_goHour_52 : decode cX0_goHour 52 = .ok (.iload 6, 2) := dk_21 6 (dk_at dksX0_goHour_2 6 rfl rfl)
theorem dX0_goHour_54 : decode cX0_goHour 54 = .ok (.ifCond .eq 13, 3) := dk_153 0 13 (dk_at dksX0_goHour_2 8 rfl rfl)
theorem dX0_goHour_57 : decode cX0_goHour 57 = .ok (.aload_n 0, 1) := dk_42 (dk_at dksX0_goHour_2 11 rfl rfl)
theorem dX0_goHour_58 : decode cX0_goHour 58 = .ok (.aload_n 1, 1) := dk_43 (dk_at dksX0_goHour_2 12 rfl rfl)
theorem dX0_goHour_59 : decode cX0_goHour 59 = .ok (.iload 5, 2) := dk_21 5 (dk_at dksX0_goHour_2 13 rfl rfl)
theorem dX0_goHour_61 : decode cX0_goHour 61 = .ok (.invokevirtual 364, 3) := dk_182 1 108 (dk_at dksX0_goHour_2 15 rfl rfl)
theorem dX0_goHour_64 : decode cX0_goHour 64 = .ok (.goto 5, 3) := dk_167 0 5 (dk_at dksX0_goHour_2 18 rfl rfl)
theorem dX0_goHour_67 : decode cX0_goHour 67 = .ok (.iload 5, 2) := dk_21 5 (dk_at dksX0_goHour_2 21 rfl rfl)
theorem dX0_goHour_69 : decode cX0_goHour 69 = .ok (.istore 7, 2) := dk_54 7 (dk_at dksX0_goHour_3 0 rfl rfl)
theorem dX0_goHour_71 : decode cX0_goHour 71 = .ok (.iload 4, 2) := dk_21 4 (dk_at dksX0_goHour_3 2 rfl rfl)
theorem dX0_goHour_73 : decode cX0_goHour 73 = .ok (.iload 6, 2) := dk_21 6 (dk_at dksX0_goHour_3 4 rfl rfl)
theorem dX0_goHour_75 : decode cX0_goHour 75 = .ok (.invokestatic 207, 3) := dk_184 0 207 (dk_at dksX0_goHour_3 6 rfl rfl)
theorem dX0_goHour_78 : decode cX0_goHour 78 = .ok (.iadd, 1) := dk_96 (dk_at dksX0_goHour_3 9 rfl rfl)
theorem dX0_goHour_79 : decode cX0_goHour 79 = .ok (.istore 4, 2) := dk_54 4 (dk_at dksX0_goHour_3 10 rfl rfl)
theorem dX0_goHour_81 : decode cX0_goHour 81 = .ok (.iload_n 3, 1) := dk_29 (dk_at dksX0_goHour_3 12 rfl rfl)
theorem dX0_goHour_82 : decode cX0_goHour 82 = .ok (.ifCond .eq 15, 3) := dk_153 0 15 (dk_at dksX0_goHour_3 13 rfl rfl)
theorem dX0_goHour_85 : decode cX0_goHour 85 = .ok (.aload_n 0, 1) := dk_42 (dk_at dksX0_goHour_3 16 rfl rfl)
theorem dX0_goHour_86 : decode cX0_goHour 86 = .ok (.getfield 63, 3) := dk_180 0 63 (dk_at dksX0_goHour_3 17 rfl rfl)
theorem dX0_goHour_89 : decode cX0_goHour 89 = .ok (.iload 5, 2) := dk_21 5 (dk_at dksX0_goHour_3 20 rfl rfl)
theorem dX0_goHour_91 : decode cX0_goHour 91 = .ok (.aaload, 1) := dk_50 (dk_at dksX0_goHour_3 22 rfl rfl)
theorem dX0_goHour_92 : decode cX0_goHour 92 = .ok (.iload 7, 2) := dk_21 7 (dk_at dksX0_goHour_4 0 rfl rfl)
theorem dX0_goHour_94 : decode cX0_goHour 94 = .ok (.putfield 368, 3) := dk_181 1 112 (dk_at dksX0_goHour_4 2 rfl rfl)
theorem dX0_goHour_97 : decode cX0_goHour 97 = .ok (.iinc 5 1, 3) := dk_132 5 1 (dk_at dksX0_goHour_4 5 rfl rfl)
theorem dX0_goHour_100 : decode cX0_goHour 100 = .ok (.goto (-89), 3) := dk_167 255 167 (dk_at dksX0_goHour_4 8 rfl rfl)
theorem dX0_goHour_103 : decode cX0_goHour 103 = .ok (.iload 4, 2) := dk_21 4 (dk_at dksX0_goHour_4 11 rfl rfl)
theorem dX0_goHour_105 : decode cX0_goHour 105 = .ok (.ireturn, 1) := dk_172 (dk_at dksX0_goHour_4 13 rfl rfl)
abbrev cX0_takeUp : ByteArray := prog_1_method_46_code
def yX0_takeUp : MethodName := ⟨RX0, "takeUp", "(LHatRank$Town;)V"⟩
def dkwX0_takeUp_2 : List UInt8 := [28, 46, 92, 46, 4, 100, 79, 43, 180, 0, 161, 28, 92, 46, 4, 96, 79, 132, 2, 1, 167, 255, 192, 177]
abbrev dktX0_takeUp_2 : List UInt8 := dkwX0_takeUp_2 ++ []
def dkwX0_takeUp_1 : List UInt8 := [180, 0, 228, 43, 180, 0, 164, 28, 46, 46, 154, 0, 6, 167, 0, 28, 43, 180, 0, 228, 43, 180, 0, 164]
abbrev dktX0_takeUp_1 : List UInt8 := dkwX0_takeUp_1 ++ dktX0_takeUp_2
def dkwX0_takeUp_0 : List UInt8 := [3, 61, 28, 42, 180, 0, 133, 162, 0, 62, 43, 180, 0, 161, 28, 46, 16, 9, 159, 0, 45, 43]
abbrev dktX0_takeUp_0 : List UInt8 := dkwX0_takeUp_0 ++ dktX0_takeUp_1
theorem dksX0_takeUp_0 : cX0_takeUp.data.toList.drop 0 = dktX0_takeUp_0 := by decide +kernel
theorem dksX0_takeUp_1 : cX0_takeUp.data.toList.drop 22 = dktX0_takeUp_1 := dk_seg dksX0_takeUp_0 22 rfl rfl
theorem dksX0_takeUp_2 : cX0_takeUp.data.toList.drop 46 = dktX0_takeUp_2 := dk_seg dksX0_takeUp_1 24 rfl rfl
theorem dX0_takeUp_0 : decode cX0_takeUp 0 = .ok (.iconst 0, 1) := dk_3 (dk_at dksX0_takeUp_0 0 rfl rfl)
theorem dX0_takeUp_1 : decode cX0_takeUp 1 = .ok (.istore_n 2, 1) := dk_61 (dk_at dksX0_takeUp_0 1 rfl rfl)
theorem dX0_takeUp_2 : decode cX0_takeUp 2 = .ok (.iload_n 2, 1) := dk_28 (dk_at dksX0_takeUp_0 2 rfl rfl)
theorem dX0_takeUp_3 : decode cX0_takeUp 3 = .ok (.aload_n 0, 1) := dk_42 (dk_at dksX0_takeUp_0 3 rfl rfl)
theorem dX0_takeUp_4 : decode cX0_takeUp 4 = .ok (.getfield 133, 3) := dk_180 0 133 (dk_at dksX0_takeUp_0 4 rfl rfl)
theorem dX0_takeUp_7 : decode cX0_takeUp 7 = .ok (.if_icmp .ge 62, 3) := dk_162 0 62 (dk_at dksX0_takeUp_0 7 rfl rfl)
theorem dX0_takeUp_10 : decode cX0_takeUp 10 = .ok (.aload_n 1, 1) := dk_43 (dk_at dksX0_takeUp_0 10 rfl rfl)
theorem dX0_takeUp_11 : decode cX0_takeUp 11 = .ok (.getfield 161, 3) := dk_180 0 161 (dk_at dksX0_takeUp_0 11 rfl rfl)
theorem dX0_takeUp_14 : decode cX0_takeUp 14 = .ok (.iload_n 2, 1) := dk_28 (dk_at dksX0_takeUp_0 14 rfl rfl)
theorem dX0_takeUp_15 : decode cX0_takeUp 15 = .ok (.iaload, 1) := dk_46 (dk_at dksX0_takeUp_0 15 rfl rfl)
theorem dX0_takeUp_16 : decode cX0_takeUp 16 = .ok (.bipush 9, 2) := dk_16 9 (dk_at dksX0_takeUp_0 16 rfl rfl)
theorem dX0_takeUp_18 : decode cX0_takeUp 18 = .ok (.if_icmp .eq 45, 3) := dk_159 0 45 (dk_at dksX0_takeUp_0 18 rfl rfl)
theorem dX0_takeUp_21 : decode cX0_takeUp 21 = .ok (.aload_n 1, 1) := dk_43 (dk_at dksX0_takeUp_0 21 rfl rfl)
theorem dX0_takeUp_22 : decode cX0_takeUp 22 = .ok (.getfield 228, 3) := dk_180 0 228 (dk_at dksX0_takeUp_1 0 rfl rfl)
theorem dX0_takeUp_25 : decode cX0_takeUp 25 = .ok (.aload_n 1, 1) := dk_43 (dk_at dksX0_takeUp_1 3 rfl rfl)
theorem dX0_takeUp_26 : decode cX0_takeUp 26 = .ok (.getfield 164, 3) := dk_180 0 164 (dk_at dksX0_takeUp_1 4 rfl rfl)
theorem dX0_takeUp_29 : decode cX0_takeUp 29 = .ok (.iload_n 2, 1) := dk_28 (dk_at dksX0_takeUp_1 7 rfl rfl)
theorem dX0_takeUp_30 : decode cX0_takeUp 30 = .ok (.iaload, 1) := dk_46 (dk_at dksX0_takeUp_1 8 rfl rfl)
theorem dX0_takeUp_31 : decode cX0_takeUp 31 = .ok (.iaload, 1) := dk_46 (dk_at dksX0_takeUp_1 9 rfl rfl)
theorem dX0_takeUp_32 : decode cX0_takeUp 32 = .ok (.ifCond .ne 6, 3) := dk_154 0 6 (dk_at dksX0_takeUp_1 10 rfl rfl)
theorem dX0_takeUp_35 : decode cX0_takeUp 35 = .ok (.goto 28, 3) := dk_167 0 28 (dk_at dksX0_takeUp_1 13 rfl rfl)
theorem dX0_takeUp_38 : decode cX0_takeUp 38 = .ok (.aload_n 1, 1) := dk_43 (dk_at dksX0_takeUp_1 16 rfl rfl)
theorem dX0_takeUp_39 : decode cX0_takeUp 39 = .ok (.getfield 228, 3) := dk_180 0 228 (dk_at dksX0_takeUp_1 17 rfl rfl)
theorem dX0_takeUp_42 : decode cX0_takeUp 42 = .ok (.aload_n 1, 1) := dk_43 (dk_at dksX0_takeUp_1 20 rfl rfl)
theorem dX0_takeUp_43 : decode cX0_takeUp 43 = .ok (.getfield 164, 3) := dk_180 0 164 (dk_at dksX0_takeUp_1 21 rfl rfl)
theorem dX0_takeUp_46 : decode cX0_takeUp 46 = .ok (.iload_n 2, 1) := dk_28 (dk_at dksX0_takeUp_2 0 rfl rfl)
theorem dX0_takeUp_47 : decode cX0_takeUp 47 = .ok (.iaload, 1) := dk_46 (dk_at dksX0_takeUp_2 1 rfl rfl)
theorem dX0_takeUp_48 : decode cX0_takeUp 48 = .ok (.dup2, 1) := dk_92 (dk_at dksX0_takeUp_2 2 rfl rfl)
theorem dX0_takeUp_49 : decode cX0_takeUp 49 = .ok (.iaload, 1) := dk_46 (dk_at dksX0_takeUp_2 3 rfl rfl)
theorem dX0_takeUp_50 : decode cX0_takeUp 50 = .ok (.iconst 1, 1) := dk_4 (dk_at dksX0_takeUp_2 4 rfl rfl)
theorem dX0_takeUp_51 : decode cX0_takeUp 51 = .ok (.isub, 1) := dk_100 (dk_at dksX0_takeUp_2 5 rfl rfl)
theorem dX0_takeUp_52 : decode cX0_takeUp 52 = .ok (.iastore, 1) := dk_79 (dk_at dksX0_takeUp_2 6 rfl rfl)
theorem dX0_takeUp_53 : decode cX0_takeUp 53 = .ok (.aload_n 1, 1) := dk_43 (dk_at dksX0_takeUp_2 7 rfl rfl)
theorem dX0_takeUp_54 : decode cX0_takeUp 54 = .ok (.getfield 161, 3) := dk_180 0 161 (dk_at dksX0_takeUp_2 8 rfl rfl)
theorem dX0_takeUp_57 : decode cX0_takeUp 57 = .ok (.iload_n 2, 1) := dk_28 (dk_at dksX0_takeUp_2 11 rfl rfl)
theorem dX0_takeUp_58 : decode cX0_takeUp 58 = .ok (.dup2, 1) := dk_92 (dk_at dksX0_takeUp_2 12 rfl rfl)
theorem dX0_takeUp_59 : decode cX0_takeUp 59 = .ok (.iaload, 1) := dk_46 (dk_at dksX0_takeUp_2 13 rfl rfl)
theorem dX0_takeUp_60 : decode cX0_takeUp 60 = .ok (.iconst 1, 1) := dk_4 (dk_at dksX0_takeUp_2 14 rfl rfl)
theorem dX0_takeUp_61 : decode cX0_takeUp 61 = .ok (.iadd, 1) := dk_96 (dk_at dksX0_takeUp_2 15 rfl rfl)
theorem dX0_takeUp_62 : decode cX0_takeUp 62 = .ok (.iastore, 1) := dk_79 (dk_at dksX0_takeUp_2 16 rfl rfl)
theorem dX0_takeUp_63 : decode cX0_takeUp 63 = .ok (.iinc 2 1, 3) := dk_132 2 1 (dk_at dksX0_takeUp_2 17 rfl rfl)
theorem dX0_takeUp_66 : decode cX0_takeUp 66 = .ok (.goto (-64), 3) := dk_167 255 192 (dk_at dksX0_takeUp_2 20 rfl rfl)
theorem dX0_takeUp_69 : decode cX0_takeUp 69 = .ok (.return_, 1) := dk_177 (dk_at dksX0_takeUp_2 23 rfl rfl)
abbrev cX0_draw : ByteArray := prog_1_method_45_code
def yX0_draw : MethodName := ⟨RX0, "draw", "()I"⟩
def dkwX0_draw_1 : List UInt8 := [16, 12, 112, 172]
abbrev dktX0_draw_1 : List UInt8 := dkwX0_draw_1 ++ []
def dkwX0_draw_0 : List UInt8 := [42, 42, 180, 1, 93, 19, 1, 96, 104, 17, 48, 57, 96, 181, 1, 93, 42, 180, 1, 93, 16, 8, 124]
abbrev dktX0_draw_0 : List UInt8 := dkwX0_draw_0 ++ dktX0_draw_1
theorem dksX0_draw_0 : cX0_draw.data.toList.drop 0 = dktX0_draw_0 := by decide +kernel
theorem dksX0_draw_1 : cX0_draw.data.toList.drop 23 = dktX0_draw_1 := dk_seg dksX0_draw_0 23 rfl rfl
theorem dX0_draw_0 : decode cX0_draw 0 = .ok (.aload_n 0, 1) := dk_42 (dk_at dksX0_draw_0 0 rfl rfl)
theorem dX0_draw_1 : decode cX0_draw 1 = .ok (.aload_n 0, 1) := dk_42 (dk_at dksX0_draw_0 1 rfl rfl)
theorem dX0_draw_2 : decode cX0_draw 2 = .ok (.getfield 349, 3) := dk_180 1 93 (dk_at dksX0_draw_0 2 rfl rfl)
theorem dX0_draw_5 : decode cX0_draw 5 = .ok (.ldc_w 352, 3) := dk_19 1 96 (dk_at dksX0_draw_0 5 rfl rfl)
theorem dX0_draw_8 : decode cX0_draw 8 = .ok (.imul, 1) := dk_104 (dk_at dksX0_draw_0 8 rfl rfl)
theorem dX0_draw_9 : decode cX0_draw 9 = .ok (.sipush 12345, 3) := dk_17 48 57 (dk_at dksX0_draw_0 9 rfl rfl)
theorem dX0_draw_12 : decode cX0_draw 12 = .ok (.iadd, 1) := dk_96 (dk_at dksX0_draw_0 12 rfl rfl)
theorem dX0_draw_13 : decode cX0_draw 13 = .ok (.putfield 349, 3) := dk_181 1 93 (dk_at dksX0_draw_0 13 rfl rfl)
theorem dX0_draw_16 : decode cX0_draw 16 = .ok (.aload_n 0, 1) := dk_42 (dk_at dksX0_draw_0 16 rfl rfl)
theorem dX0_draw_17 : decode cX0_draw 17 = .ok (.getfield 349, 3) := dk_180 1 93 (dk_at dksX0_draw_0 17 rfl rfl)
theorem dX0_draw_20 : decode cX0_draw 20 = .ok (.bipush 8, 2) := dk_16 8 (dk_at dksX0_draw_0 20 rfl rfl)
theorem dX0_draw_22 : decode cX0_draw 22 = .ok (.iushr, 1) := dk_124 (dk_at dksX0_draw_0 22 rfl rfl)
theorem dX0_draw_23 : decode cX0_draw 23 = .ok (.bipush 12, 2) := dk_16 12 (dk_at dksX0_draw_1 0 rfl rfl)
theorem dX0_draw_25 : decode cX0_draw 25 = .ok (.irem, 1) := dk_112 (dk_at dksX0_draw_1 2 rfl rfl)
theorem dX0_draw_26 : decode cX0_draw 26 = .ok (.ireturn, 1) := dk_172 (dk_at dksX0_draw_1 3 rfl rfl)
abbrev cX0_fall : ByteArray := prog_1_method_48_code
def yX0_fall : MethodName := ⟨RX0, "fall", "(LHatRank$Town;I)I"⟩
def dkwX0_fall_5 : List UInt8 := [21, 6, 92, 46, 4, 96, 79, 21, 6, 172]
abbrev dktX0_fall_5 : List UInt8 := dkwX0_fall_5 ++ []
def dkwX0_fall_4 : List UInt8 := [21, 5, 153, 0, 8, 21, 4, 167, 0, 4, 29, 92, 46, 4, 96, 79, 16, 254, 172, 43, 180, 0, 161]
abbrev dktX0_fall_4 : List UInt8 := dkwX0_fall_4 ++ dktX0_fall_5
def dkwX0_fall_3 : List UInt8 := [153, 0, 14, 42, 43, 21, 4, 3, 28, 182, 1, 97, 54, 6, 21, 6, 2, 160, 0, 26, 43, 180, 0, 228]
abbrev dktX0_fall_3 : List UInt8 := dkwX0_fall_3 ++ dktX0_fall_4
def dkwX0_fall_2 : List UInt8 := [3, 54, 5, 42, 43, 29, 28, 4, 96, 28, 182, 1, 97, 54, 6, 21, 6, 2, 160, 0, 19, 21, 5]
abbrev dktX0_fall_2 : List UInt8 := dkwX0_fall_2 ++ dktX0_fall_3
def dkwX0_fall_1 : List UInt8 := [182, 0, 225, 54, 4, 42, 21, 4, 182, 0, 147, 153, 0, 13, 21, 4, 29, 159, 0, 7, 4, 167, 0, 4]
abbrev dktX0_fall_1 : List UInt8 := dkwX0_fall_1 ++ dktX0_fall_2
def dkwX0_fall_0 : List UInt8 := [43, 180, 0, 161, 28, 92, 46, 4, 100, 79, 43, 180, 0, 164, 28, 46, 62, 42, 180, 0, 57, 29, 50]
abbrev dktX0_fall_0 : List UInt8 := dkwX0_fall_0 ++ dktX0_fall_1
theorem dksX0_fall_0 : cX0_fall.data.toList.drop 0 = dktX0_fall_0 := by decide +kernel
theorem dksX0_fall_1 : cX0_fall.data.toList.drop 23 = dktX0_fall_1 := dk_seg dksX0_fall_0 23 rfl rfl
theorem dksX0_fall_2 : cX0_fall.data.toList.drop 47 = dktX0_fall_2 := dk_seg dksX0_fall_1 24 rfl rfl
theorem dksX0_fall_3 : cX0_fall.data.toList.drop 70 = dktX0_fall_3 := dk_seg dksX0_fall_2 23 rfl rfl
theorem dksX0_fall_4 : cX0_fall.data.toList.drop 94 = dktX0_fall_4 := dk_seg dksX0_fall_3 24 rfl rfl
theorem dksX0_fall_5 : cX0_fall.data.toList.drop 117 = dktX0_fall_5 := dk_seg dksX0_fall_4 23 rfl rfl
theorem dX0_fall_0 : decode cX0_fall 0 = .ok (.aload_n 1, 1) := dk_43 (dk_at dksX0_fall_0 0 rfl rfl)
theorem dX0_fall_1 : decode cX0_fall 1 = .ok (.getfield 161, 3) := dk_180 0 161 (dk_at dksX0_fall_0 1 rfl rfl)
theorem dX0_fall_4 : decode cX0_fall 4 = .ok (.iload_n 2, 1) := dk_28 (dk_at dksX0_fall_0 4 rfl rfl)
theorem dX0_fall_5 : decode cX0_fall 5 = .ok (.dup2, 1) := dk_92 (dk_at dksX0_fall_0 5 rfl rfl)
theorem dX0_fall_6 : decode cX0_fall 6 = .ok (.iaload, 1) := dk_46 (dk_at dksX0_fall_0 6 rfl rfl)
theorem dX0_fall_7 : decode cX0_fall 7 = .ok (.iconst 1, 1) := dk_4 (dk_at dksX0_fall_0 7 rfl rfl)
theorem dX0_fall_8 : decode cX0_fall 8 = .ok (.isub, 1) := dk_100 (dk_at dksX0_fall_0 8 rfl rfl)
theorem dX0_fall_9 : decode cX0_fall 9 = .ok (.iastore, 1) := dk_79 (dk_at dksX0_fall_0 9 rfl rfl)
theorem dX0_fall_10 : decode cX0_fall 10 = .ok (.aload_n 1, 1) := dk_43 (dk_at dksX0_fall_0 10 rfl rfl)
theorem dX0_fall_11 : decode cX0_fall 11 = .ok (.getfield 164, 3) := dk_180 0 164 (dk_at dksX0_fall_0 11 rfl rfl)
theorem dX0_fall_14 : decode cX0_fall 14 = .ok (.iload_n 2, 1) := dk_28 (dk_at dksX0_fall_0 14 rfl rfl)
theorem dX0_fall_15 : decode cX0_fall 15 = .ok (.iaload, 1) := dk_46 (dk_at dksX0_fall_0 15 rfl rfl)
theorem dX0_fall_16 : decode cX0_fall 16 = .ok (.istore_n 3, 1) := dk_62 (dk_at dksX0_fall_0 16 rfl rfl)
theorem dX0_fall_17 : decode cX0_fall 17 = .ok (.aload_n 0, 1) := dk_42 (dk_at dksX0_fall_0 17 rfl rfl)
theorem dX0_fall_18 : decode cX0_fall 18 = .ok (.getfield 57, 3) := dk_180 0 57 (dk_at dksX0_fall_0 18 rfl rfl)
theorem dX0_fall_21 : decode cX0_fall 21 = .ok (.iload_n 3, 1) := dk_29 (dk_at dksX0_fall_0 21 rfl rfl)
theorem dX0_fall_22 : decode cX0_fall 22 = .ok (.aaload, 1) := dk_50 (dk_at dksX0_fall_0 22 rfl rfl)
theorem dX0_fall_23 : decode cX0_fall 23 = .ok (.invokevirtual 225, 3) := dk_182 0 225 (dk_at dksX0_fall_1 0 rfl rfl)
theorem dX0_fall_26 : decode cX0_fall 26 = .ok (.istore 4, 2) := dk_54 4 (dk_at dksX0_fall_1 3 rfl rfl)
theorem dX0_fall_28 : decode cX0_fall 28 = .ok (.aload_n 0, 1) := dk_42 (dk_at dksX0_fall_1 5 rfl rfl)
theorem dX0_fall_29 : decode cX0_fall 29 = .ok (.iload 4, 2) := dk_21 4 (dk_at dksX0_fall_1 6 rfl rfl)
theorem dX0_fall_31 : decode cX0_fall 31 = .ok (.invokevirtual 147, 3) := dk_182 0 147 (dk_at dksX0_fall_1 8 rfl rfl)
theorem dX0_fall_34 : decode cX0_fall 34 = .ok (.ifCond .eq 13, 3) := dk_153 0 13 (dk_at dksX0_fall_1 11 rfl rfl)
theorem dX0_fall_37 : decode cX0_fall 37 = .ok (.iload 4, 2) := dk_21 4 (dk_at dksX0_fall_1 14 rfl rfl)
theorem dX0_fall_39 : decode cX0_fall 39 = .ok (.iload_n 3, 1) := dk_29 (dk_at dksX0_fall_1 16 rfl rfl)
theorem dX0_fall_40 : decode cX0_fall 40 = .ok (.if_icmp .eq 7, 3) := dk_159 0 7 (dk_at dksX0_fall_1 17 rfl rfl)
theorem dX0_fall_43 : decode cX0_fall 43 = .ok (.iconst 1, 1) := dk_4 (dk_at dksX0_fall_1 20 rfl rfl)
theorem dX0_fall_44 : decode cX0_fall 44 = .ok (.goto 4, 3) := dk_167 0 4 (dk_at dksX0_fall_1 21 rfl rfl)
theorem dX0_fall_47 : decode cX0_fall 47 = .ok (.iconst 0, 1) := dk_3 (dk_at dksX0_fall_2 0 rfl rfl)
theorem dX0_fall_48 : decode cX0_fall 48 = .ok (.istore 5, 2) := dk_54 5 (dk_at dksX0_fall_2 1 rfl rfl)
theorem dX0_fall_50 : decode cX0_fall 50 = .ok (.aload_n 0, 1) := dk_42 (dk_at dksX0_fall_2 3 rfl rfl)
theorem dX0_fall_51 : decode cX0_fall 51 = .ok (.aload_n 1, 1) := dk_43 (dk_at dksX0_fall_2 4 rfl rfl)
theorem dX0_fall_52 : decode cX0_fall 52 = .ok (.iload_n 3, 1) := dk_29 (dk_at dksX0_fall_2 5 rfl rfl)
theorem dX0_fall_53 : decode cX0_fall 53 = .ok (.iload_n 2, 1) := dk_28 (dk_at dksX0_fall_2 6 rfl rfl)
theorem dX0_fall_54 : decode cX0_fall 54 = .ok (.iconst 1, 1) := dk_4 (dk_at dksX0_fall_2 7 rfl rfl)
theorem dX0_fall_55 : decode cX0_fall 55 = .ok (.iadd, 1) := dk_96 (dk_at dksX0_fall_2 8 rfl rfl)
theorem dX0_fall_56 : decode cX0_fall 56 = .ok (.iload_n 2, 1) := dk_28 (dk_at dksX0_fall_2 9 rfl rfl)
theorem dX0_fall_57 : decode cX0_fall 57 = .ok (.invokevirtual 353, 3) := dk_182 1 97 (dk_at dksX0_fall_2 10 rfl rfl)
theorem dX0_fall_60 : decode cX0_fall 60 = .ok (.istore 6, 2) := dk_54 6 (dk_at dksX0_fall_2 13 rfl rfl)
theorem dX0_fall_62 : decode cX0_fall 62 = .ok (.iload 6, 2) := dk_21 6 (dk_at dksX0_fall_2 15 rfl rfl)
theorem dX0_fall_64 : decode cX0_fall 64 = .ok (.iconst (-1), 1) := dk_2 (dk_at dksX0_fall_2 17 rfl rfl)
theorem dX0_fall_65 : decode cX0_fall 65 = .ok (.if_icmp .ne 19, 3) := dk_160 0 19 (dk_at dksX0_fall_2 18 rfl rfl)
theorem dX0_fall_68 : decode cX0_fall 68 = .ok (.iload 5, 2) := dk_21 5 (dk_at dksX0_fall_2 21 rfl rfl)
theorem dX0_fall_70 : decode cX0_fall 70 = .ok (.ifCond .eq 14, 3) := dk_153 0 14 (dk_at dksX0_fall_3 0 rfl rfl)
theorem dX0_fall_73 : decode cX0_fall 73 = .ok (.aload_n 0, 1) := dk_42 (dk_at dksX0_fall_3 3 rfl rfl)
theorem dX0_fall_74 : decode cX0_fall 74 = .ok (.aload_n 1, 1) := dk_43 (dk_at dksX0_fall_3 4 rfl rfl)
theorem dX0_fall_75 : decode cX0_fall 75 = .ok (.iload 4, 2) := dk_21 4 (dk_at dksX0_fall_3 5 rfl rfl)
theorem dX0_fall_77 : decode cX0_fall 77 = .ok (.iconst 0, 1) := dk_3 (dk_at dksX0_fall_3 7 rfl rfl)
theorem dX0_fall_78 : decode cX0_fall 78 = .ok (.iload_n 2, 1) := dk_28 (dk_at dksX0_fall_3 8 rfl rfl)
theorem dX0_fall_79 : decode cX0_fall 79 = .ok (.invokevirtual 353, 3) := dk_182 1 97 (dk_at dksX0_fall_3 9 rfl rfl)
theorem dX0_fall_82 : decode cX0_fall 82 = .ok (.istore 6, 2) := dk_54 6 (dk_at dksX0_fall_3 12 rfl rfl)
theorem dX0_fall_84 : decode cX0_fall 84 = .ok (.iload 6, 2) := dk_21 6 (dk_at dksX0_fall_3 14 rfl rfl)
theorem dX0_fall_86 : decode cX0_fall 86 = .ok (.iconst (-1), 1) := dk_2 (dk_at dksX0_fall_3 16 rfl rfl)
theorem dX0_fall_87 : decode cX0_fall 87 = .ok (.if_icmp .ne 26, 3) := dk_160 0 26 (dk_at dksX0_fall_3 17 rfl rfl)
theorem dX0_fall_90 : decode cX0_fall 90 = .ok (.aload_n 1, 1) := dk_43 (dk_at dksX0_fall_3 20 rfl rfl)
theorem dX0_fall_91 : decode cX0_fall 91 = .ok (.getfield 228, 3) := dk_180 0 228 (dk_at dksX0_fall_3 21 rfl rfl)
theorem dX0_fall_94 : decode cX0_fall 94 = .ok (.iload 5, 2) := dk_21 5 (dk_at dksX0_fall_4 0 rfl rfl)
theorem dX0_fall_96 : decode cX0_fall 96 = .ok (.ifCond .eq 8, 3) := dk_153 0 8 (dk_at dksX0_fall_4 2 rfl rfl)
theorem dX0_fall_99 : decode cX0_fall 99 = .ok (.iload 4, 2) := dk_21 4 (dk_at dksX0_fall_4 5 rfl rfl)
theorem dX0_fall_101 : decode cX0_fall 101 = .ok (.goto 4, 3) := dk_167 0 4 (dk_at dksX0_fall_4 7 rfl rfl)
theorem dX0_fall_104 : decode cX0_fall 104 = .ok (.iload_n 3, 1) := dk_29 (dk_at dksX0_fall_4 10 rfl rfl)
theorem dX0_fall_105 : decode cX0_fall 105 = .ok (.dup2, 1) := dk_92 (dk_at dksX0_fall_4 11 rfl rfl)
theorem dX0_fall_106 : decode cX0_fall 106 = .ok (.iaload, 1) := dk_46 (dk_at dksX0_fall_4 12 rfl rfl)
theorem dX0_fall_107 : decode cX0_fall 107 = .ok (.iconst 1, 1) := dk_4 (dk_at dksX0_fall_4 13 rfl rfl)
theorem dX0_fall_108 : decode cX0_fall 108 = .ok (.iadd, 1) := dk_96 (dk_at dksX0_fall_4 14 rfl rfl)
theorem dX0_fall_109 : decode cX0_fall 109 = .ok (.iastore, 1) := dk_79 (dk_at dksX0_fall_4 15 rfl rfl)
theorem dX0_fall_110 : decode cX0_fall 110 = .ok (.bipush (-2), 2) := dk_16 254 (dk_at dksX0_fall_4 16 rfl rfl)
theorem dX0_fall_112 : decode cX0_fall 112 = .ok (.ireturn, 1) := dk_172 (dk_at dksX0_fall_4 18 rfl rfl)
theorem dX0_fall_113 : decode cX0_fall 113 = .ok (.aload_n 1, 1) := dk_43 (dk_at dksX0_fall_4 19 rfl rfl)
theorem dX0_fall_114 : decode cX0_fall 114 = .ok (.getfield 161, 3) := dk_180 0 161 (dk_at dksX0_fall_4 20 rfl rfl)
theorem dX0_fall_117 : decode cX0_fall 117 = .ok (.iload 6, 2) := dk_21 6 (dk_at dksX0_fall_5 0 rfl rfl)
theorem dX0_fall_119 : decode cX0_fall 119 = .ok (.dup2, 1) := dk_92 (dk_at dksX0_fall_5 2 rfl rfl)
theorem dX0_fall_120 : decode cX0_fall 120 = .ok (.iaload, 1) := dk_46 (dk_at dksX0_fall_5 3 rfl rfl)
theorem dX0_fall_121 : decode cX0_fall 121 = .ok (.iconst 1, 1) := dk_4 (dk_at dksX0_fall_5 4 rfl rfl)
theorem dX0_fall_122 : decode cX0_fall 122 = .ok (.iadd, 1) := dk_96 (dk_at dksX0_fall_5 5 rfl rfl)
theorem dX0_fall_123 : decode cX0_fall 123 = .ok (.iastore, 1) := dk_79 (dk_at dksX0_fall_5 6 rfl rfl)
theorem dX0_fall_124 : decode cX0_fall 124 = .ok (.iload 6, 2) := dk_21 6 (dk_at dksX0_fall_5 7 rfl rfl)
theorem dX0_fall_126 : decode cX0_fall 126 = .ok (.ireturn, 1) := dk_172 (dk_at dksX0_fall_5 9 rfl rfl)
abbrev cX0_catcher : ByteArray := prog_1_method_47_code
def yX0_catcher : MethodName := ⟨RX0, "catcher", "(LHatRank$Town;III)I"⟩
def dkwX0_catcher_2 : List UInt8 := [46, 16, 9, 162, 0, 6, 21, 6, 172, 132, 5, 1, 167, 255, 200, 2, 172]
abbrev dktX0_catcher_2 : List UInt8 := dkwX0_catcher_2 ++ []
def dkwX0_catcher_1 : List UInt8 := [21, 6, 21, 4, 159, 0, 29, 43, 180, 0, 164, 21, 6, 46, 28, 160, 0, 18, 43, 180, 0, 161, 21, 6]
abbrev dktX0_catcher_1 : List UInt8 := dkwX0_catcher_1 ++ dktX0_catcher_2
def dkwX0_catcher_0 : List UInt8 := [3, 54, 5, 21, 5, 42, 180, 0, 133, 162, 0, 53, 29, 21, 5, 96, 42, 180, 0, 133, 112, 54, 6]
abbrev dktX0_catcher_0 : List UInt8 := dkwX0_catcher_0 ++ dktX0_catcher_1
theorem dksX0_catcher_0 : cX0_catcher.data.toList.drop 0 = dktX0_catcher_0 := by decide +kernel
theorem dksX0_catcher_1 : cX0_catcher.data.toList.drop 23 = dktX0_catcher_1 := dk_seg dksX0_catcher_0 23 rfl rfl
theorem dksX0_catcher_2 : cX0_catcher.data.toList.drop 47 = dktX0_catcher_2 := dk_seg dksX0_catcher_1 24 rfl rfl
theorem dX0_catcher_0 : decode cX0_catcher 0 = .ok (.iconst 0, 1) := dk_3 (dk_at dksX0_catcher_0 0 rfl rfl)
theorem dX0_catcher_1 : decode cX0_catcher 1 = .ok (.istore 5, 2) := dk_54 5 (dk_at dksX0_catcher_0 1 rfl rfl)
theorem dX0_catcher_3 : decode cX0_catcher 3 = .ok (.iload 5, 2) := dk_21 5 (dk_at dksX0_catcher_0 3 rfl rfl)
theorem dX0_catcher_5 : decode cX0_catcher 5 = .ok (.aload_n 0, 1) := dk_42 (dk_at dksX0_catcher_0 5 rfl rfl)
theorem dX0_catcher_6 : decode cX0_catcher 6 = .ok (.getfield 133, 3) := dk_180 0 133 (dk_at dksX0_catcher_0 6 rfl rfl)
theorem dX0_catcher_9 : decode cX0_catcher 9 = .ok (.if_icmp .ge 53, 3) := dk_162 0 53 (dk_at dksX0_catcher_0 9 rfl rfl)
theorem dX0_catcher_12 : decode cX0_catcher 12 = .ok (.iload_n 3, 1) := dk_29 (dk_at dksX0_catcher_0 12 rfl rfl)
theorem dX0_catcher_13 : decode cX0_catcher 13 = .ok (.iload 5, 2) := dk_21 5 (dk_at dksX0_catcher_0 13 rfl rfl)
theorem dX0_catcher_15 : decode cX0_catcher 15 = .ok (.iadd, 1) := dk_96 (dk_at dksX0_catcher_0 15 rfl rfl)
theorem dX0_catcher_16 : decode cX0_catcher 16 = .ok (.aload_n 0, 1) := dk_42 (dk_at dksX0_catcher_0 16 rfl rfl)
theorem dX0_catcher_17 : decode cX0_catcher 17 = .ok (.getfield 133, 3) := dk_180 0 133 (dk_at dksX0_catcher_0 17 rfl rfl)
theorem dX0_catcher_20 : decode cX0_catcher 20 = .ok (.irem, 1) := dk_112 (dk_at dksX0_catcher_0 20 rfl rfl)
theorem dX0_catcher_21 : decode cX0_catcher 21 = .ok (.istore 6, 2) := dk_54 6 (dk_at dksX0_catcher_0 21 rfl rfl)
theorem dX0_catcher_23 : decode cX0_catcher 23 = .ok (.iload 6, 2) := dk_21 6 (dk_at dksX0_catcher_1 0 rfl rfl)
theorem dX0_catcher_25 : decode cX0_catcher 25 = .ok (.iload 4, 2) := dk_21 4 (dk_at dksX0_catcher_1 2 rfl rfl)
theorem dX0_catcher_27 : decode cX0_catcher 27 = .ok (.if_icmp .eq 29, 3) := dk_159 0 29 (dk_at dksX0_catcher_1 4 rfl rfl)
theorem dX0_catcher_30 : decode cX0_catcher 30 = .ok (.aload_n 1, 1) := dk_43 (dk_at dksX0_catcher_1 7 rfl rfl)
theorem dX0_catcher_31 : decode cX0_catcher 31 = .ok (.getfield 164, 3) := dk_180 0 164 (dk_at dksX0_catcher_1 8 rfl rfl)
theorem dX0_catcher_34 : decode cX0_catcher 34 = .ok (.iload 6, 2) := dk_21 6 (dk_at dksX0_catcher_1 11 rfl rfl)
theorem dX0_catcher_36 : decode cX0_catcher 36 = .ok (.iaload, 1) := dk_46 (dk_at dksX0_catcher_1 13 rfl rfl)
theorem dX0_catcher_37 : decode cX0_catcher 37 = .ok (.iload_n 2, 1) := dk_28 (dk_at dksX0_catcher_1 14 rfl rfl)
theorem dX0_catcher_38 : decode cX0_catcher 38 = .ok (.if_icmp .ne 18, 3) := dk_160 0 18 (dk_at dksX0_catcher_1 15 rfl rfl)
theorem dX0_catcher_41 : decode cX0_catcher 41 = .ok (.aload_n 1, 1) := dk_43 (dk_at dksX0_catcher_1 18 rfl rfl)
theorem dX0_catcher_42 : decode cX0_catcher 42 = .ok (.getfield 161, 3) := dk_180 0 161 (dk_at dksX0_catcher_1 19 rfl rfl)
theorem dX0_catcher_45 : decode cX0_catcher 45 = .ok (.iload 6, 2) := dk_21 6 (dk_at dksX0_catcher_1 22 rfl rfl)
theorem dX0_catcher_47 : decode cX0_catcher 47 = .ok (.iaload, 1) := dk_46 (dk_at dksX0_catcher_2 0 rfl rfl)
theorem dX0_catcher_48 : decode cX0_catcher 48 = .ok (.bipush 9, 2) := dk_16 9 (dk_at dksX0_catcher_2 1 rfl rfl)
theorem dX0_catcher_50 : decode cX0_catcher 50 = .ok (.if_icmp .ge 6, 3) := dk_162 0 6 (dk_at dksX0_catcher_2 3 rfl rfl)
theorem dX0_catcher_53 : decode cX0_catcher 53 = .ok (.iload 6, 2) := dk_21 6 (dk_at dksX0_catcher_2 6 rfl rfl)
theorem dX0_catcher_55 : decode cX0_catcher 55 = .ok (.ireturn, 1) := dk_172 (dk_at dksX0_catcher_2 8 rfl rfl)
theorem dX0_catcher_56 : decode cX0_catcher 56 = .ok (.iinc 5 1, 3) := dk_132 5 1 (dk_at dksX0_catcher_2 9 rfl rfl)
theorem dX0_catcher_59 : decode cX0_catcher 59 = .ok (.goto (-56), 3) := dk_167 255 200 (dk_at dksX0_catcher_2 12 rfl rfl)
theorem dX0_catcher_62 : decode cX0_catcher 62 = .ok (.iconst (-1), 1) := dk_2 (dk_at dksX0_catcher_2 15 rfl rfl)
theorem dX0_catcher_63 : decode cX0_catcher 63 = .ok (.ireturn, 1) := dk_172 (dk_at dksX0_catcher_2 16 rfl rfl)
abbrev cX0_move : ByteArray := prog_1_method_51_code
def yX0_move : MethodName := ⟨RX0, "move", "(II)I"⟩
def dkwX0_move_2 : List UInt8 := [79, 28, 172]
abbrev dktX0_move_2 : List UInt8 := dkwX0_move_2 ++ []
def dkwX0_move_1 : List UInt8 := [180, 0, 164, 27, 46, 28, 182, 0, 150, 154, 0, 6, 16, 254, 172, 42, 180, 0, 51, 180, 0, 164, 27, 28]
abbrev dktX0_move_1 : List UInt8 := dkwX0_move_1 ++ dktX0_move_2
def dkwX0_move_0 : List UInt8 := [42, 27, 182, 0, 193, 153, 0, 11, 42, 28, 182, 0, 147, 154, 0, 5, 2, 172, 42, 42, 180, 0, 51]
abbrev dktX0_move_0 : List UInt8 := dkwX0_move_0 ++ dktX0_move_1
theorem dksX0_move_0 : cX0_move.data.toList.drop 0 = dktX0_move_0 := by decide +kernel
theorem dksX0_move_1 : cX0_move.data.toList.drop 23 = dktX0_move_1 := dk_seg dksX0_move_0 23 rfl rfl
theorem dksX0_move_2 : cX0_move.data.toList.drop 47 = dktX0_move_2 := dk_seg dksX0_move_1 24 rfl rfl
theorem dX0_move_0 : decode cX0_move 0 = .ok (.aload_n 0, 1) := dk_42 (dk_at dksX0_move_0 0 rfl rfl)
theorem dX0_move_1 : decode cX0_move 1 = .ok (.iload_n 1, 1) := dk_27 (dk_at dksX0_move_0 1 rfl rfl)
theorem dX0_move_2 : decode cX0_move 2 = .ok (.invokevirtual 193, 3) := dk_182 0 193 (dk_at dksX0_move_0 2 rfl rfl)
theorem dX0_move_5 : decode cX0_move 5 = .ok (.ifCond .eq 11, 3) := dk_153 0 11 (dk_at dksX0_move_0 5 rfl rfl)
theorem dX0_move_8 : decode cX0_move 8 = .ok (.aload_n 0, 1) := dk_42 (dk_at dksX0_move_0 8 rfl rfl)
theorem dX0_move_9 : decode cX0_move 9 = .ok (.iload_n 2, 1) := dk_28 (dk_at dksX0_move_0 9 rfl rfl)
theorem dX0_move_10 : decode cX0_move 10 = .ok (.invokevirtual 147, 3) := dk_182 0 147 (dk_at dksX0_move_0 10 rfl rfl)
theorem dX0_move_13 : decode cX0_move 13 = .ok (.ifCond .ne 5, 3) := dk_154 0 5 (dk_at dksX0_move_0 13 rfl rfl)
theorem dX0_move_16 : decode cX0_move 16 = .ok (.iconst (-1), 1) := dk_2 (dk_at dksX0_move_0 16 rfl rfl)
theorem dX0_move_17 : decode cX0_move 17 = .ok (.ireturn, 1) := dk_172 (dk_at dksX0_move_0 17 rfl rfl)
theorem dX0_move_18 : decode cX0_move 18 = .ok (.aload_n 0, 1) := dk_42 (dk_at dksX0_move_0 18 rfl rfl)
theorem dX0_move_19 : decode cX0_move 19 = .ok (.aload_n 0, 1) := dk_42 (dk_at dksX0_move_0 19 rfl rfl)
theorem dX0_move_20 : decode cX0_move 20 = .ok (.getfield 51, 3) := dk_180 0 51 (dk_at dksX0_move_0 20 rfl rfl)
theorem dX0_move_23 : decode cX0_move 23 = .ok (.getfield 164, 3) := dk_180 0 164 (dk_at dksX0_move_1 0 rfl rfl)
theorem dX0_move_26 : decode cX0_move 26 = .ok (.iload_n 1, 1) := dk_27 (dk_at dksX0_move_1 3 rfl rfl)
theorem dX0_move_27 : decode cX0_move 27 = .ok (.iaload, 1) := dk_46 (dk_at dksX0_move_1 4 rfl rfl)
theorem dX0_move_28 : decode cX0_move 28 = .ok (.iload_n 2, 1) := dk_28 (dk_at dksX0_move_1 5 rfl rfl)
theorem dX0_move_29 : decode cX0_move 29 = .ok (.invokevirtual 150, 3) := dk_182 0 150 (dk_at dksX0_move_1 6 rfl rfl)
theorem dX0_move_32 : decode cX0_move 32 = .ok (.ifCond .ne 6, 3) := dk_154 0 6 (dk_at dksX0_move_1 9 rfl rfl)
theorem dX0_move_35 : decode cX0_move 35 = .ok (.bipush (-2), 2) := dk_16 254 (dk_at dksX0_move_1 12 rfl rfl)
theorem dX0_move_37 : decode cX0_move 37 = .ok (.ireturn, 1) := dk_172 (dk_at dksX0_move_1 14 rfl rfl)
theorem dX0_move_38 : decode cX0_move 38 = .ok (.aload_n 0, 1) := dk_42 (dk_at dksX0_move_1 15 rfl rfl)
theorem dX0_move_39 : decode cX0_move 39 = .ok (.getfield 51, 3) := dk_180 0 51 (dk_at dksX0_move_1 16 rfl rfl)
theorem dX0_move_42 : decode cX0_move 42 = .ok (.getfield 164, 3) := dk_180 0 164 (dk_at dksX0_move_1 19 rfl rfl)
theorem dX0_move_45 : decode cX0_move 45 = .ok (.iload_n 1, 1) := dk_27 (dk_at dksX0_move_1 22 rfl rfl)
theorem dX0_move_46 : decode cX0_move 46 = .ok (.iload_n 2, 1) := dk_28 (dk_at dksX0_move_1 23 rfl rfl)
theorem dX0_move_47 : decode cX0_move 47 = .ok (.iastore, 1) := dk_79 (dk_at dksX0_move_2 0 rfl rfl)
theorem dX0_move_48 : decode cX0_move 48 = .ok (.iload_n 2, 1) := dk_28 (dk_at dksX0_move_2 1 rfl rfl)
theorem dX0_move_49 : decode cX0_move 49 = .ok (.ireturn, 1) := dk_172 (dk_at dksX0_move_2 2 rfl rfl)
abbrev cX0_lay : ByteArray := prog_1_method_52_code
def yX0_lay : MethodName := ⟨RX0, "lay", "(I)I"⟩
def dkwX0_lay_1 : List UInt8 := [16, 253, 167, 0, 17, 42, 180, 0, 51, 180, 0, 228, 27, 92, 46, 4, 96, 91, 79, 172]
abbrev dktX0_lay_1 : List UInt8 := dkwX0_lay_1 ++ []
def dkwX0_lay_0 : List UInt8 := [42, 27, 182, 0, 147, 154, 0, 5, 2, 172, 42, 180, 0, 51, 180, 0, 228, 27, 46, 16, 99, 161, 0, 8]
abbrev dktX0_lay_0 : List UInt8 := dkwX0_lay_0 ++ dktX0_lay_1
theorem dksX0_lay_0 : cX0_lay.data.toList.drop 0 = dktX0_lay_0 := by decide +kernel
theorem dksX0_lay_1 : cX0_lay.data.toList.drop 24 = dktX0_lay_1 := dk_seg dksX0_lay_0 24 rfl rfl
theorem dX0_lay_0 : decode cX0_lay 0 = .ok (.aload_n 0, 1) := dk_42 (dk_at dksX0_lay_0 0 rfl rfl)
theorem dX0_lay_1 : decode cX0_lay 1 = .ok (.iload_n 1, 1) := dk_27 (dk_at dksX0_lay_0 1 rfl rfl)
theorem dX0_lay_2 : decode cX0_lay 2 = .ok (.invokevirtual 147, 3) := dk_182 0 147 (dk_at dksX0_lay_0 2 rfl rfl)
theorem dX0_lay_5 : decode cX0_lay 5 = .ok (.ifCond .ne 5, 3) := dk_154 0 5 (dk_at dksX0_lay_0 5 rfl rfl)
theorem dX0_lay_8 : decode cX0_lay 8 = .ok (.iconst (-1), 1) := dk_2 (dk_at dksX0_lay_0 8 rfl rfl)
theorem dX0_lay_9 : decode cX0_lay 9 = .ok (.ireturn, 1) := dk_172 (dk_at dksX0_lay_0 9 rfl rfl)
theorem dX0_lay_10 : decode cX0_lay 10 = .ok (.aload_n 0, 1) := dk_42 (dk_at dksX0_lay_0 10 rfl rfl)
theorem dX0_lay_11 : decode cX0_lay 11 = .ok (.getfield 51, 3) := dk_180 0 51 (dk_at dksX0_lay_0 11 rfl rfl)
theorem dX0_lay_14 : decode cX0_lay 14 = .ok (.getfield 228, 3) := dk_180 0 228 (dk_at dksX0_lay_0 14 rfl rfl)
theorem dX0_lay_17 : decode cX0_lay 17 = .ok (.iload_n 1, 1) := dk_27 (dk_at dksX0_lay_0 17 rfl rfl)
theorem dX0_lay_18 : decode cX0_lay 18 = .ok (.iaload, 1) := dk_46 (dk_at dksX0_lay_0 18 rfl rfl)
theorem dX0_lay_19 : decode cX0_lay 19 = .ok (.bipush 99, 2) := dk_16 99 (dk_at dksX0_lay_0 19 rfl rfl)
theorem dX0_lay_21 : decode cX0_lay 21 = .ok (.if_icmp .lt 8, 3) := dk_161 0 8 (dk_at dksX0_lay_0 21 rfl rfl)
theorem dX0_lay_24 : decode cX0_lay 24 = .ok (.bipush (-3), 2) := dk_16 253 (dk_at dksX0_lay_1 0 rfl rfl)
theorem dX0_lay_26 : decode cX0_lay 26 = .ok (.goto 17, 3) := dk_167 0 17 (dk_at dksX0_lay_1 2 rfl rfl)
theorem dX0_lay_29 : decode cX0_lay 29 = .ok (.aload_n 0, 1) := dk_42 (dk_at dksX0_lay_1 5 rfl rfl)
theorem dX0_lay_30 : decode cX0_lay 30 = .ok (.getfield 51, 3) := dk_180 0 51 (dk_at dksX0_lay_1 6 rfl rfl)
theorem dX0_lay_33 : decode cX0_lay 33 = .ok (.getfield 228, 3) := dk_180 0 228 (dk_at dksX0_lay_1 9 rfl rfl)
theorem dX0_lay_36 : decode cX0_lay 36 = .ok (.iload_n 1, 1) := dk_27 (dk_at dksX0_lay_1 12 rfl rfl)
theorem dX0_lay_37 : decode cX0_lay 37 = .ok (.dup2, 1) := dk_92 (dk_at dksX0_lay_1 13 rfl rfl)
theorem dX0_lay_38 : decode cX0_lay 38 = .ok (.iaload, 1) := dk_46 (dk_at dksX0_lay_1 14 rfl rfl)
theorem dX0_lay_39 : decode cX0_lay 39 = .ok (.iconst 1, 1) := dk_4 (dk_at dksX0_lay_1 15 rfl rfl)
theorem dX0_lay_40 : decode cX0_lay 40 = .ok (.iadd, 1) := dk_96 (dk_at dksX0_lay_1 16 rfl rfl)
theorem dX0_lay_41 : decode cX0_lay 41 = .ok (.dup_x2, 1) := dk_91 (dk_at dksX0_lay_1 17 rfl rfl)
theorem dX0_lay_42 : decode cX0_lay 42 = .ok (.iastore, 1) := dk_79 (dk_at dksX0_lay_1 18 rfl rfl)
theorem dX0_lay_43 : decode cX0_lay 43 = .ok (.ireturn, 1) := dk_172 (dk_at dksX0_lay_1 19 rfl rfl)
abbrev cX0_commands : ByteArray := prog_1_method_53_code
def yX0_commands : MethodName := ⟨RX0, "commands", "()I"⟩
def dkwX0_commands_0 : List UInt8 := [42, 180, 0, 133, 154, 0, 8, 16, 251, 167, 0, 11, 42, 42, 180, 0, 51, 182, 1, 121, 172]
abbrev dktX0_commands_0 : List UInt8 := dkwX0_commands_0 ++ []
theorem dksX0_commands_0 : cX0_commands.data.toList.drop 0 = dktX0_commands_0 := by decide +kernel
theorem dX0_commands_0 : decode cX0_commands 0 = .ok (.aload_n 0, 1) := dk_42 (dk_at dksX0_commands_0 0 rfl rfl)
theorem dX0_commands_1 : decode cX0_commands 1 = .ok (.getfield 133, 3) := dk_180 0 133 (dk_at dksX0_commands_0 1 rfl rfl)
theorem dX0_commands_4 : decode cX0_commands 4 = .ok (.ifCond .ne 8, 3) := dk_154 0 8 (dk_at dksX0_commands_0 4 rfl rfl)
theorem dX0_commands_7 : decode cX0_commands 7 = .ok (.bipush (-5), 2) := dk_16 251 (dk_at dksX0_commands_0 7 rfl rfl)
theorem dX0_commands_9 : decode cX0_commands 9 = .ok (.goto 11, 3) := dk_167 0 11 (dk_at dksX0_commands_0 9 rfl rfl)
theorem dX0_commands_12 : decode cX0_commands 12 = .ok (.aload_n 0, 1) := dk_42 (dk_at dksX0_commands_0 12 rfl rfl)
theorem dX0_commands_13 : decode cX0_commands 13 = .ok (.aload_n 0, 1) := dk_42 (dk_at dksX0_commands_0 13 rfl rfl)
theorem dX0_commands_14 : decode cX0_commands 14 = .ok (.getfield 51, 3) := dk_180 0 51 (dk_at dksX0_commands_0 14 rfl rfl)
theorem dX0_commands_17 : decode cX0_commands 17 = .ok (.invokevirtual 377, 3) := dk_182 1 121 (dk_at dksX0_commands_0 17 rfl rfl)
theorem dX0_commands_20 : decode cX0_commands 20 = .ok (.ireturn, 1) := dk_172 (dk_at dksX0_commands_0 20 rfl rfl)
abbrev cX0_firstIn : ByteArray := prog_1_method_26_code
def yX0_firstIn : MethodName := ⟨RX0, "firstIn", "(LHatRank$Town;)I"⟩
def dkwX0_firstIn_1 : List UInt8 := [180, 0, 161, 28, 46, 164, 0, 5, 29, 61, 132, 3, 1, 167, 255, 223, 28, 172]
abbrev dktX0_firstIn_1 : List UInt8 := dkwX0_firstIn_1 ++ []
def dkwX0_firstIn_0 : List UInt8 := [2, 61, 3, 62, 29, 42, 180, 0, 133, 162, 0, 31, 28, 2, 159, 0, 18, 43, 180, 0, 161, 29, 46, 43]
abbrev dktX0_firstIn_0 : List UInt8 := dkwX0_firstIn_0 ++ dktX0_firstIn_1
theorem dksX0_firstIn_0 : cX0_firstIn.data.toList.drop 0 = dktX0_firstIn_0 := by decide +kernel
theorem dksX0_firstIn_1 : cX0_firstIn.data.toList.drop 24 = dktX0_firstIn_1 := dk_seg dksX0_firstIn_0 24 rfl rfl
theorem dX0_firstIn_0 : decode cX0_firstIn 0 = .ok (.iconst (-1), 1) := dk_2 (dk_at dksX0_firstIn_0 0 rfl rfl)
theorem dX0_firstIn_1 : decode cX0_firstIn 1 = .ok (.istore_n 2, 1) := dk_61 (dk_at dksX0_firstIn_0 1 rfl rfl)
theorem dX0_firstIn_2 : decode cX0_firstIn 2 = .ok (.iconst 0, 1) := dk_3 (dk_at dksX0_firstIn_0 2 rfl rfl)
theorem dX0_firstIn_3 : decode cX0_firstIn 3 = .ok (.istore_n 3, 1) := dk_62 (dk_at dksX0_firstIn_0 3 rfl rfl)
theorem dX0_firstIn_4 : decode cX0_firstIn 4 = .ok (.iload_n 3, 1) := dk_29 (dk_at dksX0_firstIn_0 4 rfl rfl)
theorem dX0_firstIn_5 : decode cX0_firstIn 5 = .ok (.aload_n 0, 1) := dk_42 (dk_at dksX0_firstIn_0 5 rfl rfl)
theorem dX0_firstIn_6 : decode cX0_firstIn 6 = .ok (.getfield 133, 3) := dk_180 0 133 (dk_at dksX0_firstIn_0 6 rfl rfl)
theorem dX0_firstIn_9 : decode cX0_firstIn 9 = .ok (.if_icmp .ge 31, 3) := dk_162 0 31 (dk_at dksX0_firstIn_0 9 rfl rfl)
theorem dX0_firstIn_12 : decode cX0_firstIn 12 = .ok (.iload_n 2, 1) := dk_28 (dk_at dksX0_firstIn_0 12 rfl rfl)
theorem dX0_firstIn_13 : decode cX0_firstIn 13 = .ok (.iconst (-1), 1) := dk_2 (dk_at dksX0_firstIn_0 13 rfl rfl)
theorem dX0_firstIn_14 : decode cX0_firstIn 14 = .ok (.if_icmp .eq 18, 3) := dk_159 0 18 (dk_at dksX0_firstIn_0 14 rfl rfl)
theorem dX0_firstIn_17 : decode cX0_firstIn 17 = .ok (.aload_n 1, 1) := dk_43 (dk_at dksX0_firstIn_0 17 rfl rfl)
theorem dX0_firstIn_18 : decode cX0_firstIn 18 = .ok (.getfield 161, 3) := dk_180 0 161 (dk_at dksX0_firstIn_0 18 rfl rfl)
theorem dX0_firstIn_21 : decode cX0_firstIn 21 = .ok (.iload_n 3, 1) := dk_29 (dk_at dksX0_firstIn_0 21 rfl rfl)
theorem dX0_firstIn_22 : decode cX0_firstIn 22 = .ok (.iaload, 1) := dk_46 (dk_at dksX0_firstIn_0 22 rfl rfl)
theorem dX0_firstIn_23 : decode cX0_firstIn 23 = .ok (.aload_n 1, 1) := dk_43 (dk_at dksX0_firstIn_0 23 rfl rfl)
theorem dX0_firstIn_24 : decode cX0_firstIn 24 = .ok (.getfield 161, 3) := dk_180 0 161 (dk_at dksX0_firstIn_1 0 rfl rfl)
theorem dX0_firstIn_27 : decode cX0_firstIn 27 = .ok (.iload_n 2, 1) := dk_28 (dk_at dksX0_firstIn_1 3 rfl rfl)
theorem dX0_firstIn_28 : decode cX0_firstIn 28 = .ok (.iaload, 1) := dk_46 (dk_at dksX0_firstIn_1 4 rfl rfl)
theorem dX0_firstIn_29 : decode cX0_firstIn 29 = .ok (.if_icmp .le 5, 3) := dk_164 0 5 (dk_at dksX0_firstIn_1 5 rfl rfl)
theorem dX0_firstIn_32 : decode cX0_firstIn 32 = .ok (.iload_n 3, 1) := dk_29 (dk_at dksX0_firstIn_1 8 rfl rfl)
theorem dX0_firstIn_33 : decode cX0_firstIn 33 = .ok (.istore_n 2, 1) := dk_61 (dk_at dksX0_firstIn_1 9 rfl rfl)
theorem dX0_firstIn_34 : decode cX0_firstIn 34 = .ok (.iinc 3 1, 3) := dk_132 3 1 (dk_at dksX0_firstIn_1 10 rfl rfl)
theorem dX0_firstIn_37 : decode cX0_firstIn 37 = .ok (.goto (-33), 3) := dk_167 255 223 (dk_at dksX0_firstIn_1 13 rfl rfl)
theorem dX0_firstIn_40 : decode cX0_firstIn 40 = .ok (.iload_n 2, 1) := dk_28 (dk_at dksX0_firstIn_1 16 rfl rfl)
theorem dX0_firstIn_41 : decode cX0_firstIn 41 = .ok (.ireturn, 1) := dk_172 (dk_at dksX0_firstIn_1 17 rfl rfl)
abbrev cX0_led : ByteArray := prog_1_method_54_code
def yX0_led : MethodName := ⟨RX0, "led", "(I)I"⟩
def dkwX0_led_0 : List UInt8 := [42, 27, 182, 0, 193, 153, 0, 15, 42, 180, 0, 63, 27, 50, 180, 1, 112, 167, 0, 4, 2, 172]
abbrev dktX0_led_0 : List UInt8 := dkwX0_led_0 ++ []
theorem dksX0_led_0 : cX0_led.data.toList.drop 0 = dktX0_led_0 := by decide +kernel
theorem dX0_led_0 : decode cX0_led 0 = .ok (.aload_n 0, 1) := dk_42 (dk_at dksX0_led_0 0 rfl rfl)
theorem dX0_led_1 : decode cX0_led 1 = .ok (.iload_n 1, 1) := dk_27 (dk_at dksX0_led_0 1 rfl rfl)
theorem dX0_led_2 : decode cX0_led 2 = .ok (.invokevirtual 193, 3) := dk_182 0 193 (dk_at dksX0_led_0 2 rfl rfl)
theorem dX0_led_5 : decode cX0_led 5 = .ok (.ifCond .eq 15, 3) := dk_153 0 15 (dk_at dksX0_led_0 5 rfl rfl)
theorem dX0_led_8 : decode cX0_led 8 = .ok (.aload_n 0, 1) := dk_42 (dk_at dksX0_led_0 8 rfl rfl)
theorem dX0_led_9 : decode cX0_led 9 = .ok (.getfield 63, 3) := dk_180 0 63 (dk_at dksX0_led_0 9 rfl rfl)
theorem dX0_led_12 : decode cX0_led 12 = .ok (.iload_n 1, 1) := dk_27 (dk_at dksX0_led_0 12 rfl rfl)
theorem dX0_led_13 : decode cX0_led 13 = .ok (.aaload, 1) := dk_50 (dk_at dksX0_led_0 13 rfl rfl)
theorem dX0_led_14 : decode cX0_led 14 = .ok (.getfield 368, 3) := dk_180 1 112 (dk_at dksX0_led_0 14 rfl rfl)
theorem dX0_led_17 : decode cX0_led 17 = .ok (.goto 4, 3) := dk_167 0 4 (dk_at dksX0_led_0 17 rfl rfl)
theorem dX0_led_20 : decode cX0_led 20 = .ok (.iconst (-1), 1) := dk_2 (dk_at dksX0_led_0 20 rfl rfl)
theorem dX0_led_21 : decode cX0_led 21 = .ok (.ireturn, 1) := dk_172 (dk_at dksX0_led_0 21 rfl rfl)
abbrev cX0_risk : ByteArray := prog_1_method_59_code
def yX0_risk : MethodName := ⟨RX0, "risk", "(II)I"⟩
def dkwX0_risk_2 : List UInt8 := [62, 29, 2, 160, 0, 8, 16, 254, 167, 0, 4, 29, 172]
abbrev dktX0_risk_2 : List UInt8 := dkwX0_risk_2 ++ []
def dkwX0_risk_1 : List UInt8 := [28, 16, 100, 112, 182, 1, 134, 42, 42, 180, 0, 215, 42, 180, 0, 51, 180, 0, 164, 27, 46, 182, 1, 128]
abbrev dktX0_risk_1 : List UInt8 := dkwX0_risk_1 ++ dktX0_risk_2
def dkwX0_risk_0 : List UInt8 := [42, 27, 182, 0, 193, 153, 0, 11, 42, 28, 182, 1, 131, 154, 0, 5, 2, 172, 42, 27, 28, 16, 100, 108]
abbrev dktX0_risk_0 : List UInt8 := dkwX0_risk_0 ++ dktX0_risk_1
theorem dksX0_risk_0 : cX0_risk.data.toList.drop 0 = dktX0_risk_0 := by decide +kernel
theorem dksX0_risk_1 : cX0_risk.data.toList.drop 24 = dktX0_risk_1 := dk_seg dksX0_risk_0 24 rfl rfl
theorem dksX0_risk_2 : cX0_risk.data.toList.drop 48 = dktX0_risk_2 := dk_seg dksX0_risk_1 24 rfl rfl
theorem dX0_risk_0 : decode cX0_risk 0 = .ok (.aload_n 0, 1) := dk_42 (dk_at dksX0_risk_0 0 rfl rfl)
theorem dX0_risk_1 : decode cX0_risk 1 = .ok (.iload_n 1, 1) := dk_27 (dk_at dksX0_risk_0 1 rfl rfl)
theorem dX0_risk_2 : decode cX0_risk 2 = .ok (.invokevirtual 193, 3) := dk_182 0 193 (dk_at dksX0_risk_0 2 rfl rfl)
theorem dX0_risk_5 : decode cX0_risk 5 = .ok (.ifCond .eq 11, 3) := dk_153 0 11 (dk_at dksX0_risk_0 5 rfl rfl)
theorem dX0_risk_8 : decode cX0_risk 8 = .ok (.aload_n 0, 1) := dk_42 (dk_at dksX0_risk_0 8 rfl rfl)
theorem dX0_risk_9 : decode cX0_risk 9 = .ok (.iload_n 2, 1) := dk_28 (dk_at dksX0_risk_0 9 rfl rfl)
theorem dX0_risk_10 : decode cX0_risk 10 = .ok (.invokevirtual 387, 3) := dk_182 1 131 (dk_at dksX0_risk_0 10 rfl rfl)
theorem dX0_risk_13 : decode cX0_risk 13 = .ok (.ifCond .ne 5, 3) := dk_154 0 5 (dk_at dksX0_risk_0 13 rfl rfl)
theorem dX0_risk_16 : decode cX0_risk 16 = .ok (.iconst (-1), 1) := dk_2 (dk_at dksX0_risk_0 16 rfl rfl)
theorem dX0_risk_17 : decode cX0_risk 17 = .ok (.ireturn, 1) := dk_172 (dk_at dksX0_risk_0 17 rfl rfl)
theorem dX0_risk_18 : decode cX0_risk 18 = .ok (.aload_n 0, 1) := dk_42 (dk_at dksX0_risk_0 18 rfl rfl)
theorem dX0_risk_19 : decode cX0_risk 19 = .ok (.iload_n 1, 1) := dk_27 (dk_at dksX0_risk_0 19 rfl rfl)
theorem dX0_risk_20 : decode cX0_risk 20 = .ok (.iload_n 2, 1) := dk_28 (dk_at dksX0_risk_0 20 rfl rfl)
theorem dX0_risk_21 : decode cX0_risk 21 = .ok (.bipush 100, 2) := dk_16 100 (dk_at dksX0_risk_0 21 rfl rfl)
theorem dX0_risk_23 : decode cX0_risk 23 = .ok (.idiv, 1) := dk_108 (dk_at dksX0_risk_0 23 rfl rfl)
theorem dX0_risk_24 : decode cX0_risk 24 = .ok (.iload_n 2, 1) := dk_28 (dk_at dksX0_risk_1 0 rfl rfl)
theorem dX0_risk_25 : decode cX0_risk 25 = .ok (.bipush 100, 2) := dk_16 100 (dk_at dksX0_risk_1 1 rfl rfl)
theorem dX0_risk_27 : decode cX0_risk 27 = .ok (.irem, 1) := dk_112 (dk_at dksX0_risk_1 3 rfl rfl)
theorem dX0_risk_28 : decode cX0_risk 28 = .ok (.invokevirtual 390, 3) := dk_182 1 134 (dk_at dksX0_risk_1 4 rfl rfl)
theorem dX0_risk_31 : decode cX0_risk 31 = .ok (.aload_n 0, 1) := dk_42 (dk_at dksX0_risk_1 7 rfl rfl)
theorem dX0_risk_32 : decode cX0_risk 32 = .ok (.aload_n 0, 1) := dk_42 (dk_at dksX0_risk_1 8 rfl rfl)
theorem dX0_risk_33 : decode cX0_risk 33 = .ok (.getfield 215, 3) := dk_180 0 215 (dk_at dksX0_risk_1 9 rfl rfl)
theorem dX0_risk_36 : decode cX0_risk 36 = .ok (.aload_n 0, 1) := dk_42 (dk_at dksX0_risk_1 12 rfl rfl)
theorem dX0_risk_37 : decode cX0_risk 37 = .ok (.getfield 51, 3) := dk_180 0 51 (dk_at dksX0_risk_1 13 rfl rfl)
theorem dX0_risk_40 : decode cX0_risk 40 = .ok (.getfield 164, 3) := dk_180 0 164 (dk_at dksX0_risk_1 16 rfl rfl)
theorem dX0_risk_43 : decode cX0_risk 43 = .ok (.iload_n 1, 1) := dk_27 (dk_at dksX0_risk_1 19 rfl rfl)
theorem dX0_risk_44 : decode cX0_risk 44 = .ok (.iaload, 1) := dk_46 (dk_at dksX0_risk_1 20 rfl rfl)
theorem dX0_risk_45 : decode cX0_risk 45 = .ok (.invokevirtual 384, 3) := dk_182 1 128 (dk_at dksX0_risk_1 21 rfl rfl)
theorem dX0_risk_48 : decode cX0_risk 48 = .ok (.istore_n 3, 1) := dk_62 (dk_at dksX0_risk_2 0 rfl rfl)
theorem dX0_risk_49 : decode cX0_risk 49 = .ok (.iload_n 3, 1) := dk_29 (dk_at dksX0_risk_2 1 rfl rfl)
theorem dX0_risk_50 : decode cX0_risk 50 = .ok (.iconst (-1), 1) := dk_2 (dk_at dksX0_risk_2 2 rfl rfl)
theorem dX0_risk_51 : decode cX0_risk 51 = .ok (.if_icmp .ne 8, 3) := dk_160 0 8 (dk_at dksX0_risk_2 3 rfl rfl)
theorem dX0_risk_54 : decode cX0_risk 54 = .ok (.bipush (-2), 2) := dk_16 254 (dk_at dksX0_risk_2 6 rfl rfl)
theorem dX0_risk_56 : decode cX0_risk 56 = .ok (.goto 4, 3) := dk_167 0 4 (dk_at dksX0_risk_2 8 rfl rfl)
theorem dX0_risk_59 : decode cX0_risk 59 = .ok (.iload_n 3, 1) := dk_29 (dk_at dksX0_risk_2 11 rfl rfl)
theorem dX0_risk_60 : decode cX0_risk 60 = .ok (.ireturn, 1) := dk_172 (dk_at dksX0_risk_2 12 rfl rfl)
abbrev cX0_isPt : ByteArray := prog_1_method_58_code
def yX0_isPt : MethodName := ⟨RX0, "isPt", "(I)Z"⟩
def dkwX0_isPt_1 : List UInt8 := [133, 20, 0, 136, 184, 0, 108, 153, 0, 7, 4, 167, 0, 4, 3, 172]
abbrev dktX0_isPt_1 : List UInt8 := dkwX0_isPt_1 ++ []
def dkwX0_isPt_0 : List UInt8 := [27, 155, 0, 37, 42, 27, 16, 100, 108, 182, 0, 147, 153, 0, 26, 27, 16, 100, 112, 133, 42, 180, 0, 215]
abbrev dktX0_isPt_0 : List UInt8 := dkwX0_isPt_0 ++ dktX0_isPt_1
theorem dksX0_isPt_0 : cX0_isPt.data.toList.drop 0 = dktX0_isPt_0 := by decide +kernel
theorem dksX0_isPt_1 : cX0_isPt.data.toList.drop 24 = dktX0_isPt_1 := dk_seg dksX0_isPt_0 24 rfl rfl
theorem dX0_isPt_0 : decode cX0_isPt 0 = .ok (.iload_n 1, 1) := dk_27 (dk_at dksX0_isPt_0 0 rfl rfl)
theorem dX0_isPt_1 : decode cX0_isPt 1 = .ok (.ifCond .lt 37, 3) := dk_155 0 37 (dk_at dksX0_isPt_0 1 rfl rfl)
theorem dX0_isPt_4 : decode cX0_isPt 4 = .ok (.aload_n 0, 1) := dk_42 (dk_at dksX0_isPt_0 4 rfl rfl)
theorem dX0_isPt_5 : decode cX0_isPt 5 = .ok (.iload_n 1, 1) := dk_27 (dk_at dksX0_isPt_0 5 rfl rfl)
theorem dX0_isPt_6 : decode cX0_isPt 6 = .ok (.bipush 100, 2) := dk_16 100 (dk_at dksX0_isPt_0 6 rfl rfl)
theorem dX0_isPt_8 : decode cX0_isPt 8 = .ok (.idiv, 1) := dk_108 (dk_at dksX0_isPt_0 8 rfl rfl)
theorem dX0_isPt_9 : decode cX0_isPt 9 = .ok (.invokevirtual 147, 3) := dk_182 0 147 (dk_at dksX0_isPt_0 9 rfl rfl)
theorem dX0_isPt_12 : decode cX0_isPt 12 = .ok (.ifCond .eq 26, 3) := dk_153 0 26 (dk_at dksX0_isPt_0 12 rfl rfl)
theorem dX0_isPt_15 : decode cX0_isPt 15 = .ok (.iload_n 1, 1) := dk_27 (dk_at dksX0_isPt_0 15 rfl rfl)
theorem dX0_isPt_16 : decode cX0_isPt 16 = .ok (.bipush 100, 2) := dk_16 100 (dk_at dksX0_isPt_0 16 rfl rfl)
theorem dX0_isPt_18 : decode cX0_isPt 18 = .ok (.irem, 1) := dk_112 (dk_at dksX0_isPt_0 18 rfl rfl)
theorem dX0_isPt_19 : decode cX0_isPt 19 = .ok (.i2l, 1) := dk_133 (dk_at dksX0_isPt_0 19 rfl rfl)
theorem dX0_isPt_20 : decode cX0_isPt 20 = .ok (.aload_n 0, 1) := dk_42 (dk_at dksX0_isPt_0 20 rfl rfl)
theorem dX0_isPt_21 : decode cX0_isPt 21 = .ok (.getfield 215, 3) := dk_180 0 215 (dk_at dksX0_isPt_0 21 rfl rfl)
theorem dX0_isPt_24 : decode cX0_isPt 24 = .ok (.i2l, 1) := dk_133 (dk_at dksX0_isPt_1 0 rfl rfl)
theorem dX0_isPt_25 : decode cX0_isPt 25 = .ok (.ldc2_w 136, 3) := dk_20 0 136 (dk_at dksX0_isPt_1 1 rfl rfl)
theorem dX0_isPt_28 : decode cX0_isPt 28 = .ok (.invokestatic 108, 3) := dk_184 0 108 (dk_at dksX0_isPt_1 4 rfl rfl)
theorem dX0_isPt_31 : decode cX0_isPt 31 = .ok (.ifCond .eq 7, 3) := dk_153 0 7 (dk_at dksX0_isPt_1 7 rfl rfl)
theorem dX0_isPt_34 : decode cX0_isPt 34 = .ok (.iconst 1, 1) := dk_4 (dk_at dksX0_isPt_1 10 rfl rfl)
theorem dX0_isPt_35 : decode cX0_isPt 35 = .ok (.goto 4, 3) := dk_167 0 4 (dk_at dksX0_isPt_1 11 rfl rfl)
theorem dX0_isPt_38 : decode cX0_isPt 38 = .ok (.iconst 0, 1) := dk_3 (dk_at dksX0_isPt_1 14 rfl rfl)
theorem dX0_isPt_39 : decode cX0_isPt 39 = .ok (.ireturn, 1) := dk_172 (dk_at dksX0_isPt_1 15 rfl rfl)
abbrev cX0_measure : ByteArray := prog_1_method_57_code
def yX0_measure : MethodName := ⟨RX0, "measure", "(III)V"⟩
def dkwX0_measure_7 : List UInt8 := [96, 79, 132, 5, 1, 167, 255, 100, 132, 4, 255, 167, 255, 82, 177]
abbrev dktX0_measure_7 : List UInt8 := dkwX0_measure_7 ++ []
def dkwX0_measure_6 : List UInt8 := [42, 180, 0, 51, 27, 21, 5, 21, 4, 42, 180, 0, 63, 27, 50, 180, 0, 158, 180, 0, 1, 182, 1, 89]
abbrev dktX0_measure_6 : List UInt8 := dkwX0_measure_6 ++ dktX0_measure_7
def dkwX0_measure_5 : List UInt8 := [180, 0, 81, 16, 7, 21, 4, 104, 21, 5, 96, 21, 6, 2, 160, 0, 7, 2, 167, 0, 31, 21, 6, 42]
abbrev dktX0_measure_5 : List UInt8 := dkwX0_measure_5 ++ dktX0_measure_6
def dkwX0_measure_4 : List UInt8 := [2, 159, 0, 10, 21, 8, 21, 6, 162, 0, 7, 21, 8, 54, 6, 132, 7, 1, 167, 255, 188, 42]
abbrev dktX0_measure_4 : List UInt8 := dkwX0_measure_4 ++ dktX0_measure_5
def dkwX0_measure_3 : List UInt8 := [42, 21, 4, 4, 96, 21, 7, 182, 1, 128, 167, 0, 4, 2, 54, 8, 21, 8, 2, 159, 0, 20, 21, 6]
abbrev dktX0_measure_3 : List UInt8 := dkwX0_measure_3 ++ dktX0_measure_4
def dkwX0_measure_2 : List UInt8 := [42, 180, 0, 130, 162, 0, 65, 21, 4, 29, 162, 0, 59, 42, 21, 5, 21, 7, 182, 1, 125, 153, 0, 16]
abbrev dktX0_measure_2 : List UInt8 := dkwX0_measure_2 ++ dktX0_measure_3
def dkwX0_measure_1 : List UInt8 := [21, 4, 29, 160, 0, 13, 21, 5, 28, 160, 0, 7, 3, 167, 0, 4, 2, 54, 6, 3, 54, 7, 21, 7]
abbrev dktX0_measure_1 : List UInt8 := dkwX0_measure_1 ++ dktX0_measure_2
def dkwX0_measure_0 : List UInt8 := [29, 54, 4, 21, 4, 42, 180, 0, 215, 161, 0, 171, 3, 54, 5, 21, 5, 42, 180, 0, 130, 162, 0, 153]
abbrev dktX0_measure_0 : List UInt8 := dkwX0_measure_0 ++ dktX0_measure_1
theorem dksX0_measure_0 : cX0_measure.data.toList.drop 0 = dktX0_measure_0 := by decide +kernel
theorem dksX0_measure_1 : cX0_measure.data.toList.drop 24 = dktX0_measure_1 := dk_seg dksX0_measure_0 24 rfl rfl
theorem dksX0_measure_2 : cX0_measure.data.toList.drop 48 = dktX0_measure_2 := dk_seg dksX0_measure_1 24 rfl rfl
theorem dksX0_measure_3 : cX0_measure.data.toList.drop 72 = dktX0_measure_3 := dk_seg dksX0_measure_2 24 rfl rfl
theorem dksX0_measure_4 : cX0_measure.data.toList.drop 96 = dktX0_measure_4 := dk_seg dksX0_measure_3 24 rfl rfl
theorem dksX0_measure_5 : cX0_measure.data.toList.drop 118 = dktX0_measure_5 := dk_seg dksX0_measure_4 22 rfl rfl
theorem dksX0_measure_6 : cX0_measure.data.toList.drop 142 = dktX0_measure_6 := dk_seg dksX0_measure_5 24 rfl rfl
theorem dksX0_measure_7 : cX0_measure.data.toList.drop 166 = dktX0_measure_7 := dk_seg dksX0_measure_6 24 rfl rfl
theorem dX0_measure_0 : decode cX0_measure 0 = .ok (.iload_n 3, 1) := dk_29 (dk_at dksX0_measure_0 0 rfl rfl)
theorem dX0_measure_1 : decode cX0_measure 1 = .ok (.istore 4, 2) := dk_54 4 (dk_at dksX0_measure_0 1 rfl rfl)
theorem dX0_measure_3 : decode cX0_measure 3 = .ok (.iload 4, 2) := dk_21 4 (dk_at dksX0_measure_0 3 rfl rfl)
theorem dX0_measure_5 : decode cX0_measure 5 = .ok (.aload_n 0, 1) := dk_42 (dk_at dksX0_measure_0 5 rfl rfl)
theorem dX0_measure_6 : decode cX0_measure 6 = .ok (.getfield 215, 3) := dk_180 0 215 (dk_at dksX0_measure_0 6 rfl rfl)
theorem dX0_measure_9 : decode cX0_measure 9 = .ok (.if_icmp .lt 171, 3) := dk_161 0 171 (dk_at dksX0_measure_0 9 rfl rfl)
theorem dX0_measure_12 : decode cX0_measure 12 = .ok (.iconst 0, 1) := dk_3 (dk_at dksX0_measure_0 12 rfl rfl)
theorem dX0_measure_13 : decode cX0_measure 13 = .ok (.istore 5, 2) := dk_54 5 (dk_at dksX0_measure_0 13 rfl rfl)
theorem dX0_measure_15 : decode cX0_measure 15 = .ok (.iload 5, 2) := dk_21 5 (dk_at dksX0_measure_0 15 rfl rfl)
theorem dX0_measure_17 : decode cX0_measure 17 = .ok (.aload_n 0, 1) := dk_42 (dk_at dksX0_measure_0 17 rfl rfl)
theorem dX0_measure_18 : decode cX0_measure 18 = .ok (.getfield 130, 3) := dk_180 0 130 (dk_at dksX0_measure_0 18 rfl rfl)
theorem dX0_measure_21 : decode cX0_measure 21 = .ok (.if_icmp .ge 153, 3) := dk_162 0 153 (dk_at dksX0_measure_0 21 rfl rfl)
theorem dX0_measure_24 : decode cX0_measure 24 = .ok (.iload 4, 2) := dk_21 4 (dk_at dksX0_measure_1 0 rfl rfl)
theorem dX0_measure_26 : decode cX0_measure 26 = .ok (.iload_n 3, 1) := dk_29 (dk_at dksX0_measure_1 2 rfl rfl)
theorem dX0_measure_27 : decode cX0_measure 27 = .ok (.if_icmp .ne 13, 3) := dk_160 0 13 (dk_at dksX0_measure_1 3 rfl rfl)
theorem dX0_measure_30 : decode cX0_measure 30 = .ok (.iload 5, 2) := dk_21 5 (dk_at dksX0_measure_1 6 rfl rfl)
theorem dX0_measure_32 : decode cX0_measure 32 = .ok (.iload_n 2, 1) := dk_28 (dk_at dksX0_measure_1 8 rfl rfl)
theorem dX0_measure_33 : decode cX0_measure 33 = .ok (.if_icmp .ne 7, 3) := dk_160 0 7 (dk_at dksX0_measure_1 9 rfl rfl)
theorem dX0_measure_36 : decode cX0_measure 36 = .ok (.iconst 0, 1) := dk_3 (dk_at dksX0_measure_1 12 rfl rfl)
theorem dX0_measure_37 : decode cX0_measure 37 = .ok (.goto 4, 3) := dk_167 0 4 (dk_at dksX0_measure_1 13 rfl rfl)
theorem dX0_measure_40 : decode cX0_measure 40 = .ok (.iconst (-1), 1) := dk_2 (dk_at dksX0_measure_1 16 rfl rfl)
theorem dX0_measure_41 : decode cX0_measure 41 = .ok (.istore 6, 2) := dk_54 6 (dk_at dksX0_measure_1 17 rfl rfl)
theorem dX0_measure_43 : decode cX0_measure 43 = .ok (.iconst 0, 1) := dk_3 (dk_at dksX0_measure_1 19 rfl rfl)
theorem dX0_measure_44 : decode cX0_measure 44 = .ok (.istore 7, 2) := dk_54 7 (dk_at dksX0_measure_1 20 rfl rfl)
theorem dX0_measure_46 : decode cX0_measure 46 = .ok (.iload 7, 2) := dk_21 7 (dk_at dksX0_measure_1 22 rfl rfl)
theorem dX0_measure_48 : decode cX0_measure 48 = .ok (.aload_n 0, 1) := dk_42 (dk_at dksX0_measure_2 0 rfl rfl)
theorem dX0_measure_49 : decode cX0_measure 49 = .ok (.getfield 130, 3) := dk_180 0 130 (dk_at dksX0_measure_2 1 rfl rfl)
theorem dX0_measure_52 : decode cX0_measure 52 = .ok (.if_icmp .ge 65, 3) := dk_162 0 65 (dk_at dksX0_measure_2 4 rfl rfl)
theorem dX0_measure_55 : decode cX0_measure 55 = .ok (.iload 4, 2) := dk_21 4 (dk_at dksX0_measure_2 7 rfl rfl)
theorem dX0_measure_57 : decode cX0_measure 57 = .ok (.iload_n 3, 1) := dk_29 (dk_at dksX0_measure_2 9 rfl rfl)
theorem dX0_measure_58 : decode cX0_measure 58 = .ok (.if_icmp .ge 59, 3) := dk_162 0 59 (dk_at dksX0_measure_2 10 rfl rfl)
theorem dX0_measure_61 : decode cX0_measure 61 = .ok (.aload_n 0, 1) := dk_42 (dk_at dksX0_measure_2 13 rfl rfl)
theorem dX0_measure_62 : decode cX0_measure 62 = .ok (.iload 5, 2) := dk_21 5 (dk_at dksX0_measure_2 14 rfl rfl)
theorem dX0_measure_64 : decode cX0_measure 64 = .ok (.iload 7, 2) := dk_21 7 (dk_at dksX0_measure_2 16 rfl rfl)
theorem dX0_measure_66 : decode cX0_measure 66 = .ok (.invokevirtual 381, 3) := dk_182 1 125 (dk_at dksX0_measure_2 18 rfl rfl)
theorem dX0_measure_69 : decode cX0_measure 69 = .ok (.ifCond .eq 16, 3) := dk_153 0 16 (dk_at dksX0_measure_2 21 rfl rfl)
theorem dX0_measure_72 : decode cX0_measure 72 = .ok (.aload_n 0, 1) := dk_42 (dk_at dksX0_measure_3 0 rfl rfl)
theorem dX0_measure_73 : decode cX0_measure 73 = .ok (.iload 4, 2) := dk_21 4 (dk_at dksX0_measure_3 1 rfl rfl)
theorem dX0_measure_75 : decode cX0_measure 75 = .ok (.iconst 1, 1) := dk_4 (dk_at dksX0_measure_3 3 rfl rfl)
theorem dX0_measure_76 : decode cX0_measure 76 = .ok (.iadd, 1) := dk_96 (dk_at dksX0_measure_3 4 rfl rfl)
theorem dX0_measure_77 : decode cX0_measure 77 = .ok (.iload 7, 2) := dk_21 7 (dk_at dksX0_measure_3 5 rfl rfl)
theorem dX0_measure_79 : decode cX0_measure 79 = .ok (.invokevirtual 384, 3) := dk_182 1 128 (dk_at dksX0_measure_3 7 rfl rfl)
theorem dX0_measure_82 : decode cX0_measure 82 = .ok (.goto 4, 3) := dk_167 0 4 (dk_at dksX0_measure_3 10 rfl rfl)
theorem dX0_measure_85 : decode cX0_measure 85 = .ok (.iconst (-1), 1) := dk_2 (dk_at dksX0_measure_3 13 rfl rfl)
theorem dX0_measure_86 : decode cX0_measure 86 = .ok (.istore 8, 2) := dk_54 8 (dk_at dksX0_measure_3 14 rfl rfl)
theorem dX0_measure_88 : decode cX0_measure 88 = .ok (.iload 8, 2) := dk_21 8 (dk_at dksX0_measure_3 16 rfl rfl)
theorem dX0_measure_90 : decode cX0_measure 90 = .ok (.iconst (-1), 1) := dk_2 (dk_at dksX0_measure_3 18 rfl rfl)
theorem dX0_measure_91 : decode cX0_measure 91 = .ok (.if_icmp .eq 20, 3) := dk_159 0 20 (dk_at dksX0_measure_3 19 rfl rfl)
theorem dX0_measure_94 : decode cX0_measure 94 = .ok (.iload 6, 2) := dk_21 6 (dk_at dksX0_measure_3 22 rfl rfl)
theorem dX0_measure_96 : decode cX0_measure 96 = .ok (.iconst (-1), 1) := dk_2 (dk_at dksX0_measure_4 0 rfl rfl)
theorem dX0_measure_97 : decode cX0_measure 97 = .ok (.if_icmp .eq 10, 3) := dk_159 0 10 (dk_at dksX0_measure_4 1 rfl rfl)
theorem dX0_measure_100 : decode cX0_measure 100 = .ok (.iload 8, 2) := dk_21 8 (dk_at dksX0_measure_4 4 rfl rfl)
theorem dX0_measure_102 : decode cX0_measure 102 = .ok (.iload 6, 2) := dk_21 6 (dk_at dksX0_measure_4 6 rfl rfl)
theorem dX0_measure_104 : decode cX0_measure 104 = .ok (.if_icmp .ge 7, 3) := dk_162 0 7 (dk_at dksX0_measure_4 8 rfl rfl)
theorem dX0_measure_107 : decode cX0_measure 107 = .ok (.iload 8, 2) := dk_21 8 (dk_at dksX0_measure_4 11 rfl rfl)
theorem dX0_measure_109 : decode cX0_measure 109 = .ok (.istore 6, 2) := dk_54 6 (dk_at dksX0_measure_4 13 rfl rfl)
theorem dX0_measure_111 : decode cX0_measure 111 = .ok (.iinc 7 1, 3) := dk_132 7 1 (dk_at dksX0_measure_4 15 rfl rfl)
theorem dX0_measure_114 : decode cX0_measure 114 = .ok (.goto (-68), 3) := dk_167 255 188 (dk_at dksX0_measure_4 18 rfl rfl)
theorem dX0_measure_117 : decode cX0_measure 117 = .ok (.aload_n 0, 1) := dk_42 (dk_at dksX0_measure_4 21 rfl rfl)
theorem dX0_measure_118 : decode cX0_measure 118 = .ok (.getfield 81, 3) := dk_180 0 81 (dk_at dksX0_measure_5 0 rfl rfl)
theorem dX0_measure_121 : decode cX0_measure 121 = .ok (.bipush 7, 2) := dk_16 7 (dk_at dksX0_measure_5 3 rfl rfl)
theorem dX0_measure_123 : decode cX0_measure 123 = .ok (.iload 4, 2) := dk_21 4 (dk_at dksX0_measure_5 5 rfl rfl)
theorem dX0_measure_125 : decode cX0_measure 125 = .ok (.imul, 1) := dk_104 (dk_at dksX0_measure_5 7 rfl rfl)
theorem dX0_measure_126 : decode cX0_measure 126 = .ok (.iload 5, 2) := dk_21 5 (dk_at dksX0_measure_5 8 rfl rfl)
theorem dX0_measure_128 : decode cX0_measure 128 = .ok (.iadd, 1) := dk_96 (dk_at dksX0_measure_5 10 rfl rfl)
theorem dX0_measure_129 : decode cX0_measure 129 = .ok (.iload 6, 2) := dk_21 6 (dk_at dksX0_measure_5 11 rfl rfl)
theorem dX0_measure_131 : decode cX0_measure 131 = .ok (.iconst (-1), 1) := dk_2 (dk_at dksX0_measure_5 13 rfl rfl)
theorem dX0_measure_132 : decode cX0_measure 132 = .ok (.if_icmp .ne 7, 3) := dk_160 0 7 (dk_at dksX0_measure_5 14 rfl rfl)
theorem dX0_measure_135 : decode cX0_measure 135 = .ok (.iconst (-1), 1) := dk_2 (dk_at dksX0_measure_5 17 rfl rfl)
theorem dX0_measure_136 : decode cX0_measure 136 = .ok (.goto 31, 3) := dk_167 0 31 (dk_at dksX0_measure_5 18 rfl rfl)
theorem dX0_measure_139 : decode cX0_measure 139 = .ok (.iload 6, 2) := dk_21 6 (dk_at dksX0_measure_5 21 rfl rfl)
theorem dX0_measure_141 : decode cX0_measure 141 = .ok (.aload_n 0, 1) := dk_42 (dk_at dksX0_measure_5 23 rfl rfl)
theorem dX0_measure_142 : decode cX0_measure 142 = .ok (.aload_n 0, 1) := dk_42 (dk_at dksX0_measure_6 0 rfl rfl)
theorem dX0_measure_143 : decode cX0_measure 143 = .ok (.getfield 51, 3) := dk_180 0 51 (dk_at dksX0_measure_6 1 rfl rfl)
theorem dX0_measure_146 : decode cX0_measure 146 = .ok (.iload_n 1, 1) := dk_27 (dk_at dksX0_measure_6 4 rfl rfl)
theorem dX0_measure_147 : decode cX0_measure 147 = .ok (.iload 5, 2) := dk_21 5 (dk_at dksX0_measure_6 5 rfl rfl)
theorem dX0_measure_149 : decode cX0_measure 149 = .ok (.iload 4, 2) := dk_21 4 (dk_at dksX0_measure_6 7 rfl rfl)
theorem dX0_measure_151 : decode cX0_measure 151 = .ok (.aload_n 0, 1) := dk_42 (dk_at dksX0_measure_6 9 rfl rfl)
theorem dX0_measure_152 : decode cX0_measure 152 = .ok (.getfield 63, 3) := dk_180 0 63 (dk_at dksX0_measure_6 10 rfl rfl)
theorem dX0_measure_155 : decode cX0_measure 155 = .ok (.iload_n 1, 1) := dk_27 (dk_at dksX0_measure_6 13 rfl rfl)
theorem dX0_measure_156 : decode cX0_measure 156 = .ok (.aaload, 1) := dk_50 (dk_at dksX0_measure_6 14 rfl rfl)
theorem dX0_measure_157 : decode cX0_measure 157 = .ok (.getfield 158, 3) := dk_180 0 158 (dk_at dksX0_measure_6 15 rfl rfl)
theorem dX0_measure_160 : decode cX0_measure 160 = .ok (.getfield 1, 3) := dk_180 0 1 (dk_at dksX0_measure_6 18 rfl rfl)
theorem dX0_measure_163 : decode cX0_measure 163 = .ok (.invokevirtual 345, 3) := dk_182 1 89 (dk_at dksX0_measure_6 21 rfl rfl)
theorem dX0_measure_166 : decode cX0_measure 166 = .ok (.iadd, 1) := dk_96 (dk_at dksX0_measure_7 0 rfl rfl)
theorem dX0_measure_167 : decode cX0_measure 167 = .ok (.iastore, 1) := dk_79 (dk_at dksX0_measure_7 1 rfl rfl)
theorem dX0_measure_168 : decode cX0_measure 168 = .ok (.iinc 5 1, 3) := dk_132 5 1 (dk_at dksX0_measure_7 2 rfl rfl)
theorem dX0_measure_171 : decode cX0_measure 171 = .ok (.goto (-156), 3) := dk_167 255 100 (dk_at dksX0_measure_7 5 rfl rfl)
theorem dX0_measure_174 : decode cX0_measure 174 = .ok (.iinc 4 (-1), 3) := dk_132 4 255 (dk_at dksX0_measure_7 8 rfl rfl)
theorem dX0_measure_177 : decode cX0_measure 177 = .ok (.goto (-174), 3) := dk_167 255 82 (dk_at dksX0_measure_7 11 rfl rfl)
theorem dX0_measure_180 : decode cX0_measure 180 = .ok (.return_, 1) := dk_177 (dk_at dksX0_measure_7 14 rfl rfl)
abbrev cX0_mayGo : ByteArray := prog_1_method_56_code
def yX0_mayGo : MethodName := ⟨RX0, "mayGo", "(II)Z"⟩
def dkwX0_mayGo_0 : List UInt8 := [27, 28, 159, 0, 12, 42, 27, 28, 182, 0, 150, 153, 0, 7, 4, 167, 0, 4, 3, 172]
abbrev dktX0_mayGo_0 : List UInt8 := dkwX0_mayGo_0 ++ []
theorem dksX0_mayGo_0 : cX0_mayGo.data.toList.drop 0 = dktX0_mayGo_0 := by decide +kernel
theorem dX0_mayGo_0 : decode cX0_mayGo 0 = .ok (.iload_n 1, 1) := dk_27 (dk_at dksX0_mayGo_0 0 rfl rfl)
theorem dX0_mayGo_1 : decode cX0_mayGo 1 = .ok (.iload_n 2, 1) := dk_28 (dk_at dksX0_mayGo_0 1 rfl rfl)
theorem dX0_mayGo_2 : decode cX0_mayGo 2 = .ok (.if_icmp .eq 12, 3) := dk_159 0 12 (dk_at dksX0_mayGo_0 2 rfl rfl)
theorem dX0_mayGo_5 : decode cX0_mayGo 5 = .ok (.aload_n 0, 1) := dk_42 (dk_at dksX0_mayGo_0 5 rfl rfl)
theorem dX0_mayGo_6 : decode cX0_mayGo 6 = .ok (.iload_n 1, 1) := dk_27 (dk_at dksX0_mayGo_0 6 rfl rfl)
theorem dX0_mayGo_7 : decode cX0_mayGo 7 = .ok (.iload_n 2, 1) := dk_28 (dk_at dksX0_mayGo_0 7 rfl rfl)
theorem dX0_mayGo_8 : decode cX0_mayGo 8 = .ok (.invokevirtual 150, 3) := dk_182 0 150 (dk_at dksX0_mayGo_0 8 rfl rfl)
theorem dX0_mayGo_11 : decode cX0_mayGo 11 = .ok (.ifCond .eq 7, 3) := dk_153 0 7 (dk_at dksX0_mayGo_0 11 rfl rfl)
theorem dX0_mayGo_14 : decode cX0_mayGo 14 = .ok (.iconst 1, 1) := dk_4 (dk_at dksX0_mayGo_0 14 rfl rfl)
theorem dX0_mayGo_15 : decode cX0_mayGo 15 = .ok (.goto 4, 3) := dk_167 0 4 (dk_at dksX0_mayGo_0 15 rfl rfl)
theorem dX0_mayGo_18 : decode cX0_mayGo 18 = .ok (.iconst 0, 1) := dk_3 (dk_at dksX0_mayGo_0 18 rfl rfl)
theorem dX0_mayGo_19 : decode cX0_mayGo 19 = .ok (.ireturn, 1) := dk_172 (dk_at dksX0_mayGo_0 19 rfl rfl)
abbrev cX0_comes : ByteArray := prog_1_method_55_code
def yX0_comes : MethodName := ⟨RX0, "comes", "(II)I"⟩
def dkwX0_comes_0 : List UInt8 := [42, 180, 0, 81, 16, 7, 27, 104, 28, 96, 46, 172]
abbrev dktX0_comes_0 : List UInt8 := dkwX0_comes_0 ++ []
theorem dksX0_comes_0 : cX0_comes.data.toList.drop 0 = dktX0_comes_0 := by decide +kernel
theorem dX0_comes_0 : decode cX0_comes 0 = .ok (.aload_n 0, 1) := dk_42 (dk_at dksX0_comes_0 0 rfl rfl)
theorem dX0_comes_1 : decode cX0_comes 1 = .ok (.getfield 81, 3) := dk_180 0 81 (dk_at dksX0_comes_0 1 rfl rfl)
theorem dX0_comes_4 : decode cX0_comes 4 = .ok (.bipush 7, 2) := dk_16 7 (dk_at dksX0_comes_0 4 rfl rfl)
theorem dX0_comes_6 : decode cX0_comes 6 = .ok (.iload_n 1, 1) := dk_27 (dk_at dksX0_comes_0 6 rfl rfl)
theorem dX0_comes_7 : decode cX0_comes 7 = .ok (.imul, 1) := dk_104 (dk_at dksX0_comes_0 7 rfl rfl)
theorem dX0_comes_8 : decode cX0_comes 8 = .ok (.iload_n 2, 1) := dk_28 (dk_at dksX0_comes_0 8 rfl rfl)
theorem dX0_comes_9 : decode cX0_comes 9 = .ok (.iadd, 1) := dk_96 (dk_at dksX0_comes_0 9 rfl rfl)
theorem dX0_comes_10 : decode cX0_comes 10 = .ok (.iaload, 1) := dk_46 (dk_at dksX0_comes_0 10 rfl rfl)
theorem dX0_comes_11 : decode cX0_comes 11 = .ok (.ireturn, 1) := dk_172 (dk_at dksX0_comes_0 11 rfl rfl)
abbrev cX0_walk : ByteArray := prog_1_method_60_code
def yX0_walk : MethodName := ⟨RX0, "walk", "(III)I"⟩
def dkwX0_walk_7 : List UInt8 := [132, 5, 1, 167, 255, 172, 21, 4, 172]
abbrev dktX0_walk_7 : List UInt8 := dkwX0_walk_7 ++ []
def dkwX0_walk_6 : List UInt8 := [21, 5, 4, 96, 21, 7, 182, 1, 128, 21, 6, 159, 0, 9, 132, 7, 1, 167, 255, 227, 21, 7, 54, 4]
abbrev dktX0_walk_6 : List UInt8 := dkwX0_walk_6 ++ dktX0_walk_7
def dkwX0_walk_5 : List UInt8 := [180, 0, 1, 182, 1, 89, 100, 54, 6, 3, 54, 7, 42, 21, 4, 21, 7, 182, 1, 125, 153, 0, 18, 42]
abbrev dktX0_walk_5 : List UInt8 := dkwX0_walk_5 ++ dktX0_walk_6
def dkwX0_walk_4 : List UInt8 := [182, 1, 128, 42, 42, 180, 0, 51, 27, 21, 4, 21, 5, 42, 180, 0, 63, 27, 50, 180, 0, 158]
abbrev dktX0_walk_4 : List UInt8 := dkwX0_walk_4 ++ dktX0_walk_5
def dkwX0_walk_3 : List UInt8 := [2, 160, 0, 6, 16, 254, 172, 42, 180, 0, 215, 54, 5, 21, 5, 29, 162, 0, 84, 42, 21, 5, 21, 4]
abbrev dktX0_walk_3 : List UInt8 := dkwX0_walk_3 ++ dktX0_walk_4
def dkwX0_walk_2 : List UInt8 := [182, 1, 134, 42, 180, 0, 51, 180, 0, 164, 27, 46, 54, 4, 42, 42, 180, 0, 215, 21, 4, 182, 1, 128]
abbrev dktX0_walk_2 : List UInt8 := dkwX0_walk_2 ++ dktX0_walk_3
def dkwX0_walk_1 : List UInt8 := [16, 100, 112, 133, 184, 0, 108, 154, 0, 5, 2, 172, 42, 27, 28, 16, 100, 108, 28, 16, 100, 112]
abbrev dktX0_walk_1 : List UInt8 := dkwX0_walk_1 ++ dktX0_walk_2
def dkwX0_walk_0 : List UInt8 := [42, 27, 182, 0, 193, 153, 0, 29, 42, 28, 182, 1, 131, 153, 0, 21, 29, 133, 42, 180, 0, 215, 133, 28]
abbrev dktX0_walk_0 : List UInt8 := dkwX0_walk_0 ++ dktX0_walk_1
theorem dksX0_walk_0 : cX0_walk.data.toList.drop 0 = dktX0_walk_0 := by decide +kernel
theorem dksX0_walk_1 : cX0_walk.data.toList.drop 24 = dktX0_walk_1 := dk_seg dksX0_walk_0 24 rfl rfl
theorem dksX0_walk_2 : cX0_walk.data.toList.drop 46 = dktX0_walk_2 := dk_seg dksX0_walk_1 22 rfl rfl
theorem dksX0_walk_3 : cX0_walk.data.toList.drop 70 = dktX0_walk_3 := dk_seg dksX0_walk_2 24 rfl rfl
theorem dksX0_walk_4 : cX0_walk.data.toList.drop 94 = dktX0_walk_4 := dk_seg dksX0_walk_3 24 rfl rfl
theorem dksX0_walk_5 : cX0_walk.data.toList.drop 116 = dktX0_walk_5 := dk_seg dksX0_walk_4 22 rfl rfl
theorem dksX0_walk_6 : cX0_walk.data.toList.drop 140 = dktX0_walk_6 := dk_seg dksX0_walk_5 24 rfl rfl
theorem dksX0_walk_7 : cX0_walk.data.toList.drop 164 = dktX0_walk_7 := dk_seg dksX0_walk_6 24 rfl rfl
theorem dX0_walk_0 : decode cX0_walk 0 = .ok (.aload_n 0, 1) := dk_42 (dk_at dksX0_walk_0 0 rfl rfl)
theorem dX0_walk_1 : decode cX0_walk 1 = .ok (.iload_n 1, 1) := dk_27 (dk_at dksX0_walk_0 1 rfl rfl)
theorem dX0_walk_2 : decode cX0_walk 2 = .ok (.invokevirtual 193, 3) := dk_182 0 193 (dk_at dksX0_walk_0 2 rfl rfl)
theorem dX0_walk_5 : decode cX0_walk 5 = .ok (.ifCond .eq 29, 3) := dk_153 0 29 (dk_at dksX0_walk_0 5 rfl rfl)
theorem dX0_walk_8 : decode cX0_walk 8 = .ok (.aload_n 0, 1) := dk_42 (dk_at dksX0_walk_0 8 rfl rfl)
theorem dX0_walk_9 : decode cX0_walk 9 = .ok (.iload_n 2, 1) := dk_28 (dk_at dksX0_walk_0 9 rfl rfl)
theorem dX0_walk_10 : decode cX0_walk 10 = .ok (.invokevirtual 387, 3) := dk_182 1 131 (dk_at dksX0_walk_0 10 rfl rfl)
theorem dX0_walk_13 : decode cX0_walk 13 = .ok (.ifCond .eq 21, 3) := dk_153 0 21 (dk_at dksX0_walk_0 13 rfl rfl)
theorem dX0_walk_16 : decode cX0_walk 16 = .ok (.iload_n 3, 1) := dk_29 (dk_at dksX0_walk_0 16 rfl rfl)
theorem dX0_walk_17 : decode cX0_walk 17 = .ok (.i2l, 1) := dk_133 (dk_at dksX0_walk_0 17 rfl rfl)
theorem dX0_walk_18 : decode cX0_walk 18 = .ok (.aload_n 0, 1) := dk_42 (dk_at dksX0_walk_0 18 rfl rfl)
theorem dX0_walk_19 : decode cX0_walk 19 = .ok (.getfield 215, 3) := dk_180 0 215 (dk_at dksX0_walk_0 19 rfl rfl)
theorem dX0_walk_22 : decode cX0_walk 22 = .ok (.i2l, 1) := dk_133 (dk_at dksX0_walk_0 22 rfl rfl)
theorem dX0_walk_23 : decode cX0_walk 23 = .ok (.iload_n 2, 1) := dk_28 (dk_at dksX0_walk_0 23 rfl rfl)
theorem dX0_walk_24 : decode cX0_walk 24 = .ok (.bipush 100, 2) := dk_16 100 (dk_at dksX0_walk_1 0 rfl rfl)
theorem dX0_walk_26 : decode cX0_walk 26 = .ok (.irem, 1) := dk_112 (dk_at dksX0_walk_1 2 rfl rfl)
theorem dX0_walk_27 : decode cX0_walk 27 = .ok (.i2l, 1) := dk_133 (dk_at dksX0_walk_1 3 rfl rfl)
theorem dX0_walk_28 : decode cX0_walk 28 = .ok (.invokestatic 108, 3) := dk_184 0 108 (dk_at dksX0_walk_1 4 rfl rfl)
theorem dX0_walk_31 : decode cX0_walk 31 = .ok (.ifCond .ne 5, 3) := dk_154 0 5 (dk_at dksX0_walk_1 7 rfl rfl)
theorem dX0_walk_34 : decode cX0_walk 34 = .ok (.iconst (-1), 1) := dk_2 (dk_at dksX0_walk_1 10 rfl rfl)
theorem dX0_walk_35 : decode cX0_walk 35 = .ok (.ireturn, 1) := dk_172 (dk_at dksX0_walk_1 11 rfl rfl)
theorem dX0_walk_36 : decode cX0_walk 36 = .ok (.aload_n 0, 1) := dk_42 (dk_at dksX0_walk_1 12 rfl rfl)
theorem dX0_walk_37 : decode cX0_walk 37 = .ok (.iload_n 1, 1) := dk_27 (dk_at dksX0_walk_1 13 rfl rfl)
theorem dX0_walk_38 : decode cX0_walk 38 = .ok (.iload_n 2, 1) := dk_28 (dk_at dksX0_walk_1 14 rfl rfl)
theorem dX0_walk_39 : decode cX0_walk 39 = .ok (.bipush 100, 2) := dk_16 100 (dk_at dksX0_walk_1 15 rfl rfl)
theorem dX0_walk_41 : decode cX0_walk 41 = .ok (.idiv, 1) := dk_108 (dk_at dksX0_walk_1 17 rfl rfl)
theorem dX0_walk_42 : decode cX0_walk 42 = .ok (.iload_n 2, 1) := dk_28 (dk_at dksX0_walk_1 18 rfl rfl)
theorem dX0_walk_43 : decode cX0_walk 43 = .ok (.bipush 100, 2) := dk_16 100 (dk_at dksX0_walk_1 19 rfl rfl)
theorem dX0_walk_45 : decode cX0_walk 45 = .ok (.irem, 1) := dk_112 (dk_at dksX0_walk_1 21 rfl rfl)
theorem dX0_walk_46 : decode cX0_walk 46 = .ok (.invokevirtual 390, 3) := dk_182 1 134 (dk_at dksX0_walk_2 0 rfl rfl)
theorem dX0_walk_49 : decode cX0_walk 49 = .ok (.aload_n 0, 1) := dk_42 (dk_at dksX0_walk_2 3 rfl rfl)
theorem dX0_walk_50 : decode cX0_walk 50 = .ok (.getfield 51, 3) := dk_180 0 51 (dk_at dksX0_walk_2 4 rfl rfl)
theorem dX0_walk_53 : decode cX0_walk 53 = .ok (.getfield 164, 3) := dk_180 0 164 (dk_at dksX0_walk_2 7 rfl rfl)
theorem dX0_walk_56 : decode cX0_walk 56 = .ok (.iload_n 1, 1) := dk_27 (dk_at dksX0_walk_2 10 rfl rfl)
theorem dX0_walk_57 : decode cX0_walk 57 = .ok (.iaload, 1) := dk_46 (dk_at dksX0_walk_2 11 rfl rfl)
theorem dX0_walk_58 : decode cX0_walk 58 = .ok (.istore 4, 2) := dk_54 4 (dk_at dksX0_walk_2 12 rfl rfl)
theorem dX0_walk_60 : decode cX0_walk 60 = .ok (.aload_n 0, 1) := dk_42 (dk_at dksX0_walk_2 14 rfl rfl)
theorem dX0_walk_61 : decode cX0_walk 61 = .ok (.aload_n 0, 1) := dk_42 (dk_at dksX0_walk_2 15 rfl rfl)
theorem dX0_walk_62 : decode cX0_walk 62 = .ok (.getfield 215, 3) := dk_180 0 215 (dk_at dksX0_walk_2 16 rfl rfl)
theorem dX0_walk_65 : decode cX0_walk 65 = .ok (.iload 4, 2) := dk_21 4 (dk_at dksX0_walk_2 19 rfl rfl)
theorem dX0_walk_67 : decode cX0_walk 67 = .ok (.invokevirtual 384, 3) := dk_182 1 128 (dk_at dksX0_walk_2 21 rfl rfl)
theorem dX0_walk_70 : decode cX0_walk 70 = .ok (.iconst (-1), 1) := dk_2 (dk_at dksX0_walk_3 0 rfl rfl)
theorem dX0_walk_71 : decode cX0_walk 71 = .ok (.if_icmp .ne 6, 3) := dk_160 0 6 (dk_at dksX0_walk_3 1 rfl rfl)
theorem dX0_walk_74 : decode cX0_walk 74 = .ok (.bipush (-2), 2) := dk_16 254 (dk_at dksX0_walk_3 4 rfl rfl)
theorem dX0_walk_76 : decode cX0_walk 76 = .ok (.ireturn, 1) := dk_172 (dk_at dksX0_walk_3 6 rfl rfl)
theorem dX0_walk_77 : decode cX0_walk 77 = .ok (.aload_n 0, 1) := dk_42 (dk_at dksX0_walk_3 7 rfl rfl)
theorem dX0_walk_78 : decode cX0_walk 78 = .ok (.getfield 215, 3) := dk_180 0 215 (dk_at dksX0_walk_3 8 rfl rfl)
theorem dX0_walk_81 : decode cX0_walk 81 = .ok (.istore 5, 2) := dk_54 5 (dk_at dksX0_walk_3 11 rfl rfl)
theorem dX0_walk_83 : decode cX0_walk 83 = .ok (.iload 5, 2) := dk_21 5 (dk_at dksX0_walk_3 13 rfl rfl)
theorem dX0_walk_85 : decode cX0_walk 85 = .ok (.iload_n 3, 1) := dk_29 (dk_at dksX0_walk_3 15 rfl rfl)
theorem dX0_walk_86 : decode cX0_walk 86 = .ok (.if_icmp .ge 84, 3) := dk_162 0 84 (dk_at dksX0_walk_3 16 rfl rfl)
theorem dX0_walk_89 : decode cX0_walk 89 = .ok (.aload_n 0, 1) := dk_42 (dk_at dksX0_walk_3 19 rfl rfl)
theorem dX0_walk_90 : decode cX0_walk 90 = .ok (.iload 5, 2) := dk_21 5 (dk_at dksX0_walk_3 20 rfl rfl)
theorem dX0_walk_92 : decode cX0_walk 92 = .ok (.iload 4, 2) := dk_21 4 (dk_at dksX0_walk_3 22 rfl rfl)
theorem dX0_walk_94 : decode cX0_walk 94 = .ok (.invokevirtual 384, 3) := dk_182 1 128 (dk_at dksX0_walk_4 0 rfl rfl)
theorem dX0_walk_97 : decode cX0_walk 97 = .ok (.aload_n 0, 1) := dk_42 (dk_at dksX0_walk_4 3 rfl rfl)
theorem dX0_walk_98 : decode cX0_walk 98 = .ok (.aload_n 0, 1) := dk_42 (dk_at dksX0_walk_4 4 rfl rfl)
theorem dX0_walk_99 : decode cX0_walk 99 = .ok (.getfield 51, 3) := dk_180 0 51 (dk_at dksX0_walk_4 5 rfl rfl)
theorem dX0_walk_102 : decode cX0_walk 102 = .ok (.iload_n 1, 1) := dk_27 (dk_at dksX0_walk_4 8 rfl rfl)
theorem dX0_walk_103 : decode cX0_walk 103 = .ok (.iload 4, 2) := dk_21 4 (dk_at dksX0_walk_4 9 rfl rfl)
theorem dX0_walk_105 : decode cX0_walk 105 = .ok (.iload 5, 2) := dk_21 5 (dk_at dksX0_walk_4 11 rfl rfl)
theorem dX0_walk_107 : decode cX0_walk 107 = .ok (.aload_n 0, 1) := dk_42 (dk_at dksX0_walk_4 13 rfl rfl)
theorem dX0_walk_108 : decode cX0_walk 108 = .ok (.getfield 63, 3) := dk_180 0 63 (dk_at dksX0_walk_4 14 rfl rfl)
theorem dX0_walk_111 : decode cX0_walk 111 = .ok (.iload_n 1, 1) := dk_27 (dk_at dksX0_walk_4 17 rfl rfl)
theorem dX0_walk_112 : decode cX0_walk 112 = .ok (.aaload, 1) := dk_50 (dk_at dksX0_walk_4 18 rfl rfl)
theorem dX0_walk_113 : decode cX0_walk 113 = .ok (.getfield 158, 3) := dk_180 0 158 (dk_at dksX0_walk_4 19 rfl rfl)
theorem dX0_walk_116 : decode cX0_walk 116 = .ok (.getfield 1, 3) := dk_180 0 1 (dk_at dksX0_walk_5 0 rfl rfl)
theorem dX0_walk_119 : decode cX0_walk 119 = .ok (.invokevirtual 345, 3) := dk_182 1 89 (dk_at dksX0_walk_5 3 rfl rfl)
theorem dX0_walk_122 : decode cX0_walk 122 = .ok (.isub, 1) := dk_100 (dk_at dksX0_walk_5 6 rfl rfl)
theorem dX0_walk_123 : decode cX0_walk 123 = .ok (.istore 6, 2) := dk_54 6 (dk_at dksX0_walk_5 7 rfl rfl)
theorem dX0_walk_125 : decode cX0_walk 125 = .ok (.iconst 0, 1) := dk_3 (dk_at dksX0_walk_5 9 rfl rfl)
theorem dX0_walk_126 : decode cX0_walk 126 = .ok (.istore 7, 2) := dk_54 7 (dk_at dksX0_walk_5 10 rfl rfl)
theorem dX0_walk_128 : decode cX0_walk 128 = .ok (.aload_n 0, 1) := dk_42 (dk_at dksX0_walk_5 12 rfl rfl)
theorem dX0_walk_129 : decode cX0_walk 129 = .ok (.iload 4, 2) := dk_21 4 (dk_at dksX0_walk_5 13 rfl rfl)
theorem dX0_walk_131 : decode cX0_walk 131 = .ok (.iload 7, 2) := dk_21 7 (dk_at dksX0_walk_5 15 rfl rfl)
theorem dX0_walk_133 : decode cX0_walk 133 = .ok (.invokevirtual 381, 3) := dk_182 1 125 (dk_at dksX0_walk_5 17 rfl rfl)
theorem dX0_walk_136 : decode cX0_walk 136 = .ok (.ifCond .eq 18, 3) := dk_153 0 18 (dk_at dksX0_walk_5 20 rfl rfl)
theorem dX0_walk_139 : decode cX0_walk 139 = .ok (.aload_n 0, 1) := dk_42 (dk_at dksX0_walk_5 23 rfl rfl)
theorem dX0_walk_140 : decode cX0_walk 140 = .ok (.iload 5, 2) := dk_21 5 (dk_at dksX0_walk_6 0 rfl rfl)
theorem dX0_walk_142 : decode cX0_walk 142 = .ok (.iconst 1, 1) := dk_4 (dk_at dksX0_walk_6 2 rfl rfl)
theorem dX0_walk_143 : decode cX0_walk 143 = .ok (.iadd, 1) := dk_96 (dk_at dksX0_walk_6 3 rfl rfl)
theorem dX0_walk_144 : decode cX0_walk 144 = .ok (.iload 7, 2) := dk_21 7 (dk_at dksX0_walk_6 4 rfl rfl)
theorem dX0_walk_146 : decode cX0_walk 146 = .ok (.invokevirtual 384, 3) := dk_182 1 128 (dk_at dksX0_walk_6 6 rfl rfl)
theorem dX0_walk_149 : decode cX0_walk 149 = .ok (.iload 6, 2) := dk_21 6 (dk_at dksX0_walk_6 9 rfl rfl)
theorem dX0_walk_151 : decode cX0_walk 151 = .ok (.if_icmp .eq 9, 3) := dk_159 0 9 (dk_at dksX0_walk_6 11 rfl rfl)
theorem dX0_walk_154 : decode cX0_walk 154 = .ok (.iinc 7 1, 3) := dk_132 7 1 (dk_at dksX0_walk_6 14 rfl rfl)
theorem dX0_walk_157 : decode cX0_walk 157 = .ok (.goto (-29), 3) := dk_167 255 227 (dk_at dksX0_walk_6 17 rfl rfl)
theorem dX0_walk_160 : decode cX0_walk 160 = .ok (.iload 7, 2) := dk_21 7 (dk_at dksX0_walk_6 20 rfl rfl)
theorem dX0_walk_162 : decode cX0_walk 162 = .ok (.istore 4, 2) := dk_54 4 (dk_at dksX0_walk_6 22 rfl rfl)
theorem dX0_walk_164 : decode cX0_walk 164 = .ok (.iinc 5 1, 3) := dk_132 5 1 (dk_at dksX0_walk_7 0 rfl rfl)
theorem dX0_walk_167 : decode cX0_walk 167 = .ok (.goto (-84), 3) := dk_167 255 172 (dk_at dksX0_walk_7 3 rfl rfl)
theorem dX0_walk_170 : decode cX0_walk 170 = .ok (.iload 4, 2) := dk_21 4 (dk_at dksX0_walk_7 6 rfl rfl)
theorem dX0_walk_172 : decode cX0_walk 172 = .ok (.ireturn, 1) := dk_172 (dk_at dksX0_walk_7 8 rfl rfl)
abbrev cX0_chance : ByteArray := prog_1_method_68_code
def yX0_chance : MethodName := ⟨RX0, "chance", "(III)J"⟩
def dkwX0_chance_2 : List UInt8 := [180, 1, 140, 42, 28, 182, 1, 176, 29, 184, 1, 180, 173]
abbrev dktX0_chance_2 : List UInt8 := dkwX0_chance_2 ++ []
def dkwX0_chance_1 : List UInt8 := [164, 0, 7, 20, 1, 171, 173, 42, 27, 42, 180, 0, 51, 180, 0, 164, 27, 46, 28, 182, 1, 173, 42]
abbrev dktX0_chance_1 : List UInt8 := dkwX0_chance_1 ++ dktX0_chance_2
def dkwX0_chance_0 : List UInt8 := [42, 27, 28, 29, 182, 1, 164, 154, 0, 7, 20, 1, 169, 173, 42, 180, 0, 215, 28, 96, 16, 24]
abbrev dktX0_chance_0 : List UInt8 := dkwX0_chance_0 ++ dktX0_chance_1
theorem dksX0_chance_0 : cX0_chance.data.toList.drop 0 = dktX0_chance_0 := by decide +kernel
theorem dksX0_chance_1 : cX0_chance.data.toList.drop 22 = dktX0_chance_1 := dk_seg dksX0_chance_0 22 rfl rfl
theorem dksX0_chance_2 : cX0_chance.data.toList.drop 45 = dktX0_chance_2 := dk_seg dksX0_chance_1 23 rfl rfl
theorem dX0_chance_0 : decode cX0_chance 0 = .ok (.aload_n 0, 1) := dk_42 (dk_at dksX0_chance_0 0 rfl rfl)
theorem dX0_chance_1 : decode cX0_chance 1 = .ok (.iload_n 1, 1) := dk_27 (dk_at dksX0_chance_0 1 rfl rfl)
theorem dX0_chance_2 : decode cX0_chance 2 = .ok (.iload_n 2, 1) := dk_28 (dk_at dksX0_chance_0 2 rfl rfl)
theorem dX0_chance_3 : decode cX0_chance 3 = .ok (.iload_n 3, 1) := dk_29 (dk_at dksX0_chance_0 3 rfl rfl)
theorem dX0_chance_4 : decode cX0_chance 4 = .ok (.invokevirtual 420, 3) := dk_182 1 164 (dk_at dksX0_chance_0 4 rfl rfl)
theorem dX0_chance_7 : decode cX0_chance 7 = .ok (.ifCond .ne 7, 3) := dk_154 0 7 (dk_at dksX0_chance_0 7 rfl rfl)
theorem dX0_chance_10 : decode cX0_chance 10 = .ok (.ldc2_w 425, 3) := dk_20 1 169 (dk_at dksX0_chance_0 10 rfl rfl)
theorem dX0_chance_13 : decode cX0_chance 13 = .ok (.lreturn, 1) := dk_173 (dk_at dksX0_chance_0 13 rfl rfl)
theorem dX0_chance_14 : decode cX0_chance 14 = .ok (.aload_n 0, 1) := dk_42 (dk_at dksX0_chance_0 14 rfl rfl)
theorem dX0_chance_15 : decode cX0_chance 15 = .ok (.getfield 215, 3) := dk_180 0 215 (dk_at dksX0_chance_0 15 rfl rfl)
theorem dX0_chance_18 : decode cX0_chance 18 = .ok (.iload_n 2, 1) := dk_28 (dk_at dksX0_chance_0 18 rfl rfl)
theorem dX0_chance_19 : decode cX0_chance 19 = .ok (.iadd, 1) := dk_96 (dk_at dksX0_chance_0 19 rfl rfl)
theorem dX0_chance_20 : decode cX0_chance 20 = .ok (.bipush 24, 2) := dk_16 24 (dk_at dksX0_chance_0 20 rfl rfl)
theorem dX0_chance_22 : decode cX0_chance 22 = .ok (.if_icmp .le 7, 3) := dk_164 0 7 (dk_at dksX0_chance_1 0 rfl rfl)
theorem dX0_chance_25 : decode cX0_chance 25 = .ok (.ldc2_w 427, 3) := dk_20 1 171 (dk_at dksX0_chance_1 3 rfl rfl)
theorem dX0_chance_28 : decode cX0_chance 28 = .ok (.lreturn, 1) := dk_173 (dk_at dksX0_chance_1 6 rfl rfl)
theorem dX0_chance_29 : decode cX0_chance 29 = .ok (.aload_n 0, 1) := dk_42 (dk_at dksX0_chance_1 7 rfl rfl)
theorem dX0_chance_30 : decode cX0_chance 30 = .ok (.iload_n 1, 1) := dk_27 (dk_at dksX0_chance_1 8 rfl rfl)
theorem dX0_chance_31 : decode cX0_chance 31 = .ok (.aload_n 0, 1) := dk_42 (dk_at dksX0_chance_1 9 rfl rfl)
theorem dX0_chance_32 : decode cX0_chance 32 = .ok (.getfield 51, 3) := dk_180 0 51 (dk_at dksX0_chance_1 10 rfl rfl)
theorem dX0_chance_35 : decode cX0_chance 35 = .ok (.getfield 164, 3) := dk_180 0 164 (dk_at dksX0_chance_1 13 rfl rfl)
theorem dX0_chance_38 : decode cX0_chance 38 = .ok (.iload_n 1, 1) := dk_27 (dk_at dksX0_chance_1 16 rfl rfl)
theorem dX0_chance_39 : decode cX0_chance 39 = .ok (.iaload, 1) := dk_46 (dk_at dksX0_chance_1 17 rfl rfl)
theorem dX0_chance_40 : decode cX0_chance 40 = .ok (.iload_n 2, 1) := dk_28 (dk_at dksX0_chance_1 18 rfl rfl)
theorem dX0_chance_41 : decode cX0_chance 41 = .ok (.invokevirtual 429, 3) := dk_182 1 173 (dk_at dksX0_chance_1 19 rfl rfl)
theorem dX0_chance_44 : decode cX0_chance 44 = .ok (.aload_n 0, 1) := dk_42 (dk_at dksX0_chance_1 22 rfl rfl)
theorem dX0_chance_45 : decode cX0_chance 45 = .ok (.getfield 396, 3) := dk_180 1 140 (dk_at dksX0_chance_2 0 rfl rfl)
theorem dX0_chance_48 : decode cX0_chance 48 = .ok (.aload_n 0, 1) := dk_42 (dk_at dksX0_chance_2 3 rfl rfl)
theorem dX0_chance_49 : decode cX0_chance 49 = .ok (.iload_n 2, 1) := dk_28 (dk_at dksX0_chance_2 4 rfl rfl)
theorem dX0_chance_50 : decode cX0_chance 50 = .ok (.invokevirtual 432, 3) := dk_182 1 176 (dk_at dksX0_chance_2 5 rfl rfl)
theorem dX0_chance_53 : decode cX0_chance 53 = .ok (.iload_n 3, 1) := dk_29 (dk_at dksX0_chance_2 8 rfl rfl)
theorem dX0_chance_54 : decode cX0_chance 54 = .ok (.invokestatic 436, 3) := dk_184 1 180 (dk_at dksX0_chance_2 9 rfl rfl)
theorem dX0_chance_57 : decode cX0_chance 57 = .ok (.lreturn, 1) := dk_173 (dk_at dksX0_chance_2 12 rfl rfl)
abbrev cX0_mayAsk : ByteArray := prog_1_method_67_code
def yX0_mayAsk : MethodName := ⟨RX0, "mayAsk", "(III)Z"⟩
def dkwX0_mayAsk_1 : List UInt8 := [184, 0, 108, 153, 0, 7, 4, 167, 0, 4, 3, 172]
abbrev dktX0_mayAsk_1 : List UInt8 := dkwX0_mayAsk_1 ++ []
def dkwX0_mayAsk_0 : List UInt8 := [42, 27, 182, 0, 193, 153, 0, 29, 28, 133, 9, 20, 0, 191, 184, 0, 108, 153, 0, 17, 29, 133, 9, 10]
abbrev dktX0_mayAsk_0 : List UInt8 := dkwX0_mayAsk_0 ++ dktX0_mayAsk_1
theorem dksX0_mayAsk_0 : cX0_mayAsk.data.toList.drop 0 = dktX0_mayAsk_0 := by decide +kernel
theorem dksX0_mayAsk_1 : cX0_mayAsk.data.toList.drop 24 = dktX0_mayAsk_1 := dk_seg dksX0_mayAsk_0 24 rfl rfl
theorem dX0_mayAsk_0 : decode cX0_mayAsk 0 = .ok (.aload_n 0, 1) := dk_42 (dk_at dksX0_mayAsk_0 0 rfl rfl)
theorem dX0_mayAsk_1 : decode cX0_mayAsk 1 = .ok (.iload_n 1, 1) := dk_27 (dk_at dksX0_mayAsk_0 1 rfl rfl)
theorem dX0_mayAsk_2 : decode cX0_mayAsk 2 = .ok (.invokevirtual 193, 3) := dk_182 0 193 (dk_at dksX0_mayAsk_0 2 rfl rfl)
theorem dX0_mayAsk_5 : decode cX0_mayAsk 5 = .ok (.ifCond .eq 29, 3) := dk_153 0 29 (dk_at dksX0_mayAsk_0 5 rfl rfl)
theorem dX0_mayAsk_8 : decode cX0_mayAsk 8 = .ok (.iload_n 2, 1) := dk_28 (dk_at dksX0_mayAsk_0 8 rfl rfl)
theorem dX0_mayAsk_9 : decode cX0_mayAsk 9 = .ok (.i2l, 1) := dk_133 (dk_at dksX0_mayAsk_0 9 rfl rfl)
theorem dX0_mayAsk_10 : decode cX0_mayAsk 10 = .ok (.lconst 0, 1) := dk_9 (dk_at dksX0_mayAsk_0 10 rfl rfl)
theorem dX0_mayAsk_11 : decode cX0_mayAsk 11 = .ok (.ldc2_w 191, 3) := dk_20 0 191 (dk_at dksX0_mayAsk_0 11 rfl rfl)
theorem dX0_mayAsk_14 : decode cX0_mayAsk 14 = .ok (.invokestatic 108, 3) := dk_184 0 108 (dk_at dksX0_mayAsk_0 14 rfl rfl)
theorem dX0_mayAsk_17 : decode cX0_mayAsk 17 = .ok (.ifCond .eq 17, 3) := dk_153 0 17 (dk_at dksX0_mayAsk_0 17 rfl rfl)
theorem dX0_mayAsk_20 : decode cX0_mayAsk 20 = .ok (.iload_n 3, 1) := dk_29 (dk_at dksX0_mayAsk_0 20 rfl rfl)
theorem dX0_mayAsk_21 : decode cX0_mayAsk 21 = .ok (.i2l, 1) := dk_133 (dk_at dksX0_mayAsk_0 21 rfl rfl)
theorem dX0_mayAsk_22 : decode cX0_mayAsk 22 = .ok (.lconst 0, 1) := dk_9 (dk_at dksX0_mayAsk_0 22 rfl rfl)
theorem dX0_mayAsk_23 : decode cX0_mayAsk 23 = .ok (.lconst 1, 1) := dk_10 (dk_at dksX0_mayAsk_0 23 rfl rfl)
theorem dX0_mayAsk_24 : decode cX0_mayAsk 24 = .ok (.invokestatic 108, 3) := dk_184 0 108 (dk_at dksX0_mayAsk_1 0 rfl rfl)
theorem dX0_mayAsk_27 : decode cX0_mayAsk 27 = .ok (.ifCond .eq 7, 3) := dk_153 0 7 (dk_at dksX0_mayAsk_1 3 rfl rfl)
theorem dX0_mayAsk_30 : decode cX0_mayAsk 30 = .ok (.iconst 1, 1) := dk_4 (dk_at dksX0_mayAsk_1 6 rfl rfl)
theorem dX0_mayAsk_31 : decode cX0_mayAsk 31 = .ok (.goto 4, 3) := dk_167 0 4 (dk_at dksX0_mayAsk_1 7 rfl rfl)
theorem dX0_mayAsk_34 : decode cX0_mayAsk 34 = .ok (.iconst 0, 1) := dk_3 (dk_at dksX0_mayAsk_1 10 rfl rfl)
theorem dX0_mayAsk_35 : decode cX0_mayAsk 35 = .ok (.ireturn, 1) := dk_172 (dk_at dksX0_mayAsk_1 11 rfl rfl)
abbrev cX0_branchAll : ByteArray := prog_1_method_63_code
def yX0_branchAll : MethodName := ⟨RX0, "branchAll", "(III)V"⟩
def dkwX0_branchAll_3 : List UInt8 := [180, 0, 215, 42, 180, 0, 215, 29, 96, 3, 10, 182, 1, 151, 177]
abbrev dktX0_branchAll_3 : List UInt8 := dkwX0_branchAll_3 ++ []
def dkwX0_branchAll_2 : List UInt8 := [180, 0, 84, 3, 50, 10, 182, 1, 147, 177, 42, 42, 180, 0, 84, 3, 50, 182, 1, 101, 42, 3, 42]
abbrev dktX0_branchAll_2 : List UInt8 := dkwX0_branchAll_2 ++ dktX0_branchAll_3
def dkwX0_branchAll_1 : List UInt8 := [180, 0, 51, 182, 1, 157, 42, 180, 0, 84, 3, 50, 180, 0, 164, 27, 28, 79, 29, 154, 0, 15, 42, 42]
abbrev dktX0_branchAll_1 : List UInt8 := dkwX0_branchAll_1 ++ dktX0_branchAll_2
def dkwX0_branchAll_0 : List UInt8 := [42, 27, 181, 1, 137, 42, 9, 181, 1, 140, 42, 9, 181, 1, 144, 42, 180, 0, 84, 3, 50, 42]
abbrev dktX0_branchAll_0 : List UInt8 := dkwX0_branchAll_0 ++ dktX0_branchAll_1
theorem dksX0_branchAll_0 : cX0_branchAll.data.toList.drop 0 = dktX0_branchAll_0 := by decide +kernel
theorem dksX0_branchAll_1 : cX0_branchAll.data.toList.drop 22 = dktX0_branchAll_1 := dk_seg dksX0_branchAll_0 22 rfl rfl
theorem dksX0_branchAll_2 : cX0_branchAll.data.toList.drop 46 = dktX0_branchAll_2 := dk_seg dksX0_branchAll_1 24 rfl rfl
theorem dksX0_branchAll_3 : cX0_branchAll.data.toList.drop 69 = dktX0_branchAll_3 := dk_seg dksX0_branchAll_2 23 rfl rfl
theorem dX0_branchAll_0 : decode cX0_branchAll 0 = .ok (.aload_n 0, 1) := dk_42 (dk_at dksX0_branchAll_0 0 rfl rfl)
theorem dX0_branchAll_1 : decode cX0_branchAll 1 = .ok (.iload_n 1, 1) := dk_27 (dk_at dksX0_branchAll_0 1 rfl rfl)
theorem dX0_branchAll_2 : decode cX0_branchAll 2 = .ok (.putfield 393, 3) := dk_181 1 137 (dk_at dksX0_branchAll_0 2 rfl rfl)
theorem dX0_branchAll_5 : decode cX0_branchAll 5 = .ok (.aload_n 0, 1) := dk_42 (dk_at dksX0_branchAll_0 5 rfl rfl)
theorem dX0_branchAll_6 : decode cX0_branchAll 6 = .ok (.lconst 0, 1) := dk_9 (dk_at dksX0_branchAll_0 6 rfl rfl)
theorem dX0_branchAll_7 : decode cX0_branchAll 7 = .ok (.putfield 396, 3) := dk_181 1 140 (dk_at dksX0_branchAll_0 7 rfl rfl)
theorem dX0_branchAll_10 : decode cX0_branchAll 10 = .ok (.aload_n 0, 1) := dk_42 (dk_at dksX0_branchAll_0 10 rfl rfl)
theorem dX0_branchAll_11 : decode cX0_branchAll 11 = .ok (.lconst 0, 1) := dk_9 (dk_at dksX0_branchAll_0 11 rfl rfl)
theorem dX0_branchAll_12 : decode cX0_branchAll 12 = .ok (.putfield 400, 3) := dk_181 1 144 (dk_at dksX0_branchAll_0 12 rfl rfl)
theorem dX0_branchAll_15 : decode cX0_branchAll 15 = .ok (.aload_n 0, 1) := dk_42 (dk_at dksX0_branchAll_0 15 rfl rfl)
theorem dX0_branchAll_16 : decode cX0_branchAll 16 = .ok (.getfield 84, 3) := dk_180 0 84 (dk_at dksX0_branchAll_0 16 rfl rfl)
theorem dX0_branchAll_19 : decode cX0_branchAll 19 = .ok (.iconst 0, 1) := dk_3 (dk_at dksX0_branchAll_0 19 rfl rfl)
theorem dX0_branchAll_20 : decode cX0_branchAll 20 = .ok (.aaload, 1) := dk_50 (dk_at dksX0_branchAll_0 20 rfl rfl)
theorem dX0_branchAll_21 : decode cX0_branchAll 21 = .ok (.aload_n 0, 1) := dk_42 (dk_at dksX0_branchAll_0 21 rfl rfl)
theorem dX0_branchAll_22 : decode cX0_branchAll 22 = .ok (.getfield 51, 3) := dk_180 0 51 (dk_at dksX0_branchAll_1 0 rfl rfl)
theorem dX0_branchAll_25 : decode cX0_branchAll 25 = .ok (.invokevirtual 413, 3) := dk_182 1 157 (dk_at dksX0_branchAll_1 3 rfl rfl)
theorem dX0_branchAll_28 : decode cX0_branchAll 28 = .ok (.aload_n 0, 1) := dk_42 (dk_at dksX0_branchAll_1 6 rfl rfl)
theorem dX0_branchAll_29 : decode cX0_branchAll 29 = .ok (.getfield 84, 3) := dk_180 0 84 (dk_at dksX0_branchAll_1 7 rfl rfl)
theorem dX0_branchAll_32 : decode cX0_branchAll 32 = .ok (.iconst 0, 1) := dk_3 (dk_at dksX0_branchAll_1 10 rfl rfl)
theorem dX0_branchAll_33 : decode cX0_branchAll 33 = .ok (.aaload, 1) := dk_50 (dk_at dksX0_branchAll_1 11 rfl rfl)
theorem dX0_branchAll_34 : decode cX0_branchAll 34 = .ok (.getfield 164, 3) := dk_180 0 164 (dk_at dksX0_branchAll_1 12 rfl rfl)
theorem dX0_branchAll_37 : decode cX0_branchAll 37 = .ok (.iload_n 1, 1) := dk_27 (dk_at dksX0_branchAll_1 15 rfl rfl)
theorem dX0_branchAll_38 : decode cX0_branchAll 38 = .ok (.iload_n 2, 1) := dk_28 (dk_at dksX0_branchAll_1 16 rfl rfl)
theorem dX0_branchAll_39 : decode cX0_branchAll 39 = .ok (.iastore, 1) := dk_79 (dk_at dksX0_branchAll_1 17 rfl rfl)
theorem dX0_branchAll_40 : decode cX0_branchAll 40 = .ok (.iload_n 3, 1) := dk_29 (dk_at dksX0_branchAll_1 18 rfl rfl)
theorem dX0_branchAll_41 : decode cX0_branchAll 41 = .ok (.ifCond .ne 15, 3) := dk_154 0 15 (dk_at dksX0_branchAll_1 19 rfl rfl)
theorem dX0_branchAll_44 : decode cX0_branchAll 44 = .ok (.aload_n 0, 1) := dk_42 (dk_at dksX0_branchAll_1 22 rfl rfl)
theorem dX0_branchAll_45 : decode cX0_branchAll 45 = .ok (.aload_n 0, 1) := dk_42 (dk_at dksX0_branchAll_1 23 rfl rfl)
theorem dX0_branchAll_46 : decode cX0_branchAll 46 = .ok (.getfield 84, 3) := dk_180 0 84 (dk_at dksX0_branchAll_2 0 rfl rfl)
theorem dX0_branchAll_49 : decode cX0_branchAll 49 = .ok (.iconst 0, 1) := dk_3 (dk_at dksX0_branchAll_2 3 rfl rfl)
theorem dX0_branchAll_50 : decode cX0_branchAll 50 = .ok (.aaload, 1) := dk_50 (dk_at dksX0_branchAll_2 4 rfl rfl)
theorem dX0_branchAll_51 : decode cX0_branchAll 51 = .ok (.lconst 1, 1) := dk_10 (dk_at dksX0_branchAll_2 5 rfl rfl)
theorem dX0_branchAll_52 : decode cX0_branchAll 52 = .ok (.invokevirtual 403, 3) := dk_182 1 147 (dk_at dksX0_branchAll_2 6 rfl rfl)
theorem dX0_branchAll_55 : decode cX0_branchAll 55 = .ok (.return_, 1) := dk_177 (dk_at dksX0_branchAll_2 9 rfl rfl)
theorem dX0_branchAll_56 : decode cX0_branchAll 56 = .ok (.aload_n 0, 1) := dk_42 (dk_at dksX0_branchAll_2 10 rfl rfl)
theorem dX0_branchAll_57 : decode cX0_branchAll 57 = .ok (.aload_n 0, 1) := dk_42 (dk_at dksX0_branchAll_2 11 rfl rfl)
theorem dX0_branchAll_58 : decode cX0_branchAll 58 = .ok (.getfield 84, 3) := dk_180 0 84 (dk_at dksX0_branchAll_2 12 rfl rfl)
theorem dX0_branchAll_61 : decode cX0_branchAll 61 = .ok (.iconst 0, 1) := dk_3 (dk_at dksX0_branchAll_2 15 rfl rfl)
theorem dX0_branchAll_62 : decode cX0_branchAll 62 = .ok (.aaload, 1) := dk_50 (dk_at dksX0_branchAll_2 16 rfl rfl)
theorem dX0_branchAll_63 : decode cX0_branchAll 63 = .ok (.invokevirtual 357, 3) := dk_182 1 101 (dk_at dksX0_branchAll_2 17 rfl rfl)
theorem dX0_branchAll_66 : decode cX0_branchAll 66 = .ok (.aload_n 0, 1) := dk_42 (dk_at dksX0_branchAll_2 20 rfl rfl)
theorem dX0_branchAll_67 : decode cX0_branchAll 67 = .ok (.iconst 0, 1) := dk_3 (dk_at dksX0_branchAll_2 21 rfl rfl)
theorem dX0_branchAll_68 : decode cX0_branchAll 68 = .ok (.aload_n 0, 1) := dk_42 (dk_at dksX0_branchAll_2 22 rfl rfl)
theorem dX0_branchAll_69 : decode cX0_branchAll 69 = .ok (.getfield 215, 3) := dk_180 0 215 (dk_at dksX0_branchAll_3 0 rfl rfl)
theorem dX0_branchAll_72 : decode cX0_branchAll 72 = .ok (.aload_n 0, 1) := dk_42 (dk_at dksX0_branchAll_3 3 rfl rfl)
theorem dX0_branchAll_73 : decode cX0_branchAll 73 = .ok (.getfield 215, 3) := dk_180 0 215 (dk_at dksX0_branchAll_3 4 rfl rfl)
theorem dX0_branchAll_76 : decode cX0_branchAll 76 = .ok (.iload_n 3, 1) := dk_29 (dk_at dksX0_branchAll_3 7 rfl rfl)
theorem dX0_branchAll_77 : decode cX0_branchAll 77 = .ok (.iadd, 1) := dk_96 (dk_at dksX0_branchAll_3 8 rfl rfl)
theorem dX0_branchAll_78 : decode cX0_branchAll 78 = .ok (.iconst 0, 1) := dk_3 (dk_at dksX0_branchAll_3 9 rfl rfl)
theorem dX0_branchAll_79 : decode cX0_branchAll 79 = .ok (.lconst 1, 1) := dk_10 (dk_at dksX0_branchAll_3 10 rfl rfl)
theorem dX0_branchAll_80 : decode cX0_branchAll 80 = .ok (.invokevirtual 407, 3) := dk_182 1 151 (dk_at dksX0_branchAll_3 11 rfl rfl)
theorem dX0_branchAll_83 : decode cX0_branchAll 83 = .ok (.return_, 1) := dk_177 (dk_at dksX0_branchAll_3 14 rfl rfl)
abbrev cX0_count1 : ByteArray := prog_1_method_61_code
def yX0_count1 : MethodName := ⟨RX0, "count1", "(LHatRank$Town;J)V"⟩
def dkwX0_count1_1 : List UInt8 := [180, 1, 144, 32, 43, 180, 0, 161, 42, 180, 1, 137, 46, 133, 105, 97, 181, 1, 144, 177]
abbrev dktX0_count1_1 : List UInt8 := dkwX0_count1_1 ++ []
def dkwX0_count1_0 : List UInt8 := [42, 43, 182, 1, 121, 42, 180, 1, 137, 160, 0, 13, 42, 89, 180, 1, 140, 32, 97, 181, 1, 140, 42, 89]
abbrev dktX0_count1_0 : List UInt8 := dkwX0_count1_0 ++ dktX0_count1_1
theorem dksX0_count1_0 : cX0_count1.data.toList.drop 0 = dktX0_count1_0 := by decide +kernel
theorem dksX0_count1_1 : cX0_count1.data.toList.drop 24 = dktX0_count1_1 := dk_seg dksX0_count1_0 24 rfl rfl
theorem dX0_count1_0 : decode cX0_count1 0 = .ok (.aload_n 0, 1) := dk_42 (dk_at dksX0_count1_0 0 rfl rfl)
theorem dX0_count1_1 : decode cX0_count1 1 = .ok (.aload_n 1, 1) := dk_43 (dk_at dksX0_count1_0 1 rfl rfl)
theorem dX0_count1_2 : decode cX0_count1 2 = .ok (.invokevirtual 377, 3) := dk_182 1 121 (dk_at dksX0_count1_0 2 rfl rfl)
theorem dX0_count1_5 : decode cX0_count1 5 = .ok (.aload_n 0, 1) := dk_42 (dk_at dksX0_count1_0 5 rfl rfl)
theorem dX0_count1_6 : decode cX0_count1 6 = .ok (.getfield 393, 3) := dk_180 1 137 (dk_at dksX0_count1_0 6 rfl rfl)
theorem dX0_count1_9 : decode cX0_count1 9 = .ok (.if_icmp .ne 13, 3) := dk_160 0 13 (dk_at dksX0_count1_0 9 rfl rfl)
theorem dX0_count1_12 : decode cX0_count1 12 = .ok (.aload_n 0, 1) := dk_42 (dk_at dksX0_count1_0 12 rfl rfl)
theorem dX0_count1_13 : decode cX0_count1 13 = .ok (.dup, 1) := dk_89 (dk_at dksX0_count1_0 13 rfl rfl)
theorem dX0_count1_14 : decode cX0_count1 14 = .ok (.getfield 396, 3) := dk_180 1 140 (dk_at dksX0_count1_0 14 rfl rfl)
theorem dX0_count1_17 : decode cX0_count1 17 = .ok (.lload_n 2, 1) := dk_32 (dk_at dksX0_count1_0 17 rfl rfl)
theorem dX0_count1_18 : decode cX0_count1 18 = .ok (.ladd, 1) := dk_97 (dk_at dksX0_count1_0 18 rfl rfl)
theorem dX0_count1_19 : decode cX0_count1 19 = .ok (.putfield 396, 3) := dk_181 1 140 (dk_at dksX0_count1_0 19 rfl rfl)
theorem dX0_count1_22 : decode cX0_count1 22 = .ok (.aload_n 0, 1) := dk_42 (dk_at dksX0_count1_0 22 rfl rfl)
theorem dX0_count1_23 : decode cX0_count1 23 = .ok (.dup, 1) := dk_89 (dk_at dksX0_count1_0 23 rfl rfl)
theorem dX0_count1_24 : decode cX0_count1 24 = .ok (.getfield 400, 3) := dk_180 1 144 (dk_at dksX0_count1_1 0 rfl rfl)
theorem dX0_count1_27 : decode cX0_count1 27 = .ok (.lload_n 2, 1) := dk_32 (dk_at dksX0_count1_1 3 rfl rfl)
theorem dX0_count1_28 : decode cX0_count1 28 = .ok (.aload_n 1, 1) := dk_43 (dk_at dksX0_count1_1 4 rfl rfl)
theorem dX0_count1_29 : decode cX0_count1 29 = .ok (.getfield 161, 3) := dk_180 0 161 (dk_at dksX0_count1_1 5 rfl rfl)
theorem dX0_count1_32 : decode cX0_count1 32 = .ok (.aload_n 0, 1) := dk_42 (dk_at dksX0_count1_1 8 rfl rfl)
theorem dX0_count1_33 : decode cX0_count1 33 = .ok (.getfield 393, 3) := dk_180 1 137 (dk_at dksX0_count1_1 9 rfl rfl)
theorem dX0_count1_36 : decode cX0_count1 36 = .ok (.iaload, 1) := dk_46 (dk_at dksX0_count1_1 12 rfl rfl)
theorem dX0_count1_37 : decode cX0_count1 37 = .ok (.i2l, 1) := dk_133 (dk_at dksX0_count1_1 13 rfl rfl)
theorem dX0_count1_38 : decode cX0_count1 38 = .ok (.lmul, 1) := dk_105 (dk_at dksX0_count1_1 14 rfl rfl)
theorem dX0_count1_39 : decode cX0_count1 39 = .ok (.ladd, 1) := dk_97 (dk_at dksX0_count1_1 15 rfl rfl)
theorem dX0_count1_40 : decode cX0_count1 40 = .ok (.putfield 400, 3) := dk_181 1 144 (dk_at dksX0_count1_1 16 rfl rfl)
theorem dX0_count1_43 : decode cX0_count1 43 = .ok (.return_, 1) := dk_177 (dk_at dksX0_count1_1 19 rfl rfl)
abbrev cX0_branch : ByteArray := prog_1_method_62_code
def yX0_branch : MethodName := ⟨RX0, "branch", "(IIIIJ)V"⟩
def dkwX0_branch_7 : List UInt8 := [29, 21, 4, 4, 96, 22, 5, 21, 8, 133, 105, 182, 1, 151, 177]
abbrev dktX0_branch_7 : List UInt8 := dkwX0_branch_7 ++ []
def dkwX0_branch_6 : List UInt8 := [158, 0, 38, 25, 9, 25, 7, 182, 1, 157, 42, 25, 9, 21, 4, 182, 1, 108, 87, 42, 27, 4, 96, 28]
abbrev dktX0_branch_6 : List UInt8 := dkwX0_branch_6 ++ dktX0_branch_7
def dkwX0_branch_5 : List UInt8 := [27, 4, 96, 28, 29, 21, 4, 4, 96, 22, 5, 16, 12, 21, 8, 100, 133, 105, 182, 1, 151, 21, 8]
abbrev dktX0_branch_5 : List UInt8 := dkwX0_branch_5 ++ dktX0_branch_6
def dkwX0_branch_4 : List UInt8 := [180, 0, 84, 27, 4, 96, 50, 58, 9, 21, 8, 16, 12, 162, 0, 32, 25, 9, 25, 7, 182, 1, 157, 42]
abbrev dktX0_branch_4 : List UInt8 := dkwX0_branch_4 ++ dktX0_branch_5
def dkwX0_branch_3 : List UInt8 := [22, 5, 20, 1, 155, 105, 182, 1, 151, 177, 42, 25, 7, 21, 4, 28, 182, 0, 218, 54, 8, 42]
abbrev dktX0_branch_3 : List UInt8 := dkwX0_branch_3 ++ dktX0_branch_4
def dkwX0_branch_2 : List UInt8 := [182, 1, 151, 177, 25, 7, 180, 0, 161, 21, 4, 46, 154, 0, 21, 42, 27, 28, 29, 21, 4, 4, 96]
abbrev dktX0_branch_2 : List UInt8 := dkwX0_branch_2 ++ dktX0_branch_3
def dkwX0_branch_1 : List UInt8 := [42, 25, 7, 22, 5, 182, 1, 147, 177, 42, 25, 7, 182, 1, 101, 42, 27, 28, 4, 96, 29, 3, 22, 5]
abbrev dktX0_branch_1 : List UInt8 := dkwX0_branch_1 ++ dktX0_branch_2
def dkwX0_branch_0 : List UInt8 := [42, 180, 0, 84, 27, 50, 58, 7, 21, 4, 42, 180, 0, 133, 160, 0, 38, 28, 4, 96, 29, 160, 0, 12]
abbrev dktX0_branch_0 : List UInt8 := dkwX0_branch_0 ++ dktX0_branch_1
theorem dksX0_branch_0 : cX0_branch.data.toList.drop 0 = dktX0_branch_0 := by decide +kernel
theorem dksX0_branch_1 : cX0_branch.data.toList.drop 24 = dktX0_branch_1 := dk_seg dksX0_branch_0 24 rfl rfl
theorem dksX0_branch_2 : cX0_branch.data.toList.drop 48 = dktX0_branch_2 := dk_seg dksX0_branch_1 24 rfl rfl
theorem dksX0_branch_3 : cX0_branch.data.toList.drop 71 = dktX0_branch_3 := dk_seg dksX0_branch_2 23 rfl rfl
theorem dksX0_branch_4 : cX0_branch.data.toList.drop 93 = dktX0_branch_4 := dk_seg dksX0_branch_3 22 rfl rfl
theorem dksX0_branch_5 : cX0_branch.data.toList.drop 117 = dktX0_branch_5 := dk_seg dksX0_branch_4 24 rfl rfl
theorem dksX0_branch_6 : cX0_branch.data.toList.drop 140 = dktX0_branch_6 := dk_seg dksX0_branch_5 23 rfl rfl
theorem dksX0_branch_7 : cX0_branch.data.toList.drop 164 = dktX0_branch_7 := dk_seg dksX0_branch_6 24 rfl rfl
theorem dX0_branch_0 : decode cX0_branch 0 = .ok (.aload_n 0, 1) := dk_42 (dk_at dksX0_branch_0 0 rfl rfl)
theorem dX0_branch_1 : decode cX0_branch 1 = .ok (.getfield 84, 3) := dk_180 0 84 (dk_at dksX0_branch_0 1 rfl rfl)
theorem dX0_branch_4 : decode cX0_branch 4 = .ok (.iload_n 1, 1) := dk_27 (dk_at dksX0_branch_0 4 rfl rfl)
theorem dX0_branch_5 : decode cX0_branch 5 = .ok (.aaload, 1) := dk_50 (dk_at dksX0_branch_0 5 rfl rfl)
theorem dX0_branch_6 : decode cX0_branch 6 = .ok (.astore 7, 2) := dk_58 7 (dk_at dksX0_branch_0 6 rfl rfl)
theorem dX0_branch_8 : decode cX0_branch 8 = .ok (.iload 4, 2) := dk_21 4 (dk_at dksX0_branch_0 8 rfl rfl)
theorem dX0_branch_10 : decode cX0_branch 10 = .ok (.aload_n 0, 1) := dk_42 (dk_at dksX0_branch_0 10 rfl rfl)
theorem dX0_branch_11 : decode cX0_branch 11 = .ok (.getfield 133, 3) := dk_180 0 133 (dk_at dksX0_branch_0 11 rfl rfl)
theorem dX0_branch_14 : decode cX0_branch 14 = .ok (.if_icmp .ne 38, 3) := dk_160 0 38 (dk_at dksX0_branch_0 14 rfl rfl)
theorem dX0_branch_17 : decode cX0_branch 17 = .ok (.iload_n 2, 1) := dk_28 (dk_at dksX0_branch_0 17 rfl rfl)
theorem dX0_branch_18 : decode cX0_branch 18 = .ok (.iconst 1, 1) := dk_4 (dk_at dksX0_branch_0 18 rfl rfl)
theorem dX0_branch_19 : decode cX0_branch 19 = .ok (.iadd, 1) := dk_96 (dk_at dksX0_branch_0 19 rfl rfl)
theorem dX0_branch_20 : decode cX0_branch 20 = .ok (.iload_n 3, 1) := dk_29 (dk_at dksX0_branch_0 20 rfl rfl)
theorem dX0_branch_21 : decode cX0_branch 21 = .ok (.if_icmp .ne 12, 3) := dk_160 0 12 (dk_at dksX0_branch_0 21 rfl rfl)
theorem dX0_branch_24 : decode cX0_branch 24 = .ok (.aload_n 0, 1) := dk_42 (dk_at dksX0_branch_1 0 rfl rfl)
theorem dX0_branch_25 : decode cX0_branch 25 = .ok (.aload 7, 2) := dk_25 7 (dk_at dksX0_branch_1 1 rfl rfl)
theorem dX0_branch_27 : decode cX0_branch 27 = .ok (.lload 5, 2) := dk_22 5 (dk_at dksX0_branch_1 3 rfl rfl)
theorem dX0_branch_29 : decode cX0_branch 29 = .ok (.invokevirtual 403, 3) := dk_182 1 147 (dk_at dksX0_branch_1 5 rfl rfl)
theorem dX0_branch_32 : decode cX0_branch 32 = .ok (.return_, 1) := dk_177 (dk_at dksX0_branch_1 8 rfl rfl)
theorem dX0_branch_33 : decode cX0_branch 33 = .ok (.aload_n 0, 1) := dk_42 (dk_at dksX0_branch_1 9 rfl rfl)
theorem dX0_branch_34 : decode cX0_branch 34 = .ok (.aload 7, 2) := dk_25 7 (dk_at dksX0_branch_1 10 rfl rfl)
theorem dX0_branch_36 : decode cX0_branch 36 = .ok (.invokevirtual 357, 3) := dk_182 1 101 (dk_at dksX0_branch_1 12 rfl rfl)
theorem dX0_branch_39 : decode cX0_branch 39 = .ok (.aload_n 0, 1) := dk_42 (dk_at dksX0_branch_1 15 rfl rfl)
theorem dX0_branch_40 : decode cX0_branch 40 = .ok (.iload_n 1, 1) := dk_27 (dk_at dksX0_branch_1 16 rfl rfl)
theorem dX0_branch_41 : decode cX0_branch 41 = .ok (.iload_n 2, 1) := dk_28 (dk_at dksX0_branch_1 17 rfl rfl)
theorem dX0_branch_42 : decode cX0_branch 42 = .ok (.iconst 1, 1) := dk_4 (dk_at dksX0_branch_1 18 rfl rfl)
theorem dX0_branch_43 : decode cX0_branch 43 = .ok (.iadd, 1) := dk_96 (dk_at dksX0_branch_1 19 rfl rfl)
theorem dX0_branch_44 : decode cX0_branch 44 = .ok (.iload_n 3, 1) := dk_29 (dk_at dksX0_branch_1 20 rfl rfl)
theorem dX0_branch_45 : decode cX0_branch 45 = .ok (.iconst 0, 1) := dk_3 (dk_at dksX0_branch_1 21 rfl rfl)
theorem dX0_branch_46 : decode cX0_branch 46 = .ok (.lload 5, 2) := dk_22 5 (dk_at dksX0_branch_1 22 rfl rfl)
theorem dX0_branch_48 : decode cX0_branch 48 = .ok (.invokevirtual 407, 3) := dk_182 1 151 (dk_at dksX0_branch_2 0 rfl rfl)
theorem dX0_branch_51 : decode cX0_branch 51 = .ok (.return_, 1) := dk_177 (dk_at dksX0_branch_2 3 rfl rfl)
theorem dX0_branch_52 : decode cX0_branch 52 = .ok (.aload 7, 2) := dk_25 7 (dk_at dksX0_branch_2 4 rfl rfl)
theorem dX0_branch_54 : decode cX0_branch 54 = .ok (.getfield 161, 3) := dk_180 0 161 (dk_at dksX0_branch_2 6 rfl rfl)
theorem dX0_branch_57 : decode cX0_branch 57 = .ok (.iload 4, 2) := dk_21 4 (dk_at dksX0_branch_2 9 rfl rfl)
theorem dX0_branch_59 : decode cX0_branch 59 = .ok (.iaload, 1) := dk_46 (dk_at dksX0_branch_2 11 rfl rfl)
theorem dX0_branch_60 : decode cX0_branch 60 = .ok (.ifCond .ne 21, 3) := dk_154 0 21 (dk_at dksX0_branch_2 12 rfl rfl)
theorem dX0_branch_63 : decode cX0_branch 63 = .ok (.aload_n 0, 1) := dk_42 (dk_at dksX0_branch_2 15 rfl rfl)
theorem dX0_branch_64 : decode cX0_branch 64 = .ok (.iload_n 1, 1) := dk_27 (dk_at dksX0_branch_2 16 rfl rfl)
theorem dX0_branch_65 : decode cX0_branch 65 = .ok (.iload_n 2, 1) := dk_28 (dk_at dksX0_branch_2 17 rfl rfl)
theorem dX0_branch_66 : decode cX0_branch 66 = .ok (.iload_n 3, 1) := dk_29 (dk_at dksX0_branch_2 18 rfl rfl)
theorem dX0_branch_67 : decode cX0_branch 67 = .ok (.iload 4, 2) := dk_21 4 (dk_at dksX0_branch_2 19 rfl rfl)
theorem dX0_branch_69 : decode cX0_branch 69 = .ok (.iconst 1, 1) := dk_4 (dk_at dksX0_branch_2 21 rfl rfl)
theorem dX0_branch_70 : decode cX0_branch 70 = .ok (.iadd, 1) := dk_96 (dk_at dksX0_branch_2 22 rfl rfl)
theorem dX0_branch_71 : decode cX0_branch 71 = .ok (.lload 5, 2) := dk_22 5 (dk_at dksX0_branch_3 0 rfl rfl)
theorem dX0_branch_73 : decode cX0_branch 73 = .ok (.ldc2_w 411, 3) := dk_20 1 155 (dk_at dksX0_branch_3 2 rfl rfl)
theorem dX0_branch_76 : decode cX0_branch 76 = .ok (.lmul, 1) := dk_105 (dk_at dksX0_branch_3 5 rfl rfl)
theorem dX0_branch_77 : decode cX0_branch 77 = .ok (.invokevirtual 407, 3) := dk_182 1 151 (dk_at dksX0_branch_3 6 rfl rfl)
theorem dX0_branch_80 : decode cX0_branch 80 = .ok (.return_, 1) := dk_177 (dk_at dksX0_branch_3 9 rfl rfl)
theorem dX0_branch_81 : decode cX0_branch 81 = .ok (.aload_n 0, 1) := dk_42 (dk_at dksX0_branch_3 10 rfl rfl)
theorem dX0_branch_82 : decode cX0_branch 82 = .ok (.aload 7, 2) := dk_25 7 (dk_at dksX0_branch_3 11 rfl rfl)
theorem dX0_branch_84 : decode cX0_branch 84 = .ok (.iload 4, 2) := dk_21 4 (dk_at dksX0_branch_3 13 rfl rfl)
theorem dX0_branch_86 : decode cX0_branch 86 = .ok (.iload_n 2, 1) := dk_28 (dk_at dksX0_branch_3 15 rfl rfl)
theorem dX0_branch_87 : decode cX0_branch 87 = .ok (.invokevirtual 218, 3) := dk_182 0 218 (dk_at dksX0_branch_3 16 rfl rfl)
theorem dX0_branch_90 : decode cX0_branch 90 = .ok (.istore 8, 2) := dk_54 8 (dk_at dksX0_branch_3 19 rfl rfl)
theorem dX0_branch_92 : decode cX0_branch 92 = .ok (.aload_n 0, 1) := dk_42 (dk_at dksX0_branch_3 21 rfl rfl)
theorem dX0_branch_93 : decode cX0_branch 93 = .ok (.getfield 84, 3) := dk_180 0 84 (dk_at dksX0_branch_4 0 rfl rfl)
theorem dX0_branch_96 : decode cX0_branch 96 = .ok (.iload_n 1, 1) := dk_27 (dk_at dksX0_branch_4 3 rfl rfl)
theorem dX0_branch_97 : decode cX0_branch 97 = .ok (.iconst 1, 1) := dk_4 (dk_at dksX0_branch_4 4 rfl rfl)
theorem dX0_branch_98 : decode cX0_branch 98 = .ok (.iadd, 1) := dk_96 (dk_at dksX0_branch_4 5 rfl rfl)
theorem dX0_branch_99 : decode cX0_branch 99 = .ok (.aaload, 1) := dk_50 (dk_at dksX0_branch_4 6 rfl rfl)
theorem dX0_branch_100 : decode cX0_branch 100 = .ok (.astore 9, 2) := dk_58 9 (dk_at dksX0_branch_4 7 rfl rfl)
theorem dX0_branch_102 : decode cX0_branch 102 = .ok (.iload 8, 2) := dk_21 8 (dk_at dksX0_branch_4 9 rfl rfl)
theorem dX0_branch_104 : decode cX0_branch 104 = .ok (.bipush 12, 2) := dk_16 12 (dk_at dksX0_branch_4 11 rfl rfl)
theorem dX0_branch_106 : decode cX0_branch 106 = .ok (.if_icmp .ge 32, 3) := dk_162 0 32 (dk_at dksX0_branch_4 13 rfl rfl)
theorem dX0_branch_109 : decode cX0_branch 109 = .ok (.aload 9, 2) := dk_25 9 (dk_at dksX0_branch_4 16 rfl rfl)
theorem dX0_branch_111 : decode cX0_branch 111 = .ok (.aload 7, 2) := dk_25 7 (dk_at dksX0_branch_4 18 rfl rfl)
theorem dX0_branch_113 : decode cX0_branch 113 = .ok (.invokevirtual 413, 3) := dk_182 1 157 (dk_at dksX0_branch_4 20 rfl rfl)
theorem dX0_branch_116 : decode cX0_branch 116 = .ok (.aload_n 0, 1) := dk_42 (dk_at dksX0_branch_4 23 rfl rfl)
theorem dX0_branch_117 : decode cX0_branch 117 = .ok (.iload_n 1, 1) := dk_27 (dk_at dksX0_branch_5 0 rfl rfl)
theorem dX0_branch_118 : decode cX0_branch 118 = .ok (.iconst 1, 1) := dk_4 (dk_at dksX0_branch_5 1 rfl rfl)
theorem dX0_branch_119 : decode cX0_branch 119 = .ok (.iadd, 1) := dk_96 (dk_at dksX0_branch_5 2 rfl rfl)
theorem dX0_branch_120 : decode cX0_branch 120 = .ok (.iload_n 2, 1) := dk_28 (dk_at dksX0_branch_5 3 rfl rfl)
theorem dX0_branch_121 : decode cX0_branch 121 = .ok (.iload_n 3, 1) := dk_29 (dk_at dksX0_branch_5 4 rfl rfl)
theorem dX0_branch_122 : decode cX0_branch 122 = .ok (.iload 4, 2) := dk_21 4 (dk_at dksX0_branch_5 5 rfl rfl)
theorem dX0_branch_124 : decode cX0_branch 124 = .ok (.iconst 1, 1) := dk_4 (dk_at dksX0_branch_5 7 rfl rfl)
theorem dX0_branch_125 : decode cX0_branch 125 = .ok (.iadd, 1) := dk_96 (dk_at dksX0_branch_5 8 rfl rfl)
theorem dX0_branch_126 : decode cX0_branch 126 = .ok (.lload 5, 2) := dk_22 5 (dk_at dksX0_branch_5 9 rfl rfl)
theorem dX0_branch_128 : decode cX0_branch 128 = .ok (.bipush 12, 2) := dk_16 12 (dk_at dksX0_branch_5 11 rfl rfl)
theorem dX0_branch_130 : decode cX0_branch 130 = .ok (.iload 8, 2) := dk_21 8 (dk_at dksX0_branch_5 13 rfl rfl)
theorem dX0_branch_132 : decode cX0_branch 132 = .ok (.isub, 1) := dk_100 (dk_at dksX0_branch_5 15 rfl rfl)
theorem dX0_branch_133 : decode cX0_branch 133 = .ok (.i2l, 1) := dk_133 (dk_at dksX0_branch_5 16 rfl rfl)
theorem dX0_branch_134 : decode cX0_branch 134 = .ok (.lmul, 1) := dk_105 (dk_at dksX0_branch_5 17 rfl rfl)
theorem dX0_branch_135 : decode cX0_branch 135 = .ok (.invokevirtual 407, 3) := dk_182 1 151 (dk_at dksX0_branch_5 18 rfl rfl)
theorem dX0_branch_138 : decode cX0_branch 138 = .ok (.iload 8, 2) := dk_21 8 (dk_at dksX0_branch_5 21 rfl rfl)
theorem dX0_branch_140 : decode cX0_branch 140 = .ok (.ifCond .le 38, 3) := dk_158 0 38 (dk_at dksX0_branch_6 0 rfl rfl)
theorem dX0_branch_143 : decode cX0_branch 143 = .ok (.aload 9, 2) := dk_25 9 (dk_at dksX0_branch_6 3 rfl rfl)
theorem dX0_branch_145 : decode cX0_branch 145 = .ok (.aload 7, 2) := dk_25 7 (dk_at dksX0_branch_6 5 rfl rfl)
theorem dX0_branch_147 : decode cX0_branch 147 = .ok (.invokevirtual 413, 3) := dk_182 1 157 (dk_at dksX0_branch_6 7 rfl rfl)
theorem dX0_branch_150 : decode cX0_branch 150 = .ok (.aload_n 0, 1) := dk_42 (dk_at dksX0_branch_6 10 rfl rfl)
theorem dX0_branch_151 : decode cX0_branch 151 = .ok (.aload 9, 2) := dk_25 9 (dk_at dksX0_branch_6 11 rfl rfl)
theorem dX0_branch_153 : decode cX0_branch 153 = .ok (.iload 4, 2) := dk_21 4 (dk_at dksX0_branch_6 13 rfl rfl)
theorem dX0_branch_155 : decode cX0_branch 155 = .ok (.invokevirtual 364, 3) := dk_182 1 108 (dk_at dksX0_branch_6 15 rfl rfl)
theorem dX0_branch_158 : decode cX0_branch 158 = .ok (.pop, 1) := dk_87 (dk_at dksX0_branch_6 18 rfl rfl)
theorem dX0_branch_159 : decode cX0_branch 159 = .ok (.aload_n 0, 1) := dk_42 (dk_at dksX0_branch_6 19 rfl rfl)
theorem dX0_branch_160 : decode cX0_branch 160 = .ok (.iload_n 1, 1) := dk_27 (dk_at dksX0_branch_6 20 rfl rfl)
theorem dX0_branch_161 : decode cX0_branch 161 = .ok (.iconst 1, 1) := dk_4 (dk_at dksX0_branch_6 21 rfl rfl)
theorem dX0_branch_162 : decode cX0_branch 162 = .ok (.iadd, 1) := dk_96 (dk_at dksX0_branch_6 22 rfl rfl)
theorem dX0_branch_163 : decode cX0_branch 163 = .ok (.iload_n 2, 1) := dk_28 (dk_at dksX0_branch_6 23 rfl rfl)
theorem dX0_branch_164 : decode cX0_branch 164 = .ok (.iload_n 3, 1) := dk_29 (dk_at dksX0_branch_7 0 rfl rfl)
theorem dX0_branch_165 : decode cX0_branch 165 = .ok (.iload 4, 2) := dk_21 4 (dk_at dksX0_branch_7 1 rfl rfl)
theorem dX0_branch_167 : decode cX0_branch 167 = .ok (.iconst 1, 1) := dk_4 (dk_at dksX0_branch_7 3 rfl rfl)
theorem dX0_branch_168 : decode cX0_branch 168 = .ok (.iadd, 1) := dk_96 (dk_at dksX0_branch_7 4 rfl rfl)
theorem dX0_branch_169 : decode cX0_branch 169 = .ok (.lload 5, 2) := dk_22 5 (dk_at dksX0_branch_7 5 rfl rfl)
theorem dX0_branch_171 : decode cX0_branch 171 = .ok (.iload 8, 2) := dk_21 8 (dk_at dksX0_branch_7 7 rfl rfl)
theorem dX0_branch_173 : decode cX0_branch 173 = .ok (.i2l, 1) := dk_133 (dk_at dksX0_branch_7 9 rfl rfl)
theorem dX0_branch_174 : decode cX0_branch 174 = .ok (.lmul, 1) := dk_105 (dk_at dksX0_branch_7 10 rfl rfl)
theorem dX0_branch_175 : decode cX0_branch 175 = .ok (.invokevirtual 407, 3) := dk_182 1 151 (dk_at dksX0_branch_7 11 rfl rfl)
theorem dX0_branch_178 : decode cX0_branch 178 = .ok (.return_, 1) := dk_177 (dk_at dksX0_branch_7 14 rfl rfl)
abbrev cX0_wholeOf : ByteArray := prog_1_method_64_code
def yX0_wholeOf : MethodName := ⟨RX0, "wholeOf", "(I)J"⟩
def dkwX0_wholeOf_1 : List UInt8 := [132, 4, 1, 167, 255, 236, 32, 173]
abbrev dktX0_wholeOf_1 : List UInt8 := dkwX0_wholeOf_1 ++ []
def dkwX0_wholeOf_0 : List UInt8 := [10, 65, 3, 54, 4, 21, 4, 27, 42, 180, 0, 133, 104, 162, 0, 15, 32, 20, 1, 155, 105, 65]
abbrev dktX0_wholeOf_0 : List UInt8 := dkwX0_wholeOf_0 ++ dktX0_wholeOf_1
theorem dksX0_wholeOf_0 : cX0_wholeOf.data.toList.drop 0 = dktX0_wholeOf_0 := by decide +kernel
theorem dksX0_wholeOf_1 : cX0_wholeOf.data.toList.drop 22 = dktX0_wholeOf_1 := dk_seg dksX0_wholeOf_0 22 rfl rfl
theorem dX0_wholeOf_0 : decode cX0_wholeOf 0 = .ok (.lconst 1, 1) := dk_10 (dk_at dksX0_wholeOf_0 0 rfl rfl)
theorem dX0_wholeOf_1 : decode cX0_wholeOf 1 = .ok (.lstore_n 2, 1) := dk_65 (dk_at dksX0_wholeOf_0 1 rfl rfl)
theorem dX0_wholeOf_2 : decode cX0_wholeOf 2 = .ok (.iconst 0, 1) := dk_3 (dk_at dksX0_wholeOf_0 2 rfl rfl)
theorem dX0_wholeOf_3 : decode cX0_wholeOf 3 = .ok (.istore 4, 2) := dk_54 4 (dk_at dksX0_wholeOf_0 3 rfl rfl)
theorem dX0_wholeOf_5 : decode cX0_wholeOf 5 = .ok (.iload 4, 2) := dk_21 4 (dk_at dksX0_wholeOf_0 5 rfl rfl)
theorem dX0_wholeOf_7 : decode cX0_wholeOf 7 = .ok (.iload_n 1, 1) := dk_27 (dk_at dksX0_wholeOf_0 7 rfl rfl)
theorem dX0_wholeOf_8 : decode cX0_wholeOf 8 = .ok (.aload_n 0, 1) := dk_42 (dk_at dksX0_wholeOf_0 8 rfl rfl)
theorem dX0_wholeOf_9 : decode cX0_wholeOf 9 = .ok (.getfield 133, 3) := dk_180 0 133 (dk_at dksX0_wholeOf_0 9 rfl rfl)
theorem dX0_wholeOf_12 : decode cX0_wholeOf 12 = .ok (.imul, 1) := dk_104 (dk_at dksX0_wholeOf_0 12 rfl rfl)
theorem dX0_wholeOf_13 : decode cX0_wholeOf 13 = .ok (.if_icmp .ge 15, 3) := dk_162 0 15 (dk_at dksX0_wholeOf_0 13 rfl rfl)
theorem dX0_wholeOf_16 : decode cX0_wholeOf 16 = .ok (.lload_n 2, 1) := dk_32 (dk_at dksX0_wholeOf_0 16 rfl rfl)
theorem dX0_wholeOf_17 : decode cX0_wholeOf 17 = .ok (.ldc2_w 411, 3) := dk_20 1 155 (dk_at dksX0_wholeOf_0 17 rfl rfl)
theorem dX0_wholeOf_20 : decode cX0_wholeOf 20 = .ok (.lmul, 1) := dk_105 (dk_at dksX0_wholeOf_0 20 rfl rfl)
theorem dX0_wholeOf_21 : decode cX0_wholeOf 21 = .ok (.lstore_n 2, 1) := dk_65 (dk_at dksX0_wholeOf_0 21 rfl rfl)
theorem dX0_wholeOf_22 : decode cX0_wholeOf 22 = .ok (.iinc 4 1, 3) := dk_132 4 1 (dk_at dksX0_wholeOf_1 0 rfl rfl)
theorem dX0_wholeOf_25 : decode cX0_wholeOf 25 = .ok (.goto (-20), 3) := dk_167 255 236 (dk_at dksX0_wholeOf_1 3 rfl rfl)
theorem dX0_wholeOf_28 : decode cX0_wholeOf 28 = .ok (.lload_n 2, 1) := dk_32 (dk_at dksX0_wholeOf_1 6 rfl rfl)
theorem dX0_wholeOf_29 : decode cX0_wholeOf 29 = .ok (.lreturn, 1) := dk_173 (dk_at dksX0_wholeOf_1 7 rfl rfl)
abbrev cX0_partOf : ByteArray := prog_1_method_66_code
def yX0_partOf : MethodName := ⟨RX0, "partOf", "(JJI)J"⟩
def dkwX0_partOf_0 : List UInt8 := [30, 32, 184, 1, 160, 55, 5, 21, 4, 154, 0, 10, 30, 22, 5, 109, 167, 0, 7, 32, 22, 5, 109, 173]
abbrev dktX0_partOf_0 : List UInt8 := dkwX0_partOf_0 ++ []
theorem dksX0_partOf_0 : cX0_partOf.data.toList.drop 0 = dktX0_partOf_0 := by decide +kernel
theorem dX0_partOf_0 : decode cX0_partOf 0 = .ok (.lload_n 0, 1) := dk_30 (dk_at dksX0_partOf_0 0 rfl rfl)
theorem dX0_partOf_1 : decode cX0_partOf 1 = .ok (.lload_n 2, 1) := dk_32 (dk_at dksX0_partOf_0 1 rfl rfl)
theorem dX0_partOf_2 : decode cX0_partOf 2 = .ok (.invokestatic 416, 3) := dk_184 1 160 (dk_at dksX0_partOf_0 2 rfl rfl)
theorem dX0_partOf_5 : decode cX0_partOf 5 = .ok (.lstore 5, 2) := dk_55 5 (dk_at dksX0_partOf_0 5 rfl rfl)
theorem dX0_partOf_7 : decode cX0_partOf 7 = .ok (.iload 4, 2) := dk_21 4 (dk_at dksX0_partOf_0 7 rfl rfl)
theorem dX0_partOf_9 : decode cX0_partOf 9 = .ok (.ifCond .ne 10, 3) := dk_154 0 10 (dk_at dksX0_partOf_0 9 rfl rfl)
theorem dX0_partOf_12 : decode cX0_partOf 12 = .ok (.lload_n 0, 1) := dk_30 (dk_at dksX0_partOf_0 12 rfl rfl)
theorem dX0_partOf_13 : decode cX0_partOf 13 = .ok (.lload 5, 2) := dk_22 5 (dk_at dksX0_partOf_0 13 rfl rfl)
theorem dX0_partOf_15 : decode cX0_partOf 15 = .ok (.ldiv, 1) := dk_109 (dk_at dksX0_partOf_0 15 rfl rfl)
theorem dX0_partOf_16 : decode cX0_partOf 16 = .ok (.goto 7, 3) := dk_167 0 7 (dk_at dksX0_partOf_0 16 rfl rfl)
theorem dX0_partOf_19 : decode cX0_partOf 19 = .ok (.lload_n 2, 1) := dk_32 (dk_at dksX0_partOf_0 19 rfl rfl)
theorem dX0_partOf_20 : decode cX0_partOf 20 = .ok (.lload 5, 2) := dk_22 5 (dk_at dksX0_partOf_0 20 rfl rfl)
theorem dX0_partOf_22 : decode cX0_partOf 22 = .ok (.ldiv, 1) := dk_109 (dk_at dksX0_partOf_0 22 rfl rfl)
theorem dX0_partOf_23 : decode cX0_partOf 23 = .ok (.lreturn, 1) := dk_173 (dk_at dksX0_partOf_0 23 rfl rfl)
abbrev cX0_common : ByteArray := prog_1_method_65_code
def yX0_common : MethodName := ⟨RX0, "common", "(JJ)J"⟩
def dkwX0_common_0 : List UInt8 := [32, 9, 148, 154, 0, 7, 30, 167, 0, 10, 32, 30, 32, 113, 184, 1, 160, 173]
abbrev dktX0_common_0 : List UInt8 := dkwX0_common_0 ++ []
theorem dksX0_common_0 : cX0_common.data.toList.drop 0 = dktX0_common_0 := by decide +kernel
theorem dX0_common_0 : decode cX0_common 0 = .ok (.lload_n 2, 1) := dk_32 (dk_at dksX0_common_0 0 rfl rfl)
theorem dX0_common_1 : decode cX0_common 1 = .ok (.lconst 0, 1) := dk_9 (dk_at dksX0_common_0 1 rfl rfl)
theorem dX0_common_2 : decode cX0_common 2 = .ok (.lcmp, 1) := dk_148 (dk_at dksX0_common_0 2 rfl rfl)
theorem dX0_common_3 : decode cX0_common 3 = .ok (.ifCond .ne 7, 3) := dk_154 0 7 (dk_at dksX0_common_0 3 rfl rfl)
theorem dX0_common_6 : decode cX0_common 6 = .ok (.lload_n 0, 1) := dk_30 (dk_at dksX0_common_0 6 rfl rfl)
theorem dX0_common_7 : decode cX0_common 7 = .ok (.goto 10, 3) := dk_167 0 10 (dk_at dksX0_common_0 7 rfl rfl)
theorem dX0_common_10 : decode cX0_common 10 = .ok (.lload_n 2, 1) := dk_32 (dk_at dksX0_common_0 10 rfl rfl)
theorem dX0_common_11 : decode cX0_common 11 = .ok (.lload_n 0, 1) := dk_30 (dk_at dksX0_common_0 11 rfl rfl)
theorem dX0_common_12 : decode cX0_common 12 = .ok (.lload_n 2, 1) := dk_32 (dk_at dksX0_common_0 12 rfl rfl)
theorem dX0_common_13 : decode cX0_common 13 = .ok (.lrem, 1) := dk_113 (dk_at dksX0_common_0 13 rfl rfl)
theorem dX0_common_14 : decode cX0_common 14 = .ok (.invokestatic 416, 3) := dk_184 1 160 (dk_at dksX0_common_0 14 rfl rfl)
theorem dX0_common_17 : decode cX0_common 17 = .ok (.lreturn, 1) := dk_173 (dk_at dksX0_common_0 17 rfl rfl)
abbrev cX0_mean : ByteArray := prog_1_method_69_code
def yX0_mean : MethodName := ⟨RX0, "mean", "(III)J"⟩
def dkwX0_mean_2 : List UInt8 := [180, 1, 144, 42, 28, 182, 1, 176, 29, 184, 1, 180, 173]
abbrev dktX0_mean_2 : List UInt8 := dkwX0_mean_2 ++ []
def dkwX0_mean_1 : List UInt8 := [164, 0, 7, 20, 1, 171, 173, 42, 27, 42, 180, 0, 51, 180, 0, 164, 27, 46, 28, 182, 1, 173, 42]
abbrev dktX0_mean_1 : List UInt8 := dkwX0_mean_1 ++ dktX0_mean_2
def dkwX0_mean_0 : List UInt8 := [42, 27, 28, 29, 182, 1, 164, 154, 0, 7, 20, 1, 169, 173, 42, 180, 0, 215, 28, 96, 16, 24]
abbrev dktX0_mean_0 : List UInt8 := dkwX0_mean_0 ++ dktX0_mean_1
theorem dksX0_mean_0 : cX0_mean.data.toList.drop 0 = dktX0_mean_0 := by decide +kernel
theorem dksX0_mean_1 : cX0_mean.data.toList.drop 22 = dktX0_mean_1 := dk_seg dksX0_mean_0 22 rfl rfl
theorem dksX0_mean_2 : cX0_mean.data.toList.drop 45 = dktX0_mean_2 := dk_seg dksX0_mean_1 23 rfl rfl
theorem dX0_mean_0 : decode cX0_mean 0 = .ok (.aload_n 0, 1) := dk_42 (dk_at dksX0_mean_0 0 rfl rfl)
theorem dX0_mean_1 : decode cX0_mean 1 = .ok (.iload_n 1, 1) := dk_27 (dk_at dksX0_mean_0 1 rfl rfl)
theorem dX0_mean_2 : decode cX0_mean 2 = .ok (.iload_n 2, 1) := dk_28 (dk_at dksX0_mean_0 2 rfl rfl)
theorem dX0_mean_3 : decode cX0_mean 3 = .ok (.iload_n 3, 1) := dk_29 (dk_at dksX0_mean_0 3 rfl rfl)
theorem dX0_mean_4 : decode cX0_mean 4 = .ok (.invokevirtual 420, 3) := dk_182 1 164 (dk_at dksX0_mean_0 4 rfl rfl)
theorem dX0_mean_7 : decode cX0_mean 7 = .ok (.ifCond .ne 7, 3) := dk_154 0 7 (dk_at dksX0_mean_0 7 rfl rfl)
theorem dX0_mean_10 : decode cX0_mean 10 = .ok (.ldc2_w 425, 3) := dk_20 1 169 (dk_at dksX0_mean_0 10 rfl rfl)
theorem dX0_mean_13 : decode cX0_mean 13 = .ok (.lreturn, 1) := dk_173 (dk_at dksX0_mean_0 13 rfl rfl)
theorem dX0_mean_14 : decode cX0_mean 14 = .ok (.aload_n 0, 1) := dk_42 (dk_at dksX0_mean_0 14 rfl rfl)
theorem dX0_mean_15 : decode cX0_mean 15 = .ok (.getfield 215, 3) := dk_180 0 215 (dk_at dksX0_mean_0 15 rfl rfl)
theorem dX0_mean_18 : decode cX0_mean 18 = .ok (.iload_n 2, 1) := dk_28 (dk_at dksX0_mean_0 18 rfl rfl)
theorem dX0_mean_19 : decode cX0_mean 19 = .ok (.iadd, 1) := dk_96 (dk_at dksX0_mean_0 19 rfl rfl)
theorem dX0_mean_20 : decode cX0_mean 20 = .ok (.bipush 24, 2) := dk_16 24 (dk_at dksX0_mean_0 20 rfl rfl)
theorem dX0_mean_22 : decode cX0_mean 22 = .ok (.if_icmp .le 7, 3) := dk_164 0 7 (dk_at dksX0_mean_1 0 rfl rfl)
theorem dX0_mean_25 : decode cX0_mean 25 = .ok (.ldc2_w 427, 3) := dk_20 1 171 (dk_at dksX0_mean_1 3 rfl rfl)
theorem dX0_mean_28 : decode cX0_mean 28 = .ok (.lreturn, 1) := dk_173 (dk_at dksX0_mean_1 6 rfl rfl)
theorem dX0_mean_29 : decode cX0_mean 29 = .ok (.aload_n 0, 1) := dk_42 (dk_at dksX0_mean_1 7 rfl rfl)
theorem dX0_mean_30 : decode cX0_mean 30 = .ok (.iload_n 1, 1) := dk_27 (dk_at dksX0_mean_1 8 rfl rfl)
theorem dX0_mean_31 : decode cX0_mean 31 = .ok (.aload_n 0, 1) := dk_42 (dk_at dksX0_mean_1 9 rfl rfl)
theorem dX0_mean_32 : decode cX0_mean 32 = .ok (.getfield 51, 3) := dk_180 0 51 (dk_at dksX0_mean_1 10 rfl rfl)
theorem dX0_mean_35 : decode cX0_mean 35 = .ok (.getfield 164, 3) := dk_180 0 164 (dk_at dksX0_mean_1 13 rfl rfl)
theorem dX0_mean_38 : decode cX0_mean 38 = .ok (.iload_n 1, 1) := dk_27 (dk_at dksX0_mean_1 16 rfl rfl)
theorem dX0_mean_39 : decode cX0_mean 39 = .ok (.iaload, 1) := dk_46 (dk_at dksX0_mean_1 17 rfl rfl)
theorem dX0_mean_40 : decode cX0_mean 40 = .ok (.iload_n 2, 1) := dk_28 (dk_at dksX0_mean_1 18 rfl rfl)
theorem dX0_mean_41 : decode cX0_mean 41 = .ok (.invokevirtual 429, 3) := dk_182 1 173 (dk_at dksX0_mean_1 19 rfl rfl)
theorem dX0_mean_44 : decode cX0_mean 44 = .ok (.aload_n 0, 1) := dk_42 (dk_at dksX0_mean_1 22 rfl rfl)
theorem dX0_mean_45 : decode cX0_mean 45 = .ok (.getfield 400, 3) := dk_180 1 144 (dk_at dksX0_mean_2 0 rfl rfl)
theorem dX0_mean_48 : decode cX0_mean 48 = .ok (.aload_n 0, 1) := dk_42 (dk_at dksX0_mean_2 3 rfl rfl)
theorem dX0_mean_49 : decode cX0_mean 49 = .ok (.iload_n 2, 1) := dk_28 (dk_at dksX0_mean_2 4 rfl rfl)
theorem dX0_mean_50 : decode cX0_mean 50 = .ok (.invokevirtual 432, 3) := dk_182 1 176 (dk_at dksX0_mean_2 5 rfl rfl)
theorem dX0_mean_53 : decode cX0_mean 53 = .ok (.iload_n 3, 1) := dk_29 (dk_at dksX0_mean_2 8 rfl rfl)
theorem dX0_mean_54 : decode cX0_mean 54 = .ok (.invokestatic 436, 3) := dk_184 1 180 (dk_at dksX0_mean_2 9 rfl rfl)
theorem dX0_mean_57 : decode cX0_mean 57 = .ok (.lreturn, 1) := dk_173 (dk_at dksX0_mean_2 12 rfl rfl)
abbrev cX0_stand : ByteArray := prog_1_method_70_code
def yX0_stand : MethodName := ⟨RX0, "stand", "(II)I"⟩
def dkwX0_stand_4 : List UInt8 := [167, 255, 214, 29, 172]
abbrev dktX0_stand_4 : List UInt8 := dkwX0_stand_4 ++ []
def dkwX0_stand_3 : List UInt8 := [180, 1, 140, 22, 4, 148, 157, 0, 6, 167, 0, 12, 21, 6, 62, 42, 180, 1, 140, 55, 4, 132, 6, 1]
abbrev dktX0_stand_3 : List UInt8 := dkwX0_stand_3 ++ dktX0_stand_4
def dkwX0_stand_2 : List UInt8 := [55, 4, 3, 54, 6, 21, 6, 42, 180, 0, 130, 162, 0, 39, 42, 27, 21, 6, 28, 182, 1, 173, 42]
abbrev dktX0_stand_2 : List UInt8 := dkwX0_stand_2 ++ dktX0_stand_3
def dkwX0_stand_1 : List UInt8 := [16, 251, 172, 42, 180, 0, 51, 180, 0, 164, 27, 46, 62, 42, 27, 29, 28, 182, 1, 173, 42, 180, 1, 140]
abbrev dktX0_stand_1 : List UInt8 := dkwX0_stand_1 ++ dktX0_stand_2
def dkwX0_stand_0 : List UInt8 := [42, 27, 28, 3, 182, 1, 164, 154, 0, 5, 2, 172, 42, 180, 0, 215, 28, 96, 16, 24, 164, 0, 6]
abbrev dktX0_stand_0 : List UInt8 := dkwX0_stand_0 ++ dktX0_stand_1
theorem dksX0_stand_0 : cX0_stand.data.toList.drop 0 = dktX0_stand_0 := by decide +kernel
theorem dksX0_stand_1 : cX0_stand.data.toList.drop 23 = dktX0_stand_1 := dk_seg dksX0_stand_0 23 rfl rfl
theorem dksX0_stand_2 : cX0_stand.data.toList.drop 47 = dktX0_stand_2 := dk_seg dksX0_stand_1 24 rfl rfl
theorem dksX0_stand_3 : cX0_stand.data.toList.drop 70 = dktX0_stand_3 := dk_seg dksX0_stand_2 23 rfl rfl
theorem dksX0_stand_4 : cX0_stand.data.toList.drop 94 = dktX0_stand_4 := dk_seg dksX0_stand_3 24 rfl rfl
theorem dX0_stand_0 : decode cX0_stand 0 = .ok (.aload_n 0, 1) := dk_42 (dk_at dksX0_stand_0 0 rfl rfl)
theorem dX0_stand_1 : decode cX0_stand 1 = .ok (.iload_n 1, 1) := dk_27 (dk_at dksX0_stand_0 1 rfl rfl)
theorem dX0_stand_2 : decode cX0_stand 2 = .ok (.iload_n 2, 1) := dk_28 (dk_at dksX0_stand_0 2 rfl rfl)
theorem dX0_stand_3 : decode cX0_stand 3 = .ok (.iconst 0, 1) := dk_3 (dk_at dksX0_stand_0 3 rfl rfl)
theorem dX0_stand_4 : decode cX0_stand 4 = .ok (.invokevirtual 420, 3) := dk_182 1 164 (dk_at dksX0_stand_0 4 rfl rfl)
theorem dX0_stand_7 : decode cX0_stand 7 = .ok (.ifCond .ne 5, 3) := dk_154 0 5 (dk_at dksX0_stand_0 7 rfl rfl)
theorem dX0_stand_10 : decode cX0_stand 10 = .ok (.iconst (-1), 1) := dk_2 (dk_at dksX0_stand_0 10 rfl rfl)
theorem dX0_stand_11 : decode cX0_stand 11 = .ok (.ireturn, 1) := dk_172 (dk_at dksX0_stand_0 11 rfl rfl)
theorem dX0_stand_12 : decode cX0_stand 12 = .ok (.aload_n 0, 1) := dk_42 (dk_at dksX0_stand_0 12 rfl rfl)
theorem dX0_stand_13 : decode cX0_stand 13 = .ok (.getfield 215, 3) := dk_180 0 215 (dk_at dksX0_stand_0 13 rfl rfl)
theorem dX0_stand_16 : decode cX0_stand 16 = .ok (.iload_n 2, 1) := dk_28 (dk_at dksX0_stand_0 16 rfl rfl)
theorem dX0_stand_17 : decode cX0_stand 17 = .ok (.iadd, 1) := dk_96 (dk_at dksX0_stand_0 17 rfl rfl)
theorem dX0_stand_18 : decode cX0_stand 18 = .ok (.bipush 24, 2) := dk_16 24 (dk_at dksX0_stand_0 18 rfl rfl)
theorem dX0_stand_20 : decode cX0_stand 20 = .ok (.if_icmp .le 6, 3) := dk_164 0 6 (dk_at dksX0_stand_0 20 rfl rfl)
theorem dX0_stand_23 : decode cX0_stand 23 = .ok (.bipush (-5), 2) := dk_16 251 (dk_at dksX0_stand_1 0 rfl rfl)
theorem dX0_stand_25 : decode cX0_stand 25 = .ok (.ireturn, 1) := dk_172 (dk_at dksX0_stand_1 2 rfl rfl)
theorem dX0_stand_26 : decode cX0_stand 26 = .ok (.aload_n 0, 1) := dk_42 (dk_at dksX0_stand_1 3 rfl rfl)
theorem dX0_stand_27 : decode cX0_stand 27 = .ok (.getfield 51, 3) := dk_180 0 51 (dk_at dksX0_stand_1 4 rfl rfl)
theorem dX0_stand_30 : decode cX0_stand 30 = .ok (.getfield 164, 3) := dk_180 0 164 (dk_at dksX0_stand_1 7 rfl rfl)
theorem dX0_stand_33 : decode cX0_stand 33 = .ok (.iload_n 1, 1) := dk_27 (dk_at dksX0_stand_1 10 rfl rfl)
theorem dX0_stand_34 : decode cX0_stand 34 = .ok (.iaload, 1) := dk_46 (dk_at dksX0_stand_1 11 rfl rfl)
theorem dX0_stand_35 : decode cX0_stand 35 = .ok (.istore_n 3, 1) := dk_62 (dk_at dksX0_stand_1 12 rfl rfl)
theorem dX0_stand_36 : decode cX0_stand 36 = .ok (.aload_n 0, 1) := dk_42 (dk_at dksX0_stand_1 13 rfl rfl)
theorem dX0_stand_37 : decode cX0_stand 37 = .ok (.iload_n 1, 1) := dk_27 (dk_at dksX0_stand_1 14 rfl rfl)
theorem dX0_stand_38 : decode cX0_stand 38 = .ok (.iload_n 3, 1) := dk_29 (dk_at dksX0_stand_1 15 rfl rfl)
theorem dX0_stand_39 : decode cX0_stand 39 = .ok (.iload_n 2, 1) := dk_28 (dk_at dksX0_stand_1 16 rfl rfl)
theorem dX0_stand_40 : decode cX0_stand 40 = .ok (.invokevirtual 429, 3) := dk_182 1 173 (dk_at dksX0_stand_1 17 rfl rfl)
theorem dX0_stand_43 : decode cX0_stand 43 = .ok (.aload_n 0, 1) := dk_42 (dk_at dksX0_stand_1 20 rfl rfl)
theorem dX0_stand_44 : decode cX0_stand 44 = .ok (.getfield 396, 3) := dk_180 1 140 (dk_at dksX0_stand_1 21 rfl rfl)
theorem dX0_stand_47 : decode cX0_stand 47 = .ok (.lstore 4, 2) := dk_55 4 (dk_at dksX0_stand_2 0 rfl rfl)
theorem dX0_stand_49 : decode cX0_stand 49 = .ok (.iconst 0, 1) := dk_3 (dk_at dksX0_stand_2 2 rfl rfl)
theorem dX0_stand_50 : decode cX0_stand 50 = .ok (.istore 6, 2) := dk_54 6 (dk_at dksX0_stand_2 3 rfl rfl)
theorem dX0_stand_52 : decode cX0_stand 52 = .ok (.iload 6, 2) := dk_21 6 (dk_at dksX0_stand_2 5 rfl rfl)
theorem dX0_stand_54 : decode cX0_stand 54 = .ok (.aload_n 0, 1) := dk_42 (dk_at dksX0_stand_2 7 rfl rfl)
theorem dX0_stand_55 : decode cX0_stand 55 = .ok (.getfield 130, 3) := dk_180 0 130 (dk_at dksX0_stand_2 8 rfl rfl)
theorem dX0_stand_58 : decode cX0_stand 58 = .ok (.if_icmp .ge 39, 3) := dk_162 0 39 (dk_at dksX0_stand_2 11 rfl rfl)
theorem dX0_stand_61 : decode cX0_stand 61 = .ok (.aload_n 0, 1) := dk_42 (dk_at dksX0_stand_2 14 rfl rfl)
theorem dX0_stand_62 : decode cX0_stand 62 = .ok (.iload_n 1, 1) := dk_27 (dk_at dksX0_stand_2 15 rfl rfl)
theorem dX0_stand_63 : decode cX0_stand 63 = .ok (.iload 6, 2) := dk_21 6 (dk_at dksX0_stand_2 16 rfl rfl)
theorem dX0_stand_65 : decode cX0_stand 65 = .ok (.iload_n 2, 1) := dk_28 (dk_at dksX0_stand_2 18 rfl rfl)
theorem dX0_stand_66 : decode cX0_stand 66 = .ok (.invokevirtual 429, 3) := dk_182 1 173 (dk_at dksX0_stand_2 19 rfl rfl)
theorem dX0_stand_69 : decode cX0_stand 69 = .ok (.aload_n 0, 1) := dk_42 (dk_at dksX0_stand_2 22 rfl rfl)
theorem dX0_stand_70 : decode cX0_stand 70 = .ok (.getfield 396, 3) := dk_180 1 140 (dk_at dksX0_stand_3 0 rfl rfl)
theorem dX0_stand_73 : decode cX0_stand 73 = .ok (.lload 4, 2) := dk_22 4 (dk_at dksX0_stand_3 3 rfl rfl)
theorem dX0_stand_75 : decode cX0_stand 75 = .ok (.lcmp, 1) := dk_148 (dk_at dksX0_stand_3 5 rfl rfl)
theorem dX0_stand_76 : decode cX0_stand 76 = .ok (.ifCond .gt 6, 3) := dk_157 0 6 (dk_at dksX0_stand_3 6 rfl rfl)
theorem dX0_stand_79 : decode cX0_stand 79 = .ok (.goto 12, 3) := dk_167 0 12 (dk_at dksX0_stand_3 9 rfl rfl)
theorem dX0_stand_82 : decode cX0_stand 82 = .ok (.iload 6, 2) := dk_21 6 (dk_at dksX0_stand_3 12 rfl rfl)
theorem dX0_stand_84 : decode cX0_stand 84 = .ok (.istore_n 3, 1) := dk_62 (dk_at dksX0_stand_3 14 rfl rfl)
theorem dX0_stand_85 : decode cX0_stand 85 = .ok (.aload_n 0, 1) := dk_42 (dk_at dksX0_stand_3 15 rfl rfl)
theorem dX0_stand_86 : decode cX0_stand 86 = .ok (.getfield 396, 3) := dk_180 1 140 (dk_at dksX0_stand_3 16 rfl rfl)
theorem dX0_stand_89 : decode cX0_stand 89 = .ok (.lstore 4, 2) := dk_55 4 (dk_at dksX0_stand_3 19 rfl rfl)
theorem dX0_stand_91 : decode cX0_stand 91 = .ok (.iinc 6 1, 3) := dk_132 6 1 (dk_at dksX0_stand_3 21 rfl rfl)
theorem dX0_stand_94 : decode cX0_stand 94 = .ok (.goto (-42), 3) := dk_167 255 214 (dk_at dksX0_stand_4 0 rfl rfl)
theorem dX0_stand_97 : decode cX0_stand 97 = .ok (.iload_n 3, 1) := dk_29 (dk_at dksX0_stand_4 3 rfl rfl)
theorem dX0_stand_98 : decode cX0_stand 98 = .ok (.ireturn, 1) := dk_172 (dk_at dksX0_stand_4 4 rfl rfl)
abbrev cX0_heavy : ByteArray := prog_1_method_71_code
def yX0_heavy : MethodName := ⟨RX0, "heavy", "(II)I"⟩
def dkwX0_heavy_3 : List UInt8 := [29, 172, 132, 3, 1, 167, 255, 215, 16, 254, 172]
abbrev dktX0_heavy_3 : List UInt8 := dkwX0_heavy_3 ++ []
def dkwX0_heavy_2 : List UInt8 := [42, 180, 0, 51, 180, 0, 164, 27, 46, 28, 16, 100, 108, 29, 182, 1, 89, 28, 16, 100, 112, 163, 0, 5]
abbrev dktX0_heavy_2 : List UInt8 := dkwX0_heavy_2 ++ dktX0_heavy_3
def dkwX0_heavy_1 : List UInt8 := [16, 100, 112, 16, 12, 164, 0, 5, 2, 172, 3, 62, 29, 16, 9, 163, 0, 41, 42, 42, 180, 0, 51, 27]
abbrev dktX0_heavy_1 : List UInt8 := dkwX0_heavy_1 ++ dktX0_heavy_2
def dkwX0_heavy_0 : List UInt8 := [42, 27, 182, 0, 193, 153, 0, 26, 28, 155, 0, 22, 28, 16, 100, 108, 184, 0, 200, 153, 0, 12, 28]
abbrev dktX0_heavy_0 : List UInt8 := dkwX0_heavy_0 ++ dktX0_heavy_1
theorem dksX0_heavy_0 : cX0_heavy.data.toList.drop 0 = dktX0_heavy_0 := by decide +kernel
theorem dksX0_heavy_1 : cX0_heavy.data.toList.drop 23 = dktX0_heavy_1 := dk_seg dksX0_heavy_0 23 rfl rfl
theorem dksX0_heavy_2 : cX0_heavy.data.toList.drop 47 = dktX0_heavy_2 := dk_seg dksX0_heavy_1 24 rfl rfl
theorem dksX0_heavy_3 : cX0_heavy.data.toList.drop 71 = dktX0_heavy_3 := dk_seg dksX0_heavy_2 24 rfl rfl
theorem dX0_heavy_0 : decode cX0_heavy 0 = .ok (.aload_n 0, 1) := dk_42 (dk_at dksX0_heavy_0 0 rfl rfl)
theorem dX0_heavy_1 : decode cX0_heavy 1 = .ok (.iload_n 1, 1) := dk_27 (dk_at dksX0_heavy_0 1 rfl rfl)
theorem dX0_heavy_2 : decode cX0_heavy 2 = .ok (.invokevirtual 193, 3) := dk_182 0 193 (dk_at dksX0_heavy_0 2 rfl rfl)
theorem dX0_heavy_5 : decode cX0_heavy 5 = .ok (.ifCond .eq 26, 3) := dk_153 0 26 (dk_at dksX0_heavy_0 5 rfl rfl)
theorem dX0_heavy_8 : decode cX0_heavy 8 = .ok (.iload_n 2, 1) := dk_28 (dk_at dksX0_heavy_0 8 rfl rfl)
theorem dX0_heavy_9 : decode cX0_heavy 9 = .ok (.ifCond .lt 22, 3) := dk_155 0 22 (dk_at dksX0_heavy_0 9 rfl rfl)
theorem dX0_heavy_12 : decode cX0_heavy 12 = .ok (.iload_n 2, 1) := dk_28 (dk_at dksX0_heavy_0 12 rfl rfl)
theorem dX0_heavy_13 : decode cX0_heavy 13 = .ok (.bipush 100, 2) := dk_16 100 (dk_at dksX0_heavy_0 13 rfl rfl)
theorem dX0_heavy_15 : decode cX0_heavy 15 = .ok (.idiv, 1) := dk_108 (dk_at dksX0_heavy_0 15 rfl rfl)
theorem dX0_heavy_16 : decode cX0_heavy 16 = .ok (.invokestatic 200, 3) := dk_184 0 200 (dk_at dksX0_heavy_0 16 rfl rfl)
theorem dX0_heavy_19 : decode cX0_heavy 19 = .ok (.ifCond .eq 12, 3) := dk_153 0 12 (dk_at dksX0_heavy_0 19 rfl rfl)
theorem dX0_heavy_22 : decode cX0_heavy 22 = .ok (.iload_n 2, 1) := dk_28 (dk_at dksX0_heavy_0 22 rfl rfl)
theorem dX0_heavy_23 : decode cX0_heavy 23 = .ok (.bipush 100, 2) := dk_16 100 (dk_at dksX0_heavy_1 0 rfl rfl)
theorem dX0_heavy_25 : decode cX0_heavy 25 = .ok (.irem, 1) := dk_112 (dk_at dksX0_heavy_1 2 rfl rfl)
theorem dX0_heavy_26 : decode cX0_heavy 26 = .ok (.bipush 12, 2) := dk_16 12 (dk_at dksX0_heavy_1 3 rfl rfl)
theorem dX0_heavy_28 : decode cX0_heavy 28 = .ok (.if_icmp .le 5, 3) := dk_164 0 5 (dk_at dksX0_heavy_1 5 rfl rfl)
theorem dX0_heavy_31 : decode cX0_heavy 31 = .ok (.iconst (-1), 1) := dk_2 (dk_at dksX0_heavy_1 8 rfl rfl)
theorem dX0_heavy_32 : decode cX0_heavy 32 = .ok (.ireturn, 1) := dk_172 (dk_at dksX0_heavy_1 9 rfl rfl)
theorem dX0_heavy_33 : decode cX0_heavy 33 = .ok (.iconst 0, 1) := dk_3 (dk_at dksX0_heavy_1 10 rfl rfl)
theorem dX0_heavy_34 : decode cX0_heavy 34 = .ok (.istore_n 3, 1) := dk_62 (dk_at dksX0_heavy_1 11 rfl rfl)
theorem dX0_heavy_35 : decode cX0_heavy 35 = .ok (.iload_n 3, 1) := dk_29 (dk_at dksX0_heavy_1 12 rfl rfl)
theorem dX0_heavy_36 : decode cX0_heavy 36 = .ok (.bipush 9, 2) := dk_16 9 (dk_at dksX0_heavy_1 13 rfl rfl)
theorem dX0_heavy_38 : decode cX0_heavy 38 = .ok (.if_icmp .gt 41, 3) := dk_163 0 41 (dk_at dksX0_heavy_1 15 rfl rfl)
theorem dX0_heavy_41 : decode cX0_heavy 41 = .ok (.aload_n 0, 1) := dk_42 (dk_at dksX0_heavy_1 18 rfl rfl)
theorem dX0_heavy_42 : decode cX0_heavy 42 = .ok (.aload_n 0, 1) := dk_42 (dk_at dksX0_heavy_1 19 rfl rfl)
theorem dX0_heavy_43 : decode cX0_heavy 43 = .ok (.getfield 51, 3) := dk_180 0 51 (dk_at dksX0_heavy_1 20 rfl rfl)
theorem dX0_heavy_46 : decode cX0_heavy 46 = .ok (.iload_n 1, 1) := dk_27 (dk_at dksX0_heavy_1 23 rfl rfl)
theorem dX0_heavy_47 : decode cX0_heavy 47 = .ok (.aload_n 0, 1) := dk_42 (dk_at dksX0_heavy_2 0 rfl rfl)
theorem dX0_heavy_48 : decode cX0_heavy 48 = .ok (.getfield 51, 3) := dk_180 0 51 (dk_at dksX0_heavy_2 1 rfl rfl)
theorem dX0_heavy_51 : decode cX0_heavy 51 = .ok (.getfield 164, 3) := dk_180 0 164 (dk_at dksX0_heavy_2 4 rfl rfl)
theorem dX0_heavy_54 : decode cX0_heavy 54 = .ok (.iload_n 1, 1) := dk_27 (dk_at dksX0_heavy_2 7 rfl rfl)
theorem dX0_heavy_55 : decode cX0_heavy 55 = .ok (.iaload, 1) := dk_46 (dk_at dksX0_heavy_2 8 rfl rfl)
theorem dX0_heavy_56 : decode cX0_heavy 56 = .ok (.iload_n 2, 1) := dk_28 (dk_at dksX0_heavy_2 9 rfl rfl)
theorem dX0_heavy_57 : decode cX0_heavy 57 = .ok (.bipush 100, 2) := dk_16 100 (dk_at dksX0_heavy_2 10 rfl rfl)
theorem dX0_heavy_59 : decode cX0_heavy 59 = .ok (.idiv, 1) := dk_108 (dk_at dksX0_heavy_2 12 rfl rfl)
theorem dX0_heavy_60 : decode cX0_heavy 60 = .ok (.iload_n 3, 1) := dk_29 (dk_at dksX0_heavy_2 13 rfl rfl)
theorem dX0_heavy_61 : decode cX0_heavy 61 = .ok (.invokevirtual 345, 3) := dk_182 1 89 (dk_at dksX0_heavy_2 14 rfl rfl)
theorem dX0_heavy_64 : decode cX0_heavy 64 = .ok (.iload_n 2, 1) := dk_28 (dk_at dksX0_heavy_2 17 rfl rfl)
theorem dX0_heavy_65 : decode cX0_heavy 65 = .ok (.bipush 100, 2) := dk_16 100 (dk_at dksX0_heavy_2 18 rfl rfl)
theorem dX0_heavy_67 : decode cX0_heavy 67 = .ok (.irem, 1) := dk_112 (dk_at dksX0_heavy_2 20 rfl rfl)
theorem dX0_heavy_68 : decode cX0_heavy 68 = .ok (.if_icmp .gt 5, 3) := dk_163 0 5 (dk_at dksX0_heavy_2 21 rfl rfl)
theorem dX0_heavy_71 : decode cX0_heavy 71 = .ok (.iload_n 3, 1) := dk_29 (dk_at dksX0_heavy_3 0 rfl rfl)
theorem dX0_heavy_72 : decode cX0_heavy 72 = .ok (.ireturn, 1) := dk_172 (dk_at dksX0_heavy_3 1 rfl rfl)
theorem dX0_heavy_73 : decode cX0_heavy 73 = .ok (.iinc 3 1, 3) := dk_132 3 1 (dk_at dksX0_heavy_3 2 rfl rfl)
theorem dX0_heavy_76 : decode cX0_heavy 76 = .ok (.goto (-41), 3) := dk_167 255 215 (dk_at dksX0_heavy_3 5 rfl rfl)
theorem dX0_heavy_79 : decode cX0_heavy 79 = .ok (.bipush (-2), 2) := dk_16 254 (dk_at dksX0_heavy_3 8 rfl rfl)
theorem dX0_heavy_81 : decode cX0_heavy 81 = .ok (.ireturn, 1) := dk_172 (dk_at dksX0_heavy_3 10 rfl rfl)
abbrev cX0_ahead : ByteArray := prog_1_method_74_code
def yX0_ahead : MethodName := ⟨RX0, "ahead", "(IIII)I"⟩
def dkwX0_ahead_5 : List UInt8 := [42, 180, 0, 84, 3, 50, 182, 1, 121, 167, 0, 13, 42, 42, 180, 0, 84, 3, 50, 182, 1, 188, 172]
abbrev dktX0_ahead_5 : List UInt8 := dkwX0_ahead_5 ++ []
def dkwX0_ahead_4 : List UInt8 := [154, 0, 17, 42, 180, 0, 84, 3, 50, 180, 0, 161, 29, 46, 167, 0, 32, 21, 4, 4, 160, 0, 16, 42]
abbrev dktX0_ahead_4 : List UInt8 := dkwX0_ahead_4 ++ dktX0_ahead_5
def dkwX0_ahead_3 : List UInt8 := [4, 160, 0, 13, 42, 180, 0, 133, 154, 0, 6, 16, 251, 172, 42, 27, 28, 182, 1, 184, 21, 4]
abbrev dktX0_ahead_3 : List UInt8 := dkwX0_ahead_3 ++ dktX0_ahead_4
def dkwX0_ahead_2 : List UInt8 := [20, 0, 191, 184, 0, 108, 154, 0, 5, 2, 172, 42, 180, 0, 215, 28, 96, 16, 24, 163, 0, 16, 21, 4]
abbrev dktX0_ahead_2 : List UInt8 := dkwX0_ahead_2 ++ dktX0_ahead_3
def dkwX0_ahead_1 : List UInt8 := [20, 1, 115, 184, 0, 108, 153, 0, 26, 21, 5, 154, 0, 23, 29, 2, 160, 0, 16, 21, 4, 133, 10]
abbrev dktX0_ahead_1 : List UInt8 := dkwX0_ahead_1 ++ dktX0_ahead_2
def dkwX0_ahead_0 : List UInt8 := [21, 4, 154, 0, 15, 42, 29, 182, 0, 193, 153, 0, 7, 4, 167, 0, 4, 3, 54, 5, 28, 133, 10]
abbrev dktX0_ahead_0 : List UInt8 := dkwX0_ahead_0 ++ dktX0_ahead_1
theorem dksX0_ahead_0 : cX0_ahead.data.toList.drop 0 = dktX0_ahead_0 := by decide +kernel
theorem dksX0_ahead_1 : cX0_ahead.data.toList.drop 23 = dktX0_ahead_1 := dk_seg dksX0_ahead_0 23 rfl rfl
theorem dksX0_ahead_2 : cX0_ahead.data.toList.drop 46 = dktX0_ahead_2 := dk_seg dksX0_ahead_1 23 rfl rfl
theorem dksX0_ahead_3 : cX0_ahead.data.toList.drop 70 = dktX0_ahead_3 := dk_seg dksX0_ahead_2 24 rfl rfl
theorem dksX0_ahead_4 : cX0_ahead.data.toList.drop 92 = dktX0_ahead_4 := dk_seg dksX0_ahead_3 22 rfl rfl
theorem dksX0_ahead_5 : cX0_ahead.data.toList.drop 116 = dktX0_ahead_5 := dk_seg dksX0_ahead_4 24 rfl rfl
theorem dX0_ahead_0 : decode cX0_ahead 0 = .ok (.iload 4, 2) := dk_21 4 (dk_at dksX0_ahead_0 0 rfl rfl)
theorem dX0_ahead_2 : decode cX0_ahead 2 = .ok (.ifCond .ne 15, 3) := dk_154 0 15 (dk_at dksX0_ahead_0 2 rfl rfl)
theorem dX0_ahead_5 : decode cX0_ahead 5 = .ok (.aload_n 0, 1) := dk_42 (dk_at dksX0_ahead_0 5 rfl rfl)
theorem dX0_ahead_6 : decode cX0_ahead 6 = .ok (.iload_n 3, 1) := dk_29 (dk_at dksX0_ahead_0 6 rfl rfl)
theorem dX0_ahead_7 : decode cX0_ahead 7 = .ok (.invokevirtual 193, 3) := dk_182 0 193 (dk_at dksX0_ahead_0 7 rfl rfl)
theorem dX0_ahead_10 : decode cX0_ahead 10 = .ok (.ifCond .eq 7, 3) := dk_153 0 7 (dk_at dksX0_ahead_0 10 rfl rfl)
theorem dX0_ahead_13 : decode cX0_ahead 13 = .ok (.iconst 1, 1) := dk_4 (dk_at dksX0_ahead_0 13 rfl rfl)
theorem dX0_ahead_14 : decode cX0_ahead 14 = .ok (.goto 4, 3) := dk_167 0 4 (dk_at dksX0_ahead_0 14 rfl rfl)
theorem dX0_ahead_17 : decode cX0_ahead 17 = .ok (.iconst 0, 1) := dk_3 (dk_at dksX0_ahead_0 17 rfl rfl)
theorem dX0_ahead_18 : decode cX0_ahead 18 = .ok (.istore 5, 2) := dk_54 5 (dk_at dksX0_ahead_0 18 rfl rfl)
theorem dX0_ahead_20 : decode cX0_ahead 20 = .ok (.iload_n 2, 1) := dk_28 (dk_at dksX0_ahead_0 20 rfl rfl)
theorem dX0_ahead_21 : decode cX0_ahead 21 = .ok (.i2l, 1) := dk_133 (dk_at dksX0_ahead_0 21 rfl rfl)
theorem dX0_ahead_22 : decode cX0_ahead 22 = .ok (.lconst 1, 1) := dk_10 (dk_at dksX0_ahead_0 22 rfl rfl)
theorem dX0_ahead_23 : decode cX0_ahead 23 = .ok (.ldc2_w 371, 3) := dk_20 1 115 (dk_at dksX0_ahead_1 0 rfl rfl)
theorem dX0_ahead_26 : decode cX0_ahead 26 = .ok (.invokestatic 108, 3) := dk_184 0 108 (dk_at dksX0_ahead_1 3 rfl rfl)
theorem dX0_ahead_29 : decode cX0_ahead 29 = .ok (.ifCond .eq 26, 3) := dk_153 0 26 (dk_at dksX0_ahead_1 6 rfl rfl)
theorem dX0_ahead_32 : decode cX0_ahead 32 = .ok (.iload 5, 2) := dk_21 5 (dk_at dksX0_ahead_1 9 rfl rfl)
theorem dX0_ahead_34 : decode cX0_ahead 34 = .ok (.ifCond .ne 23, 3) := dk_154 0 23 (dk_at dksX0_ahead_1 11 rfl rfl)
theorem dX0_ahead_37 : decode cX0_ahead 37 = .ok (.iload_n 3, 1) := dk_29 (dk_at dksX0_ahead_1 14 rfl rfl)
theorem dX0_ahead_38 : decode cX0_ahead 38 = .ok (.iconst (-1), 1) := dk_2 (dk_at dksX0_ahead_1 15 rfl rfl)
theorem dX0_ahead_39 : decode cX0_ahead 39 = .ok (.if_icmp .ne 16, 3) := dk_160 0 16 (dk_at dksX0_ahead_1 16 rfl rfl)
theorem dX0_ahead_42 : decode cX0_ahead 42 = .ok (.iload 4, 2) := dk_21 4 (dk_at dksX0_ahead_1 19 rfl rfl)
theorem dX0_ahead_44 : decode cX0_ahead 44 = .ok (.i2l, 1) := dk_133 (dk_at dksX0_ahead_1 21 rfl rfl)
theorem dX0_ahead_45 : decode cX0_ahead 45 = .ok (.lconst 1, 1) := dk_10 (dk_at dksX0_ahead_1 22 rfl rfl)
theorem dX0_ahead_46 : decode cX0_ahead 46 = .ok (.ldc2_w 191, 3) := dk_20 0 191 (dk_at dksX0_ahead_2 0 rfl rfl)
theorem dX0_ahead_49 : decode cX0_ahead 49 = .ok (.invokestatic 108, 3) := dk_184 0 108 (dk_at dksX0_ahead_2 3 rfl rfl)
theorem dX0_ahead_52 : decode cX0_ahead 52 = .ok (.ifCond .ne 5, 3) := dk_154 0 5 (dk_at dksX0_ahead_2 6 rfl rfl)
theorem dX0_ahead_55 : decode cX0_ahead 55 = .ok (.iconst (-1), 1) := dk_2 (dk_at dksX0_ahead_2 9 rfl rfl)
theorem dX0_ahead_56 : decode cX0_ahead 56 = .ok (.ireturn, 1) := dk_172 (dk_at dksX0_ahead_2 10 rfl rfl)
theorem dX0_ahead_57 : decode cX0_ahead 57 = .ok (.aload_n 0, 1) := dk_42 (dk_at dksX0_ahead_2 11 rfl rfl)
theorem dX0_ahead_58 : decode cX0_ahead 58 = .ok (.getfield 215, 3) := dk_180 0 215 (dk_at dksX0_ahead_2 12 rfl rfl)
theorem dX0_ahead_61 : decode cX0_ahead 61 = .ok (.iload_n 2, 1) := dk_28 (dk_at dksX0_ahead_2 15 rfl rfl)
theorem dX0_ahead_62 : decode cX0_ahead 62 = .ok (.iadd, 1) := dk_96 (dk_at dksX0_ahead_2 16 rfl rfl)
theorem dX0_ahead_63 : decode cX0_ahead 63 = .ok (.bipush 24, 2) := dk_16 24 (dk_at dksX0_ahead_2 17 rfl rfl)
theorem dX0_ahead_65 : decode cX0_ahead 65 = .ok (.if_icmp .gt 16, 3) := dk_163 0 16 (dk_at dksX0_ahead_2 19 rfl rfl)
theorem dX0_ahead_68 : decode cX0_ahead 68 = .ok (.iload 4, 2) := dk_21 4 (dk_at dksX0_ahead_2 22 rfl rfl)
theorem dX0_ahead_70 : decode cX0_ahead 70 = .ok (.iconst 1, 1) := dk_4 (dk_at dksX0_ahead_3 0 rfl rfl)
theorem dX0_ahead_71 : decode cX0_ahead 71 = .ok (.if_icmp .ne 13, 3) := dk_160 0 13 (dk_at dksX0_ahead_3 1 rfl rfl)
theorem dX0_ahead_74 : decode cX0_ahead 74 = .ok (.aload_n 0, 1) := dk_42 (dk_at dksX0_ahead_3 4 rfl rfl)
theorem dX0_ahead_75 : decode cX0_ahead 75 = .ok (.getfield 133, 3) := dk_180 0 133 (dk_at dksX0_ahead_3 5 rfl rfl)
theorem dX0_ahead_78 : decode cX0_ahead 78 = .ok (.ifCond .ne 6, 3) := dk_154 0 6 (dk_at dksX0_ahead_3 8 rfl rfl)
theorem dX0_ahead_81 : decode cX0_ahead 81 = .ok (.bipush (-5), 2) := dk_16 251 (dk_at dksX0_ahead_3 11 rfl rfl)
theorem dX0_ahead_83 : decode cX0_ahead 83 = .ok (.ireturn, 1) := dk_172 (dk_at dksX0_ahead_3 13 rfl rfl)
theorem dX0_ahead_84 : decode cX0_ahead 84 = .ok (.aload_n 0, 1) := dk_42 (dk_at dksX0_ahead_3 14 rfl rfl)
theorem dX0_ahead_85 : decode cX0_ahead 85 = .ok (.iload_n 1, 1) := dk_27 (dk_at dksX0_ahead_3 15 rfl rfl)
theorem dX0_ahead_86 : decode cX0_ahead 86 = .ok (.iload_n 2, 1) := dk_28 (dk_at dksX0_ahead_3 16 rfl rfl)
theorem dX0_ahead_87 : decode cX0_ahead 87 = .ok (.invokevirtual 440, 3) := dk_182 1 184 (dk_at dksX0_ahead_3 17 rfl rfl)
theorem dX0_ahead_90 : decode cX0_ahead 90 = .ok (.iload 4, 2) := dk_21 4 (dk_at dksX0_ahead_3 20 rfl rfl)
theorem dX0_ahead_92 : decode cX0_ahead 92 = .ok (.ifCond .ne 17, 3) := dk_154 0 17 (dk_at dksX0_ahead_4 0 rfl rfl)
theorem dX0_ahead_95 : decode cX0_ahead 95 = .ok (.aload_n 0, 1) := dk_42 (dk_at dksX0_ahead_4 3 rfl rfl)
theorem dX0_ahead_96 : decode cX0_ahead 96 = .ok (.getfield 84, 3) := dk_180 0 84 (dk_at dksX0_ahead_4 4 rfl rfl)
theorem dX0_ahead_99 : decode cX0_ahead 99 = .ok (.iconst 0, 1) := dk_3 (dk_at dksX0_ahead_4 7 rfl rfl)
theorem dX0_ahead_100 : decode cX0_ahead 100 = .ok (.aaload, 1) := dk_50 (dk_at dksX0_ahead_4 8 rfl rfl)
theorem dX0_ahead_101 : decode cX0_ahead 101 = .ok (.getfield 161, 3) := dk_180 0 161 (dk_at dksX0_ahead_4 9 rfl rfl)
theorem dX0_ahead_104 : decode cX0_ahead 104 = .ok (.iload_n 3, 1) := dk_29 (dk_at dksX0_ahead_4 12 rfl rfl)
theorem dX0_ahead_105 : decode cX0_ahead 105 = .ok (.iaload, 1) := dk_46 (dk_at dksX0_ahead_4 13 rfl rfl)
theorem dX0_ahead_106 : decode cX0_ahead 106 = .ok (.goto 32, 3) := dk_167 0 32 (dk_at dksX0_ahead_4 14 rfl rfl)
theorem dX0_ahead_109 : decode cX0_ahead 109 = .ok (.iload 4, 2) := dk_21 4 (dk_at dksX0_ahead_4 17 rfl rfl)
theorem dX0_ahead_111 : decode cX0_ahead 111 = .ok (.iconst 1, 1) := dk_4 (dk_at dksX0_ahead_4 19 rfl rfl)
theorem dX0_ahead_112 : decode cX0_ahead 112 = .ok (.if_icmp .ne 16, 3) := dk_160 0 16 (dk_at dksX0_ahead_4 20 rfl rfl)
theorem dX0_ahead_115 : decode cX0_ahead 115 = .ok (.aload_n 0, 1) := dk_42 (dk_at dksX0_ahead_4 23 rfl rfl)
theorem dX0_ahead_116 : decode cX0_ahead 116 = .ok (.aload_n 0, 1) := dk_42 (dk_at dksX0_ahead_5 0 rfl rfl)
theorem dX0_ahead_117 : decode cX0_ahead 117 = .ok (.getfield 84, 3) := dk_180 0 84 (dk_at dksX0_ahead_5 1 rfl rfl)
theorem dX0_ahead_120 : decode cX0_ahead 120 = .ok (.iconst 0, 1) := dk_3 (dk_at dksX0_ahead_5 4 rfl rfl)
theorem dX0_ahead_121 : decode cX0_ahead 121 = .ok (.aaload, 1) := dk_50 (dk_at dksX0_ahead_5 5 rfl rfl)
theorem dX0_ahead_122 : decode cX0_ahead 122 = .ok (.invokevirtual 377, 3) := dk_182 1 121 (dk_at dksX0_ahead_5 6 rfl rfl)
theorem dX0_ahead_125 : decode cX0_ahead 125 = .ok (.goto 13, 3) := dk_167 0 13 (dk_at dksX0_ahead_5 9 rfl rfl)
theorem dX0_ahead_128 : decode cX0_ahead 128 = .ok (.aload_n 0, 1) := dk_42 (dk_at dksX0_ahead_5 12 rfl rfl)
theorem dX0_ahead_129 : decode cX0_ahead 129 = .ok (.aload_n 0, 1) := dk_42 (dk_at dksX0_ahead_5 13 rfl rfl)
theorem dX0_ahead_130 : decode cX0_ahead 130 = .ok (.getfield 84, 3) := dk_180 0 84 (dk_at dksX0_ahead_5 14 rfl rfl)
theorem dX0_ahead_133 : decode cX0_ahead 133 = .ok (.iconst 0, 1) := dk_3 (dk_at dksX0_ahead_5 17 rfl rfl)
theorem dX0_ahead_134 : decode cX0_ahead 134 = .ok (.aaload, 1) := dk_50 (dk_at dksX0_ahead_5 18 rfl rfl)
theorem dX0_ahead_135 : decode cX0_ahead 135 = .ok (.invokevirtual 444, 3) := dk_182 1 188 (dk_at dksX0_ahead_5 19 rfl rfl)
theorem dX0_ahead_138 : decode cX0_ahead 138 = .ok (.ireturn, 1) := dk_172 (dk_at dksX0_ahead_5 22 rfl rfl)
abbrev cX0_thinkHours : ByteArray := prog_1_method_72_code
def yX0_thinkHours : MethodName := ⟨RX0, "thinkHours", "(II)V"⟩
def dkwX0_thinkHours_2 : List UInt8 := [167, 255, 230, 177]
abbrev dktX0_thinkHours_2 : List UInt8 := dkwX0_thinkHours_2 ++ []
def dkwX0_thinkHours_1 : List UInt8 := [162, 0, 27, 42, 42, 180, 0, 84, 3, 50, 42, 180, 0, 215, 29, 96, 3, 182, 1, 117, 87, 132, 3, 1]
abbrev dktX0_thinkHours_1 : List UInt8 := dkwX0_thinkHours_1 ++ dktX0_thinkHours_2
def dkwX0_thinkHours_0 : List UInt8 := [42, 180, 0, 84, 3, 50, 42, 180, 0, 51, 182, 1, 157, 42, 27, 181, 1, 93, 3, 62, 29, 28]
abbrev dktX0_thinkHours_0 : List UInt8 := dkwX0_thinkHours_0 ++ dktX0_thinkHours_1
theorem dksX0_thinkHours_0 : cX0_thinkHours.data.toList.drop 0 = dktX0_thinkHours_0 := by decide +kernel
theorem dksX0_thinkHours_1 : cX0_thinkHours.data.toList.drop 22 = dktX0_thinkHours_1 := dk_seg dksX0_thinkHours_0 22 rfl rfl
theorem dksX0_thinkHours_2 : cX0_thinkHours.data.toList.drop 46 = dktX0_thinkHours_2 := dk_seg dksX0_thinkHours_1 24 rfl rfl
theorem dX0_thinkHours_0 : decode cX0_thinkHours 0 = .ok (.aload_n 0, 1) := dk_42 (dk_at dksX0_thinkHours_0 0 rfl rfl)
theorem dX0_thinkHours_1 : decode cX0_thinkHours 1 = .ok (.getfield 84, 3) := dk_180 0 84 (dk_at dksX0_thinkHours_0 1 rfl rfl)
theorem dX0_thinkHours_4 : decode cX0_thinkHours 4 = .ok (.iconst 0, 1) := dk_3 (dk_at dksX0_thinkHours_0 4 rfl rfl)
theorem dX0_thinkHours_5 : decode cX0_thinkHours 5 = .ok (.aaload, 1) := dk_50 (dk_at dksX0_thinkHours_0 5 rfl rfl)
theorem dX0_thinkHours_6 : decode cX0_thinkHours 6 = .ok (.aload_n 0, 1) := dk_42 (dk_at dksX0_thinkHours_0 6 rfl rfl)
theorem dX0_thinkHours_7 : decode cX0_thinkHours 7 = .ok (.getfield 51, 3) := dk_180 0 51 (dk_at dksX0_thinkHours_0 7 rfl rfl)
theorem dX0_thinkHours_10 : decode cX0_thinkHours 10 = .ok (.invokevirtual 413, 3) := dk_182 1 157 (dk_at dksX0_thinkHours_0 10 rfl rfl)
theorem dX0_thinkHours_13 : decode cX0_thinkHours 13 = .ok (.aload_n 0, 1) := dk_42 (dk_at dksX0_thinkHours_0 13 rfl rfl)
theorem dX0_thinkHours_14 : decode cX0_thinkHours 14 = .ok (.iload_n 1, 1) := dk_27 (dk_at dksX0_thinkHours_0 14 rfl rfl)
theorem dX0_thinkHours_15 : decode cX0_thinkHours 15 = .ok (.putfield 349, 3) := dk_181 1 93 (dk_at dksX0_thinkHours_0 15 rfl rfl)
theorem dX0_thinkHours_18 : decode cX0_thinkHours 18 = .ok (.iconst 0, 1) := dk_3 (dk_at dksX0_thinkHours_0 18 rfl rfl)
theorem dX0_thinkHours_19 : decode cX0_thinkHours 19 = .ok (.istore_n 3, 1) := dk_62 (dk_at dksX0_thinkHours_0 19 rfl rfl)
theorem dX0_thinkHours_20 : decode cX0_thinkHours 20 = .ok (.iload_n 3, 1) := dk_29 (dk_at dksX0_thinkHours_0 20 rfl rfl)
theorem dX0_thinkHours_21 : decode cX0_thinkHours 21 = .ok (.iload_n 2, 1) := dk_28 (dk_at dksX0_thinkHours_0 21 rfl rfl)
theorem dX0_thinkHours_22 : decode cX0_thinkHours 22 = .ok (.if_icmp .ge 27, 3) := dk_162 0 27 (dk_at dksX0_thinkHours_1 0 rfl rfl)
theorem dX0_thinkHours_25 : decode cX0_thinkHours 25 = .ok (.aload_n 0, 1) := dk_42 (dk_at dksX0_thinkHours_1 3 rfl rfl)
theorem dX0_thinkHours_26 : decode cX0_thinkHours 26 = .ok (.aload_n 0, 1) := dk_42 (dk_at dksX0_thinkHours_1 4 rfl rfl)
theorem dX0_thinkHours_27 : decode cX0_thinkHours 27 = .ok (.getfield 84, 3) := dk_180 0 84 (dk_at dksX0_thinkHours_1 5 rfl rfl)
theorem dX0_thinkHours_30 : decode cX0_thinkHours 30 = .ok (.iconst 0, 1) := dk_3 (dk_at dksX0_thinkHours_1 8 rfl rfl)
theorem dX0_thinkHours_31 : decode cX0_thinkHours 31 = .ok (.aaload, 1) := dk_50 (dk_at dksX0_thinkHours_1 9 rfl rfl)
theorem dX0_thinkHours_32 : decode cX0_thinkHours 32 = .ok (.aload_n 0, 1) := dk_42 (dk_at dksX0_thinkHours_1 10 rfl rfl)
theorem dX0_thinkHours_33 : decode cX0_thinkHours 33 = .ok (.getfield 215, 3) := dk_180 0 215 (dk_at dksX0_thinkHours_1 11 rfl rfl)
theorem dX0_thinkHours_36 : decode cX0_thinkHours 36 = .ok (.iload_n 3, 1) := dk_29 (dk_at dksX0_thinkHours_1 14 rfl rfl)
theorem dX0_thinkHours_37 : decode cX0_thinkHours 37 = .ok (.iadd, 1) := dk_96 (dk_at dksX0_thinkHours_1 15 rfl rfl)
theorem dX0_thinkHours_38 : decode cX0_thinkHours 38 = .ok (.iconst 0, 1) := dk_3 (dk_at dksX0_thinkHours_1 16 rfl rfl)
theorem dX0_thinkHours_39 : decode cX0_thinkHours 39 = .ok (.invokevirtual 373, 3) := dk_182 1 117 (dk_at dksX0_thinkHours_1 17 rfl rfl)
theorem dX0_thinkHours_42 : decode cX0_thinkHours 42 = .ok (.pop, 1) := dk_87 (dk_at dksX0_thinkHours_1 20 rfl rfl)
theorem dX0_thinkHours_43 : decode cX0_thinkHours 43 = .ok (.iinc 3 1, 3) := dk_132 3 1 (dk_at dksX0_thinkHours_1 21 rfl rfl)
theorem dX0_thinkHours_46 : decode cX0_thinkHours 46 = .ok (.goto (-26), 3) := dk_167 255 230 (dk_at dksX0_thinkHours_2 0 rfl rfl)
theorem dX0_thinkHours_49 : decode cX0_thinkHours 49 = .ok (.return_, 1) := dk_177 (dk_at dksX0_thinkHours_2 3 rfl rfl)
abbrev cX0_allLying : ByteArray := prog_1_method_73_code
def yX0_allLying : MethodName := ⟨RX0, "allLying", "(LHatRank$Town;)I"⟩
def dkwX0_allLying_1 : List UInt8 := [167, 255, 236, 28, 172]
abbrev dktX0_allLying_1 : List UInt8 := dkwX0_allLying_1 ++ []
def dkwX0_allLying_0 : List UInt8 := [3, 61, 3, 62, 29, 42, 180, 0, 130, 162, 0, 18, 28, 43, 180, 0, 228, 29, 46, 96, 61, 132, 3, 1]
abbrev dktX0_allLying_0 : List UInt8 := dkwX0_allLying_0 ++ dktX0_allLying_1
theorem dksX0_allLying_0 : cX0_allLying.data.toList.drop 0 = dktX0_allLying_0 := by decide +kernel
theorem dksX0_allLying_1 : cX0_allLying.data.toList.drop 24 = dktX0_allLying_1 := dk_seg dksX0_allLying_0 24 rfl rfl
theorem dX0_allLying_0 : decode cX0_allLying 0 = .ok (.iconst 0, 1) := dk_3 (dk_at dksX0_allLying_0 0 rfl rfl)
theorem dX0_allLying_1 : decode cX0_allLying 1 = .ok (.istore_n 2, 1) := dk_61 (dk_at dksX0_allLying_0 1 rfl rfl)
theorem dX0_allLying_2 : decode cX0_allLying 2 = .ok (.iconst 0, 1) := dk_3 (dk_at dksX0_allLying_0 2 rfl rfl)
theorem dX0_allLying_3 : decode cX0_allLying 3 = .ok (.istore_n 3, 1) := dk_62 (dk_at dksX0_allLying_0 3 rfl rfl)
theorem dX0_allLying_4 : decode cX0_allLying 4 = .ok (.iload_n 3, 1) := dk_29 (dk_at dksX0_allLying_0 4 rfl rfl)
theorem dX0_allLying_5 : decode cX0_allLying 5 = .ok (.aload_n 0, 1) := dk_42 (dk_at dksX0_allLying_0 5 rfl rfl)
theorem dX0_allLying_6 : decode cX0_allLying 6 = .ok (.getfield 130, 3) := dk_180 0 130 (dk_at dksX0_allLying_0 6 rfl rfl)
theorem dX0_allLying_9 : decode cX0_allLying 9 = .ok (.if_icmp .ge 18, 3) := dk_162 0 18 (dk_at dksX0_allLying_0 9 rfl rfl)
theorem dX0_allLying_12 : decode cX0_allLying 12 = .ok (.iload_n 2, 1) := dk_28 (dk_at dksX0_allLying_0 12 rfl rfl)
theorem dX0_allLying_13 : decode cX0_allLying 13 = .ok (.aload_n 1, 1) := dk_43 (dk_at dksX0_allLying_0 13 rfl rfl)
theorem dX0_allLying_14 : decode cX0_allLying 14 = .ok (.getfield 228, 3) := dk_180 0 228 (dk_at dksX0_allLying_0 14 rfl rfl)
theorem dX0_allLying_17 : decode cX0_allLying 17 = .ok (.iload_n 3, 1) := dk_29 (dk_at dksX0_allLying_0 17 rfl rfl)
theorem dX0_allLying_18 : decode cX0_allLying 18 = .ok (.iaload, 1) := dk_46 (dk_at dksX0_allLying_0 18 rfl rfl)
theorem dX0_allLying_19 : decode cX0_allLying 19 = .ok (.iadd, 1) := dk_96 (dk_at dksX0_allLying_0 19 rfl rfl)
theorem dX0_allLying_20 : decode cX0_allLying 20 = .ok (.istore_n 2, 1) := dk_61 (dk_at dksX0_allLying_0 20 rfl rfl)
theorem dX0_allLying_21 : decode cX0_allLying 21 = .ok (.iinc 3 1, 3) := dk_132 3 1 (dk_at dksX0_allLying_0 21 rfl rfl)
theorem dX0_allLying_24 : decode cX0_allLying 24 = .ok (.goto (-20), 3) := dk_167 255 236 (dk_at dksX0_allLying_1 0 rfl rfl)
theorem dX0_allLying_27 : decode cX0_allLying 27 = .ok (.iload_n 2, 1) := dk_28 (dk_at dksX0_allLying_1 3 rfl rfl)
theorem dX0_allLying_28 : decode cX0_allLying 28 = .ok (.ireturn, 1) := dk_172 (dk_at dksX0_allLying_1 4 rfl rfl)
abbrev cX0_storm : ByteArray := prog_1_method_75_code
def yX0_storm : MethodName := ⟨RX0, "storm", "(I)I"⟩
def dkwX0_storm_3 : List UInt8 := [182, 1, 121, 159, 0, 5, 29, 61, 132, 3, 1, 167, 255, 192, 42, 3, 181, 1, 72, 28, 172]
abbrev dktX0_storm_3 : List UInt8 := dkwX0_storm_3 ++ []
def dkwX0_storm_2 : List UInt8 := [180, 0, 215, 100, 182, 1, 184, 42, 42, 180, 0, 84, 3, 50, 182, 1, 121, 42, 42, 180, 0, 51]
abbrev dktX0_storm_2 : List UInt8 := dkwX0_storm_2 ++ dktX0_storm_3
def dkwX0_storm_1 : List UInt8 := [160, 0, 58, 42, 180, 0, 215, 16, 24, 162, 0, 49, 42, 29, 181, 1, 72, 42, 27, 16, 24, 42]
abbrev dktX0_storm_1 : List UInt8 := dkwX0_storm_1 ++ dktX0_storm_2
def dkwX0_storm_0 : List UInt8 := [42, 180, 0, 133, 154, 0, 6, 16, 251, 172, 16, 254, 61, 3, 62, 29, 16, 20, 163, 0, 64, 28, 16, 254]
abbrev dktX0_storm_0 : List UInt8 := dkwX0_storm_0 ++ dktX0_storm_1
theorem dksX0_storm_0 : cX0_storm.data.toList.drop 0 = dktX0_storm_0 := by decide +kernel
theorem dksX0_storm_1 : cX0_storm.data.toList.drop 24 = dktX0_storm_1 := dk_seg dksX0_storm_0 24 rfl rfl
theorem dksX0_storm_2 : cX0_storm.data.toList.drop 46 = dktX0_storm_2 := dk_seg dksX0_storm_1 22 rfl rfl
theorem dksX0_storm_3 : cX0_storm.data.toList.drop 68 = dktX0_storm_3 := dk_seg dksX0_storm_2 22 rfl rfl
theorem dX0_storm_0 : decode cX0_storm 0 = .ok (.aload_n 0, 1) := dk_42 (dk_at dksX0_storm_0 0 rfl rfl)
theorem dX0_storm_1 : decode cX0_storm 1 = .ok (.getfield 133, 3) := dk_180 0 133 (dk_at dksX0_storm_0 1 rfl rfl)
theorem dX0_storm_4 : decode cX0_storm 4 = .ok (.ifCond .ne 6, 3) := dk_154 0 6 (dk_at dksX0_storm_0 4 rfl rfl)
theorem dX0_storm_7 : decode cX0_storm 7 = .ok (.bipush (-5), 2) := dk_16 251 (dk_at dksX0_storm_0 7 rfl rfl)
theorem dX0_storm_9 : decode cX0_storm 9 = .ok (.ireturn, 1) := dk_172 (dk_at dksX0_storm_0 9 rfl rfl)
theorem dX0_storm_10 : decode cX0_storm 10 = .ok (.bipush (-2), 2) := dk_16 254 (dk_at dksX0_storm_0 10 rfl rfl)
theorem dX0_storm_12 : decode cX0_storm 12 = .ok (.istore_n 2, 1) := dk_61 (dk_at dksX0_storm_0 12 rfl rfl)
theorem dX0_storm_13 : decode cX0_storm 13 = .ok (.iconst 0, 1) := dk_3 (dk_at dksX0_storm_0 13 rfl rfl)
theorem dX0_storm_14 : decode cX0_storm 14 = .ok (.istore_n 3, 1) := dk_62 (dk_at dksX0_storm_0 14 rfl rfl)
theorem dX0_storm_15 : decode cX0_storm 15 = .ok (.iload_n 3, 1) := dk_29 (dk_at dksX0_storm_0 15 rfl rfl)
theorem dX0_storm_16 : decode cX0_storm 16 = .ok (.bipush 20, 2) := dk_16 20 (dk_at dksX0_storm_0 16 rfl rfl)
theorem dX0_storm_18 : decode cX0_storm 18 = .ok (.if_icmp .gt 64, 3) := dk_163 0 64 (dk_at dksX0_storm_0 18 rfl rfl)
theorem dX0_storm_21 : decode cX0_storm 21 = .ok (.iload_n 2, 1) := dk_28 (dk_at dksX0_storm_0 21 rfl rfl)
theorem dX0_storm_22 : decode cX0_storm 22 = .ok (.bipush (-2), 2) := dk_16 254 (dk_at dksX0_storm_0 22 rfl rfl)
theorem dX0_storm_24 : decode cX0_storm 24 = .ok (.if_icmp .ne 58, 3) := dk_160 0 58 (dk_at dksX0_storm_1 0 rfl rfl)
theorem dX0_storm_27 : decode cX0_storm 27 = .ok (.aload_n 0, 1) := dk_42 (dk_at dksX0_storm_1 3 rfl rfl)
theorem dX0_storm_28 : decode cX0_storm 28 = .ok (.getfield 215, 3) := dk_180 0 215 (dk_at dksX0_storm_1 4 rfl rfl)
theorem dX0_storm_31 : decode cX0_storm 31 = .ok (.bipush 24, 2) := dk_16 24 (dk_at dksX0_storm_1 7 rfl rfl)
theorem dX0_storm_33 : decode cX0_storm 33 = .ok (.if_icmp .ge 49, 3) := dk_162 0 49 (dk_at dksX0_storm_1 9 rfl rfl)
theorem dX0_storm_36 : decode cX0_storm 36 = .ok (.aload_n 0, 1) := dk_42 (dk_at dksX0_storm_1 12 rfl rfl)
theorem dX0_storm_37 : decode cX0_storm 37 = .ok (.iload_n 3, 1) := dk_29 (dk_at dksX0_storm_1 13 rfl rfl)
theorem dX0_storm_38 : decode cX0_storm 38 = .ok (.putfield 328, 3) := dk_181 1 72 (dk_at dksX0_storm_1 14 rfl rfl)
theorem dX0_storm_41 : decode cX0_storm 41 = .ok (.aload_n 0, 1) := dk_42 (dk_at dksX0_storm_1 17 rfl rfl)
theorem dX0_storm_42 : decode cX0_storm 42 = .ok (.iload_n 1, 1) := dk_27 (dk_at dksX0_storm_1 18 rfl rfl)
theorem dX0_storm_43 : decode cX0_storm 43 = .ok (.bipush 24, 2) := dk_16 24 (dk_at dksX0_storm_1 19 rfl rfl)
theorem dX0_storm_45 : decode cX0_storm 45 = .ok (.aload_n 0, 1) := dk_42 (dk_at dksX0_storm_1 21 rfl rfl)
theorem dX0_storm_46 : decode cX0_storm 46 = .ok (.getfield 215, 3) := dk_180 0 215 (dk_at dksX0_storm_2 0 rfl rfl)
theorem dX0_storm_49 : decode cX0_storm 49 = .ok (.isub, 1) := dk_100 (dk_at dksX0_storm_2 3 rfl rfl)
theorem dX0_storm_50 : decode cX0_storm 50 = .ok (.invokevirtual 440, 3) := dk_182 1 184 (dk_at dksX0_storm_2 4 rfl rfl)
theorem dX0_storm_53 : decode cX0_storm 53 = .ok (.aload_n 0, 1) := dk_42 (dk_at dksX0_storm_2 7 rfl rfl)
theorem dX0_storm_54 : decode cX0_storm 54 = .ok (.aload_n 0, 1) := dk_42 (dk_at dksX0_storm_2 8 rfl rfl)
theorem dX0_storm_55 : decode cX0_storm 55 = .ok (.getfield 84, 3) := dk_180 0 84 (dk_at dksX0_storm_2 9 rfl rfl)
theorem dX0_storm_58 : decode cX0_storm 58 = .ok (.iconst 0, 1) := dk_3 (dk_at dksX0_storm_2 12 rfl rfl)
theorem dX0_storm_59 : decode cX0_storm 59 = .ok (.aaload, 1) := dk_50 (dk_at dksX0_storm_2 13 rfl rfl)
theorem dX0_storm_60 : decode cX0_storm 60 = .ok (.invokevirtual 377, 3) := dk_182 1 121 (dk_at dksX0_storm_2 14 rfl rfl)
theorem dX0_storm_63 : decode cX0_storm 63 = .ok (.aload_n 0, 1) := dk_42 (dk_at dksX0_storm_2 17 rfl rfl)
theorem dX0_storm_64 : decode cX0_storm 64 = .ok (.aload_n 0, 1) := dk_42 (dk_at dksX0_storm_2 18 rfl rfl)
theorem dX0_storm_65 : decode cX0_storm 65 = .ok (.getfield 51, 3) := dk_180 0 51 (dk_at dksX0_storm_2 19 rfl rfl)
theorem dX0_storm_68 : decode cX0_storm 68 = .ok (.invokevirtual 377, 3) := dk_182 1 121 (dk_at dksX0_storm_3 0 rfl rfl)
theorem dX0_storm_71 : decode cX0_storm 71 = .ok (.if_icmp .eq 5, 3) := dk_159 0 5 (dk_at dksX0_storm_3 3 rfl rfl)
theorem dX0_storm_74 : decode cX0_storm 74 = .ok (.iload_n 3, 1) := dk_29 (dk_at dksX0_storm_3 6 rfl rfl)
theorem dX0_storm_75 : decode cX0_storm 75 = .ok (.istore_n 2, 1) := dk_61 (dk_at dksX0_storm_3 7 rfl rfl)
theorem dX0_storm_76 : decode cX0_storm 76 = .ok (.iinc 3 1, 3) := dk_132 3 1 (dk_at dksX0_storm_3 8 rfl rfl)
theorem dX0_storm_79 : decode cX0_storm 79 = .ok (.goto (-64), 3) := dk_167 255 192 (dk_at dksX0_storm_3 11 rfl rfl)
theorem dX0_storm_82 : decode cX0_storm 82 = .ok (.aload_n 0, 1) := dk_42 (dk_at dksX0_storm_3 14 rfl rfl)
theorem dX0_storm_83 : decode cX0_storm 83 = .ok (.iconst 0, 1) := dk_3 (dk_at dksX0_storm_3 15 rfl rfl)
theorem dX0_storm_84 : decode cX0_storm 84 = .ok (.putfield 328, 3) := dk_181 1 72 (dk_at dksX0_storm_3 16 rfl rfl)
theorem dX0_storm_87 : decode cX0_storm 87 = .ok (.iload_n 2, 1) := dk_28 (dk_at dksX0_storm_3 19 rfl rfl)
theorem dX0_storm_88 : decode cX0_storm 88 = .ok (.ireturn, 1) := dk_172 (dk_at dksX0_storm_3 20 rfl rfl)
abbrev cX0_seeded : ByteArray := prog_1_method_77_code
def yX0_seeded : MethodName := ⟨RX0, "seeded", "(II)I"⟩
def dkwX0_seeded_4 : List UInt8 := [167, 255, 225, 16, 254, 172]
abbrev dktX0_seeded_4 : List UInt8 := dkwX0_seeded_4 ++ []
def dkwX0_seeded_3 : List UInt8 := [21, 4, 28, 182, 1, 184, 42, 45, 192, 0, 174, 182, 1, 191, 153, 0, 6, 21, 4, 172, 132, 4, 1]
abbrev dktX0_seeded_3 : List UInt8 := dkwX0_seeded_3 ++ dktX0_seeded_4
def dkwX0_seeded_2 : List UInt8 := [180, 0, 215, 28, 96, 16, 24, 164, 0, 6, 16, 251, 172, 3, 54, 4, 21, 4, 16, 100, 162, 0, 30, 42]
abbrev dktX0_seeded_2 : List UInt8 := dkwX0_seeded_2 ++ dktX0_seeded_3
def dkwX0_seeded_1 : List UInt8 := [180, 0, 100, 27, 50, 78, 45, 199, 0, 6, 16, 245, 172, 45, 184, 0, 181, 153, 0, 6, 16, 244, 172, 42]
abbrev dktX0_seeded_1 : List UInt8 := dkwX0_seeded_1 ++ dktX0_seeded_2
def dkwX0_seeded_0 : List UInt8 := [27, 184, 0, 176, 153, 0, 15, 28, 133, 9, 20, 1, 115, 184, 0, 108, 154, 0, 5, 2, 172, 42]
abbrev dktX0_seeded_0 : List UInt8 := dkwX0_seeded_0 ++ dktX0_seeded_1
theorem dksX0_seeded_0 : cX0_seeded.data.toList.drop 0 = dktX0_seeded_0 := by decide +kernel
theorem dksX0_seeded_1 : cX0_seeded.data.toList.drop 22 = dktX0_seeded_1 := dk_seg dksX0_seeded_0 22 rfl rfl
theorem dksX0_seeded_2 : cX0_seeded.data.toList.drop 46 = dktX0_seeded_2 := dk_seg dksX0_seeded_1 24 rfl rfl
theorem dksX0_seeded_3 : cX0_seeded.data.toList.drop 70 = dktX0_seeded_3 := dk_seg dksX0_seeded_2 24 rfl rfl
theorem dksX0_seeded_4 : cX0_seeded.data.toList.drop 93 = dktX0_seeded_4 := dk_seg dksX0_seeded_3 23 rfl rfl
theorem dX0_seeded_0 : decode cX0_seeded 0 = .ok (.iload_n 1, 1) := dk_27 (dk_at dksX0_seeded_0 0 rfl rfl)
theorem dX0_seeded_1 : decode cX0_seeded 1 = .ok (.invokestatic 176, 3) := dk_184 0 176 (dk_at dksX0_seeded_0 1 rfl rfl)
theorem dX0_seeded_4 : decode cX0_seeded 4 = .ok (.ifCond .eq 15, 3) := dk_153 0 15 (dk_at dksX0_seeded_0 4 rfl rfl)
theorem dX0_seeded_7 : decode cX0_seeded 7 = .ok (.iload_n 2, 1) := dk_28 (dk_at dksX0_seeded_0 7 rfl rfl)
theorem dX0_seeded_8 : decode cX0_seeded 8 = .ok (.i2l, 1) := dk_133 (dk_at dksX0_seeded_0 8 rfl rfl)
theorem dX0_seeded_9 : decode cX0_seeded 9 = .ok (.lconst 0, 1) := dk_9 (dk_at dksX0_seeded_0 9 rfl rfl)
theorem dX0_seeded_10 : decode cX0_seeded 10 = .ok (.ldc2_w 371, 3) := dk_20 1 115 (dk_at dksX0_seeded_0 10 rfl rfl)
theorem dX0_seeded_13 : decode cX0_seeded 13 = .ok (.invokestatic 108, 3) := dk_184 0 108 (dk_at dksX0_seeded_0 13 rfl rfl)
theorem dX0_seeded_16 : decode cX0_seeded 16 = .ok (.ifCond .ne 5, 3) := dk_154 0 5 (dk_at dksX0_seeded_0 16 rfl rfl)
theorem dX0_seeded_19 : decode cX0_seeded 19 = .ok (.iconst (-1), 1) := dk_2 (dk_at dksX0_seeded_0 19 rfl rfl)
theorem dX0_seeded_20 : decode cX0_seeded 20 = .ok (.ireturn, 1) := dk_172 (dk_at dksX0_seeded_0 20 rfl rfl)
theorem dX0_seeded_21 : decode cX0_seeded 21 = .ok (.aload_n 0, 1) := dk_42 (dk_at dksX0_seeded_0 21 rfl rfl)
theorem dX0_seeded_22 : decode cX0_seeded 22 = .ok (.getfield 100, 3) := dk_180 0 100 (dk_at dksX0_seeded_1 0 rfl rfl)
theorem dX0_seeded_25 : decode cX0_seeded 25 = .ok (.iload_n 1, 1) := dk_27 (dk_at dksX0_seeded_1 3 rfl rfl)
theorem dX0_seeded_26 : decode cX0_seeded 26 = .ok (.aaload, 1) := dk_50 (dk_at dksX0_seeded_1 4 rfl rfl)
theorem dX0_seeded_27 : decode cX0_seeded 27 = .ok (.astore_n 3, 1) := dk_78 (dk_at dksX0_seeded_1 5 rfl rfl)
theorem dX0_seeded_28 : decode cX0_seeded 28 = .ok (.aload_n 3, 1) := dk_45 (dk_at dksX0_seeded_1 6 rfl rfl)
theorem dX0_seeded_29 : decode cX0_seeded 29 = .ok (.ifnonnull 6, 3) := dk_199 0 6 (dk_at dksX0_seeded_1 7 rfl rfl)
theorem dX0_seeded_32 : decode cX0_seeded 32 = .ok (.bipush (-11), 2) := dk_16 245 (dk_at dksX0_seeded_1 10 rfl rfl)
theorem dX0_seeded_34 : decode cX0_seeded 34 = .ok (.ireturn, 1) := dk_172 (dk_at dksX0_seeded_1 12 rfl rfl)
theorem dX0_seeded_35 : decode cX0_seeded 35 = .ok (.aload_n 3, 1) := dk_45 (dk_at dksX0_seeded_1 13 rfl rfl)
theorem dX0_seeded_36 : decode cX0_seeded 36 = .ok (.invokestatic 181, 3) := dk_184 0 181 (dk_at dksX0_seeded_1 14 rfl rfl)
theorem dX0_seeded_39 : decode cX0_seeded 39 = .ok (.ifCond .eq 6, 3) := dk_153 0 6 (dk_at dksX0_seeded_1 17 rfl rfl)
theorem dX0_seeded_42 : decode cX0_seeded 42 = .ok (.bipush (-12), 2) := dk_16 244 (dk_at dksX0_seeded_1 20 rfl rfl)
theorem dX0_seeded_44 : decode cX0_seeded 44 = .ok (.ireturn, 1) := dk_172 (dk_at dksX0_seeded_1 22 rfl rfl)
theorem dX0_seeded_45 : decode cX0_seeded 45 = .ok (.aload_n 0, 1) := dk_42 (dk_at dksX0_seeded_1 23 rfl rfl)
theorem dX0_seeded_46 : decode cX0_seeded 46 = .ok (.getfield 215, 3) := dk_180 0 215 (dk_at dksX0_seeded_2 0 rfl rfl)
theorem dX0_seeded_49 : decode cX0_seeded 49 = .ok (.iload_n 2, 1) := dk_28 (dk_at dksX0_seeded_2 3 rfl rfl)
theorem dX0_seeded_50 : decode cX0_seeded 50 = .ok (.iadd, 1) := dk_96 (dk_at dksX0_seeded_2 4 rfl rfl)
theorem dX0_seeded_51 : decode cX0_seeded 51 = .ok (.bipush 24, 2) := dk_16 24 (dk_at dksX0_seeded_2 5 rfl rfl)
theorem dX0_seeded_53 : decode cX0_seeded 53 = .ok (.if_icmp .le 6, 3) := dk_164 0 6 (dk_at dksX0_seeded_2 7 rfl rfl)
theorem dX0_seeded_56 : decode cX0_seeded 56 = .ok (.bipush (-5), 2) := dk_16 251 (dk_at dksX0_seeded_2 10 rfl rfl)
theorem dX0_seeded_58 : decode cX0_seeded 58 = .ok (.ireturn, 1) := dk_172 (dk_at dksX0_seeded_2 12 rfl rfl)
theorem dX0_seeded_59 : decode cX0_seeded 59 = .ok (.iconst 0, 1) := dk_3 (dk_at dksX0_seeded_2 13 rfl rfl)
theorem dX0_seeded_60 : decode cX0_seeded 60 = .ok (.istore 4, 2) := dk_54 4 (dk_at dksX0_seeded_2 14 rfl rfl)
theorem dX0_seeded_62 : decode cX0_seeded 62 = .ok (.iload 4, 2) := dk_21 4 (dk_at dksX0_seeded_2 16 rfl rfl)
theorem dX0_seeded_64 : decode cX0_seeded 64 = .ok (.bipush 100, 2) := dk_16 100 (dk_at dksX0_seeded_2 18 rfl rfl)
theorem dX0_seeded_66 : decode cX0_seeded 66 = .ok (.if_icmp .ge 30, 3) := dk_162 0 30 (dk_at dksX0_seeded_2 20 rfl rfl)
theorem dX0_seeded_69 : decode cX0_seeded 69 = .ok (.aload_n 0, 1) := dk_42 (dk_at dksX0_seeded_2 23 rfl rfl)
theorem dX0_seeded_70 : decode cX0_seeded 70 = .ok (.iload 4, 2) := dk_21 4 (dk_at dksX0_seeded_3 0 rfl rfl)
theorem dX0_seeded_72 : decode cX0_seeded 72 = .ok (.iload_n 2, 1) := dk_28 (dk_at dksX0_seeded_3 2 rfl rfl)
theorem dX0_seeded_73 : decode cX0_seeded 73 = .ok (.invokevirtual 440, 3) := dk_182 1 184 (dk_at dksX0_seeded_3 3 rfl rfl)
theorem dX0_seeded_76 : decode cX0_seeded 76 = .ok (.aload_n 0, 1) := dk_42 (dk_at dksX0_seeded_3 6 rfl rfl)
theorem dX0_seeded_77 : decode cX0_seeded 77 = .ok (.aload_n 3, 1) := dk_45 (dk_at dksX0_seeded_3 7 rfl rfl)
theorem dX0_seeded_78 : decode cX0_seeded 78 = .ok (.checkcast 174, 3) := dk_192 0 174 (dk_at dksX0_seeded_3 8 rfl rfl)
theorem dX0_seeded_81 : decode cX0_seeded 81 = .ok (.invokevirtual 447, 3) := dk_182 1 191 (dk_at dksX0_seeded_3 11 rfl rfl)
theorem dX0_seeded_84 : decode cX0_seeded 84 = .ok (.ifCond .eq 6, 3) := dk_153 0 6 (dk_at dksX0_seeded_3 14 rfl rfl)
theorem dX0_seeded_87 : decode cX0_seeded 87 = .ok (.iload 4, 2) := dk_21 4 (dk_at dksX0_seeded_3 17 rfl rfl)
theorem dX0_seeded_89 : decode cX0_seeded 89 = .ok (.ireturn, 1) := dk_172 (dk_at dksX0_seeded_3 19 rfl rfl)
theorem dX0_seeded_90 : decode cX0_seeded 90 = .ok (.iinc 4 1, 3) := dk_132 4 1 (dk_at dksX0_seeded_3 20 rfl rfl)
theorem dX0_seeded_93 : decode cX0_seeded 93 = .ok (.goto (-31), 3) := dk_167 255 225 (dk_at dksX0_seeded_4 0 rfl rfl)
theorem dX0_seeded_96 : decode cX0_seeded 96 = .ok (.bipush (-2), 2) := dk_16 254 (dk_at dksX0_seeded_4 3 rfl rfl)
theorem dX0_seeded_98 : decode cX0_seeded 98 = .ok (.ireturn, 1) := dk_172 (dk_at dksX0_seeded_4 5 rfl rfl)
abbrev cX0_isAsTold : ByteArray := prog_1_method_76_code
def yX0_isAsTold : MethodName := ⟨RX0, "isAsTold", "([B)Z"⟩
def dkwX0_isAsTold_1 : List UInt8 := [50, 180, 0, 161, 28, 46, 159, 0, 5, 3, 172, 132, 2, 1, 167, 255, 220, 4, 172]
abbrev dktX0_isAsTold_1 : List UInt8 := dkwX0_isAsTold_1 ++ []
def dkwX0_isAsTold_0 : List UInt8 := [3, 61, 28, 42, 180, 0, 133, 162, 0, 34, 28, 43, 190, 162, 0, 28, 43, 28, 51, 42, 180, 0, 84, 3]
abbrev dktX0_isAsTold_0 : List UInt8 := dkwX0_isAsTold_0 ++ dktX0_isAsTold_1
theorem dksX0_isAsTold_0 : cX0_isAsTold.data.toList.drop 0 = dktX0_isAsTold_0 := by decide +kernel
theorem dksX0_isAsTold_1 : cX0_isAsTold.data.toList.drop 24 = dktX0_isAsTold_1 := dk_seg dksX0_isAsTold_0 24 rfl rfl
theorem dX0_isAsTold_0 : decode cX0_isAsTold 0 = .ok (.iconst 0, 1) := dk_3 (dk_at dksX0_isAsTold_0 0 rfl rfl)
theorem dX0_isAsTold_1 : decode cX0_isAsTold 1 = .ok (.istore_n 2, 1) := dk_61 (dk_at dksX0_isAsTold_0 1 rfl rfl)
theorem dX0_isAsTold_2 : decode cX0_isAsTold 2 = .ok (.iload_n 2, 1) := dk_28 (dk_at dksX0_isAsTold_0 2 rfl rfl)
theorem dX0_isAsTold_3 : decode cX0_isAsTold 3 = .ok (.aload_n 0, 1) := dk_42 (dk_at dksX0_isAsTold_0 3 rfl rfl)
theorem dX0_isAsTold_4 : decode cX0_isAsTold 4 = .ok (.getfield 133, 3) := dk_180 0 133 (dk_at dksX0_isAsTold_0 4 rfl rfl)
theorem dX0_isAsTold_7 : decode cX0_isAsTold 7 = .ok (.if_icmp .ge 34, 3) := dk_162 0 34 (dk_at dksX0_isAsTold_0 7 rfl rfl)
theorem dX0_isAsTold_10 : decode cX0_isAsTold 10 = .ok (.iload_n 2, 1) := dk_28 (dk_at dksX0_isAsTold_0 10 rfl rfl)
theorem dX0_isAsTold_11 : decode cX0_isAsTold 11 = .ok (.aload_n 1, 1) := dk_43 (dk_at dksX0_isAsTold_0 11 rfl rfl)
theorem dX0_isAsTold_12 : decode cX0_isAsTold 12 = .ok (.arraylength, 1) := dk_190 (dk_at dksX0_isAsTold_0 12 rfl rfl)
theorem dX0_isAsTold_13 : decode cX0_isAsTold 13 = .ok (.if_icmp .ge 28, 3) := dk_162 0 28 (dk_at dksX0_isAsTold_0 13 rfl rfl)
theorem dX0_isAsTold_16 : decode cX0_isAsTold 16 = .ok (.aload_n 1, 1) := dk_43 (dk_at dksX0_isAsTold_0 16 rfl rfl)
theorem dX0_isAsTold_17 : decode cX0_isAsTold 17 = .ok (.iload_n 2, 1) := dk_28 (dk_at dksX0_isAsTold_0 17 rfl rfl)
theorem dX0_isAsTold_18 : decode cX0_isAsTold 18 = .ok (.baload, 1) := dk_51 (dk_at dksX0_isAsTold_0 18 rfl rfl)
theorem dX0_isAsTold_19 : decode cX0_isAsTold 19 = .ok (.aload_n 0, 1) := dk_42 (dk_at dksX0_isAsTold_0 19 rfl rfl)
theorem dX0_isAsTold_20 : decode cX0_isAsTold 20 = .ok (.getfield 84, 3) := dk_180 0 84 (dk_at dksX0_isAsTold_0 20 rfl rfl)
theorem dX0_isAsTold_23 : decode cX0_isAsTold 23 = .ok (.iconst 0, 1) := dk_3 (dk_at dksX0_isAsTold_0 23 rfl rfl)
theorem dX0_isAsTold_24 : decode cX0_isAsTold 24 = .ok (.aaload, 1) := dk_50 (dk_at dksX0_isAsTold_1 0 rfl rfl)
theorem dX0_isAsTold_25 : decode cX0_isAsTold 25 = .ok (.getfield 161, 3) := dk_180 0 161 (dk_at dksX0_isAsTold_1 1 rfl rfl)
theorem dX0_isAsTold_28 : decode cX0_isAsTold 28 = .ok (.iload_n 2, 1) := dk_28 (dk_at dksX0_isAsTold_1 4 rfl rfl)
theorem dX0_isAsTold_29 : decode cX0_isAsTold 29 = .ok (.iaload, 1) := dk_46 (dk_at dksX0_isAsTold_1 5 rfl rfl)
theorem dX0_isAsTold_30 : decode cX0_isAsTold 30 = .ok (.if_icmp .eq 5, 3) := dk_159 0 5 (dk_at dksX0_isAsTold_1 6 rfl rfl)
theorem dX0_isAsTold_33 : decode cX0_isAsTold 33 = .ok (.iconst 0, 1) := dk_3 (dk_at dksX0_isAsTold_1 9 rfl rfl)
theorem dX0_isAsTold_34 : decode cX0_isAsTold 34 = .ok (.ireturn, 1) := dk_172 (dk_at dksX0_isAsTold_1 10 rfl rfl)
theorem dX0_isAsTold_35 : decode cX0_isAsTold 35 = .ok (.iinc 2 1, 3) := dk_132 2 1 (dk_at dksX0_isAsTold_1 11 rfl rfl)
theorem dX0_isAsTold_38 : decode cX0_isAsTold 38 = .ok (.goto (-36), 3) := dk_167 255 220 (dk_at dksX0_isAsTold_1 14 rfl rfl)
theorem dX0_isAsTold_41 : decode cX0_isAsTold 41 = .ok (.iconst 1, 1) := dk_4 (dk_at dksX0_isAsTold_1 17 rfl rfl)
theorem dX0_isAsTold_42 : decode cX0_isAsTold 42 = .ok (.ireturn, 1) := dk_172 (dk_at dksX0_isAsTold_1 18 rfl rfl)
abbrev cX0_image : ByteArray := prog_1_method_78_code
def yX0_image : MethodName := ⟨RX0, "image", "()I"⟩
def dkwX0_image_1 : List UInt8 := [180, 0, 130, 181, 1, 205, 42, 180, 0, 88, 42, 180, 0, 51, 182, 1, 157, 42, 180, 0, 215, 172]
abbrev dktX0_image_1 : List UInt8 := dkwX0_image_1 ++ []
def dkwX0_image_0 : List UInt8 := [42, 4, 181, 1, 195, 42, 42, 180, 0, 215, 181, 1, 199, 42, 42, 180, 0, 133, 181, 1, 202, 42, 42]
abbrev dktX0_image_0 : List UInt8 := dkwX0_image_0 ++ dktX0_image_1
theorem dksX0_image_0 : cX0_image.data.toList.drop 0 = dktX0_image_0 := by decide +kernel
theorem dksX0_image_1 : cX0_image.data.toList.drop 23 = dktX0_image_1 := dk_seg dksX0_image_0 23 rfl rfl
theorem dX0_image_0 : decode cX0_image 0 = .ok (.aload_n 0, 1) := dk_42 (dk_at dksX0_image_0 0 rfl rfl)
theorem dX0_image_1 : decode cX0_image 1 = .ok (.iconst 1, 1) := dk_4 (dk_at dksX0_image_0 1 rfl rfl)
theorem dX0_image_2 : decode cX0_image 2 = .ok (.putfield 451, 3) := dk_181 1 195 (dk_at dksX0_image_0 2 rfl rfl)
theorem dX0_image_5 : decode cX0_image 5 = .ok (.aload_n 0, 1) := dk_42 (dk_at dksX0_image_0 5 rfl rfl)
theorem dX0_image_6 : decode cX0_image 6 = .ok (.aload_n 0, 1) := dk_42 (dk_at dksX0_image_0 6 rfl rfl)
theorem dX0_image_7 : decode cX0_image 7 = .ok (.getfield 215, 3) := dk_180 0 215 (dk_at dksX0_image_0 7 rfl rfl)
theorem dX0_image_10 : decode cX0_image 10 = .ok (.putfield 455, 3) := dk_181 1 199 (dk_at dksX0_image_0 10 rfl rfl)
theorem dX0_image_13 : decode cX0_image 13 = .ok (.aload_n 0, 1) := dk_42 (dk_at dksX0_image_0 13 rfl rfl)
theorem dX0_image_14 : decode cX0_image 14 = .ok (.aload_n 0, 1) := dk_42 (dk_at dksX0_image_0 14 rfl rfl)
theorem dX0_image_15 : decode cX0_image 15 = .ok (.getfield 133, 3) := dk_180 0 133 (dk_at dksX0_image_0 15 rfl rfl)
theorem dX0_image_18 : decode cX0_image 18 = .ok (.putfield 458, 3) := dk_181 1 202 (dk_at dksX0_image_0 18 rfl rfl)
theorem dX0_image_21 : decode cX0_image 21 = .ok (.aload_n 0, 1) := dk_42 (dk_at dksX0_image_0 21 rfl rfl)
theorem dX0_image_22 : decode cX0_image 22 = .ok (.aload_n 0, 1) := dk_42 (dk_at dksX0_image_0 22 rfl rfl)
theorem dX0_image_23 : decode cX0_image 23 = .ok (.getfield 130, 3) := dk_180 0 130 (dk_at dksX0_image_1 0 rfl rfl)
theorem dX0_image_26 : decode cX0_image 26 = .ok (.putfield 461, 3) := dk_181 1 205 (dk_at dksX0_image_1 3 rfl rfl)
theorem dX0_image_29 : decode cX0_image 29 = .ok (.aload_n 0, 1) := dk_42 (dk_at dksX0_image_1 6 rfl rfl)
theorem dX0_image_30 : decode cX0_image 30 = .ok (.getfield 88, 3) := dk_180 0 88 (dk_at dksX0_image_1 7 rfl rfl)
theorem dX0_image_33 : decode cX0_image 33 = .ok (.aload_n 0, 1) := dk_42 (dk_at dksX0_image_1 10 rfl rfl)
theorem dX0_image_34 : decode cX0_image 34 = .ok (.getfield 51, 3) := dk_180 0 51 (dk_at dksX0_image_1 11 rfl rfl)
theorem dX0_image_37 : decode cX0_image 37 = .ok (.invokevirtual 413, 3) := dk_182 1 157 (dk_at dksX0_image_1 14 rfl rfl)
theorem dX0_image_40 : decode cX0_image 40 = .ok (.aload_n 0, 1) := dk_42 (dk_at dksX0_image_1 17 rfl rfl)
theorem dX0_image_41 : decode cX0_image 41 = .ok (.getfield 215, 3) := dk_180 0 215 (dk_at dksX0_image_1 18 rfl rfl)
theorem dX0_image_44 : decode cX0_image 44 = .ok (.ireturn, 1) := dk_172 (dk_at dksX0_image_1 21 rfl rfl)
abbrev cX0_back : ByteArray := prog_1_method_79_code
def yX0_back : MethodName := ⟨RX0, "back", "()I"⟩
def dkwX0_back_3 : List UInt8 := [180, 0, 228, 3, 42, 180, 0, 51, 180, 0, 228, 3, 42, 180, 1, 205, 184, 1, 208, 42, 180, 0, 215, 172]
abbrev dktX0_back_3 : List UInt8 := dkwX0_back_3 ++ []
def dkwX0_back_2 : List UInt8 := [180, 0, 164, 3, 42, 180, 0, 51, 180, 0, 164, 3, 42, 180, 1, 202, 184, 1, 208, 42, 180, 0, 88]
abbrev dktX0_back_2 : List UInt8 := dkwX0_back_2 ++ dktX0_back_3
def dkwX0_back_1 : List UInt8 := [180, 0, 161, 3, 42, 180, 0, 51, 180, 0, 161, 3, 42, 180, 1, 202, 184, 1, 208, 42, 180, 0, 88]
abbrev dktX0_back_1 : List UInt8 := dkwX0_back_1 ++ dktX0_back_2
def dkwX0_back_0 : List UInt8 := [42, 180, 1, 195, 154, 0, 6, 16, 251, 172, 42, 42, 180, 1, 199, 181, 0, 215, 42, 180, 0, 88]
abbrev dktX0_back_0 : List UInt8 := dkwX0_back_0 ++ dktX0_back_1
theorem dksX0_back_0 : cX0_back.data.toList.drop 0 = dktX0_back_0 := by decide +kernel
theorem dksX0_back_1 : cX0_back.data.toList.drop 22 = dktX0_back_1 := dk_seg dksX0_back_0 22 rfl rfl
theorem dksX0_back_2 : cX0_back.data.toList.drop 45 = dktX0_back_2 := dk_seg dksX0_back_1 23 rfl rfl
theorem dksX0_back_3 : cX0_back.data.toList.drop 68 = dktX0_back_3 := dk_seg dksX0_back_2 23 rfl rfl
theorem dX0_back_0 : decode cX0_back 0 = .ok (.aload_n 0, 1) := dk_42 (dk_at dksX0_back_0 0 rfl rfl)
theorem dX0_back_1 : decode cX0_back 1 = .ok (.getfield 451, 3) := dk_180 1 195 (dk_at dksX0_back_0 1 rfl rfl)
theorem dX0_back_4 : decode cX0_back 4 = .ok (.ifCond .ne 6, 3) := dk_154 0 6 (dk_at dksX0_back_0 4 rfl rfl)
theorem dX0_back_7 : decode cX0_back 7 = .ok (.bipush (-5), 2) := dk_16 251 (dk_at dksX0_back_0 7 rfl rfl)
theorem dX0_back_9 : decode cX0_back 9 = .ok (.ireturn, 1) := dk_172 (dk_at dksX0_back_0 9 rfl rfl)
theorem dX0_back_10 : decode cX0_back 10 = .ok (.aload_n 0, 1) := dk_42 (dk_at dksX0_back_0 10 rfl rfl)
theorem dX0_back_11 : decode cX0_back 11 = .ok (.aload_n 0, 1) := dk_42 (dk_at dksX0_back_0 11 rfl rfl)
theorem dX0_back_12 : decode cX0_back 12 = .ok (.getfield 455, 3) := dk_180 1 199 (dk_at dksX0_back_0 12 rfl rfl)
theorem dX0_back_15 : decode cX0_back 15 = .ok (.putfield 215, 3) := dk_181 0 215 (dk_at dksX0_back_0 15 rfl rfl)
theorem dX0_back_18 : decode cX0_back 18 = .ok (.aload_n 0, 1) := dk_42 (dk_at dksX0_back_0 18 rfl rfl)
theorem dX0_back_19 : decode cX0_back 19 = .ok (.getfield 88, 3) := dk_180 0 88 (dk_at dksX0_back_0 19 rfl rfl)
theorem dX0_back_22 : decode cX0_back 22 = .ok (.getfield 161, 3) := dk_180 0 161 (dk_at dksX0_back_1 0 rfl rfl)
theorem dX0_back_25 : decode cX0_back 25 = .ok (.iconst 0, 1) := dk_3 (dk_at dksX0_back_1 3 rfl rfl)
theorem dX0_back_26 : decode cX0_back 26 = .ok (.aload_n 0, 1) := dk_42 (dk_at dksX0_back_1 4 rfl rfl)
theorem dX0_back_27 : decode cX0_back 27 = .ok (.getfield 51, 3) := dk_180 0 51 (dk_at dksX0_back_1 5 rfl rfl)
theorem dX0_back_30 : decode cX0_back 30 = .ok (.getfield 161, 3) := dk_180 0 161 (dk_at dksX0_back_1 8 rfl rfl)
theorem dX0_back_33 : decode cX0_back 33 = .ok (.iconst 0, 1) := dk_3 (dk_at dksX0_back_1 11 rfl rfl)
theorem dX0_back_34 : decode cX0_back 34 = .ok (.aload_n 0, 1) := dk_42 (dk_at dksX0_back_1 12 rfl rfl)
theorem dX0_back_35 : decode cX0_back 35 = .ok (.getfield 458, 3) := dk_180 1 202 (dk_at dksX0_back_1 13 rfl rfl)
theorem dX0_back_38 : decode cX0_back 38 = .ok (.invokestatic 464, 3) := dk_184 1 208 (dk_at dksX0_back_1 16 rfl rfl)
theorem dX0_back_41 : decode cX0_back 41 = .ok (.aload_n 0, 1) := dk_42 (dk_at dksX0_back_1 19 rfl rfl)
theorem dX0_back_42 : decode cX0_back 42 = .ok (.getfield 88, 3) := dk_180 0 88 (dk_at dksX0_back_1 20 rfl rfl)
theorem dX0_back_45 : decode cX0_back 45 = .ok (.getfield 164, 3) := dk_180 0 164 (dk_at dksX0_back_2 0 rfl rfl)
theorem dX0_back_48 : decode cX0_back 48 = .ok (.iconst 0, 1) := dk_3 (dk_at dksX0_back_2 3 rfl rfl)
theorem dX0_back_49 : decode cX0_back 49 = .ok (.aload_n 0, 1) := dk_42 (dk_at dksX0_back_2 4 rfl rfl)
theorem dX0_back_50 : decode cX0_back 50 = .ok (.getfield 51, 3) := dk_180 0 51 (dk_at dksX0_back_2 5 rfl rfl)
theorem dX0_back_53 : decode cX0_back 53 = .ok (.getfield 164, 3) := dk_180 0 164 (dk_at dksX0_back_2 8 rfl rfl)
theorem dX0_back_56 : decode cX0_back 56 = .ok (.iconst 0, 1) := dk_3 (dk_at dksX0_back_2 11 rfl rfl)
theorem dX0_back_57 : decode cX0_back 57 = .ok (.aload_n 0, 1) := dk_42 (dk_at dksX0_back_2 12 rfl rfl)
theorem dX0_back_58 : decode cX0_back 58 = .ok (.getfield 458, 3) := dk_180 1 202 (dk_at dksX0_back_2 13 rfl rfl)
theorem dX0_back_61 : decode cX0_back 61 = .ok (.invokestatic 464, 3) := dk_184 1 208 (dk_at dksX0_back_2 16 rfl rfl)
theorem dX0_back_64 : decode cX0_back 64 = .ok (.aload_n 0, 1) := dk_42 (dk_at dksX0_back_2 19 rfl rfl)
theorem dX0_back_65 : decode cX0_back 65 = .ok (.getfield 88, 3) := dk_180 0 88 (dk_at dksX0_back_2 20 rfl rfl)
theorem dX0_back_68 : decode cX0_back 68 = .ok (.getfield 228, 3) := dk_180 0 228 (dk_at dksX0_back_3 0 rfl rfl)
theorem dX0_back_71 : decode cX0_back 71 = .ok (.iconst 0, 1) := dk_3 (dk_at dksX0_back_3 3 rfl rfl)
theorem dX0_back_72 : decode cX0_back 72 = .ok (.aload_n 0, 1) := dk_42 (dk_at dksX0_back_3 4 rfl rfl)
theorem dX0_back_73 : decode cX0_back 73 = .ok (.getfield 51, 3) := dk_180 0 51 (dk_at dksX0_back_3 5 rfl rfl)
theorem dX0_back_76 : decode cX0_back 76 = .ok (.getfield 228, 3) := dk_180 0 228 (dk_at dksX0_back_3 8 rfl rfl)
theorem dX0_back_79 : decode cX0_back 79 = .ok (.iconst 0, 1) := dk_3 (dk_at dksX0_back_3 11 rfl rfl)
theorem dX0_back_80 : decode cX0_back 80 = .ok (.aload_n 0, 1) := dk_42 (dk_at dksX0_back_3 12 rfl rfl)
theorem dX0_back_81 : decode cX0_back 81 = .ok (.getfield 461, 3) := dk_180 1 205 (dk_at dksX0_back_3 13 rfl rfl)
theorem dX0_back_84 : decode cX0_back 84 = .ok (.invokestatic 464, 3) := dk_184 1 208 (dk_at dksX0_back_3 16 rfl rfl)
theorem dX0_back_87 : decode cX0_back 87 = .ok (.aload_n 0, 1) := dk_42 (dk_at dksX0_back_3 19 rfl rfl)
theorem dX0_back_88 : decode cX0_back 88 = .ok (.getfield 215, 3) := dk_180 0 215 (dk_at dksX0_back_3 20 rfl rfl)
theorem dX0_back_91 : decode cX0_back 91 = .ok (.ireturn, 1) := dk_172 (dk_at dksX0_back_3 23 rfl rfl)
abbrev cX0_body : ByteArray := prog_1_method_82_code
def yX0_body : MethodName := ⟨RX0, "body", "(I)I"⟩
def dkwX0_body_2 : List UInt8 := [96, 181, 1, 214, 172]
abbrev dktX0_body_2 : List UInt8 := dkwX0_body_2 ++ []
def dkwX0_body_1 : List UInt8 := [16, 253, 172, 42, 180, 0, 93, 42, 180, 1, 214, 42, 27, 182, 1, 241, 83, 42, 89, 180, 1, 214, 90, 4]
abbrev dktX0_body_1 : List UInt8 := dkwX0_body_1 ++ dktX0_body_2
def dkwX0_body_0 : List UInt8 := [27, 133, 9, 20, 1, 239, 184, 0, 108, 154, 0, 5, 2, 172, 42, 180, 1, 214, 16, 50, 160, 0, 6]
abbrev dktX0_body_0 : List UInt8 := dkwX0_body_0 ++ dktX0_body_1
theorem dksX0_body_0 : cX0_body.data.toList.drop 0 = dktX0_body_0 := by decide +kernel
theorem dksX0_body_1 : cX0_body.data.toList.drop 23 = dktX0_body_1 := dk_seg dksX0_body_0 23 rfl rfl
theorem dksX0_body_2 : cX0_body.data.toList.drop 47 = dktX0_body_2 := dk_seg dksX0_body_1 24 rfl rfl
theorem dX0_body_0 : decode cX0_body 0 = .ok (.iload_n 1, 1) := dk_27 (dk_at dksX0_body_0 0 rfl rfl)
theorem dX0_body_1 : decode cX0_body 1 = .ok (.i2l, 1) := dk_133 (dk_at dksX0_body_0 1 rfl rfl)
theorem dX0_body_2 : decode cX0_body 2 = .ok (.lconst 0, 1) := dk_9 (dk_at dksX0_body_0 2 rfl rfl)
theorem dX0_body_3 : decode cX0_body 3 = .ok (.ldc2_w 495, 3) := dk_20 1 239 (dk_at dksX0_body_0 3 rfl rfl)
theorem dX0_body_6 : decode cX0_body 6 = .ok (.invokestatic 108, 3) := dk_184 0 108 (dk_at dksX0_body_0 6 rfl rfl)
theorem dX0_body_9 : decode cX0_body 9 = .ok (.ifCond .ne 5, 3) := dk_154 0 5 (dk_at dksX0_body_0 9 rfl rfl)
theorem dX0_body_12 : decode cX0_body 12 = .ok (.iconst (-1), 1) := dk_2 (dk_at dksX0_body_0 12 rfl rfl)
theorem dX0_body_13 : decode cX0_body 13 = .ok (.ireturn, 1) := dk_172 (dk_at dksX0_body_0 13 rfl rfl)
theorem dX0_body_14 : decode cX0_body 14 = .ok (.aload_n 0, 1) := dk_42 (dk_at dksX0_body_0 14 rfl rfl)
theorem dX0_body_15 : decode cX0_body 15 = .ok (.getfield 470, 3) := dk_180 1 214 (dk_at dksX0_body_0 15 rfl rfl)
theorem dX0_body_18 : decode cX0_body 18 = .ok (.bipush 50, 2) := dk_16 50 (dk_at dksX0_body_0 18 rfl rfl)
theorem dX0_body_20 : decode cX0_body 20 = .ok (.if_icmp .ne 6, 3) := dk_160 0 6 (dk_at dksX0_body_0 20 rfl rfl)
theorem dX0_body_23 : decode cX0_body 23 = .ok (.bipush (-3), 2) := dk_16 253 (dk_at dksX0_body_1 0 rfl rfl)
theorem dX0_body_25 : decode cX0_body 25 = .ok (.ireturn, 1) := dk_172 (dk_at dksX0_body_1 2 rfl rfl)
theorem dX0_body_26 : decode cX0_body 26 = .ok (.aload_n 0, 1) := dk_42 (dk_at dksX0_body_1 3 rfl rfl)
theorem dX0_body_27 : decode cX0_body 27 = .ok (.getfield 93, 3) := dk_180 0 93 (dk_at dksX0_body_1 4 rfl rfl)
theorem dX0_body_30 : decode cX0_body 30 = .ok (.aload_n 0, 1) := dk_42 (dk_at dksX0_body_1 7 rfl rfl)
theorem dX0_body_31 : decode cX0_body 31 = .ok (.getfield 470, 3) := dk_180 1 214 (dk_at dksX0_body_1 8 rfl rfl)
theorem dX0_body_34 : decode cX0_body 34 = .ok (.aload_n 0, 1) := dk_42 (dk_at dksX0_body_1 11 rfl rfl)
theorem dX0_body_35 : decode cX0_body 35 = .ok (.iload_n 1, 1) := dk_27 (dk_at dksX0_body_1 12 rfl rfl)
theorem dX0_body_36 : decode cX0_body 36 = .ok (.invokevirtual 497, 3) := dk_182 1 241 (dk_at dksX0_body_1 13 rfl rfl)
theorem dX0_body_39 : decode cX0_body 39 = .ok (.aastore, 1) := dk_83 (dk_at dksX0_body_1 16 rfl rfl)
theorem dX0_body_40 : decode cX0_body 40 = .ok (.aload_n 0, 1) := dk_42 (dk_at dksX0_body_1 17 rfl rfl)
theorem dX0_body_41 : decode cX0_body 41 = .ok (.dup, 1) := dk_89 (dk_at dksX0_body_1 18 rfl rfl)
theorem dX0_body_42 : decode cX0_body 42 = .ok (.getfield 470, 3) := dk_180 1 214 (dk_at dksX0_body_1 19 rfl rfl)
theorem dX0_body_45 : decode cX0_body 45 = .ok (.dup_x1, 1) := dk_90 (dk_at dksX0_body_1 22 rfl rfl)
theorem dX0_body_46 : decode cX0_body 46 = .ok (.iconst 1, 1) := dk_4 (dk_at dksX0_body_1 23 rfl rfl)
theorem dX0_body_47 : decode cX0_body 47 = .ok (.iadd, 1) := dk_96 (dk_at dksX0_body_2 0 rfl rfl)
theorem dX0_body_48 : decode cX0_body 48 = .ok (.putfield 470, 3) := dk_181 1 214 (dk_at dksX0_body_2 1 rfl rfl)
theorem dX0_body_51 : decode cX0_body 51 = .ok (.ireturn, 1) := dk_172 (dk_at dksX0_body_2 4 rfl rfl)
abbrev cX0_made : ByteArray := prog_1_method_81_code
def yX0_made : MethodName := ⟨RX0, "made", "(I)LHatRank$Body;"⟩
def dkwX0_made_6 : List UInt8 := [187, 0, 91, 89, 42, 42, 180, 1, 214, 183, 1, 238, 176]
abbrev dktX0_made_6 : List UInt8 := dkwX0_made_6 ++ []
def dkwX0_made_5 : List UInt8 := [42, 42, 180, 1, 214, 183, 1, 234, 176, 187, 1, 235, 89, 42, 42, 180, 1, 214, 183, 1, 237, 176]
abbrev dktX0_made_5 : List UInt8 := dkwX0_made_5 ++ dktX0_made_6
def dkwX0_made_4 : List UInt8 := [180, 1, 214, 183, 1, 228, 176, 187, 1, 229, 89, 42, 42, 180, 1, 214, 183, 1, 231, 176, 187, 1, 232, 89]
abbrev dktX0_made_4 : List UInt8 := dkwX0_made_4 ++ dktX0_made_5
def dkwX0_made_3 : List UInt8 := [183, 1, 222, 176, 187, 1, 223, 89, 42, 42, 180, 1, 214, 183, 1, 225, 176, 187, 1, 226, 89, 42, 42]
abbrev dktX0_made_3 : List UInt8 := dkwX0_made_3 ++ dktX0_made_4
def dkwX0_made_2 : List UInt8 := [187, 1, 217, 89, 42, 42, 180, 1, 214, 183, 1, 219, 176, 187, 1, 220, 89, 42, 42, 180, 1, 214]
abbrev dktX0_made_2 : List UInt8 := dkwX0_made_2 ++ dktX0_made_3
def dkwX0_made_1 : List UInt8 := [170, 0, 0, 0, 0, 0, 134, 0, 0, 0, 1, 0, 0, 0, 7, 0, 0, 0, 43, 0, 0, 0, 56, 0, 0, 0, 69, 0, 0, 0, 82, 0, 0, 0, 95, 0, 0, 0, 108, 0, 0, 0, 121]
abbrev dktX0_made_1 : List UInt8 := dkwX0_made_1 ++ dktX0_made_2
def dkwX0_made_0 : List UInt8 := [27]
abbrev dktX0_made_0 : List UInt8 := dkwX0_made_0 ++ dktX0_made_1
theorem dksX0_made_0 : cX0_made.data.toList.drop 0 = dktX0_made_0 := by decide +kernel
theorem dksX0_made_1 : cX0_made.data.toList.drop 1 = dktX0_made_1 := dk_seg dksX0_made_0 1 rfl rfl
theorem dksX0_made_2 : cX0_made.data.toList.drop 44 = dktX0_made_2 := dk_seg dksX0_made_1 43 rfl rfl
theorem dksX0_made_3 : cX0_made.data.toList.drop 66 = dktX0_made_3 := dk_seg dksX0_made_2 22 rfl rfl
theorem dksX0_made_4 : cX0_made.data.toList.drop 89 = dktX0_made_4 := dk_seg dksX0_made_3 23 rfl rfl
theorem dksX0_made_5 : cX0_made.data.toList.drop 113 = dktX0_made_5 := dk_seg dksX0_made_4 24 rfl rfl
theorem dksX0_made_6 : cX0_made.data.toList.drop 135 = dktX0_made_6 := dk_seg dksX0_made_5 22 rfl rfl
theorem dX0_made_0 : decode cX0_made 0 = .ok (.iload_n 1, 1) := dk_27 (dk_at dksX0_made_0 0 rfl rfl)
theorem dX0_made_1 : decode cX0_made 1 = .ok (.tableswitch 134 1 7 #[43, 56, 69, 82, 95, 108, 121], 43) := by decide +kernel
theorem dX0_made_44 : decode cX0_made 44 = .ok (.new 473, 3) := dk_187 1 217 (dk_at dksX0_made_2 0 rfl rfl)
theorem dX0_made_47 : decode cX0_made 47 = .ok (.dup, 1) := dk_89 (dk_at dksX0_made_2 3 rfl rfl)
theorem dX0_made_48 : decode cX0_made 48 = .ok (.aload_n 0, 1) := dk_42 (dk_at dksX0_made_2 4 rfl rfl)
theorem dX0_made_49 : decode cX0_made 49 = .ok (.aload_n 0, 1) := dk_42 (dk_at dksX0_made_2 5 rfl rfl)
theorem dX0_made_50 : decode cX0_made 50 = .ok (.getfield 470, 3) := dk_180 1 214 (dk_at dksX0_made_2 6 rfl rfl)
theorem dX0_made_53 : decode cX0_made 53 = .ok (.invokespecial 475, 3) := dk_183 1 219 (dk_at dksX0_made_2 9 rfl rfl)
theorem dX0_made_56 : decode cX0_made 56 = .ok (.areturn, 1) := dk_176 (dk_at dksX0_made_2 12 rfl rfl)
theorem dX0_made_57 : decode cX0_made 57 = .ok (.new 476, 3) := dk_187 1 220 (dk_at dksX0_made_2 13 rfl rfl)
theorem dX0_made_60 : decode cX0_made 60 = .ok (.dup, 1) := dk_89 (dk_at dksX0_made_2 16 rfl rfl)
theorem dX0_made_61 : decode cX0_made 61 = .ok (.aload_n 0, 1) := dk_42 (dk_at dksX0_made_2 17 rfl rfl)
theorem dX0_made_62 : decode cX0_made 62 = .ok (.aload_n 0, 1) := dk_42 (dk_at dksX0_made_2 18 rfl rfl)
theorem dX0_made_63 : decode cX0_made 63 = .ok (.getfield 470, 3) := dk_180 1 214 (dk_at dksX0_made_2 19 rfl rfl)
theorem dX0_made_66 : decode cX0_made 66 = .ok (.invokespecial 478, 3) := dk_183 1 222 (dk_at dksX0_made_3 0 rfl rfl)
theorem dX0_made_69 : decode cX0_made 69 = .ok (.areturn, 1) := dk_176 (dk_at dksX0_made_3 3 rfl rfl)
theorem dX0_made_70 : decode cX0_made 70 = .ok (.new 479, 3) := dk_187 1 223 (dk_at dksX0_made_3 4 rfl rfl)
theorem dX0_made_73 : decode cX0_made 73 = .ok (.dup, 1) := dk_89 (dk_at dksX0_made_3 7 rfl rfl)
theorem dX0_made_74 : decode cX0_made 74 = .ok (.aload_n 0, 1) := dk_42 (dk_at dksX0_made_3 8 rfl rfl)
theorem dX0_made_75 : decode cX0_made 75 = .ok (.aload_n 0, 1) := dk_42 (dk_at dksX0_made_3 9 rfl rfl)
theorem dX0_made_76 : decode cX0_made 76 = .ok (.getfield 470, 3) := dk_180 1 214 (dk_at dksX0_made_3 10 rfl rfl)
theorem dX0_made_79 : decode cX0_made 79 = .ok (.invokespecial 481, 3) := dk_183 1 225 (dk_at dksX0_made_3 13 rfl rfl)
theorem dX0_made_82 : decode cX0_made 82 = .ok (.areturn, 1) := dk_176 (dk_at dksX0_made_3 16 rfl rfl)
theorem dX0_made_83 : decode cX0_made 83 = .ok (.new 482, 3) := dk_187 1 226 (dk_at dksX0_made_3 17 rfl rfl)
theorem dX0_made_86 : decode cX0_made 86 = .ok (.dup, 1) := dk_89 (dk_at dksX0_made_3 20 rfl rfl)
theorem dX0_made_87 : decode cX0_made 87 = .ok (.aload_n 0, 1) := dk_42 (dk_at dksX0_made_3 21 rfl rfl)
theorem dX0_made_88 : decode cX0_made 88 = .ok (.aload_n 0, 1) := dk_42 (dk_at dksX0_made_3 22 rfl rfl)
theorem dX0_made_89 : decode cX0_made 89 = .ok (.getfield 470, 3) := dk_180 1 214 (dk_at dksX0_made_4 0 rfl rfl)
theorem dX0_made_92 : decode cX0_made 92 = .ok (.invokespecial 484, 3) := dk_183 1 228 (dk_at dksX0_made_4 3 rfl rfl)
theorem dX0_made_95 : decode cX0_made 95 = .ok (.areturn, 1) := dk_176 (dk_at dksX0_made_4 6 rfl rfl)
theorem dX0_made_96 : decode cX0_made 96 = .ok (.new 485, 3) := dk_187 1 229 (dk_at dksX0_made_4 7 rfl rfl)
theorem dX0_made_99 : decode cX0_made 99 = .ok (.dup, 1) := dk_89 (dk_at dksX0_made_4 10 rfl rfl)
theorem dX0_made_100 : decode cX0_made 100 = .ok (.aload_n 0, 1) := dk_42 (dk_at dksX0_made_4 11 rfl rfl)
theorem dX0_made_101 : decode cX0_made 101 = .ok (.aload_n 0, 1) := dk_42 (dk_at dksX0_made_4 12 rfl rfl)
theorem dX0_made_102 : decode cX0_made 102 = .ok (.getfield 470, 3) := dk_180 1 214 (dk_at dksX0_made_4 13 rfl rfl)
theorem dX0_made_105 : decode cX0_made 105 = .ok (.invokespecial 487, 3) := dk_183 1 231 (dk_at dksX0_made_4 16 rfl rfl)
theorem dX0_made_108 : decode cX0_made 108 = .ok (.areturn, 1) := dk_176 (dk_at dksX0_made_4 19 rfl rfl)
theorem dX0_made_109 : decode cX0_made 109 = .ok (.new 488, 3) := dk_187 1 232 (dk_at dksX0_made_4 20 rfl rfl)
theorem dX0_made_112 : decode cX0_made 112 = .ok (.dup, 1) := dk_89 (dk_at dksX0_made_4 23 rfl rfl)
theorem dX0_made_113 : decode cX0_made 113 = .ok (.aload_n 0, 1) := dk_42 (dk_at dksX0_made_5 0 rfl rfl)
theorem dX0_made_114 : decode cX0_made 114 = .ok (.aload_n 0, 1) := dk_42 (dk_at dksX0_made_5 1 rfl rfl)
theorem dX0_made_115 : decode cX0_made 115 = .ok (.getfield 470, 3) := dk_180 1 214 (dk_at dksX0_made_5 2 rfl rfl)
theorem dX0_made_118 : decode cX0_made 118 = .ok (.invokespecial 490, 3) := dk_183 1 234 (dk_at dksX0_made_5 5 rfl rfl)
theorem dX0_made_121 : decode cX0_made 121 = .ok (.areturn, 1) := dk_176 (dk_at dksX0_made_5 8 rfl rfl)
theorem dX0_made_122 : decode cX0_made 122 = .ok (.new 491, 3) := dk_187 1 235 (dk_at dksX0_made_5 9 rfl rfl)
theorem dX0_made_125 : decode cX0_made 125 = .ok (.dup, 1) := dk_89 (dk_at dksX0_made_5 12 rfl rfl)
theorem dX0_made_126 : decode cX0_made 126 = .ok (.aload_n 0, 1) := dk_42 (dk_at dksX0_made_5 13 rfl rfl)
theorem dX0_made_127 : decode cX0_made 127 = .ok (.aload_n 0, 1) := dk_42 (dk_at dksX0_made_5 14 rfl rfl)
theorem dX0_made_128 : decode cX0_made 128 = .ok (.getfield 470, 3) := dk_180 1 214 (dk_at dksX0_made_5 15 rfl rfl)
theorem dX0_made_131 : decode cX0_made 131 = .ok (.invokespecial 493, 3) := dk_183 1 237 (dk_at dksX0_made_5 18 rfl rfl)
theorem dX0_made_134 : decode cX0_made 134 = .ok (.areturn, 1) := dk_176 (dk_at dksX0_made_5 21 rfl rfl)
theorem dX0_made_135 : decode cX0_made 135 = .ok (.new 91, 3) := dk_187 0 91 (dk_at dksX0_made_6 0 rfl rfl)
theorem dX0_made_138 : decode cX0_made 138 = .ok (.dup, 1) := dk_89 (dk_at dksX0_made_6 3 rfl rfl)
theorem dX0_made_139 : decode cX0_made 139 = .ok (.aload_n 0, 1) := dk_42 (dk_at dksX0_made_6 4 rfl rfl)
theorem dX0_made_140 : decode cX0_made 140 = .ok (.aload_n 0, 1) := dk_42 (dk_at dksX0_made_6 5 rfl rfl)
theorem dX0_made_141 : decode cX0_made 141 = .ok (.getfield 470, 3) := dk_180 1 214 (dk_at dksX0_made_6 6 rfl rfl)
theorem dX0_made_144 : decode cX0_made 144 = .ok (.invokespecial 494, 3) := dk_183 1 238 (dk_at dksX0_made_6 9 rfl rfl)
theorem dX0_made_147 : decode cX0_made 147 = .ok (.areturn, 1) := dk_176 (dk_at dksX0_made_6 12 rfl rfl)
abbrev cX0_act : ByteArray := prog_1_method_83_code
def yX0_act : MethodName := ⟨RX0, "act", "(III)I"⟩
def dkwX0_act_4 : List UInt8 := [182, 2, 4, 172]
abbrev dktX0_act_4 : List UInt8 := dkwX0_act_4 ++ []
def dkwX0_act_3 : List UInt8 := [25, 4, 29, 182, 1, 251, 172, 25, 4, 29, 182, 1, 254, 172, 25, 4, 29, 182, 2, 1, 172, 25, 4, 29]
abbrev dktX0_act_3 : List UInt8 := dkwX0_act_3 ++ dktX0_act_4
def dkwX0_act_2 : List UInt8 := [170, 0, 0, 0, 0, 0, 0, 49, 0, 0, 0, 0, 0, 0, 0, 2, 0, 0, 0, 28, 0, 0, 0, 35, 0, 0, 0, 42]
abbrev dktX0_act_2 : List UInt8 := dkwX0_act_2 ++ dktX0_act_3
def dkwX0_act_1 : List UInt8 := [154, 0, 5, 3, 172, 42, 180, 0, 93, 27, 50, 58, 4, 28]
abbrev dktX0_act_1 : List UInt8 := dkwX0_act_1 ++ dktX0_act_2
def dkwX0_act_0 : List UInt8 := [42, 3, 181, 1, 245, 42, 27, 182, 1, 248, 153, 0, 15, 28, 133, 9, 20, 0, 185, 184, 0, 108]
abbrev dktX0_act_0 : List UInt8 := dkwX0_act_0 ++ dktX0_act_1
theorem dksX0_act_0 : cX0_act.data.toList.drop 0 = dktX0_act_0 := by decide +kernel
theorem dksX0_act_1 : cX0_act.data.toList.drop 22 = dktX0_act_1 := dk_seg dksX0_act_0 22 rfl rfl
theorem dksX0_act_2 : cX0_act.data.toList.drop 36 = dktX0_act_2 := dk_seg dksX0_act_1 14 rfl rfl
theorem dksX0_act_3 : cX0_act.data.toList.drop 64 = dktX0_act_3 := dk_seg dksX0_act_2 28 rfl rfl
theorem dksX0_act_4 : cX0_act.data.toList.drop 88 = dktX0_act_4 := dk_seg dksX0_act_3 24 rfl rfl
theorem dX0_act_0 : decode cX0_act 0 = .ok (.aload_n 0, 1) := dk_42 (dk_at dksX0_act_0 0 rfl rfl)
theorem dX0_act_1 : decode cX0_act 1 = .ok (.iconst 0, 1) := dk_3 (dk_at dksX0_act_0 1 rfl rfl)
theorem dX0_act_2 : decode cX0_act 2 = .ok (.putfield 501, 3) := dk_181 1 245 (dk_at dksX0_act_0 2 rfl rfl)
theorem dX0_act_5 : decode cX0_act 5 = .ok (.aload_n 0, 1) := dk_42 (dk_at dksX0_act_0 5 rfl rfl)
theorem dX0_act_6 : decode cX0_act 6 = .ok (.iload_n 1, 1) := dk_27 (dk_at dksX0_act_0 6 rfl rfl)
theorem dX0_act_7 : decode cX0_act 7 = .ok (.invokevirtual 504, 3) := dk_182 1 248 (dk_at dksX0_act_0 7 rfl rfl)
theorem dX0_act_10 : decode cX0_act 10 = .ok (.ifCond .eq 15, 3) := dk_153 0 15 (dk_at dksX0_act_0 10 rfl rfl)
theorem dX0_act_13 : decode cX0_act 13 = .ok (.iload_n 2, 1) := dk_28 (dk_at dksX0_act_0 13 rfl rfl)
theorem dX0_act_14 : decode cX0_act 14 = .ok (.i2l, 1) := dk_133 (dk_at dksX0_act_0 14 rfl rfl)
theorem dX0_act_15 : decode cX0_act 15 = .ok (.lconst 0, 1) := dk_9 (dk_at dksX0_act_0 15 rfl rfl)
theorem dX0_act_16 : decode cX0_act 16 = .ok (.ldc2_w 185, 3) := dk_20 0 185 (dk_at dksX0_act_0 16 rfl rfl)
theorem dX0_act_19 : decode cX0_act 19 = .ok (.invokestatic 108, 3) := dk_184 0 108 (dk_at dksX0_act_0 19 rfl rfl)
theorem dX0_act_22 : decode cX0_act 22 = .ok (.ifCond .ne 5, 3) := dk_154 0 5 (dk_at dksX0_act_1 0 rfl rfl)
theorem dX0_act_25 : decode cX0_act 25 = .ok (.iconst 0, 1) := dk_3 (dk_at dksX0_act_1 3 rfl rfl)
theorem dX0_act_26 : decode cX0_act 26 = .ok (.ireturn, 1) := dk_172 (dk_at dksX0_act_1 4 rfl rfl)
theorem dX0_act_27 : decode cX0_act 27 = .ok (.aload_n 0, 1) := dk_42 (dk_at dksX0_act_1 5 rfl rfl)
theorem dX0_act_28 : decode cX0_act 28 = .ok (.getfield 93, 3) := dk_180 0 93 (dk_at dksX0_act_1 6 rfl rfl)
theorem dX0_act_31 : decode cX0_act 31 = .ok (.iload_n 1, 1) := dk_27 (dk_at dksX0_act_1 9 rfl rfl)
theorem dX0_act_32 : decode cX0_act 32 = .ok (.aaload, 1) := dk_50 (dk_at dksX0_act_1 10 rfl rfl)
theorem dX0_act_33 : decode cX0_act 33 = .ok (.astore 4, 2) := dk_58 4 (dk_at dksX0_act_1 11 rfl rfl)
theorem dX0_act_35 : decode cX0_act 35 = .ok (.iload_n 2, 1) := dk_28 (dk_at dksX0_act_1 13 rfl rfl)
theorem dX0_act_36 : decode cX0_act 36 = .ok (.tableswitch 49 0 2 #[28, 35, 42], 28) := by decide +kernel
theorem dX0_act_64 : decode cX0_act 64 = .ok (.aload 4, 2) := dk_25 4 (dk_at dksX0_act_3 0 rfl rfl)
theorem dX0_act_66 : decode cX0_act 66 = .ok (.iload_n 3, 1) := dk_29 (dk_at dksX0_act_3 2 rfl rfl)
theorem dX0_act_67 : decode cX0_act 67 = .ok (.invokevirtual 507, 3) := dk_182 1 251 (dk_at dksX0_act_3 3 rfl rfl)
theorem dX0_act_70 : decode cX0_act 70 = .ok (.ireturn, 1) := dk_172 (dk_at dksX0_act_3 6 rfl rfl)
theorem dX0_act_71 : decode cX0_act 71 = .ok (.aload 4, 2) := dk_25 4 (dk_at dksX0_act_3 7 rfl rfl)
theorem dX0_act_73 : decode cX0_act 73 = .ok (.iload_n 3, 1) := dk_29 (dk_at dksX0_act_3 9 rfl rfl)
theorem dX0_act_74 : decode cX0_act 74 = .ok (.invokevirtual 510, 3) := dk_182 1 254 (dk_at dksX0_act_3 10 rfl rfl)
theorem dX0_act_77 : decode cX0_act 77 = .ok (.ireturn, 1) := dk_172 (dk_at dksX0_act_3 13 rfl rfl)
theorem dX0_act_78 : decode cX0_act 78 = .ok (.aload 4, 2) := dk_25 4 (dk_at dksX0_act_3 14 rfl rfl)
theorem dX0_act_80 : decode cX0_act 80 = .ok (.iload_n 3, 1) := dk_29 (dk_at dksX0_act_3 16 rfl rfl)
theorem dX0_act_81 : decode cX0_act 81 = .ok (.invokevirtual 513, 3) := dk_182 2 1 (dk_at dksX0_act_3 17 rfl rfl)
theorem dX0_act_84 : decode cX0_act 84 = .ok (.ireturn, 1) := dk_172 (dk_at dksX0_act_3 20 rfl rfl)
theorem dX0_act_85 : decode cX0_act 85 = .ok (.aload 4, 2) := dk_25 4 (dk_at dksX0_act_3 21 rfl rfl)
theorem dX0_act_87 : decode cX0_act 87 = .ok (.iload_n 3, 1) := dk_29 (dk_at dksX0_act_3 23 rfl rfl)
theorem dX0_act_88 : decode cX0_act 88 = .ok (.invokevirtual 516, 3) := dk_182 2 4 (dk_at dksX0_act_4 0 rfl rfl)
theorem dX0_act_91 : decode cX0_act 91 = .ok (.ireturn, 1) := dk_172 (dk_at dksX0_act_4 3 rfl rfl)
abbrev cX0_isBody : ByteArray := prog_1_method_80_code
def yX0_isBody : MethodName := ⟨RX0, "isBody", "(I)Z"⟩
def dkwX0_isBody_0 : List UInt8 := [27, 133, 9, 42, 180, 1, 214, 4, 100, 133, 184, 0, 108, 172]
abbrev dktX0_isBody_0 : List UInt8 := dkwX0_isBody_0 ++ []
theorem dksX0_isBody_0 : cX0_isBody.data.toList.drop 0 = dktX0_isBody_0 := by decide +kernel
theorem dX0_isBody_0 : decode cX0_isBody 0 = .ok (.iload_n 1, 1) := dk_27 (dk_at dksX0_isBody_0 0 rfl rfl)
theorem dX0_isBody_1 : decode cX0_isBody 1 = .ok (.i2l, 1) := dk_133 (dk_at dksX0_isBody_0 1 rfl rfl)
theorem dX0_isBody_2 : decode cX0_isBody 2 = .ok (.lconst 0, 1) := dk_9 (dk_at dksX0_isBody_0 2 rfl rfl)
theorem dX0_isBody_3 : decode cX0_isBody 3 = .ok (.aload_n 0, 1) := dk_42 (dk_at dksX0_isBody_0 3 rfl rfl)
theorem dX0_isBody_4 : decode cX0_isBody 4 = .ok (.getfield 470, 3) := dk_180 1 214 (dk_at dksX0_isBody_0 4 rfl rfl)
theorem dX0_isBody_7 : decode cX0_isBody 7 = .ok (.iconst 1, 1) := dk_4 (dk_at dksX0_isBody_0 7 rfl rfl)
theorem dX0_isBody_8 : decode cX0_isBody 8 = .ok (.isub, 1) := dk_100 (dk_at dksX0_isBody_0 8 rfl rfl)
theorem dX0_isBody_9 : decode cX0_isBody 9 = .ok (.i2l, 1) := dk_133 (dk_at dksX0_isBody_0 9 rfl rfl)
theorem dX0_isBody_10 : decode cX0_isBody 10 = .ok (.invokestatic 108, 3) := dk_184 0 108 (dk_at dksX0_isBody_0 10 rfl rfl)
theorem dX0_isBody_13 : decode cX0_isBody 13 = .ok (.ireturn, 1) := dk_172 (dk_at dksX0_isBody_0 13 rfl rfl)
abbrev cX0_trace : ByteArray := prog_1_method_84_code
def yX0_trace : MethodName := ⟨RX0, "trace", "(I)I"⟩
def dkwX0_trace_1 : List UInt8 := [180, 0, 97, 27, 46, 167, 0, 4, 2, 172]
abbrev dktX0_trace_1 : List UInt8 := dkwX0_trace_1 ++ []
def dkwX0_trace_0 : List UInt8 := [27, 133, 9, 42, 180, 1, 245, 16, 24, 184, 1, 86, 4, 100, 133, 184, 0, 108, 153, 0, 12, 42]
abbrev dktX0_trace_0 : List UInt8 := dkwX0_trace_0 ++ dktX0_trace_1
theorem dksX0_trace_0 : cX0_trace.data.toList.drop 0 = dktX0_trace_0 := by decide +kernel
theorem dksX0_trace_1 : cX0_trace.data.toList.drop 22 = dktX0_trace_1 := dk_seg dksX0_trace_0 22 rfl rfl
theorem dX0_trace_0 : decode cX0_trace 0 = .ok (.iload_n 1, 1) := dk_27 (dk_at dksX0_trace_0 0 rfl rfl)
theorem dX0_trace_1 : decode cX0_trace 1 = .ok (.i2l, 1) := dk_133 (dk_at dksX0_trace_0 1 rfl rfl)
theorem dX0_trace_2 : decode cX0_trace 2 = .ok (.lconst 0, 1) := dk_9 (dk_at dksX0_trace_0 2 rfl rfl)
theorem dX0_trace_3 : decode cX0_trace 3 = .ok (.aload_n 0, 1) := dk_42 (dk_at dksX0_trace_0 3 rfl rfl)
theorem dX0_trace_4 : decode cX0_trace 4 = .ok (.getfield 501, 3) := dk_180 1 245 (dk_at dksX0_trace_0 4 rfl rfl)
theorem dX0_trace_7 : decode cX0_trace 7 = .ok (.bipush 24, 2) := dk_16 24 (dk_at dksX0_trace_0 7 rfl rfl)
theorem dX0_trace_9 : decode cX0_trace 9 = .ok (.invokestatic 342, 3) := dk_184 1 86 (dk_at dksX0_trace_0 9 rfl rfl)
theorem dX0_trace_12 : decode cX0_trace 12 = .ok (.iconst 1, 1) := dk_4 (dk_at dksX0_trace_0 12 rfl rfl)
theorem dX0_trace_13 : decode cX0_trace 13 = .ok (.isub, 1) := dk_100 (dk_at dksX0_trace_0 13 rfl rfl)
theorem dX0_trace_14 : decode cX0_trace 14 = .ok (.i2l, 1) := dk_133 (dk_at dksX0_trace_0 14 rfl rfl)
theorem dX0_trace_15 : decode cX0_trace 15 = .ok (.invokestatic 108, 3) := dk_184 0 108 (dk_at dksX0_trace_0 15 rfl rfl)
theorem dX0_trace_18 : decode cX0_trace 18 = .ok (.ifCond .eq 12, 3) := dk_153 0 12 (dk_at dksX0_trace_0 18 rfl rfl)
theorem dX0_trace_21 : decode cX0_trace 21 = .ok (.aload_n 0, 1) := dk_42 (dk_at dksX0_trace_0 21 rfl rfl)
theorem dX0_trace_22 : decode cX0_trace 22 = .ok (.getfield 97, 3) := dk_180 0 97 (dk_at dksX0_trace_1 0 rfl rfl)
theorem dX0_trace_25 : decode cX0_trace 25 = .ok (.iload_n 1, 1) := dk_27 (dk_at dksX0_trace_1 3 rfl rfl)
theorem dX0_trace_26 : decode cX0_trace 26 = .ok (.iaload, 1) := dk_46 (dk_at dksX0_trace_1 4 rfl rfl)
theorem dX0_trace_27 : decode cX0_trace 27 = .ok (.goto 4, 3) := dk_167 0 4 (dk_at dksX0_trace_1 5 rfl rfl)
theorem dX0_trace_30 : decode cX0_trace 30 = .ok (.iconst (-1), 1) := dk_2 (dk_at dksX0_trace_1 8 rfl rfl)
theorem dX0_trace_31 : decode cX0_trace 31 = .ok (.ireturn, 1) := dk_172 (dk_at dksX0_trace_1 9 rfl rfl)
abbrev cX0_keep : ByteArray := prog_1_method_86_code
def yX0_keep : MethodName := ⟨RX0, "keep", "(II)I"⟩
def dkwX0_keep_1 : List UInt8 := [180, 0, 100, 27, 28, 2, 160, 0, 7, 1, 167, 0, 9, 42, 180, 0, 93, 28, 50, 83, 4, 172]
abbrev dktX0_keep_1 : List UInt8 := dkwX0_keep_1 ++ []
def dkwX0_keep_0 : List UInt8 := [27, 184, 0, 176, 153, 0, 16, 28, 2, 159, 0, 13, 42, 28, 182, 1, 248, 154, 0, 5, 2, 172, 42]
abbrev dktX0_keep_0 : List UInt8 := dkwX0_keep_0 ++ dktX0_keep_1
theorem dksX0_keep_0 : cX0_keep.data.toList.drop 0 = dktX0_keep_0 := by decide +kernel
theorem dksX0_keep_1 : cX0_keep.data.toList.drop 23 = dktX0_keep_1 := dk_seg dksX0_keep_0 23 rfl rfl
theorem dX0_keep_0 : decode cX0_keep 0 = .ok (.iload_n 1, 1) := dk_27 (dk_at dksX0_keep_0 0 rfl rfl)
theorem dX0_keep_1 : decode cX0_keep 1 = .ok (.invokestatic 176, 3) := dk_184 0 176 (dk_at dksX0_keep_0 1 rfl rfl)
theorem dX0_keep_4 : decode cX0_keep 4 = .ok (.ifCond .eq 16, 3) := dk_153 0 16 (dk_at dksX0_keep_0 4 rfl rfl)
theorem dX0_keep_7 : decode cX0_keep 7 = .ok (.iload_n 2, 1) := dk_28 (dk_at dksX0_keep_0 7 rfl rfl)
theorem dX0_keep_8 : decode cX0_keep 8 = .ok (.iconst (-1), 1) := dk_2 (dk_at dksX0_keep_0 8 rfl rfl)
theorem dX0_keep_9 : decode cX0_keep 9 = .ok (.if_icmp .eq 13, 3) := dk_159 0 13 (dk_at dksX0_keep_0 9 rfl rfl)
theorem dX0_keep_12 : decode cX0_keep 12 = .ok (.aload_n 0, 1) := dk_42 (dk_at dksX0_keep_0 12 rfl rfl)
theorem dX0_keep_13 : decode cX0_keep 13 = .ok (.iload_n 2, 1) := dk_28 (dk_at dksX0_keep_0 13 rfl rfl)
theorem dX0_keep_14 : decode cX0_keep 14 = .ok (.invokevirtual 504, 3) := dk_182 1 248 (dk_at dksX0_keep_0 14 rfl rfl)
theorem dX0_keep_17 : decode cX0_keep 17 = .ok (.ifCond .ne 5, 3) := dk_154 0 5 (dk_at dksX0_keep_0 17 rfl rfl)
theorem dX0_keep_20 : decode cX0_keep 20 = .ok (.iconst (-1), 1) := dk_2 (dk_at dksX0_keep_0 20 rfl rfl)
theorem dX0_keep_21 : decode cX0_keep 21 = .ok (.ireturn, 1) := dk_172 (dk_at dksX0_keep_0 21 rfl rfl)
theorem dX0_keep_22 : decode cX0_keep 22 = .ok (.aload_n 0, 1) := dk_42 (dk_at dksX0_keep_0 22 rfl rfl)
theorem dX0_keep_23 : decode cX0_keep 23 = .ok (.getfield 100, 3) := dk_180 0 100 (dk_at dksX0_keep_1 0 rfl rfl)
theorem dX0_keep_26 : decode cX0_keep 26 = .ok (.iload_n 1, 1) := dk_27 (dk_at dksX0_keep_1 3 rfl rfl)
theorem dX0_keep_27 : decode cX0_keep 27 = .ok (.iload_n 2, 1) := dk_28 (dk_at dksX0_keep_1 4 rfl rfl)
theorem dX0_keep_28 : decode cX0_keep 28 = .ok (.iconst (-1), 1) := dk_2 (dk_at dksX0_keep_1 5 rfl rfl)
theorem dX0_keep_29 : decode cX0_keep 29 = .ok (.if_icmp .ne 7, 3) := dk_160 0 7 (dk_at dksX0_keep_1 6 rfl rfl)
theorem dX0_keep_32 : decode cX0_keep 32 = .ok (.aconst_null, 1) := dk_1 (dk_at dksX0_keep_1 9 rfl rfl)
theorem dX0_keep_33 : decode cX0_keep 33 = .ok (.goto 9, 3) := dk_167 0 9 (dk_at dksX0_keep_1 10 rfl rfl)
theorem dX0_keep_36 : decode cX0_keep 36 = .ok (.aload_n 0, 1) := dk_42 (dk_at dksX0_keep_1 13 rfl rfl)
theorem dX0_keep_37 : decode cX0_keep 37 = .ok (.getfield 93, 3) := dk_180 0 93 (dk_at dksX0_keep_1 14 rfl rfl)
theorem dX0_keep_40 : decode cX0_keep 40 = .ok (.iload_n 2, 1) := dk_28 (dk_at dksX0_keep_1 17 rfl rfl)
theorem dX0_keep_41 : decode cX0_keep 41 = .ok (.aaload, 1) := dk_50 (dk_at dksX0_keep_1 18 rfl rfl)
theorem dX0_keep_42 : decode cX0_keep 42 = .ok (.aastore, 1) := dk_83 (dk_at dksX0_keep_1 19 rfl rfl)
theorem dX0_keep_43 : decode cX0_keep 43 = .ok (.iconst 1, 1) := dk_4 (dk_at dksX0_keep_1 20 rfl rfl)
theorem dX0_keep_44 : decode cX0_keep 44 = .ok (.ireturn, 1) := dk_172 (dk_at dksX0_keep_1 21 rfl rfl)
abbrev cX0_row : ByteArray := prog_1_method_87_code
def yX0_row : MethodName := ⟨RX0, "row", "(III)I"⟩
def dkwX0_row_5 : List UInt8 := [42, 180, 0, 100, 27, 29, 188, 4, 83, 4, 172]
abbrev dktX0_row_5 : List UInt8 := dkwX0_row_5 ++ []
def dkwX0_row_4 : List UInt8 := [42, 180, 0, 100, 27, 29, 188, 10, 83, 167, 0, 24, 42, 180, 0, 100, 27, 29, 188, 11, 83, 167, 0, 12]
abbrev dktX0_row_4 : List UInt8 := dkwX0_row_4 ++ dktX0_row_5
def dkwX0_row_3 : List UInt8 := [42, 180, 0, 100, 27, 29, 188, 8, 83, 167, 0, 48, 42, 180, 0, 100, 27, 29, 188, 9, 83, 167, 0, 36]
abbrev dktX0_row_3 : List UInt8 := dkwX0_row_3 ++ dktX0_row_4
def dkwX0_row_2 : List UInt8 := [170, 0, 0, 0, 77, 0, 0, 0, 0, 0, 0, 0, 3, 0, 0, 0, 29, 0, 0, 0, 41, 0, 0, 0, 53, 0, 0, 0, 65]
abbrev dktX0_row_2 : List UInt8 := dkwX0_row_2 ++ dktX0_row_3
def dkwX0_row_1 : List UInt8 := [164, 0, 5, 2, 172, 29, 156, 0, 6, 16, 242, 172, 28]
abbrev dktX0_row_1 : List UInt8 := dkwX0_row_1 ++ dktX0_row_2
def dkwX0_row_0 : List UInt8 := [27, 184, 0, 176, 153, 0, 21, 28, 133, 9, 20, 0, 235, 184, 0, 108, 153, 0, 9, 29, 16, 60]
abbrev dktX0_row_0 : List UInt8 := dkwX0_row_0 ++ dktX0_row_1
theorem dksX0_row_0 : cX0_row.data.toList.drop 0 = dktX0_row_0 := by decide +kernel
theorem dksX0_row_1 : cX0_row.data.toList.drop 22 = dktX0_row_1 := dk_seg dksX0_row_0 22 rfl rfl
theorem dksX0_row_2 : cX0_row.data.toList.drop 35 = dktX0_row_2 := dk_seg dksX0_row_1 13 rfl rfl
theorem dksX0_row_3 : cX0_row.data.toList.drop 64 = dktX0_row_3 := dk_seg dksX0_row_2 29 rfl rfl
theorem dksX0_row_4 : cX0_row.data.toList.drop 88 = dktX0_row_4 := dk_seg dksX0_row_3 24 rfl rfl
theorem dksX0_row_5 : cX0_row.data.toList.drop 112 = dktX0_row_5 := dk_seg dksX0_row_4 24 rfl rfl
theorem dX0_row_0 : decode cX0_row 0 = .ok (.iload_n 1, 1) := dk_27 (dk_at dksX0_row_0 0 rfl rfl)
theorem dX0_row_1 : decode cX0_row 1 = .ok (.invokestatic 176, 3) := dk_184 0 176 (dk_at dksX0_row_0 1 rfl rfl)
theorem dX0_row_4 : decode cX0_row 4 = .ok (.ifCond .eq 21, 3) := dk_153 0 21 (dk_at dksX0_row_0 4 rfl rfl)
theorem dX0_row_7 : decode cX0_row 7 = .ok (.iload_n 2, 1) := dk_28 (dk_at dksX0_row_0 7 rfl rfl)
theorem dX0_row_8 : decode cX0_row 8 = .ok (.i2l, 1) := dk_133 (dk_at dksX0_row_0 8 rfl rfl)
theorem dX0_row_9 : decode cX0_row 9 = .ok (.lconst 0, 1) := dk_9 (dk_at dksX0_row_0 9 rfl rfl)
theorem dX0_row_10 : decode cX0_row 10 = .ok (.ldc2_w 235, 3) := dk_20 0 235 (dk_at dksX0_row_0 10 rfl rfl)
theorem dX0_row_13 : decode cX0_row 13 = .ok (.invokestatic 108, 3) := dk_184 0 108 (dk_at dksX0_row_0 13 rfl rfl)
theorem dX0_row_16 : decode cX0_row 16 = .ok (.ifCond .eq 9, 3) := dk_153 0 9 (dk_at dksX0_row_0 16 rfl rfl)
theorem dX0_row_19 : decode cX0_row 19 = .ok (.iload_n 3, 1) := dk_29 (dk_at dksX0_row_0 19 rfl rfl)
theorem dX0_row_20 : decode cX0_row 20 = .ok (.bipush 60, 2) := dk_16 60 (dk_at dksX0_row_0 20 rfl rfl)
theorem dX0_row_22 : decode cX0_row 22 = .ok (.if_icmp .le 5, 3) := dk_164 0 5 (dk_at dksX0_row_1 0 rfl rfl)
theorem dX0_row_25 : decode cX0_row 25 = .ok (.iconst (-1), 1) := dk_2 (dk_at dksX0_row_1 3 rfl rfl)
theorem dX0_row_26 : decode cX0_row 26 = .ok (.ireturn, 1) := dk_172 (dk_at dksX0_row_1 4 rfl rfl)
theorem dX0_row_27 : decode cX0_row 27 = .ok (.iload_n 3, 1) := dk_29 (dk_at dksX0_row_1 5 rfl rfl)
theorem dX0_row_28 : decode cX0_row 28 = .ok (.ifCond .ge 6, 3) := dk_156 0 6 (dk_at dksX0_row_1 6 rfl rfl)
theorem dX0_row_31 : decode cX0_row 31 = .ok (.bipush (-14), 2) := dk_16 242 (dk_at dksX0_row_1 9 rfl rfl)
theorem dX0_row_33 : decode cX0_row 33 = .ok (.ireturn, 1) := dk_172 (dk_at dksX0_row_1 11 rfl rfl)
theorem dX0_row_34 : decode cX0_row 34 = .ok (.iload_n 2, 1) := dk_28 (dk_at dksX0_row_1 12 rfl rfl)
theorem dX0_row_35 : decode cX0_row 35 = .ok (.tableswitch 77 0 3 #[29, 41, 53, 65], 29) := by decide +kernel
theorem dX0_row_64 : decode cX0_row 64 = .ok (.aload_n 0, 1) := dk_42 (dk_at dksX0_row_3 0 rfl rfl)
theorem dX0_row_65 : decode cX0_row 65 = .ok (.getfield 100, 3) := dk_180 0 100 (dk_at dksX0_row_3 1 rfl rfl)
theorem dX0_row_68 : decode cX0_row 68 = .ok (.iload_n 1, 1) := dk_27 (dk_at dksX0_row_3 4 rfl rfl)
theorem dX0_row_69 : decode cX0_row 69 = .ok (.iload_n 3, 1) := dk_29 (dk_at dksX0_row_3 5 rfl rfl)
theorem dX0_row_70 : decode cX0_row 70 = .ok (.newarray .byte, 2) := dk_188_8 (dk_at dksX0_row_3 6 rfl rfl)
theorem dX0_row_72 : decode cX0_row 72 = .ok (.aastore, 1) := dk_83 (dk_at dksX0_row_3 8 rfl rfl)
theorem dX0_row_73 : decode cX0_row 73 = .ok (.goto 48, 3) := dk_167 0 48 (dk_at dksX0_row_3 9 rfl rfl)
theorem dX0_row_76 : decode cX0_row 76 = .ok (.aload_n 0, 1) := dk_42 (dk_at dksX0_row_3 12 rfl rfl)
theorem dX0_row_77 : decode cX0_row 77 = .ok (.getfield 100, 3) := dk_180 0 100 (dk_at dksX0_row_3 13 rfl rfl)
theorem dX0_row_80 : decode cX0_row 80 = .ok (.iload_n 1, 1) := dk_27 (dk_at dksX0_row_3 16 rfl rfl)
theorem dX0_row_81 : decode cX0_row 81 = .ok (.iload_n 3, 1) := dk_29 (dk_at dksX0_row_3 17 rfl rfl)
theorem dX0_row_82 : decode cX0_row 82 = .ok (.newarray .short, 2) := dk_188_9 (dk_at dksX0_row_3 18 rfl rfl)
theorem dX0_row_84 : decode cX0_row 84 = .ok (.aastore, 1) := dk_83 (dk_at dksX0_row_3 20 rfl rfl)
theorem dX0_row_85 : decode cX0_row 85 = .ok (.goto 36, 3) := dk_167 0 36 (dk_at dksX0_row_3 21 rfl rfl)
theorem dX0_row_88 : decode cX0_row 88 = .ok (.aload_n 0, 1) := dk_42 (dk_at dksX0_row_4 0 rfl rfl)
theorem dX0_row_89 : decode cX0_row 89 = .ok (.getfield 100, 3) := dk_180 0 100 (dk_at dksX0_row_4 1 rfl rfl)
theorem dX0_row_92 : decode cX0_row 92 = .ok (.iload_n 1, 1) := dk_27 (dk_at dksX0_row_4 4 rfl rfl)
theorem dX0_row_93 : decode cX0_row 93 = .ok (.iload_n 3, 1) := dk_29 (dk_at dksX0_row_4 5 rfl rfl)
theorem dX0_row_94 : decode cX0_row 94 = .ok (.newarray .int, 2) := dk_188_10 (dk_at dksX0_row_4 6 rfl rfl)
theorem dX0_row_96 : decode cX0_row 96 = .ok (.aastore, 1) := dk_83 (dk_at dksX0_row_4 8 rfl rfl)
theorem dX0_row_97 : decode cX0_row 97 = .ok (.goto 24, 3) := dk_167 0 24 (dk_at dksX0_row_4 9 rfl rfl)
theorem dX0_row_100 : decode cX0_row 100 = .ok (.aload_n 0, 1) := dk_42 (dk_at dksX0_row_4 12 rfl rfl)
theorem dX0_row_101 : decode cX0_row 101 = .ok (.getfield 100, 3) := dk_180 0 100 (dk_at dksX0_row_4 13 rfl rfl)
theorem dX0_row_104 : decode cX0_row 104 = .ok (.iload_n 1, 1) := dk_27 (dk_at dksX0_row_4 16 rfl rfl)
theorem dX0_row_105 : decode cX0_row 105 = .ok (.iload_n 3, 1) := dk_29 (dk_at dksX0_row_4 17 rfl rfl)
theorem dX0_row_106 : decode cX0_row 106 = .ok (.newarray .long, 2) := dk_188_11 (dk_at dksX0_row_4 18 rfl rfl)
theorem dX0_row_108 : decode cX0_row 108 = .ok (.aastore, 1) := dk_83 (dk_at dksX0_row_4 20 rfl rfl)
theorem dX0_row_109 : decode cX0_row 109 = .ok (.goto 12, 3) := dk_167 0 12 (dk_at dksX0_row_4 21 rfl rfl)
theorem dX0_row_112 : decode cX0_row 112 = .ok (.aload_n 0, 1) := dk_42 (dk_at dksX0_row_5 0 rfl rfl)
theorem dX0_row_113 : decode cX0_row 113 = .ok (.getfield 100, 3) := dk_180 0 100 (dk_at dksX0_row_5 1 rfl rfl)
theorem dX0_row_116 : decode cX0_row 116 = .ok (.iload_n 1, 1) := dk_27 (dk_at dksX0_row_5 4 rfl rfl)
theorem dX0_row_117 : decode cX0_row 117 = .ok (.iload_n 3, 1) := dk_29 (dk_at dksX0_row_5 5 rfl rfl)
theorem dX0_row_118 : decode cX0_row 118 = .ok (.newarray .boolean, 2) := dk_188_4 (dk_at dksX0_row_5 6 rfl rfl)
theorem dX0_row_120 : decode cX0_row 120 = .ok (.aastore, 1) := dk_83 (dk_at dksX0_row_5 8 rfl rfl)
theorem dX0_row_121 : decode cX0_row 121 = .ok (.iconst 1, 1) := dk_4 (dk_at dksX0_row_5 9 rfl rfl)
theorem dX0_row_122 : decode cX0_row 122 = .ok (.ireturn, 1) := dk_172 (dk_at dksX0_row_5 10 rfl rfl)
abbrev cX0_put : ByteArray := prog_1_method_91_code
def yX0_put : MethodName := ⟨RX0, "put", "(IIJ)I"⟩
def dkwX0_put_5 : List UInt8 := [167, 0, 21, 25, 6, 192, 2, 14, 28, 33, 9, 148, 153, 0, 7, 4, 167, 0, 4, 3, 84, 4, 172]
abbrev dktX0_put_5 : List UInt8 := dkwX0_put_5 ++ []
def dkwX0_put_4 : List UInt8 := [167, 0, 44, 25, 6, 192, 2, 11, 28, 33, 136, 79, 167, 0, 32, 25, 6, 192, 2, 12, 28, 33, 80]
abbrev dktX0_put_4 : List UInt8 := dkwX0_put_4 ++ dktX0_put_5
def dkwX0_put_3 : List UInt8 := [25, 6, 192, 0, 174, 28, 33, 136, 145, 84, 167, 0, 57, 25, 6, 192, 2, 9, 28, 33, 136, 147, 86]
abbrev dktX0_put_3 : List UInt8 := dkwX0_put_3 ++ dktX0_put_4
def dkwX0_put_2 : List UInt8 := [170, 0, 0, 0, 0, 0, 80, 0, 0, 0, 0, 0, 0, 0, 3, 0, 0, 0, 31, 0, 0, 0, 44, 0, 0, 0, 57, 0, 0, 0, 69]
abbrev dktX0_put_2 : List UInt8 := dkwX0_put_2 ++ dktX0_put_3
def dkwX0_put_1 : List UInt8 := [25, 6, 184, 0, 181]
abbrev dktX0_put_1 : List UInt8 := dkwX0_put_1 ++ dktX0_put_2
def dkwX0_put_0 : List UInt8 := [42, 27, 28, 182, 2, 19, 54, 5, 21, 5, 153, 0, 6, 21, 5, 172, 42, 180, 0, 100, 27, 50, 58, 6]
abbrev dktX0_put_0 : List UInt8 := dkwX0_put_0 ++ dktX0_put_1
theorem dksX0_put_0 : cX0_put.data.toList.drop 0 = dktX0_put_0 := by decide +kernel
theorem dksX0_put_1 : cX0_put.data.toList.drop 24 = dktX0_put_1 := dk_seg dksX0_put_0 24 rfl rfl
theorem dksX0_put_2 : cX0_put.data.toList.drop 29 = dktX0_put_2 := dk_seg dksX0_put_1 5 rfl rfl
theorem dksX0_put_3 : cX0_put.data.toList.drop 60 = dktX0_put_3 := dk_seg dksX0_put_2 31 rfl rfl
theorem dksX0_put_4 : cX0_put.data.toList.drop 83 = dktX0_put_4 := dk_seg dksX0_put_3 23 rfl rfl
theorem dksX0_put_5 : cX0_put.data.toList.drop 106 = dktX0_put_5 := dk_seg dksX0_put_4 23 rfl rfl
theorem dX0_put_0 : decode cX0_put 0 = .ok (.aload_n 0, 1) := dk_42 (dk_at dksX0_put_0 0 rfl rfl)
theorem dX0_put_1 : decode cX0_put 1 = .ok (.iload_n 1, 1) := dk_27 (dk_at dksX0_put_0 1 rfl rfl)
theorem dX0_put_2 : decode cX0_put 2 = .ok (.iload_n 2, 1) := dk_28 (dk_at dksX0_put_0 2 rfl rfl)
theorem dX0_put_3 : decode cX0_put 3 = .ok (.invokevirtual 531, 3) := dk_182 2 19 (dk_at dksX0_put_0 3 rfl rfl)
theorem dX0_put_6 : decode cX0_put 6 = .ok (.istore 5, 2) := dk_54 5 (dk_at dksX0_put_0 6 rfl rfl)
theorem dX0_put_8 : decode cX0_put 8 = .ok (.iload 5, 2) := dk_21 5 (dk_at dksX0_put_0 8 rfl rfl)
theorem dX0_put_10 : decode cX0_put 10 = .ok (.ifCond .eq 6, 3) := dk_153 0 6 (dk_at dksX0_put_0 10 rfl rfl)
theorem dX0_put_13 : decode cX0_put 13 = .ok (.iload 5, 2) := dk_21 5 (dk_at dksX0_put_0 13 rfl rfl)
theorem dX0_put_15 : decode cX0_put 15 = .ok (.ireturn, 1) := dk_172 (dk_at dksX0_put_0 15 rfl rfl)
theorem dX0_put_16 : decode cX0_put 16 = .ok (.aload_n 0, 1) := dk_42 (dk_at dksX0_put_0 16 rfl rfl)
theorem dX0_put_17 : decode cX0_put 17 = .ok (.getfield 100, 3) := dk_180 0 100 (dk_at dksX0_put_0 17 rfl rfl)
theorem dX0_put_20 : decode cX0_put 20 = .ok (.iload_n 1, 1) := dk_27 (dk_at dksX0_put_0 20 rfl rfl)
theorem dX0_put_21 : decode cX0_put 21 = .ok (.aaload, 1) := dk_50 (dk_at dksX0_put_0 21 rfl rfl)
theorem dX0_put_22 : decode cX0_put 22 = .ok (.astore 6, 2) := dk_58 6 (dk_at dksX0_put_0 22 rfl rfl)
theorem dX0_put_24 : decode cX0_put 24 = .ok (.aload 6, 2) := dk_25 6 (dk_at dksX0_put_1 0 rfl rfl)
theorem dX0_put_26 : decode cX0_put 26 = .ok (.invokestatic 181, 3) := dk_184 0 181 (dk_at dksX0_put_1 2 rfl rfl)
theorem dX0_put_29 : decode cX0_put 29 = .ok (.tableswitch 80 0 3 #[31, 44, 57, 69], 31) := by decide +kernel
theorem dX0_put_60 : decode cX0_put 60 = .ok (.aload 6, 2) := dk_25 6 (dk_at dksX0_put_3 0 rfl rfl)
theorem dX0_put_62 : decode cX0_put 62 = .ok (.checkcast 174, 3) := dk_192 0 174 (dk_at dksX0_put_3 2 rfl rfl)
theorem dX0_put_65 : decode cX0_put 65 = .ok (.iload_n 2, 1) := dk_28 (dk_at dksX0_put_3 5 rfl rfl)
theorem dX0_put_66 : decode cX0_put 66 = .ok (.lload_n 3, 1) := dk_33 (dk_at dksX0_put_3 6 rfl rfl)
theorem dX0_put_67 : decode cX0_put 67 = .ok (.l2i, 1) := dk_136 (dk_at dksX0_put_3 7 rfl rfl)
theorem dX0_put_68 : decode cX0_put 68 = .ok (.i2b, 1) := dk_145 (dk_at dksX0_put_3 8 rfl rfl)
theorem dX0_put_69 : decode cX0_put 69 = .ok (.bastore, 1) := dk_84 (dk_at dksX0_put_3 9 rfl rfl)
theorem dX0_put_70 : decode cX0_put 70 = .ok (.goto 57, 3) := dk_167 0 57 (dk_at dksX0_put_3 10 rfl rfl)
theorem dX0_put_73 : decode cX0_put 73 = .ok (.aload 6, 2) := dk_25 6 (dk_at dksX0_put_3 13 rfl rfl)
theorem dX0_put_75 : decode cX0_put 75 = .ok (.checkcast 521, 3) := dk_192 2 9 (dk_at dksX0_put_3 15 rfl rfl)
theorem dX0_put_78 : decode cX0_put 78 = .ok (.iload_n 2, 1) := dk_28 (dk_at dksX0_put_3 18 rfl rfl)
theorem dX0_put_79 : decode cX0_put 79 = .ok (.lload_n 3, 1) := dk_33 (dk_at dksX0_put_3 19 rfl rfl)
theorem dX0_put_80 : decode cX0_put 80 = .ok (.l2i, 1) := dk_136 (dk_at dksX0_put_3 20 rfl rfl)
theorem dX0_put_81 : decode cX0_put 81 = .ok (.i2s, 1) := dk_147 (dk_at dksX0_put_3 21 rfl rfl)
theorem dX0_put_82 : decode cX0_put 82 = .ok (.sastore, 1) := dk_86 (dk_at dksX0_put_3 22 rfl rfl)
theorem dX0_put_83 : decode cX0_put 83 = .ok (.goto 44, 3) := dk_167 0 44 (dk_at dksX0_put_4 0 rfl rfl)
theorem dX0_put_86 : decode cX0_put 86 = .ok (.aload 6, 2) := dk_25 6 (dk_at dksX0_put_4 3 rfl rfl)
theorem dX0_put_88 : decode cX0_put 88 = .ok (.checkcast 523, 3) := dk_192 2 11 (dk_at dksX0_put_4 5 rfl rfl)
theorem dX0_put_91 : decode cX0_put 91 = .ok (.iload_n 2, 1) := dk_28 (dk_at dksX0_put_4 8 rfl rfl)
theorem dX0_put_92 : decode cX0_put 92 = .ok (.lload_n 3, 1) := dk_33 (dk_at dksX0_put_4 9 rfl rfl)
theorem dX0_put_93 : decode cX0_put 93 = .ok (.l2i, 1) := dk_136 (dk_at dksX0_put_4 10 rfl rfl)
theorem dX0_put_94 : decode cX0_put 94 = .ok (.iastore, 1) := dk_79 (dk_at dksX0_put_4 11 rfl rfl)
theorem dX0_put_95 : decode cX0_put 95 = .ok (.goto 32, 3) := dk_167 0 32 (dk_at dksX0_put_4 12 rfl rfl)
theorem dX0_put_98 : decode cX0_put 98 = .ok (.aload 6, 2) := dk_25 6 (dk_at dksX0_put_4 15 rfl rfl)
theorem dX0_put_100 : decode cX0_put 100 = .ok (.checkcast 524, 3) := dk_192 2 12 (dk_at dksX0_put_4 17 rfl rfl)
theorem dX0_put_103 : decode cX0_put 103 = .ok (.iload_n 2, 1) := dk_28 (dk_at dksX0_put_4 20 rfl rfl)
theorem dX0_put_104 : decode cX0_put 104 = .ok (.lload_n 3, 1) := dk_33 (dk_at dksX0_put_4 21 rfl rfl)
theorem dX0_put_105 : decode cX0_put 105 = .ok (.lastore, 1) := dk_80 (dk_at dksX0_put_4 22 rfl rfl)
theorem dX0_put_106 : decode cX0_put 106 = .ok (.goto 21, 3) := dk_167 0 21 (dk_at dksX0_put_5 0 rfl rfl)
theorem dX0_put_109 : decode cX0_put 109 = .ok (.aload 6, 2) := dk_25 6 (dk_at dksX0_put_5 3 rfl rfl)
theorem dX0_put_111 : decode cX0_put 111 = .ok (.checkcast 526, 3) := dk_192 2 14 (dk_at dksX0_put_5 5 rfl rfl)
theorem dX0_put_114 : decode cX0_put 114 = .ok (.iload_n 2, 1) := dk_28 (dk_at dksX0_put_5 8 rfl rfl)
theorem dX0_put_115 : decode cX0_put 115 = .ok (.lload_n 3, 1) := dk_33 (dk_at dksX0_put_5 9 rfl rfl)
theorem dX0_put_116 : decode cX0_put 116 = .ok (.lconst 0, 1) := dk_9 (dk_at dksX0_put_5 10 rfl rfl)
theorem dX0_put_117 : decode cX0_put 117 = .ok (.lcmp, 1) := dk_148 (dk_at dksX0_put_5 11 rfl rfl)
theorem dX0_put_118 : decode cX0_put 118 = .ok (.ifCond .eq 7, 3) := dk_153 0 7 (dk_at dksX0_put_5 12 rfl rfl)
theorem dX0_put_121 : decode cX0_put 121 = .ok (.iconst 1, 1) := dk_4 (dk_at dksX0_put_5 15 rfl rfl)
theorem dX0_put_122 : decode cX0_put 122 = .ok (.goto 4, 3) := dk_167 0 4 (dk_at dksX0_put_5 16 rfl rfl)
theorem dX0_put_125 : decode cX0_put 125 = .ok (.iconst 0, 1) := dk_3 (dk_at dksX0_put_5 19 rfl rfl)
theorem dX0_put_126 : decode cX0_put 126 = .ok (.bastore, 1) := dk_84 (dk_at dksX0_put_5 20 rfl rfl)
theorem dX0_put_127 : decode cX0_put 127 = .ok (.iconst 1, 1) := dk_4 (dk_at dksX0_put_5 21 rfl rfl)
theorem dX0_put_128 : decode cX0_put 128 = .ok (.ireturn, 1) := dk_172 (dk_at dksX0_put_5 22 rfl rfl)
abbrev cX0_refusal : ByteArray := prog_1_method_90_code
def yX0_refusal : MethodName := ⟨RX0, "refusal", "(II)I"⟩
def dkwX0_refusal_2 : List UInt8 := [153, 0, 7, 3, 167, 0, 5, 16, 243, 172]
abbrev dktX0_refusal_2 : List UInt8 := dkwX0_refusal_2 ++ []
def dkwX0_refusal_1 : List UInt8 := [184, 0, 181, 2, 160, 0, 6, 16, 244, 172, 28, 133, 9, 45, 184, 2, 16, 4, 100, 133, 184, 0, 108]
abbrev dktX0_refusal_1 : List UInt8 := dkwX0_refusal_1 ++ dktX0_refusal_2
def dkwX0_refusal_0 : List UInt8 := [27, 184, 0, 176, 154, 0, 5, 2, 172, 42, 180, 0, 100, 27, 50, 78, 45, 199, 0, 6, 16, 245, 172, 45]
abbrev dktX0_refusal_0 : List UInt8 := dkwX0_refusal_0 ++ dktX0_refusal_1
theorem dksX0_refusal_0 : cX0_refusal.data.toList.drop 0 = dktX0_refusal_0 := by decide +kernel
theorem dksX0_refusal_1 : cX0_refusal.data.toList.drop 24 = dktX0_refusal_1 := dk_seg dksX0_refusal_0 24 rfl rfl
theorem dksX0_refusal_2 : cX0_refusal.data.toList.drop 47 = dktX0_refusal_2 := dk_seg dksX0_refusal_1 23 rfl rfl
theorem dX0_refusal_0 : decode cX0_refusal 0 = .ok (.iload_n 1, 1) := dk_27 (dk_at dksX0_refusal_0 0 rfl rfl)
theorem dX0_refusal_1 : decode cX0_refusal 1 = .ok (.invokestatic 176, 3) := dk_184 0 176 (dk_at dksX0_refusal_0 1 rfl rfl)
theorem dX0_refusal_4 : decode cX0_refusal 4 = .ok (.ifCond .ne 5, 3) := dk_154 0 5 (dk_at dksX0_refusal_0 4 rfl rfl)
theorem dX0_refusal_7 : decode cX0_refusal 7 = .ok (.iconst (-1), 1) := dk_2 (dk_at dksX0_refusal_0 7 rfl rfl)
theorem dX0_refusal_8 : decode cX0_refusal 8 = .ok (.ireturn, 1) := dk_172 (dk_at dksX0_refusal_0 8 rfl rfl)
theorem dX0_refusal_9 : decode cX0_refusal 9 = .ok (.aload_n 0, 1) := dk_42 (dk_at dksX0_refusal_0 9 rfl rfl)
theorem dX0_refusal_10 : decode cX0_refusal 10 = .ok (.getfield 100, 3) := dk_180 0 100 (dk_at dksX0_refusal_0 10 rfl rfl)
theorem dX0_refusal_13 : decode cX0_refusal 13 = .ok (.iload_n 1, 1) := dk_27 (dk_at dksX0_refusal_0 13 rfl rfl)
theorem dX0_refusal_14 : decode cX0_refusal 14 = .ok (.aaload, 1) := dk_50 (dk_at dksX0_refusal_0 14 rfl rfl)
theorem dX0_refusal_15 : decode cX0_refusal 15 = .ok (.astore_n 3, 1) := dk_78 (dk_at dksX0_refusal_0 15 rfl rfl)
theorem dX0_refusal_16 : decode cX0_refusal 16 = .ok (.aload_n 3, 1) := dk_45 (dk_at dksX0_refusal_0 16 rfl rfl)
theorem dX0_refusal_17 : decode cX0_refusal 17 = .ok (.ifnonnull 6, 3) := dk_199 0 6 (dk_at dksX0_refusal_0 17 rfl rfl)
theorem dX0_refusal_20 : decode cX0_refusal 20 = .ok (.bipush (-11), 2) := dk_16 245 (dk_at dksX0_refusal_0 20 rfl rfl)
theorem dX0_refusal_22 : decode cX0_refusal 22 = .ok (.ireturn, 1) := dk_172 (dk_at dksX0_refusal_0 22 rfl rfl)
theorem dX0_refusal_23 : decode cX0_refusal 23 = .ok (.aload_n 3, 1) := dk_45 (dk_at dksX0_refusal_0 23 rfl rfl)
theorem dX0_refusal_24 : decode cX0_refusal 24 = .ok (.invokestatic 181, 3) := dk_184 0 181 (dk_at dksX0_refusal_1 0 rfl rfl)
theorem dX0_refusal_27 : decode cX0_refusal 27 = .ok (.iconst (-1), 1) := dk_2 (dk_at dksX0_refusal_1 3 rfl rfl)
theorem dX0_refusal_28 : decode cX0_refusal 28 = .ok (.if_icmp .ne 6, 3) := dk_160 0 6 (dk_at dksX0_refusal_1 4 rfl rfl)
theorem dX0_refusal_31 : decode cX0_refusal 31 = .ok (.bipush (-12), 2) := dk_16 244 (dk_at dksX0_refusal_1 7 rfl rfl)
theorem dX0_refusal_33 : decode cX0_refusal 33 = .ok (.ireturn, 1) := dk_172 (dk_at dksX0_refusal_1 9 rfl rfl)
theorem dX0_refusal_34 : decode cX0_refusal 34 = .ok (.iload_n 2, 1) := dk_28 (dk_at dksX0_refusal_1 10 rfl rfl)
theorem dX0_refusal_35 : decode cX0_refusal 35 = .ok (.i2l, 1) := dk_133 (dk_at dksX0_refusal_1 11 rfl rfl)
theorem dX0_refusal_36 : decode cX0_refusal 36 = .ok (.lconst 0, 1) := dk_9 (dk_at dksX0_refusal_1 12 rfl rfl)
theorem dX0_refusal_37 : decode cX0_refusal 37 = .ok (.aload_n 3, 1) := dk_45 (dk_at dksX0_refusal_1 13 rfl rfl)
theorem dX0_refusal_38 : decode cX0_refusal 38 = .ok (.invokestatic 528, 3) := dk_184 2 16 (dk_at dksX0_refusal_1 14 rfl rfl)
theorem dX0_refusal_41 : decode cX0_refusal 41 = .ok (.iconst 1, 1) := dk_4 (dk_at dksX0_refusal_1 17 rfl rfl)
theorem dX0_refusal_42 : decode cX0_refusal 42 = .ok (.isub, 1) := dk_100 (dk_at dksX0_refusal_1 18 rfl rfl)
theorem dX0_refusal_43 : decode cX0_refusal 43 = .ok (.i2l, 1) := dk_133 (dk_at dksX0_refusal_1 19 rfl rfl)
theorem dX0_refusal_44 : decode cX0_refusal 44 = .ok (.invokestatic 108, 3) := dk_184 0 108 (dk_at dksX0_refusal_1 20 rfl rfl)
theorem dX0_refusal_47 : decode cX0_refusal 47 = .ok (.ifCond .eq 7, 3) := dk_153 0 7 (dk_at dksX0_refusal_2 0 rfl rfl)
theorem dX0_refusal_50 : decode cX0_refusal 50 = .ok (.iconst 0, 1) := dk_3 (dk_at dksX0_refusal_2 3 rfl rfl)
theorem dX0_refusal_51 : decode cX0_refusal 51 = .ok (.goto 5, 3) := dk_167 0 5 (dk_at dksX0_refusal_2 4 rfl rfl)
theorem dX0_refusal_54 : decode cX0_refusal 54 = .ok (.bipush (-13), 2) := dk_16 243 (dk_at dksX0_refusal_2 7 rfl rfl)
theorem dX0_refusal_56 : decode cX0_refusal 56 = .ok (.ireturn, 1) := dk_172 (dk_at dksX0_refusal_2 9 rfl rfl)
abbrev cX0_sizeOf : ByteArray := prog_1_method_89_code
def yX0_sizeOf : MethodName := ⟨RX0, "sizeOf", "(Ljava/lang/Object;)I"⟩
def dkwX0_sizeOf_3 : List UInt8 := [42, 192, 2, 14, 190, 172]
abbrev dktX0_sizeOf_3 : List UInt8 := dkwX0_sizeOf_3 ++ []
def dkwX0_sizeOf_2 : List UInt8 := [42, 192, 0, 174, 190, 172, 42, 192, 2, 9, 190, 172, 42, 192, 2, 11, 190, 172, 42, 192, 2, 12, 190, 172]
abbrev dktX0_sizeOf_2 : List UInt8 := dkwX0_sizeOf_2 ++ dktX0_sizeOf_3
def dkwX0_sizeOf_1 : List UInt8 := [170, 0, 0, 0, 0, 0, 0, 56, 0, 0, 0, 0, 0, 0, 0, 3, 0, 0, 0, 32, 0, 0, 0, 38, 0, 0, 0, 44, 0, 0, 0, 50]
abbrev dktX0_sizeOf_1 : List UInt8 := dkwX0_sizeOf_1 ++ dktX0_sizeOf_2
def dkwX0_sizeOf_0 : List UInt8 := [42, 184, 0, 181]
abbrev dktX0_sizeOf_0 : List UInt8 := dkwX0_sizeOf_0 ++ dktX0_sizeOf_1
theorem dksX0_sizeOf_0 : cX0_sizeOf.data.toList.drop 0 = dktX0_sizeOf_0 := by decide +kernel
theorem dksX0_sizeOf_1 : cX0_sizeOf.data.toList.drop 4 = dktX0_sizeOf_1 := dk_seg dksX0_sizeOf_0 4 rfl rfl
theorem dksX0_sizeOf_2 : cX0_sizeOf.data.toList.drop 36 = dktX0_sizeOf_2 := dk_seg dksX0_sizeOf_1 32 rfl rfl
theorem dksX0_sizeOf_3 : cX0_sizeOf.data.toList.drop 60 = dktX0_sizeOf_3 := dk_seg dksX0_sizeOf_2 24 rfl rfl
theorem dX0_sizeOf_0 : decode cX0_sizeOf 0 = .ok (.aload_n 0, 1) := dk_42 (dk_at dksX0_sizeOf_0 0 rfl rfl)
theorem dX0_sizeOf_1 : decode cX0_sizeOf 1 = .ok (.invokestatic 181, 3) := dk_184 0 181 (dk_at dksX0_sizeOf_0 1 rfl rfl)
theorem dX0_sizeOf_4 : decode cX0_sizeOf 4 = .ok (.tableswitch 56 0 3 #[32, 38, 44, 50], 32) := by decide +kernel
theorem dX0_sizeOf_36 : decode cX0_sizeOf 36 = .ok (.aload_n 0, 1) := dk_42 (dk_at dksX0_sizeOf_2 0 rfl rfl)
theorem dX0_sizeOf_37 : decode cX0_sizeOf 37 = .ok (.checkcast 174, 3) := dk_192 0 174 (dk_at dksX0_sizeOf_2 1 rfl rfl)
theorem dX0_sizeOf_40 : decode cX0_sizeOf 40 = .ok (.arraylength, 1) := dk_190 (dk_at dksX0_sizeOf_2 4 rfl rfl)
theorem dX0_sizeOf_41 : decode cX0_sizeOf 41 = .ok (.ireturn, 1) := dk_172 (dk_at dksX0_sizeOf_2 5 rfl rfl)
theorem dX0_sizeOf_42 : decode cX0_sizeOf 42 = .ok (.aload_n 0, 1) := dk_42 (dk_at dksX0_sizeOf_2 6 rfl rfl)
theorem dX0_sizeOf_43 : decode cX0_sizeOf 43 = .ok (.checkcast 521, 3) := dk_192 2 9 (dk_at dksX0_sizeOf_2 7 rfl rfl)
theorem dX0_sizeOf_46 : decode cX0_sizeOf 46 = .ok (.arraylength, 1) := dk_190 (dk_at dksX0_sizeOf_2 10 rfl rfl)
theorem dX0_sizeOf_47 : decode cX0_sizeOf 47 = .ok (.ireturn, 1) := dk_172 (dk_at dksX0_sizeOf_2 11 rfl rfl)
theorem dX0_sizeOf_48 : decode cX0_sizeOf 48 = .ok (.aload_n 0, 1) := dk_42 (dk_at dksX0_sizeOf_2 12 rfl rfl)
theorem dX0_sizeOf_49 : decode cX0_sizeOf 49 = .ok (.checkcast 523, 3) := dk_192 2 11 (dk_at dksX0_sizeOf_2 13 rfl rfl)
theorem dX0_sizeOf_52 : decode cX0_sizeOf 52 = .ok (.arraylength, 1) := dk_190 (dk_at dksX0_sizeOf_2 16 rfl rfl)
theorem dX0_sizeOf_53 : decode cX0_sizeOf 53 = .ok (.ireturn, 1) := dk_172 (dk_at dksX0_sizeOf_2 17 rfl rfl)
theorem dX0_sizeOf_54 : decode cX0_sizeOf 54 = .ok (.aload_n 0, 1) := dk_42 (dk_at dksX0_sizeOf_2 18 rfl rfl)
theorem dX0_sizeOf_55 : decode cX0_sizeOf 55 = .ok (.checkcast 524, 3) := dk_192 2 12 (dk_at dksX0_sizeOf_2 19 rfl rfl)
theorem dX0_sizeOf_58 : decode cX0_sizeOf 58 = .ok (.arraylength, 1) := dk_190 (dk_at dksX0_sizeOf_2 22 rfl rfl)
theorem dX0_sizeOf_59 : decode cX0_sizeOf 59 = .ok (.ireturn, 1) := dk_172 (dk_at dksX0_sizeOf_2 23 rfl rfl)
theorem dX0_sizeOf_60 : decode cX0_sizeOf 60 = .ok (.aload_n 0, 1) := dk_42 (dk_at dksX0_sizeOf_3 0 rfl rfl)
theorem dX0_sizeOf_61 : decode cX0_sizeOf 61 = .ok (.checkcast 526, 3) := dk_192 2 14 (dk_at dksX0_sizeOf_3 1 rfl rfl)
theorem dX0_sizeOf_64 : decode cX0_sizeOf 64 = .ok (.arraylength, 1) := dk_190 (dk_at dksX0_sizeOf_3 4 rfl rfl)
theorem dX0_sizeOf_65 : decode cX0_sizeOf 65 = .ok (.ireturn, 1) := dk_172 (dk_at dksX0_sizeOf_3 5 rfl rfl)
abbrev cX0_element : ByteArray := prog_1_method_92_code
def yX0_element : MethodName := ⟨RX0, "element", "(II)J"⟩
def dkwX0_element_3 : List UInt8 := [45, 192, 2, 12, 28, 47, 173, 45, 192, 2, 14, 28, 51, 153, 0, 7, 10, 167, 0, 4, 9, 173]
abbrev dktX0_element_3 : List UInt8 := dkwX0_element_3 ++ []
def dkwX0_element_2 : List UInt8 := [45, 192, 0, 174, 28, 51, 133, 173, 45, 192, 2, 9, 28, 53, 133, 173, 45, 192, 2, 11, 28, 46, 133, 173]
abbrev dktX0_element_2 : List UInt8 := dkwX0_element_2 ++ dktX0_element_3
def dkwX0_element_1 : List UInt8 := [170, 0, 0, 0, 0, 0, 0, 63, 0, 0, 0, 0, 0, 0, 0, 3, 0, 0, 0, 32, 0, 0, 0, 40, 0, 0, 0, 48, 0, 0, 0, 56]
abbrev dktX0_element_1 : List UInt8 := dkwX0_element_1 ++ dktX0_element_2
def dkwX0_element_0 : List UInt8 := [42, 27, 28, 182, 2, 19, 153, 0, 7, 20, 1, 169, 173, 42, 180, 0, 100, 27, 50, 78, 45, 184, 0, 181]
abbrev dktX0_element_0 : List UInt8 := dkwX0_element_0 ++ dktX0_element_1
theorem dksX0_element_0 : cX0_element.data.toList.drop 0 = dktX0_element_0 := by decide +kernel
theorem dksX0_element_1 : cX0_element.data.toList.drop 24 = dktX0_element_1 := dk_seg dksX0_element_0 24 rfl rfl
theorem dksX0_element_2 : cX0_element.data.toList.drop 56 = dktX0_element_2 := dk_seg dksX0_element_1 32 rfl rfl
theorem dksX0_element_3 : cX0_element.data.toList.drop 80 = dktX0_element_3 := dk_seg dksX0_element_2 24 rfl rfl
theorem dX0_element_0 : decode cX0_element 0 = .ok (.aload_n 0, 1) := dk_42 (dk_at dksX0_element_0 0 rfl rfl)
theorem dX0_element_1 : decode cX0_element 1 = .ok (.iload_n 1, 1) := dk_27 (dk_at dksX0_element_0 1 rfl rfl)
theorem dX0_element_2 : decode cX0_element 2 = .ok (.iload_n 2, 1) := dk_28 (dk_at dksX0_element_0 2 rfl rfl)
theorem dX0_element_3 : decode cX0_element 3 = .ok (.invokevirtual 531, 3) := dk_182 2 19 (dk_at dksX0_element_0 3 rfl rfl)
theorem dX0_element_6 : decode cX0_element 6 = .ok (.ifCond .eq 7, 3) := dk_153 0 7 (dk_at dksX0_element_0 6 rfl rfl)
theorem dX0_element_9 : decode cX0_element 9 = .ok (.ldc2_w 425, 3) := dk_20 1 169 (dk_at dksX0_element_0 9 rfl rfl)
theorem dX0_element_12 : decode cX0_element 12 = .ok (.lreturn, 1) := dk_173 (dk_at dksX0_element_0 12 rfl rfl)
theorem dX0_element_13 : decode cX0_element 13 = .ok (.aload_n 0, 1) := dk_42 (dk_at dksX0_element_0 13 rfl rfl)
theorem dX0_element_14 : decode cX0_element 14 = .ok (.getfield 100, 3) := dk_180 0 100 (dk_at dksX0_element_0 14 rfl rfl)
theorem dX0_element_17 : decode cX0_element 17 = .ok (.iload_n 1, 1) := dk_27 (dk_at dksX0_element_0 17 rfl rfl)
theorem dX0_element_18 : decode cX0_element 18 = .ok (.aaload, 1) := dk_50 (dk_at dksX0_element_0 18 rfl rfl)
theorem dX0_element_19 : decode cX0_element 19 = .ok (.astore_n 3, 1) := dk_78 (dk_at dksX0_element_0 19 rfl rfl)
theorem dX0_element_20 : decode cX0_element 20 = .ok (.aload_n 3, 1) := dk_45 (dk_at dksX0_element_0 20 rfl rfl)
theorem dX0_element_21 : decode cX0_element 21 = .ok (.invokestatic 181, 3) := dk_184 0 181 (dk_at dksX0_element_0 21 rfl rfl)
theorem dX0_element_24 : decode cX0_element 24 = .ok (.tableswitch 63 0 3 #[32, 40, 48, 56], 32) := by decide +kernel
theorem dX0_element_56 : decode cX0_element 56 = .ok (.aload_n 3, 1) := dk_45 (dk_at dksX0_element_2 0 rfl rfl)
theorem dX0_element_57 : decode cX0_element 57 = .ok (.checkcast 174, 3) := dk_192 0 174 (dk_at dksX0_element_2 1 rfl rfl)
theorem dX0_element_60 : decode cX0_element 60 = .ok (.iload_n 2, 1) := dk_28 (dk_at dksX0_element_2 4 rfl rfl)
theorem dX0_element_61 : decode cX0_element 61 = .ok (.baload, 1) := dk_51 (dk_at dksX0_element_2 5 rfl rfl)
theorem dX0_element_62 : decode cX0_element 62 = .ok (.i2l, 1) := dk_133 (dk_at dksX0_element_2 6 rfl rfl)
theorem dX0_element_63 : decode cX0_element 63 = .ok (.lreturn, 1) := dk_173 (dk_at dksX0_element_2 7 rfl rfl)
theorem dX0_element_64 : decode cX0_element 64 = .ok (.aload_n 3, 1) := dk_45 (dk_at dksX0_element_2 8 rfl rfl)
theorem dX0_element_65 : decode cX0_element 65 = .ok (.checkcast 521, 3) := dk_192 2 9 (dk_at dksX0_element_2 9 rfl rfl)
theorem dX0_element_68 : decode cX0_element 68 = .ok (.iload_n 2, 1) := dk_28 (dk_at dksX0_element_2 12 rfl rfl)
theorem dX0_element_69 : decode cX0_element 69 = .ok (.saload, 1) := dk_53 (dk_at dksX0_element_2 13 rfl rfl)
theorem dX0_element_70 : decode cX0_element 70 = .ok (.i2l, 1) := dk_133 (dk_at dksX0_element_2 14 rfl rfl)
theorem dX0_element_71 : decode cX0_element 71 = .ok (.lreturn, 1) := dk_173 (dk_at dksX0_element_2 15 rfl rfl)
theorem dX0_element_72 : decode cX0_element 72 = .ok (.aload_n 3, 1) := dk_45 (dk_at dksX0_element_2 16 rfl rfl)
theorem dX0_element_73 : decode cX0_element 73 = .ok (.checkcast 523, 3) := dk_192 2 11 (dk_at dksX0_element_2 17 rfl rfl)
theorem dX0_element_76 : decode cX0_element 76 = .ok (.iload_n 2, 1) := dk_28 (dk_at dksX0_element_2 20 rfl rfl)
theorem dX0_element_77 : decode cX0_element 77 = .ok (.iaload, 1) := dk_46 (dk_at dksX0_element_2 21 rfl rfl)
theorem dX0_element_78 : decode cX0_element 78 = .ok (.i2l, 1) := dk_133 (dk_at dksX0_element_2 22 rfl rfl)
theorem dX0_element_79 : decode cX0_element 79 = .ok (.lreturn, 1) := dk_173 (dk_at dksX0_element_2 23 rfl rfl)
theorem dX0_element_80 : decode cX0_element 80 = .ok (.aload_n 3, 1) := dk_45 (dk_at dksX0_element_3 0 rfl rfl)
theorem dX0_element_81 : decode cX0_element 81 = .ok (.checkcast 524, 3) := dk_192 2 12 (dk_at dksX0_element_3 1 rfl rfl)
theorem dX0_element_84 : decode cX0_element 84 = .ok (.iload_n 2, 1) := dk_28 (dk_at dksX0_element_3 4 rfl rfl)
theorem dX0_element_85 : decode cX0_element 85 = .ok (.laload, 1) := dk_47 (dk_at dksX0_element_3 5 rfl rfl)
theorem dX0_element_86 : decode cX0_element 86 = .ok (.lreturn, 1) := dk_173 (dk_at dksX0_element_3 6 rfl rfl)
theorem dX0_element_87 : decode cX0_element 87 = .ok (.aload_n 3, 1) := dk_45 (dk_at dksX0_element_3 7 rfl rfl)
theorem dX0_element_88 : decode cX0_element 88 = .ok (.checkcast 526, 3) := dk_192 2 14 (dk_at dksX0_element_3 8 rfl rfl)
theorem dX0_element_91 : decode cX0_element 91 = .ok (.iload_n 2, 1) := dk_28 (dk_at dksX0_element_3 11 rfl rfl)
theorem dX0_element_92 : decode cX0_element 92 = .ok (.baload, 1) := dk_51 (dk_at dksX0_element_3 12 rfl rfl)
theorem dX0_element_93 : decode cX0_element 93 = .ok (.ifCond .eq 7, 3) := dk_153 0 7 (dk_at dksX0_element_3 13 rfl rfl)
theorem dX0_element_96 : decode cX0_element 96 = .ok (.lconst 1, 1) := dk_10 (dk_at dksX0_element_3 16 rfl rfl)
theorem dX0_element_97 : decode cX0_element 97 = .ok (.goto 4, 3) := dk_167 0 4 (dk_at dksX0_element_3 17 rfl rfl)
theorem dX0_element_100 : decode cX0_element 100 = .ok (.lconst 0, 1) := dk_9 (dk_at dksX0_element_3 20 rfl rfl)
theorem dX0_element_101 : decode cX0_element 101 = .ok (.lreturn, 1) := dk_173 (dk_at dksX0_element_3 21 rfl rfl)
abbrev cX0_shift : ByteArray := prog_1_method_93_code
def yX0_shift : MethodName := ⟨RX0, "shift", "(IIIII)I"⟩
def dkwX0_shift_5 : List UInt8 := [21, 4, 21, 5, 184, 1, 208, 21, 5, 172]
abbrev dktX0_shift_5 : List UInt8 := dkwX0_shift_5 ++ []
def dkwX0_shift_4 : List UInt8 := [163, 0, 16, 21, 4, 25, 7, 184, 2, 16, 21, 5, 100, 164, 0, 6, 16, 243, 172, 25, 6, 28, 25, 7]
abbrev dktX0_shift_4 : List UInt8 := dkwX0_shift_4 ++ dktX0_shift_5
def dkwX0_shift_3 : List UInt8 := [21, 5, 155, 0, 37, 28, 155, 0, 33, 21, 4, 155, 0, 28, 28, 25, 6, 184, 2, 16, 21, 5, 100]
abbrev dktX0_shift_3 : List UInt8 := dkwX0_shift_3 ++ dktX0_shift_4
def dkwX0_shift_2 : List UInt8 := [184, 0, 181, 2, 159, 0, 16, 25, 6, 184, 0, 181, 25, 7, 184, 0, 181, 159, 0, 6, 16, 244, 172]
abbrev dktX0_shift_2 : List UInt8 := dkwX0_shift_2 ++ dktX0_shift_3
def dkwX0_shift_1 : List UInt8 := [42, 180, 0, 100, 29, 50, 58, 7, 25, 6, 198, 0, 8, 25, 7, 199, 0, 6, 16, 245, 172, 25, 6]
abbrev dktX0_shift_1 : List UInt8 := dkwX0_shift_1 ++ dktX0_shift_2
def dkwX0_shift_0 : List UInt8 := [27, 184, 0, 176, 153, 0, 10, 29, 184, 0, 176, 154, 0, 5, 2, 172, 42, 180, 0, 100, 27, 50, 58, 6]
abbrev dktX0_shift_0 : List UInt8 := dkwX0_shift_0 ++ dktX0_shift_1
theorem dksX0_shift_0 : cX0_shift.data.toList.drop 0 = dktX0_shift_0 := by decide +kernel
theorem dksX0_shift_1 : cX0_shift.data.toList.drop 24 = dktX0_shift_1 := dk_seg dksX0_shift_0 24 rfl rfl
theorem dksX0_shift_2 : cX0_shift.data.toList.drop 47 = dktX0_shift_2 := dk_seg dksX0_shift_1 23 rfl rfl
theorem dksX0_shift_3 : cX0_shift.data.toList.drop 70 = dktX0_shift_3 := dk_seg dksX0_shift_2 23 rfl rfl
theorem dksX0_shift_4 : cX0_shift.data.toList.drop 93 = dktX0_shift_4 := dk_seg dksX0_shift_3 23 rfl rfl
theorem dksX0_shift_5 : cX0_shift.data.toList.drop 117 = dktX0_shift_5 := dk_seg dksX0_shift_4 24 rfl rfl
theorem dX0_shift_0 : decode cX0_shift 0 = .ok (.iload_n 1, 1) := dk_27 (dk_at dksX0_shift_0 0 rfl rfl)
theorem dX0_shift_1 : decode cX0_shift 1 = .ok (.invokestatic 176, 3) := dk_184 0 176 (dk_at dksX0_shift_0 1 rfl rfl)
theorem dX0_shift_4 : decode cX0_shift 4 = .ok (.ifCond .eq 10, 3) := dk_153 0 10 (dk_at dksX0_shift_0 4 rfl rfl)
theorem dX0_shift_7 : decode cX0_shift 7 = .ok (.iload_n 3, 1) := dk_29 (dk_at dksX0_shift_0 7 rfl rfl)
theorem dX0_shift_8 : decode cX0_shift 8 = .ok (.invokestatic 176, 3) := dk_184 0 176 (dk_at dksX0_shift_0 8 rfl rfl)
theorem dX0_shift_11 : decode cX0_shift 11 = .ok (.ifCond .ne 5, 3) := dk_154 0 5 (dk_at dksX0_shift_0 11 rfl rfl)
theorem dX0_shift_14 : decode cX0_shift 14 = .ok (.iconst (-1), 1) := dk_2 (dk_at dksX0_shift_0 14 rfl rfl)
theorem dX0_shift_15 : decode cX0_shift 15 = .ok (.ireturn, 1) := dk_172 (dk_at dksX0_shift_0 15 rfl rfl)
theorem dX0_shift_16 : decode cX0_shift 16 = .ok (.aload_n 0, 1) := dk_42 (dk_at dksX0_shift_0 16 rfl rfl)
theorem dX0_shift_17 : decode cX0_shift 17 = .ok (.getfield 100, 3) := dk_180 0 100 (dk_at dksX0_shift_0 17 rfl rfl)
theorem dX0_shift_20 : decode cX0_shift 20 = .ok (.iload_n 1, 1) := dk_27 (dk_at dksX0_shift_0 20 rfl rfl)
theorem dX0_shift_21 : decode cX0_shift 21 = .ok (.aaload, 1) := dk_50 (dk_at dksX0_shift_0 21 rfl rfl)
theorem dX0_shift_22 : decode cX0_shift 22 = .ok (.astore 6, 2) := dk_58 6 (dk_at dksX0_shift_0 22 rfl rfl)
theorem dX0_shift_24 : decode cX0_shift 24 = .ok (.aload_n 0, 1) := dk_42 (dk_at dksX0_shift_1 0 rfl rfl)
theorem dX0_shift_25 : decode cX0_shift 25 = .ok (.getfield 100, 3) := dk_180 0 100 (dk_at dksX0_shift_1 1 rfl rfl)
theorem dX0_shift_28 : decode cX0_shift 28 = .ok (.iload_n 3, 1) := dk_29 (dk_at dksX0_shift_1 4 rfl rfl)
theorem dX0_shift_29 : decode cX0_shift 29 = .ok (.aaload, 1) := dk_50 (dk_at dksX0_shift_1 5 rfl rfl)
theorem dX0_shift_30 : decode cX0_shift 30 = .ok (.astore 7, 2) := dk_58 7 (dk_at dksX0_shift_1 6 rfl rfl)
theorem dX0_shift_32 : decode cX0_shift 32 = .ok (.aload 6, 2) := dk_25 6 (dk_at dksX0_shift_1 8 rfl rfl)
theorem dX0_shift_34 : decode cX0_shift 34 = .ok (.ifnull 8, 3) := dk_198 0 8 (dk_at dksX0_shift_1 10 rfl rfl)
theorem dX0_shift_37 : decode cX0_shift 37 = .ok (.aload 7, 2) := dk_25 7 (dk_at dksX0_shift_1 13 rfl rfl)
theorem dX0_shift_39 : decode cX0_shift 39 = .ok (.ifnonnull 6, 3) := dk_199 0 6 (dk_at dksX0_shift_1 15 rfl rfl)
theorem dX0_shift_42 : decode cX0_shift 42 = .ok (.bipush (-11), 2) := dk_16 245 (dk_at dksX0_shift_1 18 rfl rfl)
theorem dX0_shift_44 : decode cX0_shift 44 = .ok (.ireturn, 1) := dk_172 (dk_at dksX0_shift_1 20 rfl rfl)
theorem dX0_shift_45 : decode cX0_shift 45 = .ok (.aload 6, 2) := dk_25 6 (dk_at dksX0_shift_1 21 rfl rfl)
theorem dX0_shift_47 : decode cX0_shift 47 = .ok (.invokestatic 181, 3) := dk_184 0 181 (dk_at dksX0_shift_2 0 rfl rfl)
theorem dX0_shift_50 : decode cX0_shift 50 = .ok (.iconst (-1), 1) := dk_2 (dk_at dksX0_shift_2 3 rfl rfl)
theorem dX0_shift_51 : decode cX0_shift 51 = .ok (.if_icmp .eq 16, 3) := dk_159 0 16 (dk_at dksX0_shift_2 4 rfl rfl)
theorem dX0_shift_54 : decode cX0_shift 54 = .ok (.aload 6, 2) := dk_25 6 (dk_at dksX0_shift_2 7 rfl rfl)
theorem dX0_shift_56 : decode cX0_shift 56 = .ok (.invokestatic 181, 3) := dk_184 0 181 (dk_at dksX0_shift_2 9 rfl rfl)
theorem dX0_shift_59 : decode cX0_shift 59 = .ok (.aload 7, 2) := dk_25 7 (dk_at dksX0_shift_2 12 rfl rfl)
theorem dX0_shift_61 : decode cX0_shift 61 = .ok (.invokestatic 181, 3) := dk_184 0 181 (dk_at dksX0_shift_2 14 rfl rfl)
theorem dX0_shift_64 : decode cX0_shift 64 = .ok (.if_icmp .eq 6, 3) := dk_159 0 6 (dk_at dksX0_shift_2 17 rfl rfl)
theorem dX0_shift_67 : decode cX0_shift 67 = .ok (.bipush (-12), 2) := dk_16 244 (dk_at dksX0_shift_2 20 rfl rfl)
theorem dX0_shift_69 : decode cX0_shift 69 = .ok (.ireturn, 1) := dk_172 (dk_at dksX0_shift_2 22 rfl rfl)
theorem dX0_shift_70 : decode cX0_shift 70 = .ok (.iload 5, 2) := dk_21 5 (dk_at dksX0_shift_3 0 rfl rfl)
theorem dX0_shift_72 : decode cX0_shift 72 = .ok (.ifCond .lt 37, 3) := dk_155 0 37 (dk_at dksX0_shift_3 2 rfl rfl)
theorem dX0_shift_75 : decode cX0_shift 75 = .ok (.iload_n 2, 1) := dk_28 (dk_at dksX0_shift_3 5 rfl rfl)
theorem dX0_shift_76 : decode cX0_shift 76 = .ok (.ifCond .lt 33, 3) := dk_155 0 33 (dk_at dksX0_shift_3 6 rfl rfl)
theorem dX0_shift_79 : decode cX0_shift 79 = .ok (.iload 4, 2) := dk_21 4 (dk_at dksX0_shift_3 9 rfl rfl)
theorem dX0_shift_81 : decode cX0_shift 81 = .ok (.ifCond .lt 28, 3) := dk_155 0 28 (dk_at dksX0_shift_3 11 rfl rfl)
theorem dX0_shift_84 : decode cX0_shift 84 = .ok (.iload_n 2, 1) := dk_28 (dk_at dksX0_shift_3 14 rfl rfl)
theorem dX0_shift_85 : decode cX0_shift 85 = .ok (.aload 6, 2) := dk_25 6 (dk_at dksX0_shift_3 15 rfl rfl)
theorem dX0_shift_87 : decode cX0_shift 87 = .ok (.invokestatic 528, 3) := dk_184 2 16 (dk_at dksX0_shift_3 17 rfl rfl)
theorem dX0_shift_90 : decode cX0_shift 90 = .ok (.iload 5, 2) := dk_21 5 (dk_at dksX0_shift_3 20 rfl rfl)
theorem dX0_shift_92 : decode cX0_shift 92 = .ok (.isub, 1) := dk_100 (dk_at dksX0_shift_3 22 rfl rfl)
theorem dX0_shift_93 : decode cX0_shift 93 = .ok (.if_icmp .gt 16, 3) := dk_163 0 16 (dk_at dksX0_shift_4 0 rfl rfl)
theorem dX0_shift_96 : decode cX0_shift 96 = .ok (.iload 4, 2) := dk_21 4 (dk_at dksX0_shift_4 3 rfl rfl)
theorem dX0_shift_98 : decode cX0_shift 98 = .ok (.aload 7, 2) := dk_25 7 (dk_at dksX0_shift_4 5 rfl rfl)
theorem dX0_shift_100 : decode cX0_shift 100 = .ok (.invokestatic 528, 3) := dk_184 2 16 (dk_at dksX0_shift_4 7 rfl rfl)
theorem dX0_shift_103 : decode cX0_shift 103 = .ok (.iload 5, 2) := dk_21 5 (dk_at dksX0_shift_4 10 rfl rfl)
theorem dX0_shift_105 : decode cX0_shift 105 = .ok (.isub, 1) := dk_100 (dk_at dksX0_shift_4 12 rfl rfl)
theorem dX0_shift_106 : decode cX0_shift 106 = .ok (.if_icmp .le 6, 3) := dk_164 0 6 (dk_at dksX0_shift_4 13 rfl rfl)
theorem dX0_shift_109 : decode cX0_shift 109 = .ok (.bipush (-13), 2) := dk_16 243 (dk_at dksX0_shift_4 16 rfl rfl)
theorem dX0_shift_111 : decode cX0_shift 111 = .ok (.ireturn, 1) := dk_172 (dk_at dksX0_shift_4 18 rfl rfl)
theorem dX0_shift_112 : decode cX0_shift 112 = .ok (.aload 6, 2) := dk_25 6 (dk_at dksX0_shift_4 19 rfl rfl)
theorem dX0_shift_114 : decode cX0_shift 114 = .ok (.iload_n 2, 1) := dk_28 (dk_at dksX0_shift_4 21 rfl rfl)
theorem dX0_shift_115 : decode cX0_shift 115 = .ok (.aload 7, 2) := dk_25 7 (dk_at dksX0_shift_4 22 rfl rfl)
theorem dX0_shift_117 : decode cX0_shift 117 = .ok (.iload 4, 2) := dk_21 4 (dk_at dksX0_shift_5 0 rfl rfl)
theorem dX0_shift_119 : decode cX0_shift 119 = .ok (.iload 5, 2) := dk_21 5 (dk_at dksX0_shift_5 2 rfl rfl)
theorem dX0_shift_121 : decode cX0_shift 121 = .ok (.invokestatic 464, 3) := dk_184 1 208 (dk_at dksX0_shift_5 4 rfl rfl)
theorem dX0_shift_124 : decode cX0_shift 124 = .ok (.iload 5, 2) := dk_21 5 (dk_at dksX0_shift_5 7 rfl rfl)
theorem dX0_shift_126 : decode cX0_shift 126 = .ok (.ireturn, 1) := dk_172 (dk_at dksX0_shift_5 9 rfl rfl)
abbrev cX0_taken : ByteArray := prog_1_method_94_code
def yX0_taken : MethodName := ⟨RX0, "taken", "(II)I"⟩
def dkwX0_taken_3 : List UInt8 := [172]
abbrev dktX0_taken_3 : List UInt8 := dkwX0_taken_3 ++ []
def dkwX0_taken_2 : List UInt8 := [192, 0, 91, 58, 4, 25, 4, 28, 182, 2, 22, 153, 0, 11, 25, 4, 182, 2, 25, 167, 0, 5, 16, 244]
abbrev dktX0_taken_2 : List UInt8 := dkwX0_taken_2 ++ dktX0_taken_3
def dkwX0_taken_1 : List UInt8 := [180, 0, 100, 27, 50, 78, 45, 199, 0, 6, 16, 245, 172, 45, 193, 0, 91, 154, 0, 6, 16, 244, 172, 45]
abbrev dktX0_taken_1 : List UInt8 := dkwX0_taken_1 ++ dktX0_taken_2
def dkwX0_taken_0 : List UInt8 := [27, 184, 0, 176, 153, 0, 15, 28, 133, 9, 20, 1, 239, 184, 0, 108, 154, 0, 5, 2, 172, 42]
abbrev dktX0_taken_0 : List UInt8 := dkwX0_taken_0 ++ dktX0_taken_1
theorem dksX0_taken_0 : cX0_taken.data.toList.drop 0 = dktX0_taken_0 := by decide +kernel
theorem dksX0_taken_1 : cX0_taken.data.toList.drop 22 = dktX0_taken_1 := dk_seg dksX0_taken_0 22 rfl rfl
theorem dksX0_taken_2 : cX0_taken.data.toList.drop 46 = dktX0_taken_2 := dk_seg dksX0_taken_1 24 rfl rfl
theorem dksX0_taken_3 : cX0_taken.data.toList.drop 70 = dktX0_taken_3 := dk_seg dksX0_taken_2 24 rfl rfl
theorem dX0_taken_0 : decode cX0_taken 0 = .ok (.iload_n 1, 1) := dk_27 (dk_at dksX0_taken_0 0 rfl rfl)
theorem dX0_taken_1 : decode cX0_taken 1 = .ok (.invokestatic 176, 3) := dk_184 0 176 (dk_at dksX0_taken_0 1 rfl rfl)
theorem dX0_taken_4 : decode cX0_taken 4 = .ok (.ifCond .eq 15, 3) := dk_153 0 15 (dk_at dksX0_taken_0 4 rfl rfl)
theorem dX0_taken_7 : decode cX0_taken 7 = .ok (.iload_n 2, 1) := dk_28 (dk_at dksX0_taken_0 7 rfl rfl)
theorem dX0_taken_8 : decode cX0_taken 8 = .ok (.i2l, 1) := dk_133 (dk_at dksX0_taken_0 8 rfl rfl)
theorem dX0_taken_9 : decode cX0_taken 9 = .ok (.lconst 0, 1) := dk_9 (dk_at dksX0_taken_0 9 rfl rfl)
theorem dX0_taken_10 : decode cX0_taken 10 = .ok (.ldc2_w 495, 3) := dk_20 1 239 (dk_at dksX0_taken_0 10 rfl rfl)
theorem dX0_taken_13 : decode cX0_taken 13 = .ok (.invokestatic 108, 3) := dk_184 0 108 (dk_at dksX0_taken_0 13 rfl rfl)
theorem dX0_taken_16 : decode cX0_taken 16 = .ok (.ifCond .ne 5, 3) := dk_154 0 5 (dk_at dksX0_taken_0 16 rfl rfl)
theorem dX0_taken_19 : decode cX0_taken 19 = .ok (.iconst (-1), 1) := dk_2 (dk_at dksX0_taken_0 19 rfl rfl)
theorem dX0_taken_20 : decode cX0_taken 20 = .ok (.ireturn, 1) := dk_172 (dk_at dksX0_taken_0 20 rfl rfl)
theorem dX0_taken_21 : decode cX0_taken 21 = .ok (.aload_n 0, 1) := dk_42 (dk_at dksX0_taken_0 21 rfl rfl)
theorem dX0_taken_22 : decode cX0_taken 22 = .ok (.getfield 100, 3) := dk_180 0 100 (dk_at dksX0_taken_1 0 rfl rfl)
theorem dX0_taken_25 : decode cX0_taken 25 = .ok (.iload_n 1, 1) := dk_27 (dk_at dksX0_taken_1 3 rfl rfl)
theorem dX0_taken_26 : decode cX0_taken 26 = .ok (.aaload, 1) := dk_50 (dk_at dksX0_taken_1 4 rfl rfl)
theorem dX0_taken_27 : decode cX0_taken 27 = .ok (.astore_n 3, 1) := dk_78 (dk_at dksX0_taken_1 5 rfl rfl)
theorem dX0_taken_28 : decode cX0_taken 28 = .ok (.aload_n 3, 1) := dk_45 (dk_at dksX0_taken_1 6 rfl rfl)
theorem dX0_taken_29 : decode cX0_taken 29 = .ok (.ifnonnull 6, 3) := dk_199 0 6 (dk_at dksX0_taken_1 7 rfl rfl)
theorem dX0_taken_32 : decode cX0_taken 32 = .ok (.bipush (-11), 2) := dk_16 245 (dk_at dksX0_taken_1 10 rfl rfl)
theorem dX0_taken_34 : decode cX0_taken 34 = .ok (.ireturn, 1) := dk_172 (dk_at dksX0_taken_1 12 rfl rfl)
theorem dX0_taken_35 : decode cX0_taken 35 = .ok (.aload_n 3, 1) := dk_45 (dk_at dksX0_taken_1 13 rfl rfl)
theorem dX0_taken_36 : decode cX0_taken 36 = .ok (.instanceof 91, 3) := dk_193 0 91 (dk_at dksX0_taken_1 14 rfl rfl)
theorem dX0_taken_39 : decode cX0_taken 39 = .ok (.ifCond .ne 6, 3) := dk_154 0 6 (dk_at dksX0_taken_1 17 rfl rfl)
theorem dX0_taken_42 : decode cX0_taken 42 = .ok (.bipush (-12), 2) := dk_16 244 (dk_at dksX0_taken_1 20 rfl rfl)
theorem dX0_taken_44 : decode cX0_taken 44 = .ok (.ireturn, 1) := dk_172 (dk_at dksX0_taken_1 22 rfl rfl)
theorem dX0_taken_45 : decode cX0_taken 45 = .ok (.aload_n 3, 1) := dk_45 (dk_at dksX0_taken_1 23 rfl rfl)
theorem dX0_taken_46 : decode cX0_taken 46 = .ok (.checkcast 91, 3) := dk_192 0 91 (dk_at dksX0_taken_2 0 rfl rfl)
theorem dX0_taken_49 : decode cX0_taken 49 = .ok (.astore 4, 2) := dk_58 4 (dk_at dksX0_taken_2 3 rfl rfl)
theorem dX0_taken_51 : decode cX0_taken 51 = .ok (.aload 4, 2) := dk_25 4 (dk_at dksX0_taken_2 5 rfl rfl)
theorem dX0_taken_53 : decode cX0_taken 53 = .ok (.iload_n 2, 1) := dk_28 (dk_at dksX0_taken_2 7 rfl rfl)
theorem dX0_taken_54 : decode cX0_taken 54 = .ok (.invokevirtual 534, 3) := dk_182 2 22 (dk_at dksX0_taken_2 8 rfl rfl)
theorem dX0_taken_57 : decode cX0_taken 57 = .ok (.ifCond .eq 11, 3) := dk_153 0 11 (dk_at dksX0_taken_2 11 rfl rfl)
theorem dX0_taken_60 : decode cX0_taken 60 = .ok (.aload 4, 2) := dk_25 4 (dk_at dksX0_taken_2 14 rfl rfl)
theorem dX0_taken_62 : decode cX0_taken 62 = .ok (.invokevirtual 537, 3) := dk_182 2 25 (dk_at dksX0_taken_2 16 rfl rfl)
theorem dX0_taken_65 : decode cX0_taken 65 = .ok (.goto 5, 3) := dk_167 0 5 (dk_at dksX0_taken_2 19 rfl rfl)
theorem dX0_taken_68 : decode cX0_taken 68 = .ok (.bipush (-12), 2) := dk_16 244 (dk_at dksX0_taken_2 22 rfl rfl)
theorem dX0_taken_70 : decode cX0_taken 70 = .ok (.ireturn, 1) := dk_172 (dk_at dksX0_taken_3 0 rfl rfl)
abbrev cX0_count : ByteArray := prog_1_method_95_code
def yX0_count : MethodName := ⟨RX0, "count", "(I)I"⟩
def dkwX0_count_3 : List UInt8 := [172, 42, 180, 0, 7, 172, 42, 180, 1, 214, 172, 42, 180, 1, 245, 172, 2, 172]
abbrev dktX0_count_3 : List UInt8 := dkwX0_count_3 ++ []
def dkwX0_count_2 : List UInt8 := [42, 180, 0, 133, 172, 42, 180, 0, 130, 172, 42, 180, 0, 154, 172, 42, 180, 0, 215, 172, 42, 180, 0, 112]
abbrev dktX0_count_2 : List UInt8 := dkwX0_count_2 ++ dktX0_count_3
def dkwX0_count_1 : List UInt8 := [170, 0, 0, 0, 0, 0, 87, 0, 0, 0, 0, 0, 0, 0, 7, 0, 0, 0, 47, 0, 0, 0, 52, 0, 0, 0, 57, 0, 0, 0, 62, 0, 0, 0, 67, 0, 0, 0, 72, 0, 0, 0, 77, 0, 0, 0, 82]
abbrev dktX0_count_1 : List UInt8 := dkwX0_count_1 ++ dktX0_count_2
def dkwX0_count_0 : List UInt8 := [27]
abbrev dktX0_count_0 : List UInt8 := dkwX0_count_0 ++ dktX0_count_1
theorem dksX0_count_0 : cX0_count.data.toList.drop 0 = dktX0_count_0 := by decide +kernel
theorem dksX0_count_1 : cX0_count.data.toList.drop 1 = dktX0_count_1 := dk_seg dksX0_count_0 1 rfl rfl
theorem dksX0_count_2 : cX0_count.data.toList.drop 48 = dktX0_count_2 := dk_seg dksX0_count_1 47 rfl rfl
theorem dksX0_count_3 : cX0_count.data.toList.drop 72 = dktX0_count_3 := dk_seg dksX0_count_2 24 rfl rfl
theorem dX0_count_0 : decode cX0_count 0 = .ok (.iload_n 1, 1) := dk_27 (dk_at dksX0_count_0 0 rfl rfl)
theorem dX0_count_1 : decode cX0_count 1 = .ok (.tableswitch 87 0 7 #[47, 52, 57, 62, 67, 72, 77, 82], 47) := by decide +kernel
theorem dX0_count_48 : decode cX0_count 48 = .ok (.aload_n 0, 1) := dk_42 (dk_at dksX0_count_2 0 rfl rfl)
theorem dX0_count_49 : decode cX0_count 49 = .ok (.getfield 133, 3) := dk_180 0 133 (dk_at dksX0_count_2 1 rfl rfl)
theorem dX0_count_52 : decode cX0_count 52 = .ok (.ireturn, 1) := dk_172 (dk_at dksX0_count_2 4 rfl rfl)
theorem dX0_count_53 : decode cX0_count 53 = .ok (.aload_n 0, 1) := dk_42 (dk_at dksX0_count_2 5 rfl rfl)
theorem dX0_count_54 : decode cX0_count 54 = .ok (.getfield 130, 3) := dk_180 0 130 (dk_at dksX0_count_2 6 rfl rfl)
theorem dX0_count_57 : decode cX0_count 57 = .ok (.ireturn, 1) := dk_172 (dk_at dksX0_count_2 9 rfl rfl)
theorem dX0_count_58 : decode cX0_count 58 = .ok (.aload_n 0, 1) := dk_42 (dk_at dksX0_count_2 10 rfl rfl)
theorem dX0_count_59 : decode cX0_count 59 = .ok (.getfield 154, 3) := dk_180 0 154 (dk_at dksX0_count_2 11 rfl rfl)
theorem dX0_count_62 : decode cX0_count 62 = .ok (.ireturn, 1) := dk_172 (dk_at dksX0_count_2 14 rfl rfl)
theorem dX0_count_63 : decode cX0_count 63 = .ok (.aload_n 0, 1) := dk_42 (dk_at dksX0_count_2 15 rfl rfl)
theorem dX0_count_64 : decode cX0_count 64 = .ok (.getfield 215, 3) := dk_180 0 215 (dk_at dksX0_count_2 16 rfl rfl)
theorem dX0_count_67 : decode cX0_count 67 = .ok (.ireturn, 1) := dk_172 (dk_at dksX0_count_2 19 rfl rfl)
theorem dX0_count_68 : decode cX0_count 68 = .ok (.aload_n 0, 1) := dk_42 (dk_at dksX0_count_2 20 rfl rfl)
theorem dX0_count_69 : decode cX0_count 69 = .ok (.getfield 112, 3) := dk_180 0 112 (dk_at dksX0_count_2 21 rfl rfl)
theorem dX0_count_72 : decode cX0_count 72 = .ok (.ireturn, 1) := dk_172 (dk_at dksX0_count_3 0 rfl rfl)
theorem dX0_count_73 : decode cX0_count 73 = .ok (.aload_n 0, 1) := dk_42 (dk_at dksX0_count_3 1 rfl rfl)
theorem dX0_count_74 : decode cX0_count 74 = .ok (.getfield 7, 3) := dk_180 0 7 (dk_at dksX0_count_3 2 rfl rfl)
theorem dX0_count_77 : decode cX0_count 77 = .ok (.ireturn, 1) := dk_172 (dk_at dksX0_count_3 5 rfl rfl)
theorem dX0_count_78 : decode cX0_count 78 = .ok (.aload_n 0, 1) := dk_42 (dk_at dksX0_count_3 6 rfl rfl)
theorem dX0_count_79 : decode cX0_count 79 = .ok (.getfield 470, 3) := dk_180 1 214 (dk_at dksX0_count_3 7 rfl rfl)
theorem dX0_count_82 : decode cX0_count 82 = .ok (.ireturn, 1) := dk_172 (dk_at dksX0_count_3 10 rfl rfl)
theorem dX0_count_83 : decode cX0_count 83 = .ok (.aload_n 0, 1) := dk_42 (dk_at dksX0_count_3 11 rfl rfl)
theorem dX0_count_84 : decode cX0_count 84 = .ok (.getfield 501, 3) := dk_180 1 245 (dk_at dksX0_count_3 12 rfl rfl)
theorem dX0_count_87 : decode cX0_count 87 = .ok (.ireturn, 1) := dk_172 (dk_at dksX0_count_3 15 rfl rfl)
theorem dX0_count_88 : decode cX0_count 88 = .ok (.iconst (-1), 1) := dk_2 (dk_at dksX0_count_3 16 rfl rfl)
theorem dX0_count_89 : decode cX0_count 89 = .ok (.ireturn, 1) := dk_172 (dk_at dksX0_count_3 17 rfl rfl)
theorem q107 : (Jvm.Cond.initialized "HatRank") ∈ lw_all := lw_g (lw_at lw_m1 1 rfl) rfl
theorem q136 : (Jvm.Cond.instanceMethod ({ cls := "HatRank", name := "undo", desc := "()I" } : Jvm.MethodName)) ∈ lw_all := lw_g (lw_at lw_m1 30 rfl) rfl
theorem q137 : (Jvm.Cond.selects "HatRank" ({ cls := "HatRank", name := "undo", desc := "()I" } : Jvm.MethodName) ({ cls := "HatRank", name := "undo", desc := "()I" } : Jvm.MethodName)) ∈ lw_all := lw_g (lw_at lw_m1 31 rfl) rfl
theorem q138 : (Jvm.Cond.code ({ cls := "HatRank", name := "undo", desc := "()I" } : Jvm.MethodName) prog_1_method_4_code (1 : Nat) (Option.some Jvm.ClassFile.FieldType.int)) ∈ lw_all := lw_g (lw_at lw_m1 32 rfl) rfl
theorem q140 : (Jvm.Cond.instanceMethod ({ cls := "HatRank", name := "redo", desc := "()I" } : Jvm.MethodName)) ∈ lw_all := lw_g (lw_at lw_m1 34 rfl) rfl
theorem q141 : (Jvm.Cond.selects "HatRank" ({ cls := "HatRank", name := "redo", desc := "()I" } : Jvm.MethodName) ({ cls := "HatRank", name := "redo", desc := "()I" } : Jvm.MethodName)) ∈ lw_all := lw_g (lw_at lw_m1 35 rfl) rfl
theorem q142 : (Jvm.Cond.code ({ cls := "HatRank", name := "redo", desc := "()I" } : Jvm.MethodName) prog_1_method_5_code (1 : Nat) (Option.some Jvm.ClassFile.FieldType.int)) ∈ lw_all := lw_g (lw_at lw_m1 36 rfl) rfl
theorem q144 : (Jvm.Cond.instantiable "HatRank" (36 : Nat)) ∈ lw_all := lw_g (lw_at lw_m1 38 rfl) rfl
theorem q146 : (Jvm.Cond.instanceMethod ({ cls := "HatRank", name := "<init>", desc := "()V" } : Jvm.MethodName)) ∈ lw_all := lw_g (lw_at lw_m1 40 rfl) rfl
theorem q147 : (Jvm.Cond.code ({ cls := "HatRank", name := "<init>", desc := "()V" } : Jvm.MethodName) prog_1_method_6_code (2 : Nat) (Option.none : Option Jvm.ClassFile.FieldType)) ∈ lw_all := lw_g (lw_at lw_m1 41 rfl) rfl
theorem q148 : (Jvm.Cond.methodLink "HatRank" (31 : Nat) ({ cls := "java/lang/Object", name := "<init>", desc := "()V" } : Jvm.MethodName)) ∈ lw_all := lw_g (lw_at lw_m1 42 rfl) rfl
theorem q151 : (Jvm.Cond.classLink "HatRank" (17 : Nat) "HatRank$Change") ∈ lw_all := lw_g (lw_at lw_m1 45 rfl) rfl
theorem q153 : (Jvm.Cond.classLink "HatRank" (41 : Nat) "HatRank$Fault") ∈ lw_all := lw_g (lw_at lw_m1 47 rfl) rfl
theorem q193 : (Jvm.Cond.methodLink "HatRank" (43 : Nat) ({ cls := "HatRank$Fault", name := "<init>", desc := "()V" } : Jvm.MethodName)) ∈ lw_all := lw_g (lw_at lw_m1 87 rfl) rfl
theorem q219 : (Jvm.Cond.classLink "HatRank" (48 : Nat) "HatRank$Town") ∈ lw_all := lw_g (lw_at lw_m1 113 rfl) rfl
theorem q221 : (Jvm.Cond.methodLinkNest "HatRank" (50 : Nat) ({ cls := "HatRank$Town", name := "<init>", desc := "()V" } : Jvm.MethodName) "HatRank") ∈ lw_tbl := lw_at lw_m1 115 rfl
theorem q226 : (Jvm.Cond.fieldLinkNest "HatRank" (161 : Nat) "HatRank$Town" "hats" "[I" "HatRank") ∈ lw_tbl := lw_at lw_m1 120 rfl
theorem q228 : (Jvm.Cond.fieldLinkNest "HatRank" (164 : Nat) "HatRank$Town" "at" "[I" "HatRank") ∈ lw_tbl := lw_at lw_m1 122 rfl
theorem q230 : (Jvm.Cond.fieldLinkNest "HatRank" (228 : Nat) "HatRank$Town" "lying" "[I" "HatRank") ∈ lw_tbl := lw_at lw_m1 124 rfl
theorem q238 : (Jvm.Cond.classLink "HatRank" (55 : Nat) "HatRank$Place") ∈ lw_all := lw_g (lw_at lw_m1 132 rfl) rfl
theorem q240 : (Jvm.Cond.classLink "HatRank" (61 : Nat) "HatRank$Person") ∈ lw_all := lw_g (lw_at lw_m1 134 rfl) rfl
theorem q242 : (Jvm.Cond.classLink "HatRank" (2 : Nat) "HatRank$Held") ∈ lw_all := lw_g (lw_at lw_m1 136 rfl) rfl
theorem q244 : (Jvm.Cond.classLink "HatRank" (71 : Nat) "HatRank$Torn") ∈ lw_all := lw_g (lw_at lw_m1 138 rfl) rfl
theorem q253 : (Jvm.Cond.methodLink "HatRank" (73 : Nat) ({ cls := "HatRank$Torn", name := "<init>", desc := "()V" } : Jvm.MethodName)) ∈ lw_all := lw_g (lw_at lw_m1 147 rfl) rfl
theorem q260 : (Jvm.Cond.classLink "HatRank" (91 : Nat) "HatRank$Body") ∈ lw_all := lw_g (lw_at lw_m1 154 rfl) rfl
theorem q262 : (Jvm.Cond.classLink "HatRank" (32 : Nat) "java/lang/Object") ∈ lw_all := lw_g (lw_at lw_m1 156 rfl) rfl
theorem q265 : (Jvm.Cond.methodLinkNest "HatRank" (104 : Nat) ({ cls := "HatRank$Change", name := "<init>", desc := "()V" } : Jvm.MethodName) "HatRank") ∈ lw_tbl := lw_at lw_m1 159 rfl
theorem q269 : (Jvm.Cond.fieldLinkNest "HatRank" (16 : Nat) "HatRank$Change" "of" "LHatRank$Held;" "HatRank") ∈ lw_tbl := lw_at lw_m1 163 rfl
theorem q270 : (Jvm.Cond.fieldLinkNest "HatRank" (22 : Nat) "HatRank$Change" "was" "I" "HatRank") ∈ lw_tbl := lw_at lw_m1 164 rfl
theorem q271 : (Jvm.Cond.fieldLinkNest "HatRank" (25 : Nat) "HatRank$Change" "is" "I" "HatRank") ∈ lw_tbl := lw_at lw_m1 165 rfl
theorem q280 : (Jvm.Cond.methodLinkNest "HatRank" (105 : Nat) ({ cls := "HatRank$Held", name := "<init>", desc := "()V" } : Jvm.MethodName) "HatRank") ∈ lw_tbl := lw_at lw_m1 174 rfl
theorem q285 : (Jvm.Cond.fieldLinkNest "HatRank" (1 : Nat) "HatRank$Held" "v" "I" "HatRank") ∈ lw_tbl := lw_at lw_m1 179 rfl
theorem q289 : (Jvm.Cond.fieldLink "HatRank" (12 : Nat) "HatRank" "changes" "[LHatRank$Change;") ∈ lw_all := lw_g (lw_at lw_m1 183 rfl) rfl
theorem q290 : (Jvm.Cond.fieldLink "HatRank" (28 : Nat) "HatRank" "changeMany" "I") ∈ lw_all := lw_g (lw_at lw_m1 184 rfl) rfl
theorem q291 : (Jvm.Cond.fieldLink "HatRank" (7 : Nat) "HatRank" "done" "I") ∈ lw_all := lw_g (lw_at lw_m1 185 rfl) rfl
theorem q292 : (Jvm.Cond.fieldLink "HatRank" (37 : Nat) "HatRank" "tape" "[I") ∈ lw_all := lw_g (lw_at lw_m1 186 rfl) rfl
theorem q293 : (Jvm.Cond.fieldLink "HatRank" (112 : Nat) "HatRank" "length" "I") ∈ lw_all := lw_g (lw_at lw_m1 187 rfl) rfl
theorem q294 : (Jvm.Cond.fieldLink "HatRank" (44 : Nat) "HatRank" "fault" "LHatRank$Fault;") ∈ lw_all := lw_g (lw_at lw_m1 188 rfl) rfl
theorem q295 : (Jvm.Cond.fieldLink "HatRank" (115 : Nat) "HatRank" "at" "I") ∈ lw_all := lw_g (lw_at lw_m1 189 rfl) rfl
theorem q296 : (Jvm.Cond.fieldLink "HatRank" (51 : Nat) "HatRank" "town" "LHatRank$Town;") ∈ lw_all := lw_g (lw_at lw_m1 190 rfl) rfl
theorem q297 : (Jvm.Cond.fieldLink "HatRank" (57 : Nat) "HatRank" "places" "[LHatRank$Place;") ∈ lw_all := lw_g (lw_at lw_m1 191 rfl) rfl
theorem q298 : (Jvm.Cond.fieldLink "HatRank" (130 : Nat) "HatRank" "placeMany" "I") ∈ lw_all := lw_g (lw_at lw_m1 192 rfl) rfl
theorem q299 : (Jvm.Cond.fieldLink "HatRank" (154 : Nat) "HatRank" "wayMany" "I") ∈ lw_all := lw_g (lw_at lw_m1 193 rfl) rfl
theorem q300 : (Jvm.Cond.fieldLink "HatRank" (63 : Nat) "HatRank" "people" "[LHatRank$Person;") ∈ lw_all := lw_g (lw_at lw_m1 194 rfl) rfl
theorem q301 : (Jvm.Cond.fieldLink "HatRank" (133 : Nat) "HatRank" "personMany" "I") ∈ lw_all := lw_g (lw_at lw_m1 195 rfl) rfl
theorem q302 : (Jvm.Cond.fieldLink "HatRank" (67 : Nat) "HatRank" "blows" "[LHatRank$Held;") ∈ lw_all := lw_g (lw_at lw_m1 196 rfl) rfl
theorem q303 : (Jvm.Cond.fieldLink "HatRank" (215 : Nat) "HatRank" "now" "I") ∈ lw_all := lw_g (lw_at lw_m1 197 rfl) rfl
theorem q304 : (Jvm.Cond.fieldLink "HatRank" (74 : Nat) "HatRank" "torn" "LHatRank$Torn;") ∈ lw_all := lw_g (lw_at lw_m1 198 rfl) rfl
theorem q306 : (Jvm.Cond.fieldLink "HatRank" (78 : Nat) "HatRank" "names" "[I") ∈ lw_all := lw_g (lw_at lw_m1 200 rfl) rfl
theorem q307 : (Jvm.Cond.fieldLink "HatRank" (264 : Nat) "HatRank" "opened" "I") ∈ lw_all := lw_g (lw_at lw_m1 201 rfl) rfl
theorem q308 : (Jvm.Cond.fieldLink "HatRank" (320 : Nat) "HatRank" "falling" "LHatRank$Line;") ∈ lw_all := lw_g (lw_at lw_m1 202 rfl) rfl
theorem q309 : (Jvm.Cond.fieldLink "HatRank" (328 : Nat) "HatRank" "storming" "I") ∈ lw_all := lw_g (lw_at lw_m1 203 rfl) rfl
theorem q310 : (Jvm.Cond.fieldLink "HatRank" (349 : Nat) "HatRank" "z" "I") ∈ lw_all := lw_g (lw_at lw_m1 204 rfl) rfl
theorem q311 : (Jvm.Cond.fieldLink "HatRank" (81 : Nat) "HatRank" "toCome" "[I") ∈ lw_all := lw_g (lw_at lw_m1 205 rfl) rfl
theorem q312 : (Jvm.Cond.fieldLink "HatRank" (84 : Nat) "HatRank" "towns" "[LHatRank$Town;") ∈ lw_all := lw_g (lw_at lw_m1 206 rfl) rfl
theorem q313 : (Jvm.Cond.fieldLink "HatRank" (396 : Nat) "HatRank" "commandSum" "J") ∈ lw_all := lw_g (lw_at lw_m1 207 rfl) rfl
theorem q314 : (Jvm.Cond.fieldLink "HatRank" (400 : Nat) "HatRank" "hatSum" "J") ∈ lw_all := lw_g (lw_at lw_m1 208 rfl) rfl
theorem q315 : (Jvm.Cond.fieldLink "HatRank" (393 : Nat) "HatRank" "askedFor" "I") ∈ lw_all := lw_g (lw_at lw_m1 209 rfl) rfl
theorem q316 : (Jvm.Cond.fieldLink "HatRank" (451 : Nat) "HatRank" "isKept" "Z") ∈ lw_all := lw_g (lw_at lw_m1 210 rfl) rfl
theorem q317 : (Jvm.Cond.fieldLink "HatRank" (455 : Nat) "HatRank" "imageNow" "I") ∈ lw_all := lw_g (lw_at lw_m1 211 rfl) rfl
theorem q318 : (Jvm.Cond.fieldLink "HatRank" (458 : Nat) "HatRank" "imagePeople" "I") ∈ lw_all := lw_g (lw_at lw_m1 212 rfl) rfl
theorem q319 : (Jvm.Cond.fieldLink "HatRank" (461 : Nat) "HatRank" "imagePlaces" "I") ∈ lw_all := lw_g (lw_at lw_m1 213 rfl) rfl
theorem q320 : (Jvm.Cond.fieldLink "HatRank" (88 : Nat) "HatRank" "image" "LHatRank$Town;") ∈ lw_all := lw_g (lw_at lw_m1 214 rfl) rfl
theorem q321 : (Jvm.Cond.fieldLink "HatRank" (93 : Nat) "HatRank" "bodies" "[LHatRank$Body;") ∈ lw_all := lw_g (lw_at lw_m1 215 rfl) rfl
theorem q322 : (Jvm.Cond.fieldLink "HatRank" (470 : Nat) "HatRank" "bodyMany" "I") ∈ lw_all := lw_g (lw_at lw_m1 216 rfl) rfl
theorem q324 : (Jvm.Cond.fieldLink "HatRank" (97 : Nat) "HatRank" "trace" "[I") ∈ lw_all := lw_g (lw_at lw_m1 218 rfl) rfl
theorem q326 : (Jvm.Cond.fieldLink "HatRank" (501 : Nat) "HatRank" "ran" "I") ∈ lw_all := lw_g (lw_at lw_m1 220 rfl) rfl
theorem q327 : (Jvm.Cond.fieldLink "HatRank" (100 : Nat) "HatRank" "shelves" "[Ljava/lang/Object;") ∈ lw_all := lw_g (lw_at lw_m1 221 rfl) rfl
theorem q328 : (Jvm.Cond.laysFinal "HatRank" "HatRank" "changes" "[LHatRank$Change;") ∈ lw_all := lw_g (lw_at lw_m1 222 rfl) rfl
theorem q329 : (Jvm.Cond.soleField "HatRank" "changes") ∈ lw_all := lw_g (lw_at lw_m1 223 rfl) rfl
theorem q330 : (Jvm.Cond.lays "HatRank" "HatRank" "changeMany" "I") ∈ lw_all := lw_g (lw_at lw_m1 224 rfl) rfl
theorem q331 : (Jvm.Cond.soleField "HatRank" "changeMany") ∈ lw_all := lw_g (lw_at lw_m1 225 rfl) rfl
theorem q332 : (Jvm.Cond.lays "HatRank" "HatRank" "done" "I") ∈ lw_all := lw_g (lw_at lw_m1 226 rfl) rfl
theorem q333 : (Jvm.Cond.soleField "HatRank" "done") ∈ lw_all := lw_g (lw_at lw_m1 227 rfl) rfl
theorem q334 : (Jvm.Cond.laysFinal "HatRank" "HatRank" "tape" "[I") ∈ lw_all := lw_g (lw_at lw_m1 228 rfl) rfl
theorem q335 : (Jvm.Cond.soleField "HatRank" "tape") ∈ lw_all := lw_g (lw_at lw_m1 229 rfl) rfl
theorem q336 : (Jvm.Cond.lays "HatRank" "HatRank" "length" "I") ∈ lw_all := lw_g (lw_at lw_m1 230 rfl) rfl
theorem q337 : (Jvm.Cond.soleField "HatRank" "length") ∈ lw_all := lw_g (lw_at lw_m1 231 rfl) rfl
theorem q338 : (Jvm.Cond.laysFinal "HatRank" "HatRank" "fault" "LHatRank$Fault;") ∈ lw_all := lw_g (lw_at lw_m1 232 rfl) rfl
theorem q339 : (Jvm.Cond.soleField "HatRank" "fault") ∈ lw_all := lw_g (lw_at lw_m1 233 rfl) rfl
theorem q340 : (Jvm.Cond.lays "HatRank" "HatRank" "at" "I") ∈ lw_all := lw_g (lw_at lw_m1 234 rfl) rfl
theorem q341 : (Jvm.Cond.soleField "HatRank" "at") ∈ lw_all := lw_g (lw_at lw_m1 235 rfl) rfl
theorem q342 : (Jvm.Cond.laysFinal "HatRank" "HatRank" "town" "LHatRank$Town;") ∈ lw_all := lw_g (lw_at lw_m1 236 rfl) rfl
theorem q343 : (Jvm.Cond.soleField "HatRank" "town") ∈ lw_all := lw_g (lw_at lw_m1 237 rfl) rfl
theorem q344 : (Jvm.Cond.laysFinal "HatRank" "HatRank" "places" "[LHatRank$Place;") ∈ lw_all := lw_g (lw_at lw_m1 238 rfl) rfl
theorem q345 : (Jvm.Cond.soleField "HatRank" "places") ∈ lw_all := lw_g (lw_at lw_m1 239 rfl) rfl
theorem q346 : (Jvm.Cond.lays "HatRank" "HatRank" "placeMany" "I") ∈ lw_all := lw_g (lw_at lw_m2 0 rfl) rfl
theorem q347 : (Jvm.Cond.soleField "HatRank" "placeMany") ∈ lw_all := lw_g (lw_at lw_m2 1 rfl) rfl
theorem q348 : (Jvm.Cond.lays "HatRank" "HatRank" "wayMany" "I") ∈ lw_all := lw_g (lw_at lw_m2 2 rfl) rfl
theorem q349 : (Jvm.Cond.soleField "HatRank" "wayMany") ∈ lw_all := lw_g (lw_at lw_m2 3 rfl) rfl
theorem q350 : (Jvm.Cond.laysFinal "HatRank" "HatRank" "people" "[LHatRank$Person;") ∈ lw_all := lw_g (lw_at lw_m2 4 rfl) rfl
theorem q351 : (Jvm.Cond.soleField "HatRank" "people") ∈ lw_all := lw_g (lw_at lw_m2 5 rfl) rfl
theorem q352 : (Jvm.Cond.lays "HatRank" "HatRank" "personMany" "I") ∈ lw_all := lw_g (lw_at lw_m2 6 rfl) rfl
theorem q353 : (Jvm.Cond.soleField "HatRank" "personMany") ∈ lw_all := lw_g (lw_at lw_m2 7 rfl) rfl
theorem q354 : (Jvm.Cond.laysFinal "HatRank" "HatRank" "blows" "[LHatRank$Held;") ∈ lw_all := lw_g (lw_at lw_m2 8 rfl) rfl
theorem q355 : (Jvm.Cond.soleField "HatRank" "blows") ∈ lw_all := lw_g (lw_at lw_m2 9 rfl) rfl
theorem q356 : (Jvm.Cond.lays "HatRank" "HatRank" "now" "I") ∈ lw_all := lw_g (lw_at lw_m2 10 rfl) rfl
theorem q357 : (Jvm.Cond.soleField "HatRank" "now") ∈ lw_all := lw_g (lw_at lw_m2 11 rfl) rfl
theorem q358 : (Jvm.Cond.laysFinal "HatRank" "HatRank" "torn" "LHatRank$Torn;") ∈ lw_all := lw_g (lw_at lw_m2 12 rfl) rfl
theorem q359 : (Jvm.Cond.soleField "HatRank" "torn") ∈ lw_all := lw_g (lw_at lw_m2 13 rfl) rfl
theorem q360 : (Jvm.Cond.laysFinal "HatRank" "HatRank" "names" "[I") ∈ lw_all := lw_g (lw_at lw_m2 14 rfl) rfl
theorem q361 : (Jvm.Cond.soleField "HatRank" "names") ∈ lw_all := lw_g (lw_at lw_m2 15 rfl) rfl
theorem q362 : (Jvm.Cond.lays "HatRank" "HatRank" "opened" "I") ∈ lw_all := lw_g (lw_at lw_m2 16 rfl) rfl
theorem q363 : (Jvm.Cond.soleField "HatRank" "opened") ∈ lw_all := lw_g (lw_at lw_m2 17 rfl) rfl
theorem q364 : (Jvm.Cond.lays "HatRank" "HatRank" "falling" "LHatRank$Line;") ∈ lw_all := lw_g (lw_at lw_m2 18 rfl) rfl
theorem q365 : (Jvm.Cond.soleField "HatRank" "falling") ∈ lw_all := lw_g (lw_at lw_m2 19 rfl) rfl
theorem q366 : (Jvm.Cond.lays "HatRank" "HatRank" "storming" "I") ∈ lw_all := lw_g (lw_at lw_m2 20 rfl) rfl
theorem q367 : (Jvm.Cond.soleField "HatRank" "storming") ∈ lw_all := lw_g (lw_at lw_m2 21 rfl) rfl
theorem q368 : (Jvm.Cond.lays "HatRank" "HatRank" "z" "I") ∈ lw_all := lw_g (lw_at lw_m2 22 rfl) rfl
theorem q369 : (Jvm.Cond.soleField "HatRank" "z") ∈ lw_all := lw_g (lw_at lw_m2 23 rfl) rfl
theorem q370 : (Jvm.Cond.laysFinal "HatRank" "HatRank" "toCome" "[I") ∈ lw_all := lw_g (lw_at lw_m2 24 rfl) rfl
theorem q371 : (Jvm.Cond.soleField "HatRank" "toCome") ∈ lw_all := lw_g (lw_at lw_m2 25 rfl) rfl
theorem q372 : (Jvm.Cond.laysFinal "HatRank" "HatRank" "towns" "[LHatRank$Town;") ∈ lw_all := lw_g (lw_at lw_m2 26 rfl) rfl
theorem q373 : (Jvm.Cond.soleField "HatRank" "towns") ∈ lw_all := lw_g (lw_at lw_m2 27 rfl) rfl
theorem q374 : (Jvm.Cond.lays "HatRank" "HatRank" "commandSum" "J") ∈ lw_all := lw_g (lw_at lw_m2 28 rfl) rfl
theorem q375 : (Jvm.Cond.soleField "HatRank" "commandSum") ∈ lw_all := lw_g (lw_at lw_m2 29 rfl) rfl
theorem q376 : (Jvm.Cond.lays "HatRank" "HatRank" "hatSum" "J") ∈ lw_all := lw_g (lw_at lw_m2 30 rfl) rfl
theorem q377 : (Jvm.Cond.soleField "HatRank" "hatSum") ∈ lw_all := lw_g (lw_at lw_m2 31 rfl) rfl
theorem q378 : (Jvm.Cond.lays "HatRank" "HatRank" "askedFor" "I") ∈ lw_all := lw_g (lw_at lw_m2 32 rfl) rfl
theorem q379 : (Jvm.Cond.soleField "HatRank" "askedFor") ∈ lw_all := lw_g (lw_at lw_m2 33 rfl) rfl
theorem q380 : (Jvm.Cond.lays "HatRank" "HatRank" "isKept" "Z") ∈ lw_all := lw_g (lw_at lw_m2 34 rfl) rfl
theorem q381 : (Jvm.Cond.soleField "HatRank" "isKept") ∈ lw_all := lw_g (lw_at lw_m2 35 rfl) rfl
theorem q382 : (Jvm.Cond.lays "HatRank" "HatRank" "imageNow" "I") ∈ lw_all := lw_g (lw_at lw_m2 36 rfl) rfl
theorem q383 : (Jvm.Cond.soleField "HatRank" "imageNow") ∈ lw_all := lw_g (lw_at lw_m2 37 rfl) rfl
theorem q384 : (Jvm.Cond.lays "HatRank" "HatRank" "imagePeople" "I") ∈ lw_all := lw_g (lw_at lw_m2 38 rfl) rfl
theorem q385 : (Jvm.Cond.soleField "HatRank" "imagePeople") ∈ lw_all := lw_g (lw_at lw_m2 39 rfl) rfl
theorem q386 : (Jvm.Cond.lays "HatRank" "HatRank" "imagePlaces" "I") ∈ lw_all := lw_g (lw_at lw_m2 40 rfl) rfl
theorem q387 : (Jvm.Cond.soleField "HatRank" "imagePlaces") ∈ lw_all := lw_g (lw_at lw_m2 41 rfl) rfl
theorem q388 : (Jvm.Cond.laysFinal "HatRank" "HatRank" "image" "LHatRank$Town;") ∈ lw_all := lw_g (lw_at lw_m2 42 rfl) rfl
theorem q389 : (Jvm.Cond.soleField "HatRank" "image") ∈ lw_all := lw_g (lw_at lw_m2 43 rfl) rfl
theorem q390 : (Jvm.Cond.laysFinal "HatRank" "HatRank" "bodies" "[LHatRank$Body;") ∈ lw_all := lw_g (lw_at lw_m2 44 rfl) rfl
theorem q391 : (Jvm.Cond.soleField "HatRank" "bodies") ∈ lw_all := lw_g (lw_at lw_m2 45 rfl) rfl
theorem q392 : (Jvm.Cond.lays "HatRank" "HatRank" "bodyMany" "I") ∈ lw_all := lw_g (lw_at lw_m2 46 rfl) rfl
theorem q393 : (Jvm.Cond.soleField "HatRank" "bodyMany") ∈ lw_all := lw_g (lw_at lw_m2 47 rfl) rfl
theorem q394 : (Jvm.Cond.laysFinal "HatRank" "HatRank" "trace" "[I") ∈ lw_all := lw_g (lw_at lw_m2 48 rfl) rfl
theorem q395 : (Jvm.Cond.soleField "HatRank" "trace") ∈ lw_all := lw_g (lw_at lw_m2 49 rfl) rfl
theorem q396 : (Jvm.Cond.lays "HatRank" "HatRank" "ran" "I") ∈ lw_all := lw_g (lw_at lw_m2 50 rfl) rfl
theorem q397 : (Jvm.Cond.soleField "HatRank" "ran") ∈ lw_all := lw_g (lw_at lw_m2 51 rfl) rfl
theorem q398 : (Jvm.Cond.laysFinal "HatRank" "HatRank" "shelves" "[Ljava/lang/Object;") ∈ lw_all := lw_g (lw_at lw_m2 52 rfl) rfl
theorem q399 : (Jvm.Cond.soleField "HatRank" "shelves") ∈ lw_all := lw_g (lw_at lw_m2 53 rfl) rfl
theorem q400 : (Jvm.Cond.superclass "HatRank" "java/lang/Object") ∈ lw_all := lw_g (lw_at lw_m2 54 rfl) rfl
theorem q402 : (Jvm.Cond.instanceMethod ({ cls := "HatRank", name := "feed", desc := "(I)I" } : Jvm.MethodName)) ∈ lw_all := lw_g (lw_at lw_m2 56 rfl) rfl
theorem q403 : (Jvm.Cond.selects "HatRank" ({ cls := "HatRank", name := "feed", desc := "(I)I" } : Jvm.MethodName) ({ cls := "HatRank", name := "feed", desc := "(I)I" } : Jvm.MethodName)) ∈ lw_all := lw_g (lw_at lw_m2 57 rfl) rfl
theorem q404 : (Jvm.Cond.code ({ cls := "HatRank", name := "feed", desc := "(I)I" } : Jvm.MethodName) prog_1_method_7_code (2 : Nat) (Option.some Jvm.ClassFile.FieldType.int)) ∈ lw_all := lw_g (lw_at lw_m2 58 rfl) rfl
theorem q405 : (Jvm.Cond.constantLong "HatRank" (106 : Nat) (255 : Int64)) ∈ lw_all := lw_g (lw_at lw_m2 59 rfl) rfl
theorem q406 : (Jvm.Cond.methodLink "HatRank" (108 : Nat) ({ cls := "HatRank", name := "within", desc := "(JJJ)Z" } : Jvm.MethodName)) ∈ lw_all := lw_g (lw_at lw_m2 60 rfl) rfl
theorem q407 : (Jvm.Cond.static ({ cls := "HatRank", name := "within", desc := "(JJJ)Z" } : Jvm.MethodName)) ∈ lw_all := lw_g (lw_at lw_m2 61 rfl) rfl
theorem q408 : (Jvm.Cond.code ({ cls := "HatRank", name := "within", desc := "(JJJ)Z" } : Jvm.MethodName) prog_1_method_1_code (6 : Nat) (Option.some Jvm.ClassFile.FieldType.boolean)) ∈ lw_all := lw_g (lw_at lw_m2 62 rfl) rfl
theorem q410 : (Jvm.Cond.instanceMethod ({ cls := "HatRank", name := "place", desc := "(I)I" } : Jvm.MethodName)) ∈ lw_all := lw_g (lw_at lw_m2 64 rfl) rfl
theorem q411 : (Jvm.Cond.selects "HatRank" ({ cls := "HatRank", name := "place", desc := "(I)I" } : Jvm.MethodName) ({ cls := "HatRank", name := "place", desc := "(I)I" } : Jvm.MethodName)) ∈ lw_all := lw_g (lw_at lw_m2 65 rfl) rfl
theorem q412 : (Jvm.Cond.code ({ cls := "HatRank", name := "place", desc := "(I)I" } : Jvm.MethodName) prog_1_method_15_code (3 : Nat) (Option.some Jvm.ClassFile.FieldType.int)) ∈ lw_all := lw_g (lw_at lw_m2 66 rfl) rfl
theorem q413 : (Jvm.Cond.constantLong "HatRank" (138 : Nat) (9 : Int64)) ∈ lw_all := lw_g (lw_at lw_m2 67 rfl) rfl
theorem q415 : (Jvm.Cond.methodLinkNest "HatRank" (140 : Nat) ({ cls := "HatRank$Place", name := "<init>", desc := "()V" } : Jvm.MethodName) "HatRank") ∈ lw_tbl := lw_at lw_m2 69 rfl
theorem q422 : (Jvm.Cond.fieldLinkNest "HatRank" (141 : Nat) "HatRank$Place" "numbers" "[LHatRank$Held;" "HatRank") ∈ lw_tbl := lw_at lw_m2 76 rfl
theorem q423 : (Jvm.Cond.fieldLinkNest "HatRank" (144 : Nat) "HatRank$Place" "ways" "I" "HatRank") ∈ lw_tbl := lw_at lw_m2 77 rfl
theorem q430 : (Jvm.Cond.instanceMethod ({ cls := "HatRank", name := "way", desc := "(I)I" } : Jvm.MethodName)) ∈ lw_all := lw_g (lw_at lw_m2 84 rfl) rfl
theorem q431 : (Jvm.Cond.selects "HatRank" ({ cls := "HatRank", name := "way", desc := "(I)I" } : Jvm.MethodName) ({ cls := "HatRank", name := "way", desc := "(I)I" } : Jvm.MethodName)) ∈ lw_all := lw_g (lw_at lw_m2 85 rfl) rfl
theorem q432 : (Jvm.Cond.code ({ cls := "HatRank", name := "way", desc := "(I)I" } : Jvm.MethodName) prog_1_method_17_code (2 : Nat) (Option.some Jvm.ClassFile.FieldType.int)) ∈ lw_all := lw_g (lw_at lw_m2 86 rfl) rfl
theorem q433 : (Jvm.Cond.methodLink "HatRank" (147 : Nat) ({ cls := "HatRank", name := "isPlace", desc := "(I)Z" } : Jvm.MethodName)) ∈ lw_all := lw_g (lw_at lw_m2 87 rfl) rfl
theorem q434 : (Jvm.Cond.privateMethod ({ cls := "HatRank", name := "isPlace", desc := "(I)Z" } : Jvm.MethodName)) ∈ lw_tbl := lw_at lw_m2 88 rfl
theorem q435 : (Jvm.Cond.instanceMethod ({ cls := "HatRank", name := "isPlace", desc := "(I)Z" } : Jvm.MethodName)) ∈ lw_all := lw_g (lw_at lw_m2 89 rfl) rfl
theorem q436 : (Jvm.Cond.code ({ cls := "HatRank", name := "isPlace", desc := "(I)Z" } : Jvm.MethodName) prog_1_method_12_code (2 : Nat) (Option.some Jvm.ClassFile.FieldType.boolean)) ∈ lw_all := lw_g (lw_at lw_m2 90 rfl) rfl
theorem q437 : (Jvm.Cond.methodLink "HatRank" (150 : Nat) ({ cls := "HatRank", name := "isWay", desc := "(II)Z" } : Jvm.MethodName)) ∈ lw_all := lw_g (lw_at lw_m2 91 rfl) rfl
theorem q438 : (Jvm.Cond.privateMethod ({ cls := "HatRank", name := "isWay", desc := "(II)Z" } : Jvm.MethodName)) ∈ lw_tbl := lw_at lw_m2 92 rfl
theorem q439 : (Jvm.Cond.instanceMethod ({ cls := "HatRank", name := "isWay", desc := "(II)Z" } : Jvm.MethodName)) ∈ lw_all := lw_g (lw_at lw_m2 93 rfl) rfl
theorem q440 : (Jvm.Cond.code ({ cls := "HatRank", name := "isWay", desc := "(II)Z" } : Jvm.MethodName) prog_1_method_16_code (3 : Nat) (Option.some Jvm.ClassFile.FieldType.boolean)) ∈ lw_all := lw_g (lw_at lw_m2 94 rfl) rfl
theorem q442 : (Jvm.Cond.instanceMethod ({ cls := "HatRank", name := "person", desc := "(II)I" } : Jvm.MethodName)) ∈ lw_all := lw_g (lw_at lw_m2 96 rfl) rfl
theorem q443 : (Jvm.Cond.selects "HatRank" ({ cls := "HatRank", name := "person", desc := "(II)I" } : Jvm.MethodName) ({ cls := "HatRank", name := "person", desc := "(II)I" } : Jvm.MethodName)) ∈ lw_all := lw_g (lw_at lw_m2 97 rfl) rfl
theorem q444 : (Jvm.Cond.code ({ cls := "HatRank", name := "person", desc := "(II)I" } : Jvm.MethodName) prog_1_method_20_code (3 : Nat) (Option.some Jvm.ClassFile.FieldType.int)) ∈ lw_all := lw_g (lw_at lw_m2 98 rfl) rfl
theorem q445 : (Jvm.Cond.methodLink "HatRank" (166 : Nat) ({ cls := "HatRank", name := "mayBe", desc := "(III)Z" } : Jvm.MethodName)) ∈ lw_all := lw_g (lw_at lw_m2 99 rfl) rfl
theorem q446 : (Jvm.Cond.privateMethod ({ cls := "HatRank", name := "mayBe", desc := "(III)Z" } : Jvm.MethodName)) ∈ lw_tbl := lw_at lw_m2 100 rfl
theorem q447 : (Jvm.Cond.instanceMethod ({ cls := "HatRank", name := "mayBe", desc := "(III)Z" } : Jvm.MethodName)) ∈ lw_all := lw_g (lw_at lw_m2 101 rfl) rfl
theorem q448 : (Jvm.Cond.code ({ cls := "HatRank", name := "mayBe", desc := "(III)Z" } : Jvm.MethodName) prog_1_method_18_code (4 : Nat) (Option.some Jvm.ClassFile.FieldType.boolean)) ∈ lw_all := lw_g (lw_at lw_m2 102 rfl) rfl
theorem q449 : (Jvm.Cond.methodLink "HatRank" (170 : Nat) ({ cls := "HatRank", name := "add", desc := "(III)V" } : Jvm.MethodName)) ∈ lw_all := lw_g (lw_at lw_m2 103 rfl) rfl
theorem q450 : (Jvm.Cond.privateMethod ({ cls := "HatRank", name := "add", desc := "(III)V" } : Jvm.MethodName)) ∈ lw_tbl := lw_at lw_m2 104 rfl
theorem q451 : (Jvm.Cond.instanceMethod ({ cls := "HatRank", name := "add", desc := "(III)V" } : Jvm.MethodName)) ∈ lw_all := lw_g (lw_at lw_m2 105 rfl) rfl
theorem q452 : (Jvm.Cond.code ({ cls := "HatRank", name := "add", desc := "(III)V" } : Jvm.MethodName) prog_1_method_19_code (4 : Nat) (Option.none : Option Jvm.ClassFile.FieldType)) ∈ lw_all := lw_g (lw_at lw_m2 106 rfl) rfl
theorem q454 : (Jvm.Cond.methodLinkNest "HatRank" (157 : Nat) ({ cls := "HatRank$Person", name := "<init>", desc := "()V" } : Jvm.MethodName) "HatRank") ∈ lw_tbl := lw_at lw_m2 108 rfl
theorem q461 : (Jvm.Cond.fieldLinkNest "HatRank" (158 : Nat) "HatRank$Person" "brim" "LHatRank$Held;" "HatRank") ∈ lw_tbl := lw_at lw_m2 115 rfl
theorem q463 : (Jvm.Cond.fieldLinkNest "HatRank" (368 : Nat) "HatRank$Person" "landed" "I" "HatRank") ∈ lw_tbl := lw_at lw_m2 117 rfl
theorem q470 : (Jvm.Cond.instanceMethod ({ cls := "HatRank", name := "people", desc := "(III)I" } : Jvm.MethodName)) ∈ lw_all := lw_g (lw_at lw_m2 124 rfl) rfl
theorem q471 : (Jvm.Cond.selects "HatRank" ({ cls := "HatRank", name := "people", desc := "(III)I" } : Jvm.MethodName) ({ cls := "HatRank", name := "people", desc := "(III)I" } : Jvm.MethodName)) ∈ lw_all := lw_g (lw_at lw_m2 125 rfl) rfl
theorem q472 : (Jvm.Cond.codeWith ({ cls := "HatRank", name := "people", desc := "(III)I" } : Jvm.MethodName) prog_1_method_22_code (12 : Nat) (Option.some Jvm.ClassFile.FieldType.int) [((54 : Nat), (151 : Nat), (154 : Nat), (71 : Nat))]) ∈ lw_all := lw_g (lw_at lw_m2 126 rfl) rfl
theorem q473 : (Jvm.Cond.methodLink "HatRank" (176 : Nat) ({ cls := "HatRank", name := "isShelf", desc := "(I)Z" } : Jvm.MethodName)) ∈ lw_all := lw_g (lw_at lw_m2 127 rfl) rfl
theorem q474 : (Jvm.Cond.static ({ cls := "HatRank", name := "isShelf", desc := "(I)Z" } : Jvm.MethodName)) ∈ lw_all := lw_g (lw_at lw_m2 128 rfl) rfl
theorem q475 : (Jvm.Cond.code ({ cls := "HatRank", name := "isShelf", desc := "(I)Z" } : Jvm.MethodName) prog_1_method_85_code (1 : Nat) (Option.some Jvm.ClassFile.FieldType.boolean)) ∈ lw_all := lw_g (lw_at lw_m2 129 rfl) rfl
theorem q476 : (Jvm.Cond.constantLong "HatRank" (519 : Nat) (5 : Int64)) ∈ lw_all := lw_g (lw_at lw_m2 130 rfl) rfl
theorem q477 : (Jvm.Cond.constantLong "HatRank" (179 : Nat) (6 : Int64)) ∈ lw_all := lw_g (lw_at lw_m2 131 rfl) rfl
theorem q478 : (Jvm.Cond.methodLink "HatRank" (181 : Nat) ({ cls := "HatRank", name := "sortOf", desc := "(Ljava/lang/Object;)I" } : Jvm.MethodName)) ∈ lw_all := lw_g (lw_at lw_m2 132 rfl) rfl
theorem q479 : (Jvm.Cond.static ({ cls := "HatRank", name := "sortOf", desc := "(Ljava/lang/Object;)I" } : Jvm.MethodName)) ∈ lw_all := lw_g (lw_at lw_m2 133 rfl) rfl
theorem q480 : (Jvm.Cond.code ({ cls := "HatRank", name := "sortOf", desc := "(Ljava/lang/Object;)I" } : Jvm.MethodName) prog_1_method_88_code (1 : Nat) (Option.some Jvm.ClassFile.FieldType.int)) ∈ lw_all := lw_g (lw_at lw_m2 134 rfl) rfl
theorem q481 : (Jvm.Cond.classLink "HatRank" (174 : Nat) "[B") ∈ lw_all := lw_g (lw_at lw_m2 135 rfl) rfl
theorem q482 : (Jvm.Cond.classLink "HatRank" (521 : Nat) "[S") ∈ lw_all := lw_g (lw_at lw_m2 136 rfl) rfl
theorem q483 : (Jvm.Cond.classLink "HatRank" (523 : Nat) "[I") ∈ lw_all := lw_g (lw_at lw_m2 137 rfl) rfl
theorem q484 : (Jvm.Cond.classLink "HatRank" (524 : Nat) "[J") ∈ lw_all := lw_g (lw_at lw_m2 138 rfl) rfl
theorem q485 : (Jvm.Cond.classLink "HatRank" (526 : Nat) "[Z") ∈ lw_all := lw_g (lw_at lw_m2 139 rfl) rfl
theorem q486 : (Jvm.Cond.constantLong "HatRank" (185 : Nat) (3 : Int64)) ∈ lw_all := lw_g (lw_at lw_m2 140 rfl) rfl
theorem q487 : (Jvm.Cond.methodLink "HatRank" (187 : Nat) ({ cls := "HatRank", name := "toldIn", desc := "(Ljava/lang/Object;J)I" } : Jvm.MethodName)) ∈ lw_all := lw_g (lw_at lw_m2 141 rfl) rfl
theorem q488 : (Jvm.Cond.privateMethod ({ cls := "HatRank", name := "toldIn", desc := "(Ljava/lang/Object;J)I" } : Jvm.MethodName)) ∈ lw_tbl := lw_at lw_m2 142 rfl
theorem q489 : (Jvm.Cond.instanceMethod ({ cls := "HatRank", name := "toldIn", desc := "(Ljava/lang/Object;J)I" } : Jvm.MethodName)) ∈ lw_all := lw_g (lw_at lw_m2 143 rfl) rfl
theorem q490 : (Jvm.Cond.code ({ cls := "HatRank", name := "toldIn", desc := "(Ljava/lang/Object;J)I" } : Jvm.MethodName) prog_1_method_21_code (4 : Nat) (Option.some Jvm.ClassFile.FieldType.int)) ∈ lw_all := lw_g (lw_at lw_m2 144 rfl) rfl
theorem q491 : (Jvm.Cond.constantLong "HatRank" (191 : Nat) (2 : Int64)) ∈ lw_all := lw_g (lw_at lw_m2 145 rfl) rfl
theorem q493 : (Jvm.Cond.instanceMethod ({ cls := "HatRank", name := "mend", desc := "(III)I" } : Jvm.MethodName)) ∈ lw_all := lw_g (lw_at lw_m2 147 rfl) rfl
theorem q494 : (Jvm.Cond.selects "HatRank" ({ cls := "HatRank", name := "mend", desc := "(III)I" } : Jvm.MethodName) ({ cls := "HatRank", name := "mend", desc := "(III)I" } : Jvm.MethodName)) ∈ lw_all := lw_g (lw_at lw_m2 148 rfl) rfl
theorem q495 : (Jvm.Cond.code ({ cls := "HatRank", name := "mend", desc := "(III)I" } : Jvm.MethodName) prog_1_method_23_code (4 : Nat) (Option.some Jvm.ClassFile.FieldType.int)) ∈ lw_all := lw_g (lw_at lw_m2 149 rfl) rfl
theorem q496 : (Jvm.Cond.methodLink "HatRank" (193 : Nat) ({ cls := "HatRank", name := "isPerson", desc := "(I)Z" } : Jvm.MethodName)) ∈ lw_all := lw_g (lw_at lw_m2 150 rfl) rfl
theorem q497 : (Jvm.Cond.privateMethod ({ cls := "HatRank", name := "isPerson", desc := "(I)Z" } : Jvm.MethodName)) ∈ lw_tbl := lw_at lw_m2 151 rfl
theorem q498 : (Jvm.Cond.instanceMethod ({ cls := "HatRank", name := "isPerson", desc := "(I)Z" } : Jvm.MethodName)) ∈ lw_all := lw_g (lw_at lw_m2 152 rfl) rfl
theorem q499 : (Jvm.Cond.code ({ cls := "HatRank", name := "isPerson", desc := "(I)Z" } : Jvm.MethodName) prog_1_method_13_code (2 : Nat) (Option.some Jvm.ClassFile.FieldType.boolean)) ∈ lw_all := lw_g (lw_at lw_m2 153 rfl) rfl
theorem q500 : (Jvm.Cond.methodLink "HatRank" (196 : Nat) ({ cls := "HatRank", name := "become", desc := "(LHatRank$Held;I)I" } : Jvm.MethodName)) ∈ lw_all := lw_g (lw_at lw_m2 154 rfl) rfl
theorem q501 : (Jvm.Cond.privateMethod ({ cls := "HatRank", name := "become", desc := "(LHatRank$Held;I)I" } : Jvm.MethodName)) ∈ lw_tbl := lw_at lw_m2 155 rfl
theorem q502 : (Jvm.Cond.instanceMethod ({ cls := "HatRank", name := "become", desc := "(LHatRank$Held;I)I" } : Jvm.MethodName)) ∈ lw_all := lw_g (lw_at lw_m2 156 rfl) rfl
theorem q503 : (Jvm.Cond.code ({ cls := "HatRank", name := "become", desc := "(LHatRank$Held;I)I" } : Jvm.MethodName) prog_1_method_3_code (6 : Nat) (Option.some Jvm.ClassFile.FieldType.int)) ∈ lw_all := lw_g (lw_at lw_m2 157 rfl) rfl
theorem q504 : (Jvm.Cond.methodLink "HatRank" (200 : Nat) ({ cls := "HatRank", name := "isHour", desc := "(I)Z" } : Jvm.MethodName)) ∈ lw_all := lw_g (lw_at lw_m2 158 rfl) rfl
theorem q505 : (Jvm.Cond.static ({ cls := "HatRank", name := "isHour", desc := "(I)Z" } : Jvm.MethodName)) ∈ lw_all := lw_g (lw_at lw_m2 159 rfl) rfl
theorem q506 : (Jvm.Cond.code ({ cls := "HatRank", name := "isHour", desc := "(I)Z" } : Jvm.MethodName) prog_1_method_14_code (1 : Nat) (Option.some Jvm.ClassFile.FieldType.boolean)) ∈ lw_all := lw_g (lw_at lw_m2 160 rfl) rfl
theorem q507 : (Jvm.Cond.constantLong "HatRank" (136 : Nat) (23 : Int64)) ∈ lw_all := lw_g (lw_at lw_m2 161 rfl) rfl
theorem q509 : (Jvm.Cond.instanceMethod ({ cls := "HatRank", name := "of", desc := "(II)I" } : Jvm.MethodName)) ∈ lw_all := lw_g (lw_at lw_m2 163 rfl) rfl
theorem q510 : (Jvm.Cond.selects "HatRank" ({ cls := "HatRank", name := "of", desc := "(II)I" } : Jvm.MethodName) ({ cls := "HatRank", name := "of", desc := "(II)I" } : Jvm.MethodName)) ∈ lw_all := lw_g (lw_at lw_m2 164 rfl) rfl
theorem q511 : (Jvm.Cond.code ({ cls := "HatRank", name := "of", desc := "(II)I" } : Jvm.MethodName) prog_1_method_29_code (3 : Nat) (Option.some Jvm.ClassFile.FieldType.int)) ∈ lw_all := lw_g (lw_at lw_m2 165 rfl) rfl
theorem q512 : (Jvm.Cond.constantLong "HatRank" (235 : Nat) (4 : Int64)) ∈ lw_all := lw_g (lw_at lw_m2 166 rfl) rfl
theorem q513 : (Jvm.Cond.methodLink "HatRank" (237 : Nat) ({ cls := "HatRank", name := "ofPerson", desc := "(II)I" } : Jvm.MethodName)) ∈ lw_all := lw_g (lw_at lw_m2 167 rfl) rfl
theorem q514 : (Jvm.Cond.privateMethod ({ cls := "HatRank", name := "ofPerson", desc := "(II)I" } : Jvm.MethodName)) ∈ lw_tbl := lw_at lw_m2 168 rfl
theorem q515 : (Jvm.Cond.instanceMethod ({ cls := "HatRank", name := "ofPerson", desc := "(II)I" } : Jvm.MethodName)) ∈ lw_all := lw_g (lw_at lw_m2 169 rfl) rfl
theorem q516 : (Jvm.Cond.code ({ cls := "HatRank", name := "ofPerson", desc := "(II)I" } : Jvm.MethodName) prog_1_method_27_code (3 : Nat) (Option.some Jvm.ClassFile.FieldType.int)) ∈ lw_all := lw_g (lw_at lw_m2 170 rfl) rfl
theorem q517 : (Jvm.Cond.methodLink "HatRank" (211 : Nat) ({ cls := "HatRank", name := "rankOf", desc := "(I)I" } : Jvm.MethodName)) ∈ lw_all := lw_g (lw_at lw_m2 171 rfl) rfl
theorem q518 : (Jvm.Cond.privateMethod ({ cls := "HatRank", name := "rankOf", desc := "(I)I" } : Jvm.MethodName)) ∈ lw_tbl := lw_at lw_m2 172 rfl
theorem q519 : (Jvm.Cond.instanceMethod ({ cls := "HatRank", name := "rankOf", desc := "(I)I" } : Jvm.MethodName)) ∈ lw_all := lw_g (lw_at lw_m2 173 rfl) rfl
theorem q520 : (Jvm.Cond.code ({ cls := "HatRank", name := "rankOf", desc := "(I)I" } : Jvm.MethodName) prog_1_method_25_code (4 : Nat) (Option.some Jvm.ClassFile.FieldType.int)) ∈ lw_all := lw_g (lw_at lw_m2 174 rfl) rfl
theorem q521 : (Jvm.Cond.methodLink "HatRank" (203 : Nat) ({ cls := "HatRank", name := "isAbove", desc := "(LHatRank$Town;II)Z" } : Jvm.MethodName)) ∈ lw_all := lw_g (lw_at lw_m2 175 rfl) rfl
theorem q522 : (Jvm.Cond.privateMethod ({ cls := "HatRank", name := "isAbove", desc := "(LHatRank$Town;II)Z" } : Jvm.MethodName)) ∈ lw_tbl := lw_at lw_m2 176 rfl
theorem q523 : (Jvm.Cond.instanceMethod ({ cls := "HatRank", name := "isAbove", desc := "(LHatRank$Town;II)Z" } : Jvm.MethodName)) ∈ lw_all := lw_g (lw_at lw_m2 177 rfl) rfl
theorem q524 : (Jvm.Cond.code ({ cls := "HatRank", name := "isAbove", desc := "(LHatRank$Town;II)Z" } : Jvm.MethodName) prog_1_method_24_code (4 : Nat) (Option.some Jvm.ClassFile.FieldType.boolean)) ∈ lw_all := lw_g (lw_at lw_m2 178 rfl) rfl
theorem q525 : (Jvm.Cond.methodLink "HatRank" (207 : Nat) ({ cls := "HatRank", name := "bit", desc := "(Z)I" } : Jvm.MethodName)) ∈ lw_all := lw_g (lw_at lw_m2 179 rfl) rfl
theorem q526 : (Jvm.Cond.static ({ cls := "HatRank", name := "bit", desc := "(Z)I" } : Jvm.MethodName)) ∈ lw_all := lw_g (lw_at lw_m2 180 rfl) rfl
theorem q527 : (Jvm.Cond.code ({ cls := "HatRank", name := "bit", desc := "(Z)I" } : Jvm.MethodName) prog_1_method_2_code (1 : Nat) (Option.some Jvm.ClassFile.FieldType.int)) ∈ lw_all := lw_g (lw_at lw_m2 181 rfl) rfl
theorem q528 : (Jvm.Cond.methodLink "HatRank" (218 : Nat) ({ cls := "HatRank", name := "fallsOf", desc := "(LHatRank$Town;II)I" } : Jvm.MethodName)) ∈ lw_all := lw_g (lw_at lw_m2 182 rfl) rfl
theorem q529 : (Jvm.Cond.privateMethod ({ cls := "HatRank", name := "fallsOf", desc := "(LHatRank$Town;II)I" } : Jvm.MethodName)) ∈ lw_tbl := lw_at lw_m2 183 rfl
theorem q530 : (Jvm.Cond.instanceMethod ({ cls := "HatRank", name := "fallsOf", desc := "(LHatRank$Town;II)I" } : Jvm.MethodName)) ∈ lw_all := lw_g (lw_at lw_m2 184 rfl) rfl
theorem q531 : (Jvm.Cond.code ({ cls := "HatRank", name := "fallsOf", desc := "(LHatRank$Town;II)I" } : Jvm.MethodName) prog_1_method_44_code (4 : Nat) (Option.some Jvm.ClassFile.FieldType.int)) ∈ lw_all := lw_g (lw_at lw_m2 185 rfl) rfl
theorem q532 : (Jvm.Cond.methodLink "HatRank" (345 : Nat) ({ cls := "HatRank", name := "fallsAt", desc := "(LHatRank$Town;IIII)I" } : Jvm.MethodName)) ∈ lw_all := lw_g (lw_at lw_m2 186 rfl) rfl
theorem q533 : (Jvm.Cond.privateMethod ({ cls := "HatRank", name := "fallsAt", desc := "(LHatRank$Town;IIII)I" } : Jvm.MethodName)) ∈ lw_tbl := lw_at lw_m2 187 rfl
theorem q534 : (Jvm.Cond.instanceMethod ({ cls := "HatRank", name := "fallsAt", desc := "(LHatRank$Town;IIII)I" } : Jvm.MethodName)) ∈ lw_all := lw_g (lw_at lw_m2 188 rfl) rfl
theorem q535 : (Jvm.Cond.code ({ cls := "HatRank", name := "fallsAt", desc := "(LHatRank$Town;IIII)I" } : Jvm.MethodName) prog_1_method_43_code (8 : Nat) (Option.some Jvm.ClassFile.FieldType.int)) ∈ lw_all := lw_g (lw_at lw_m2 189 rfl) rfl
theorem q536 : (Jvm.Cond.methodLink "HatRank" (231 : Nat) ({ cls := "HatRank", name := "gustAt", desc := "(II)I" } : Jvm.MethodName)) ∈ lw_all := lw_g (lw_at lw_m2 190 rfl) rfl
theorem q537 : (Jvm.Cond.privateMethod ({ cls := "HatRank", name := "gustAt", desc := "(II)I" } : Jvm.MethodName)) ∈ lw_tbl := lw_at lw_m2 191 rfl
theorem q538 : (Jvm.Cond.instanceMethod ({ cls := "HatRank", name := "gustAt", desc := "(II)I" } : Jvm.MethodName)) ∈ lw_all := lw_g (lw_at lw_m2 192 rfl) rfl
theorem q539 : (Jvm.Cond.code ({ cls := "HatRank", name := "gustAt", desc := "(II)I" } : Jvm.MethodName) prog_1_method_41_code (3 : Nat) (Option.some Jvm.ClassFile.FieldType.int)) ∈ lw_all := lw_g (lw_at lw_m2 193 rfl) rfl
theorem q540 : (Jvm.Cond.methodLink "HatRank" (222 : Nat) ({ cls := "HatRank$Place", name := "lee", desc := "()I" } : Jvm.MethodName)) ∈ lw_all := lw_g (lw_at lw_m2 194 rfl) rfl
theorem q544 : (Jvm.Cond.methodLink "HatRank" (331 : Nat) ({ cls := "java/lang/Math", name := "max", desc := "(II)I" } : Jvm.MethodName)) ∈ lw_all := lw_g (lw_at lw_m2 198 rfl) rfl
theorem q547 : (Jvm.Cond.methodLink "HatRank" (336 : Nat) ({ cls := "HatRank", name := "othersAt", desc := "(LHatRank$Town;II)I" } : Jvm.MethodName)) ∈ lw_all := lw_g (lw_at lw_m2 201 rfl) rfl
theorem q548 : (Jvm.Cond.privateMethod ({ cls := "HatRank", name := "othersAt", desc := "(LHatRank$Town;II)I" } : Jvm.MethodName)) ∈ lw_tbl := lw_at lw_m2 202 rfl
theorem q549 : (Jvm.Cond.instanceMethod ({ cls := "HatRank", name := "othersAt", desc := "(LHatRank$Town;II)I" } : Jvm.MethodName)) ∈ lw_all := lw_g (lw_at lw_m2 203 rfl) rfl
theorem q550 : (Jvm.Cond.code ({ cls := "HatRank", name := "othersAt", desc := "(LHatRank$Town;II)I" } : Jvm.MethodName) prog_1_method_42_code (6 : Nat) (Option.some Jvm.ClassFile.FieldType.int)) ∈ lw_all := lw_g (lw_at lw_m2 204 rfl) rfl
theorem q551 : (Jvm.Cond.methodLink "HatRank" (339 : Nat) ({ cls := "HatRank", name := "ruled", desc := "()I" } : Jvm.MethodName)) ∈ lw_all := lw_g (lw_at lw_m2 205 rfl) rfl
theorem q552 : (Jvm.Cond.privateMethod ({ cls := "HatRank", name := "ruled", desc := "()I" } : Jvm.MethodName)) ∈ lw_tbl := lw_at lw_m2 206 rfl
theorem q553 : (Jvm.Cond.instanceMethod ({ cls := "HatRank", name := "ruled", desc := "()I" } : Jvm.MethodName)) ∈ lw_all := lw_g (lw_at lw_m2 207 rfl) rfl
theorem q554 : (Jvm.Cond.code ({ cls := "HatRank", name := "ruled", desc := "()I" } : Jvm.MethodName) prog_1_method_40_code (2 : Nat) (Option.some Jvm.ClassFile.FieldType.int)) ∈ lw_all := lw_g (lw_at lw_m2 208 rfl) rfl
theorem q555 : (Jvm.Cond.methodLink "HatRank" (323 : Nat) ({ cls := "HatRank$Term", name := "value", desc := "()I" } : Jvm.MethodName)) ∈ lw_all := lw_g (lw_at lw_m2 209 rfl) rfl
theorem q574 : (Jvm.Cond.methodLink "HatRank" (342 : Nat) ({ cls := "java/lang/Math", name := "min", desc := "(II)I" } : Jvm.MethodName)) ∈ lw_all := lw_g (lw_at lw_m2 228 rfl) rfl
theorem q577 : (Jvm.Cond.constantLong "HatRank" (240 : Nat) (10 : Int64)) ∈ lw_all := lw_g (lw_at lw_m2 231 rfl) rfl
theorem q578 : (Jvm.Cond.constantLong "HatRank" (242 : Nat) (13 : Int64)) ∈ lw_all := lw_g (lw_at lw_m2 232 rfl) rfl
theorem q579 : (Jvm.Cond.methodLink "HatRank" (244 : Nat) ({ cls := "HatRank", name := "ofPlace", desc := "(II)I" } : Jvm.MethodName)) ∈ lw_all := lw_g (lw_at lw_m2 233 rfl) rfl
theorem q580 : (Jvm.Cond.privateMethod ({ cls := "HatRank", name := "ofPlace", desc := "(II)I" } : Jvm.MethodName)) ∈ lw_tbl := lw_at lw_m2 234 rfl
theorem q581 : (Jvm.Cond.instanceMethod ({ cls := "HatRank", name := "ofPlace", desc := "(II)I" } : Jvm.MethodName)) ∈ lw_all := lw_g (lw_at lw_m2 235 rfl) rfl
theorem q582 : (Jvm.Cond.code ({ cls := "HatRank", name := "ofPlace", desc := "(II)I" } : Jvm.MethodName) prog_1_method_28_code (3 : Nat) (Option.some Jvm.ClassFile.FieldType.int)) ∈ lw_all := lw_g (lw_at lw_m2 236 rfl) rfl
theorem q583 : (Jvm.Cond.methodLink "HatRank" (225 : Nat) ({ cls := "HatRank$Place", name := "down", desc := "()I" } : Jvm.MethodName)) ∈ lw_all := lw_g (lw_at lw_m2 237 rfl) rfl
theorem q588 : (Jvm.Cond.instanceMethod ({ cls := "HatRank", name := "law", desc := "()I" } : Jvm.MethodName)) ∈ lw_all := lw_g (lw_at lw_m3 2 rfl) rfl
theorem q589 : (Jvm.Cond.selects "HatRank" ({ cls := "HatRank", name := "law", desc := "()I" } : Jvm.MethodName) ({ cls := "HatRank", name := "law", desc := "()I" } : Jvm.MethodName)) ∈ lw_all := lw_g (lw_at lw_m3 3 rfl) rfl
theorem q590 : (Jvm.Cond.codeWith ({ cls := "HatRank", name := "law", desc := "()I" } : Jvm.MethodName) prog_1_method_39_code (4 : Nat) (Option.some Jvm.ClassFile.FieldType.int) [((5 : Nat), (15 : Nat), (22 : Nat), (41 : Nat)), ((5 : Nat), (15 : Nat), (38 : Nat), (0 : Nat)), ((22 : Nat), (31 : Nat), (38 : Nat), (0 : Nat))]) ∈ lw_all := lw_g (lw_at lw_m3 4 rfl) rfl
theorem q591 : (Jvm.Cond.methodLink "HatRank" (317 : Nat) ({ cls := "HatRank", name := "readLaw", desc := "()LHatRank$Line;" } : Jvm.MethodName)) ∈ lw_all := lw_g (lw_at lw_m3 5 rfl) rfl
theorem q592 : (Jvm.Cond.privateMethod ({ cls := "HatRank", name := "readLaw", desc := "()LHatRank$Line;" } : Jvm.MethodName)) ∈ lw_tbl := lw_at lw_m3 6 rfl
theorem q593 : (Jvm.Cond.instanceMethod ({ cls := "HatRank", name := "readLaw", desc := "()LHatRank$Line;" } : Jvm.MethodName)) ∈ lw_all := lw_g (lw_at lw_m3 7 rfl) rfl
theorem q594 : (Jvm.Cond.code ({ cls := "HatRank", name := "readLaw", desc := "()LHatRank$Line;" } : Jvm.MethodName) prog_1_method_38_code (3 : Nat) (Option.some (Jvm.ClassFile.FieldType.object "HatRank$Line"))) ∈ lw_all := lw_g (lw_at lw_m3 8 rfl) rfl
theorem q595 : (Jvm.Cond.methodLink "HatRank" (309 : Nat) ({ cls := "HatRank", name := "readLine", desc := "()LHatRank$Line;" } : Jvm.MethodName)) ∈ lw_all := lw_g (lw_at lw_m3 9 rfl) rfl
theorem q596 : (Jvm.Cond.privateMethod ({ cls := "HatRank", name := "readLine", desc := "()LHatRank$Line;" } : Jvm.MethodName)) ∈ lw_tbl := lw_at lw_m3 10 rfl
theorem q597 : (Jvm.Cond.instanceMethod ({ cls := "HatRank", name := "readLine", desc := "()LHatRank$Line;" } : Jvm.MethodName)) ∈ lw_all := lw_g (lw_at lw_m3 11 rfl) rfl
theorem q598 : (Jvm.Cond.code ({ cls := "HatRank", name := "readLine", desc := "()LHatRank$Line;" } : Jvm.MethodName) prog_1_method_37_code (2 : Nat) (Option.some (Jvm.ClassFile.FieldType.object "HatRank$Line"))) ∈ lw_all := lw_g (lw_at lw_m3 12 rfl) rfl
theorem q599 : (Jvm.Cond.classLink "HatRank" (299 : Nat) "HatRank$Line") ∈ lw_all := lw_g (lw_at lw_m3 13 rfl) rfl
theorem q601 : (Jvm.Cond.methodLinkNest "HatRank" (301 : Nat) ({ cls := "HatRank$Line", name := "<init>", desc := "()V" } : Jvm.MethodName) "HatRank") ∈ lw_tbl := lw_at lw_m3 15 rfl
theorem q605 : (Jvm.Cond.fieldLinkNest "HatRank" (306 : Nat) "HatRank$Line" "asked" "LHatRank$Term;" "HatRank") ∈ lw_tbl := lw_at lw_m3 19 rfl
theorem q606 : (Jvm.Cond.fieldLinkNest "HatRank" (302 : Nat) "HatRank$Line" "counts" "LHatRank$Term;" "HatRank") ∈ lw_tbl := lw_at lw_m3 20 rfl
theorem q607 : (Jvm.Cond.fieldLinkNest "HatRank" (313 : Nat) "HatRank$Line" "next" "LHatRank$Line;" "HatRank") ∈ lw_tbl := lw_at lw_m3 21 rfl
theorem q615 : (Jvm.Cond.methodLink "HatRank" (267 : Nat) ({ cls := "HatRank", name := "readEither", desc := "()LHatRank$Term;" } : Jvm.MethodName)) ∈ lw_all := lw_g (lw_at lw_m3 29 rfl) rfl
theorem q616 : (Jvm.Cond.privateMethod ({ cls := "HatRank", name := "readEither", desc := "()LHatRank$Term;" } : Jvm.MethodName)) ∈ lw_tbl := lw_at lw_m3 30 rfl
theorem q617 : (Jvm.Cond.instanceMethod ({ cls := "HatRank", name := "readEither", desc := "()LHatRank$Term;" } : Jvm.MethodName)) ∈ lw_all := lw_g (lw_at lw_m3 31 rfl) rfl
theorem q618 : (Jvm.Cond.code ({ cls := "HatRank", name := "readEither", desc := "()LHatRank$Term;" } : Jvm.MethodName) prog_1_method_36_code (2 : Nat) (Option.some (Jvm.ClassFile.FieldType.object "HatRank$Term"))) ∈ lw_all := lw_g (lw_at lw_m3 32 rfl) rfl
theorem q619 : (Jvm.Cond.methodLink "HatRank" (296 : Nat) ({ cls := "HatRank", name := "readAll", desc := "()LHatRank$Term;" } : Jvm.MethodName)) ∈ lw_all := lw_g (lw_at lw_m3 33 rfl) rfl
theorem q620 : (Jvm.Cond.privateMethod ({ cls := "HatRank", name := "readAll", desc := "()LHatRank$Term;" } : Jvm.MethodName)) ∈ lw_tbl := lw_at lw_m3 34 rfl
theorem q621 : (Jvm.Cond.instanceMethod ({ cls := "HatRank", name := "readAll", desc := "()LHatRank$Term;" } : Jvm.MethodName)) ∈ lw_all := lw_g (lw_at lw_m3 35 rfl) rfl
theorem q622 : (Jvm.Cond.code ({ cls := "HatRank", name := "readAll", desc := "()LHatRank$Term;" } : Jvm.MethodName) prog_1_method_35_code (2 : Nat) (Option.some (Jvm.ClassFile.FieldType.object "HatRank$Term"))) ∈ lw_all := lw_g (lw_at lw_m3 36 rfl) rfl
theorem q623 : (Jvm.Cond.methodLink "HatRank" (293 : Nat) ({ cls := "HatRank", name := "readLike", desc := "()LHatRank$Term;" } : Jvm.MethodName)) ∈ lw_all := lw_g (lw_at lw_m3 37 rfl) rfl
theorem q624 : (Jvm.Cond.privateMethod ({ cls := "HatRank", name := "readLike", desc := "()LHatRank$Term;" } : Jvm.MethodName)) ∈ lw_tbl := lw_at lw_m3 38 rfl
theorem q625 : (Jvm.Cond.instanceMethod ({ cls := "HatRank", name := "readLike", desc := "()LHatRank$Term;" } : Jvm.MethodName)) ∈ lw_all := lw_g (lw_at lw_m3 39 rfl) rfl
theorem q626 : (Jvm.Cond.code ({ cls := "HatRank", name := "readLike", desc := "()LHatRank$Term;" } : Jvm.MethodName) prog_1_method_34_code (3 : Nat) (Option.some (Jvm.ClassFile.FieldType.object "HatRank$Term"))) ∈ lw_all := lw_g (lw_at lw_m3 40 rfl) rfl
theorem q627 : (Jvm.Cond.methodLink "HatRank" (290 : Nat) ({ cls := "HatRank", name := "readPlus", desc := "()LHatRank$Term;" } : Jvm.MethodName)) ∈ lw_all := lw_g (lw_at lw_m3 41 rfl) rfl
theorem q628 : (Jvm.Cond.privateMethod ({ cls := "HatRank", name := "readPlus", desc := "()LHatRank$Term;" } : Jvm.MethodName)) ∈ lw_tbl := lw_at lw_m3 42 rfl
theorem q629 : (Jvm.Cond.instanceMethod ({ cls := "HatRank", name := "readPlus", desc := "()LHatRank$Term;" } : Jvm.MethodName)) ∈ lw_all := lw_g (lw_at lw_m3 43 rfl) rfl
theorem q630 : (Jvm.Cond.code ({ cls := "HatRank", name := "readPlus", desc := "()LHatRank$Term;" } : Jvm.MethodName) prog_1_method_33_code (3 : Nat) (Option.some (Jvm.ClassFile.FieldType.object "HatRank$Term"))) ∈ lw_all := lw_g (lw_at lw_m3 44 rfl) rfl
theorem q631 : (Jvm.Cond.methodLink "HatRank" (287 : Nat) ({ cls := "HatRank", name := "readTimes", desc := "()LHatRank$Term;" } : Jvm.MethodName)) ∈ lw_all := lw_g (lw_at lw_m3 45 rfl) rfl
theorem q632 : (Jvm.Cond.privateMethod ({ cls := "HatRank", name := "readTimes", desc := "()LHatRank$Term;" } : Jvm.MethodName)) ∈ lw_tbl := lw_at lw_m3 46 rfl
theorem q633 : (Jvm.Cond.instanceMethod ({ cls := "HatRank", name := "readTimes", desc := "()LHatRank$Term;" } : Jvm.MethodName)) ∈ lw_all := lw_g (lw_at lw_m3 47 rfl) rfl
theorem q634 : (Jvm.Cond.code ({ cls := "HatRank", name := "readTimes", desc := "()LHatRank$Term;" } : Jvm.MethodName) prog_1_method_32_code (3 : Nat) (Option.some (Jvm.ClassFile.FieldType.object "HatRank$Term"))) ∈ lw_all := lw_g (lw_at lw_m3 48 rfl) rfl
theorem q635 : (Jvm.Cond.methodLink "HatRank" (273 : Nat) ({ cls := "HatRank", name := "readOne", desc := "()LHatRank$Term;" } : Jvm.MethodName)) ∈ lw_all := lw_g (lw_at lw_m3 49 rfl) rfl
theorem q636 : (Jvm.Cond.privateMethod ({ cls := "HatRank", name := "readOne", desc := "()LHatRank$Term;" } : Jvm.MethodName)) ∈ lw_tbl := lw_at lw_m3 50 rfl
theorem q637 : (Jvm.Cond.instanceMethod ({ cls := "HatRank", name := "readOne", desc := "()LHatRank$Term;" } : Jvm.MethodName)) ∈ lw_all := lw_g (lw_at lw_m3 51 rfl) rfl
theorem q638 : (Jvm.Cond.code ({ cls := "HatRank", name := "readOne", desc := "()LHatRank$Term;" } : Jvm.MethodName) prog_1_method_31_code (4 : Nat) (Option.some (Jvm.ClassFile.FieldType.object "HatRank$Term"))) ∈ lw_all := lw_g (lw_at lw_m3 52 rfl) rfl
theorem q639 : (Jvm.Cond.methodLink "HatRank" (247 : Nat) ({ cls := "HatRank", name := "isDigit", desc := "()Z" } : Jvm.MethodName)) ∈ lw_all := lw_g (lw_at lw_m3 53 rfl) rfl
theorem q640 : (Jvm.Cond.privateMethod ({ cls := "HatRank", name := "isDigit", desc := "()Z" } : Jvm.MethodName)) ∈ lw_tbl := lw_at lw_m3 54 rfl
theorem q641 : (Jvm.Cond.instanceMethod ({ cls := "HatRank", name := "isDigit", desc := "()Z" } : Jvm.MethodName)) ∈ lw_all := lw_g (lw_at lw_m3 55 rfl) rfl
theorem q642 : (Jvm.Cond.code ({ cls := "HatRank", name := "isDigit", desc := "()Z" } : Jvm.MethodName) prog_1_method_11_code (1 : Nat) (Option.some Jvm.ClassFile.FieldType.boolean)) ∈ lw_all := lw_g (lw_at lw_m3 56 rfl) rfl
theorem q643 : (Jvm.Cond.methodLink "HatRank" (118 : Nat) ({ cls := "HatRank", name := "peek", desc := "()I" } : Jvm.MethodName)) ∈ lw_all := lw_g (lw_at lw_m3 57 rfl) rfl
theorem q644 : (Jvm.Cond.privateMethod ({ cls := "HatRank", name := "peek", desc := "()I" } : Jvm.MethodName)) ∈ lw_tbl := lw_at lw_m3 58 rfl
theorem q645 : (Jvm.Cond.instanceMethod ({ cls := "HatRank", name := "peek", desc := "()I" } : Jvm.MethodName)) ∈ lw_all := lw_g (lw_at lw_m3 59 rfl) rfl
theorem q646 : (Jvm.Cond.code ({ cls := "HatRank", name := "peek", desc := "()I" } : Jvm.MethodName) prog_1_method_8_code (1 : Nat) (Option.some Jvm.ClassFile.FieldType.int)) ∈ lw_all := lw_g (lw_at lw_m3 60 rfl) rfl
theorem q647 : (Jvm.Cond.constantLong "HatRank" (126 : Nat) (48 : Int64)) ∈ lw_all := lw_g (lw_at lw_m3 61 rfl) rfl
theorem q648 : (Jvm.Cond.constantLong "HatRank" (128 : Nat) (57 : Int64)) ∈ lw_all := lw_g (lw_at lw_m3 62 rfl) rfl
theorem q649 : (Jvm.Cond.classLink "HatRank" (251 : Nat) "HatRank$Figure") ∈ lw_all := lw_g (lw_at lw_m3 63 rfl) rfl
theorem q651 : (Jvm.Cond.methodLink "HatRank" (253 : Nat) ({ cls := "HatRank$Figure", name := "<init>", desc := "(I)V" } : Jvm.MethodName)) ∈ lw_all := lw_g (lw_at lw_m3 65 rfl) rfl
theorem q662 : (Jvm.Cond.methodLink "HatRank" (256 : Nat) ({ cls := "HatRank", name := "nameOf", desc := "(I)I" } : Jvm.MethodName)) ∈ lw_all := lw_g (lw_at lw_m3 76 rfl) rfl
theorem q663 : (Jvm.Cond.static ({ cls := "HatRank", name := "nameOf", desc := "(I)I" } : Jvm.MethodName)) ∈ lw_all := lw_g (lw_at lw_m3 77 rfl) rfl
theorem q664 : (Jvm.Cond.code ({ cls := "HatRank", name := "nameOf", desc := "(I)I" } : Jvm.MethodName) prog_1_method_30_code (1 : Nat) (Option.some Jvm.ClassFile.FieldType.int)) ∈ lw_all := lw_g (lw_at lw_m3 78 rfl) rfl
theorem q665 : (Jvm.Cond.classLink "HatRank" (259 : Nat) "HatRank$Named") ∈ lw_all := lw_g (lw_at lw_m3 79 rfl) rfl
theorem q667 : (Jvm.Cond.methodLink "HatRank" (261 : Nat) ({ cls := "HatRank$Named", name := "<init>", desc := "(LHatRank;I)V" } : Jvm.MethodName)) ∈ lw_all := lw_g (lw_at lw_m3 81 rfl) rfl
theorem q678 : (Jvm.Cond.classLink "HatRank" (271 : Nat) "HatRank$Signed") ∈ lw_all := lw_g (lw_at lw_m3 92 rfl) rfl
theorem q680 : (Jvm.Cond.methodLink "HatRank" (276 : Nat) ({ cls := "HatRank$Signed", name := "<init>", desc := "(ILHatRank$Term;)V" } : Jvm.MethodName)) ∈ lw_all := lw_g (lw_at lw_m3 94 rfl) rfl
theorem q691 : (Jvm.Cond.methodLink "HatRank" (279 : Nat) ({ cls := "HatRank", name := "expect", desc := "(I)V" } : Jvm.MethodName)) ∈ lw_all := lw_g (lw_at lw_m3 105 rfl) rfl
theorem q692 : (Jvm.Cond.privateMethod ({ cls := "HatRank", name := "expect", desc := "(I)V" } : Jvm.MethodName)) ∈ lw_tbl := lw_at lw_m3 106 rfl
theorem q693 : (Jvm.Cond.instanceMethod ({ cls := "HatRank", name := "expect", desc := "(I)V" } : Jvm.MethodName)) ∈ lw_all := lw_g (lw_at lw_m3 107 rfl) rfl
theorem q694 : (Jvm.Cond.code ({ cls := "HatRank", name := "expect", desc := "(I)V" } : Jvm.MethodName) prog_1_method_10_code (2 : Nat) (Option.none : Option Jvm.ClassFile.FieldType)) ∈ lw_all := lw_g (lw_at lw_m3 108 rfl) rfl
theorem q695 : (Jvm.Cond.methodLink "HatRank" (122 : Nat) ({ cls := "HatRank", name := "take", desc := "(I)Z" } : Jvm.MethodName)) ∈ lw_all := lw_g (lw_at lw_m3 109 rfl) rfl
theorem q696 : (Jvm.Cond.privateMethod ({ cls := "HatRank", name := "take", desc := "(I)Z" } : Jvm.MethodName)) ∈ lw_tbl := lw_at lw_m3 110 rfl
theorem q697 : (Jvm.Cond.instanceMethod ({ cls := "HatRank", name := "take", desc := "(I)Z" } : Jvm.MethodName)) ∈ lw_all := lw_g (lw_at lw_m3 111 rfl) rfl
theorem q698 : (Jvm.Cond.code ({ cls := "HatRank", name := "take", desc := "(I)Z" } : Jvm.MethodName) prog_1_method_9_code (2 : Nat) (Option.some Jvm.ClassFile.FieldType.boolean)) ∈ lw_all := lw_g (lw_at lw_m3 112 rfl) rfl
theorem q699 : (Jvm.Cond.classLink "HatRank" (282 : Nat) "HatRank$Both") ∈ lw_all := lw_g (lw_at lw_m3 113 rfl) rfl
theorem q701 : (Jvm.Cond.methodLink "HatRank" (284 : Nat) ({ cls := "HatRank$Both", name := "<init>", desc := "(ILHatRank$Term;LHatRank$Term;)V" } : Jvm.MethodName)) ∈ lw_all := lw_g (lw_at lw_m3 115 rfl) rfl
theorem q716 : (Jvm.Cond.instanceMethod ({ cls := "HatRank", name := "go", desc := "(II)I" } : Jvm.MethodName)) ∈ lw_all := lw_g (lw_at lw_m3 130 rfl) rfl
theorem q717 : (Jvm.Cond.selects "HatRank" ({ cls := "HatRank", name := "go", desc := "(II)I" } : Jvm.MethodName) ({ cls := "HatRank", name := "go", desc := "(II)I" } : Jvm.MethodName)) ∈ lw_all := lw_g (lw_at lw_m3 131 rfl) rfl
theorem q718 : (Jvm.Cond.code ({ cls := "HatRank", name := "go", desc := "(II)I" } : Jvm.MethodName) prog_1_method_50_code (5 : Nat) (Option.some Jvm.ClassFile.FieldType.int)) ∈ lw_all := lw_g (lw_at lw_m3 132 rfl) rfl
theorem q719 : (Jvm.Cond.constantLong "HatRank" (371 : Nat) (24 : Int64)) ∈ lw_all := lw_g (lw_at lw_m3 133 rfl) rfl
theorem q720 : (Jvm.Cond.methodLink "HatRank" (373 : Nat) ({ cls := "HatRank", name := "goHour", desc := "(LHatRank$Town;IZ)I" } : Jvm.MethodName)) ∈ lw_all := lw_g (lw_at lw_m3 134 rfl) rfl
theorem q721 : (Jvm.Cond.privateMethod ({ cls := "HatRank", name := "goHour", desc := "(LHatRank$Town;IZ)I" } : Jvm.MethodName)) ∈ lw_tbl := lw_at lw_m3 135 rfl
theorem q722 : (Jvm.Cond.instanceMethod ({ cls := "HatRank", name := "goHour", desc := "(LHatRank$Town;IZ)I" } : Jvm.MethodName)) ∈ lw_all := lw_g (lw_at lw_m3 136 rfl) rfl
theorem q723 : (Jvm.Cond.code ({ cls := "HatRank", name := "goHour", desc := "(LHatRank$Town;IZ)I" } : Jvm.MethodName) prog_1_method_49_code (8 : Nat) (Option.some Jvm.ClassFile.FieldType.int)) ∈ lw_all := lw_g (lw_at lw_m3 137 rfl) rfl
theorem q724 : (Jvm.Cond.methodLink "HatRank" (357 : Nat) ({ cls := "HatRank", name := "takeUp", desc := "(LHatRank$Town;)V" } : Jvm.MethodName)) ∈ lw_all := lw_g (lw_at lw_m3 138 rfl) rfl
theorem q725 : (Jvm.Cond.privateMethod ({ cls := "HatRank", name := "takeUp", desc := "(LHatRank$Town;)V" } : Jvm.MethodName)) ∈ lw_tbl := lw_at lw_m3 139 rfl
theorem q726 : (Jvm.Cond.instanceMethod ({ cls := "HatRank", name := "takeUp", desc := "(LHatRank$Town;)V" } : Jvm.MethodName)) ∈ lw_all := lw_g (lw_at lw_m3 140 rfl) rfl
theorem q727 : (Jvm.Cond.code ({ cls := "HatRank", name := "takeUp", desc := "(LHatRank$Town;)V" } : Jvm.MethodName) prog_1_method_46_code (3 : Nat) (Option.none : Option Jvm.ClassFile.FieldType)) ∈ lw_all := lw_g (lw_at lw_m3 141 rfl) rfl
theorem q728 : (Jvm.Cond.methodLink "HatRank" (361 : Nat) ({ cls := "HatRank", name := "draw", desc := "()I" } : Jvm.MethodName)) ∈ lw_all := lw_g (lw_at lw_m3 142 rfl) rfl
theorem q729 : (Jvm.Cond.privateMethod ({ cls := "HatRank", name := "draw", desc := "()I" } : Jvm.MethodName)) ∈ lw_tbl := lw_at lw_m3 143 rfl
theorem q730 : (Jvm.Cond.instanceMethod ({ cls := "HatRank", name := "draw", desc := "()I" } : Jvm.MethodName)) ∈ lw_all := lw_g (lw_at lw_m3 144 rfl) rfl
theorem q731 : (Jvm.Cond.code ({ cls := "HatRank", name := "draw", desc := "()I" } : Jvm.MethodName) prog_1_method_45_code (1 : Nat) (Option.some Jvm.ClassFile.FieldType.int)) ∈ lw_all := lw_g (lw_at lw_m3 145 rfl) rfl
theorem q732 : (Jvm.Cond.constant "HatRank" (352 : Nat) (1103515245 : Int32)) ∈ lw_all := lw_g (lw_at lw_m3 146 rfl) rfl
theorem q733 : (Jvm.Cond.methodLink "HatRank" (364 : Nat) ({ cls := "HatRank", name := "fall", desc := "(LHatRank$Town;I)I" } : Jvm.MethodName)) ∈ lw_all := lw_g (lw_at lw_m3 147 rfl) rfl
theorem q734 : (Jvm.Cond.privateMethod ({ cls := "HatRank", name := "fall", desc := "(LHatRank$Town;I)I" } : Jvm.MethodName)) ∈ lw_tbl := lw_at lw_m3 148 rfl
theorem q735 : (Jvm.Cond.instanceMethod ({ cls := "HatRank", name := "fall", desc := "(LHatRank$Town;I)I" } : Jvm.MethodName)) ∈ lw_all := lw_g (lw_at lw_m3 149 rfl) rfl
theorem q736 : (Jvm.Cond.code ({ cls := "HatRank", name := "fall", desc := "(LHatRank$Town;I)I" } : Jvm.MethodName) prog_1_method_48_code (7 : Nat) (Option.some Jvm.ClassFile.FieldType.int)) ∈ lw_all := lw_g (lw_at lw_m3 150 rfl) rfl
theorem q737 : (Jvm.Cond.methodLink "HatRank" (353 : Nat) ({ cls := "HatRank", name := "catcher", desc := "(LHatRank$Town;III)I" } : Jvm.MethodName)) ∈ lw_all := lw_g (lw_at lw_m3 151 rfl) rfl
theorem q738 : (Jvm.Cond.privateMethod ({ cls := "HatRank", name := "catcher", desc := "(LHatRank$Town;III)I" } : Jvm.MethodName)) ∈ lw_tbl := lw_at lw_m3 152 rfl
theorem q739 : (Jvm.Cond.instanceMethod ({ cls := "HatRank", name := "catcher", desc := "(LHatRank$Town;III)I" } : Jvm.MethodName)) ∈ lw_all := lw_g (lw_at lw_m3 153 rfl) rfl
theorem q740 : (Jvm.Cond.code ({ cls := "HatRank", name := "catcher", desc := "(LHatRank$Town;III)I" } : Jvm.MethodName) prog_1_method_47_code (7 : Nat) (Option.some Jvm.ClassFile.FieldType.int)) ∈ lw_all := lw_g (lw_at lw_m3 154 rfl) rfl
theorem q742 : (Jvm.Cond.instanceMethod ({ cls := "HatRank", name := "move", desc := "(II)I" } : Jvm.MethodName)) ∈ lw_all := lw_g (lw_at lw_m3 156 rfl) rfl
theorem q743 : (Jvm.Cond.selects "HatRank" ({ cls := "HatRank", name := "move", desc := "(II)I" } : Jvm.MethodName) ({ cls := "HatRank", name := "move", desc := "(II)I" } : Jvm.MethodName)) ∈ lw_all := lw_g (lw_at lw_m3 157 rfl) rfl
theorem q744 : (Jvm.Cond.code ({ cls := "HatRank", name := "move", desc := "(II)I" } : Jvm.MethodName) prog_1_method_51_code (3 : Nat) (Option.some Jvm.ClassFile.FieldType.int)) ∈ lw_all := lw_g (lw_at lw_m3 158 rfl) rfl
theorem q746 : (Jvm.Cond.instanceMethod ({ cls := "HatRank", name := "lay", desc := "(I)I" } : Jvm.MethodName)) ∈ lw_all := lw_g (lw_at lw_m3 160 rfl) rfl
theorem q747 : (Jvm.Cond.selects "HatRank" ({ cls := "HatRank", name := "lay", desc := "(I)I" } : Jvm.MethodName) ({ cls := "HatRank", name := "lay", desc := "(I)I" } : Jvm.MethodName)) ∈ lw_all := lw_g (lw_at lw_m3 161 rfl) rfl
theorem q748 : (Jvm.Cond.code ({ cls := "HatRank", name := "lay", desc := "(I)I" } : Jvm.MethodName) prog_1_method_52_code (2 : Nat) (Option.some Jvm.ClassFile.FieldType.int)) ∈ lw_all := lw_g (lw_at lw_m3 162 rfl) rfl
theorem q750 : (Jvm.Cond.instanceMethod ({ cls := "HatRank", name := "commands", desc := "()I" } : Jvm.MethodName)) ∈ lw_all := lw_g (lw_at lw_m3 164 rfl) rfl
theorem q751 : (Jvm.Cond.selects "HatRank" ({ cls := "HatRank", name := "commands", desc := "()I" } : Jvm.MethodName) ({ cls := "HatRank", name := "commands", desc := "()I" } : Jvm.MethodName)) ∈ lw_all := lw_g (lw_at lw_m3 165 rfl) rfl
theorem q752 : (Jvm.Cond.code ({ cls := "HatRank", name := "commands", desc := "()I" } : Jvm.MethodName) prog_1_method_53_code (1 : Nat) (Option.some Jvm.ClassFile.FieldType.int)) ∈ lw_all := lw_g (lw_at lw_m3 166 rfl) rfl
theorem q753 : (Jvm.Cond.methodLink "HatRank" (377 : Nat) ({ cls := "HatRank", name := "firstIn", desc := "(LHatRank$Town;)I" } : Jvm.MethodName)) ∈ lw_all := lw_g (lw_at lw_m3 167 rfl) rfl
theorem q754 : (Jvm.Cond.privateMethod ({ cls := "HatRank", name := "firstIn", desc := "(LHatRank$Town;)I" } : Jvm.MethodName)) ∈ lw_tbl := lw_at lw_m3 168 rfl
theorem q755 : (Jvm.Cond.instanceMethod ({ cls := "HatRank", name := "firstIn", desc := "(LHatRank$Town;)I" } : Jvm.MethodName)) ∈ lw_all := lw_g (lw_at lw_m3 169 rfl) rfl
theorem q756 : (Jvm.Cond.code ({ cls := "HatRank", name := "firstIn", desc := "(LHatRank$Town;)I" } : Jvm.MethodName) prog_1_method_26_code (4 : Nat) (Option.some Jvm.ClassFile.FieldType.int)) ∈ lw_all := lw_g (lw_at lw_m3 170 rfl) rfl
theorem q758 : (Jvm.Cond.instanceMethod ({ cls := "HatRank", name := "led", desc := "(I)I" } : Jvm.MethodName)) ∈ lw_all := lw_g (lw_at lw_m3 172 rfl) rfl
theorem q759 : (Jvm.Cond.selects "HatRank" ({ cls := "HatRank", name := "led", desc := "(I)I" } : Jvm.MethodName) ({ cls := "HatRank", name := "led", desc := "(I)I" } : Jvm.MethodName)) ∈ lw_all := lw_g (lw_at lw_m3 173 rfl) rfl
theorem q760 : (Jvm.Cond.code ({ cls := "HatRank", name := "led", desc := "(I)I" } : Jvm.MethodName) prog_1_method_54_code (2 : Nat) (Option.some Jvm.ClassFile.FieldType.int)) ∈ lw_all := lw_g (lw_at lw_m3 174 rfl) rfl
theorem q762 : (Jvm.Cond.instanceMethod ({ cls := "HatRank", name := "risk", desc := "(II)I" } : Jvm.MethodName)) ∈ lw_all := lw_g (lw_at lw_m3 176 rfl) rfl
theorem q763 : (Jvm.Cond.selects "HatRank" ({ cls := "HatRank", name := "risk", desc := "(II)I" } : Jvm.MethodName) ({ cls := "HatRank", name := "risk", desc := "(II)I" } : Jvm.MethodName)) ∈ lw_all := lw_g (lw_at lw_m3 177 rfl) rfl
theorem q764 : (Jvm.Cond.code ({ cls := "HatRank", name := "risk", desc := "(II)I" } : Jvm.MethodName) prog_1_method_59_code (4 : Nat) (Option.some Jvm.ClassFile.FieldType.int)) ∈ lw_all := lw_g (lw_at lw_m3 178 rfl) rfl
theorem q765 : (Jvm.Cond.methodLink "HatRank" (387 : Nat) ({ cls := "HatRank", name := "isPt", desc := "(I)Z" } : Jvm.MethodName)) ∈ lw_all := lw_g (lw_at lw_m3 179 rfl) rfl
theorem q766 : (Jvm.Cond.privateMethod ({ cls := "HatRank", name := "isPt", desc := "(I)Z" } : Jvm.MethodName)) ∈ lw_tbl := lw_at lw_m3 180 rfl
theorem q767 : (Jvm.Cond.instanceMethod ({ cls := "HatRank", name := "isPt", desc := "(I)Z" } : Jvm.MethodName)) ∈ lw_all := lw_g (lw_at lw_m3 181 rfl) rfl
theorem q768 : (Jvm.Cond.code ({ cls := "HatRank", name := "isPt", desc := "(I)Z" } : Jvm.MethodName) prog_1_method_58_code (2 : Nat) (Option.some Jvm.ClassFile.FieldType.boolean)) ∈ lw_all := lw_g (lw_at lw_m3 182 rfl) rfl
theorem q769 : (Jvm.Cond.methodLink "HatRank" (390 : Nat) ({ cls := "HatRank", name := "measure", desc := "(III)V" } : Jvm.MethodName)) ∈ lw_all := lw_g (lw_at lw_m3 183 rfl) rfl
theorem q770 : (Jvm.Cond.privateMethod ({ cls := "HatRank", name := "measure", desc := "(III)V" } : Jvm.MethodName)) ∈ lw_tbl := lw_at lw_m3 184 rfl
theorem q771 : (Jvm.Cond.instanceMethod ({ cls := "HatRank", name := "measure", desc := "(III)V" } : Jvm.MethodName)) ∈ lw_all := lw_g (lw_at lw_m3 185 rfl) rfl
theorem q772 : (Jvm.Cond.code ({ cls := "HatRank", name := "measure", desc := "(III)V" } : Jvm.MethodName) prog_1_method_57_code (9 : Nat) (Option.none : Option Jvm.ClassFile.FieldType)) ∈ lw_all := lw_g (lw_at lw_m3 186 rfl) rfl
theorem q773 : (Jvm.Cond.methodLink "HatRank" (381 : Nat) ({ cls := "HatRank", name := "mayGo", desc := "(II)Z" } : Jvm.MethodName)) ∈ lw_all := lw_g (lw_at lw_m3 187 rfl) rfl
theorem q774 : (Jvm.Cond.privateMethod ({ cls := "HatRank", name := "mayGo", desc := "(II)Z" } : Jvm.MethodName)) ∈ lw_tbl := lw_at lw_m3 188 rfl
theorem q775 : (Jvm.Cond.instanceMethod ({ cls := "HatRank", name := "mayGo", desc := "(II)Z" } : Jvm.MethodName)) ∈ lw_all := lw_g (lw_at lw_m3 189 rfl) rfl
theorem q776 : (Jvm.Cond.code ({ cls := "HatRank", name := "mayGo", desc := "(II)Z" } : Jvm.MethodName) prog_1_method_56_code (3 : Nat) (Option.some Jvm.ClassFile.FieldType.boolean)) ∈ lw_all := lw_g (lw_at lw_m3 190 rfl) rfl
theorem q777 : (Jvm.Cond.methodLink "HatRank" (384 : Nat) ({ cls := "HatRank", name := "comes", desc := "(II)I" } : Jvm.MethodName)) ∈ lw_all := lw_g (lw_at lw_m3 191 rfl) rfl
theorem q778 : (Jvm.Cond.privateMethod ({ cls := "HatRank", name := "comes", desc := "(II)I" } : Jvm.MethodName)) ∈ lw_tbl := lw_at lw_m3 192 rfl
theorem q779 : (Jvm.Cond.instanceMethod ({ cls := "HatRank", name := "comes", desc := "(II)I" } : Jvm.MethodName)) ∈ lw_all := lw_g (lw_at lw_m3 193 rfl) rfl
theorem q780 : (Jvm.Cond.code ({ cls := "HatRank", name := "comes", desc := "(II)I" } : Jvm.MethodName) prog_1_method_55_code (3 : Nat) (Option.some Jvm.ClassFile.FieldType.int)) ∈ lw_all := lw_g (lw_at lw_m3 194 rfl) rfl
theorem q782 : (Jvm.Cond.instanceMethod ({ cls := "HatRank", name := "walk", desc := "(III)I" } : Jvm.MethodName)) ∈ lw_all := lw_g (lw_at lw_m3 196 rfl) rfl
theorem q783 : (Jvm.Cond.selects "HatRank" ({ cls := "HatRank", name := "walk", desc := "(III)I" } : Jvm.MethodName) ({ cls := "HatRank", name := "walk", desc := "(III)I" } : Jvm.MethodName)) ∈ lw_all := lw_g (lw_at lw_m3 197 rfl) rfl
theorem q784 : (Jvm.Cond.code ({ cls := "HatRank", name := "walk", desc := "(III)I" } : Jvm.MethodName) prog_1_method_60_code (8 : Nat) (Option.some Jvm.ClassFile.FieldType.int)) ∈ lw_all := lw_g (lw_at lw_m3 198 rfl) rfl
theorem q786 : (Jvm.Cond.instanceMethod ({ cls := "HatRank", name := "chance", desc := "(III)J" } : Jvm.MethodName)) ∈ lw_all := lw_g (lw_at lw_m3 200 rfl) rfl
theorem q787 : (Jvm.Cond.selects "HatRank" ({ cls := "HatRank", name := "chance", desc := "(III)J" } : Jvm.MethodName) ({ cls := "HatRank", name := "chance", desc := "(III)J" } : Jvm.MethodName)) ∈ lw_all := lw_g (lw_at lw_m3 201 rfl) rfl
theorem q788 : (Jvm.Cond.code ({ cls := "HatRank", name := "chance", desc := "(III)J" } : Jvm.MethodName) prog_1_method_68_code (4 : Nat) (Option.some Jvm.ClassFile.FieldType.long)) ∈ lw_all := lw_g (lw_at lw_m3 202 rfl) rfl
theorem q789 : (Jvm.Cond.methodLink "HatRank" (420 : Nat) ({ cls := "HatRank", name := "mayAsk", desc := "(III)Z" } : Jvm.MethodName)) ∈ lw_all := lw_g (lw_at lw_m3 203 rfl) rfl
theorem q790 : (Jvm.Cond.privateMethod ({ cls := "HatRank", name := "mayAsk", desc := "(III)Z" } : Jvm.MethodName)) ∈ lw_tbl := lw_at lw_m3 204 rfl
theorem q791 : (Jvm.Cond.instanceMethod ({ cls := "HatRank", name := "mayAsk", desc := "(III)Z" } : Jvm.MethodName)) ∈ lw_all := lw_g (lw_at lw_m3 205 rfl) rfl
theorem q792 : (Jvm.Cond.code ({ cls := "HatRank", name := "mayAsk", desc := "(III)Z" } : Jvm.MethodName) prog_1_method_67_code (4 : Nat) (Option.some Jvm.ClassFile.FieldType.boolean)) ∈ lw_all := lw_g (lw_at lw_m3 206 rfl) rfl
theorem q793 : (Jvm.Cond.constantLong "HatRank" (425 : Nat) (-9223372036854775808 : Int64)) ∈ lw_all := lw_g (lw_at lw_m3 207 rfl) rfl
theorem q794 : (Jvm.Cond.constantLong "HatRank" (427 : Nat) (-5 : Int64)) ∈ lw_all := lw_g (lw_at lw_m3 208 rfl) rfl
theorem q795 : (Jvm.Cond.methodLink "HatRank" (429 : Nat) ({ cls := "HatRank", name := "branchAll", desc := "(III)V" } : Jvm.MethodName)) ∈ lw_all := lw_g (lw_at lw_m3 209 rfl) rfl
theorem q796 : (Jvm.Cond.privateMethod ({ cls := "HatRank", name := "branchAll", desc := "(III)V" } : Jvm.MethodName)) ∈ lw_tbl := lw_at lw_m3 210 rfl
theorem q797 : (Jvm.Cond.instanceMethod ({ cls := "HatRank", name := "branchAll", desc := "(III)V" } : Jvm.MethodName)) ∈ lw_all := lw_g (lw_at lw_m3 211 rfl) rfl
theorem q798 : (Jvm.Cond.code ({ cls := "HatRank", name := "branchAll", desc := "(III)V" } : Jvm.MethodName) prog_1_method_63_code (4 : Nat) (Option.none : Option Jvm.ClassFile.FieldType)) ∈ lw_all := lw_g (lw_at lw_m3 212 rfl) rfl
theorem q799 : (Jvm.Cond.methodLink "HatRank" (413 : Nat) ({ cls := "HatRank$Town", name := "copy", desc := "(LHatRank$Town;)V" } : Jvm.MethodName)) ∈ lw_all := lw_g (lw_at lw_m3 213 rfl) rfl
theorem q806 : (Jvm.Cond.methodLink "HatRank" (403 : Nat) ({ cls := "HatRank", name := "count1", desc := "(LHatRank$Town;J)V" } : Jvm.MethodName)) ∈ lw_all := lw_g (lw_at lw_m3 220 rfl) rfl
theorem q807 : (Jvm.Cond.privateMethod ({ cls := "HatRank", name := "count1", desc := "(LHatRank$Town;J)V" } : Jvm.MethodName)) ∈ lw_tbl := lw_at lw_m3 221 rfl
theorem q808 : (Jvm.Cond.instanceMethod ({ cls := "HatRank", name := "count1", desc := "(LHatRank$Town;J)V" } : Jvm.MethodName)) ∈ lw_all := lw_g (lw_at lw_m3 222 rfl) rfl
theorem q809 : (Jvm.Cond.code ({ cls := "HatRank", name := "count1", desc := "(LHatRank$Town;J)V" } : Jvm.MethodName) prog_1_method_61_code (4 : Nat) (Option.none : Option Jvm.ClassFile.FieldType)) ∈ lw_all := lw_g (lw_at lw_m3 223 rfl) rfl
theorem q810 : (Jvm.Cond.methodLink "HatRank" (407 : Nat) ({ cls := "HatRank", name := "branch", desc := "(IIIIJ)V" } : Jvm.MethodName)) ∈ lw_all := lw_g (lw_at lw_m3 224 rfl) rfl
theorem q811 : (Jvm.Cond.privateMethod ({ cls := "HatRank", name := "branch", desc := "(IIIIJ)V" } : Jvm.MethodName)) ∈ lw_tbl := lw_at lw_m3 225 rfl
theorem q812 : (Jvm.Cond.instanceMethod ({ cls := "HatRank", name := "branch", desc := "(IIIIJ)V" } : Jvm.MethodName)) ∈ lw_all := lw_g (lw_at lw_m3 226 rfl) rfl
theorem q813 : (Jvm.Cond.code ({ cls := "HatRank", name := "branch", desc := "(IIIIJ)V" } : Jvm.MethodName) prog_1_method_62_code (10 : Nat) (Option.none : Option Jvm.ClassFile.FieldType)) ∈ lw_all := lw_g (lw_at lw_m3 227 rfl) rfl
theorem q814 : (Jvm.Cond.constantLong "HatRank" (411 : Nat) (12 : Int64)) ∈ lw_all := lw_g (lw_at lw_m3 228 rfl) rfl
theorem q815 : (Jvm.Cond.methodLink "HatRank" (432 : Nat) ({ cls := "HatRank", name := "wholeOf", desc := "(I)J" } : Jvm.MethodName)) ∈ lw_all := lw_g (lw_at lw_m3 229 rfl) rfl
theorem q816 : (Jvm.Cond.privateMethod ({ cls := "HatRank", name := "wholeOf", desc := "(I)J" } : Jvm.MethodName)) ∈ lw_tbl := lw_at lw_m3 230 rfl
theorem q817 : (Jvm.Cond.instanceMethod ({ cls := "HatRank", name := "wholeOf", desc := "(I)J" } : Jvm.MethodName)) ∈ lw_all := lw_g (lw_at lw_m3 231 rfl) rfl
theorem q818 : (Jvm.Cond.code ({ cls := "HatRank", name := "wholeOf", desc := "(I)J" } : Jvm.MethodName) prog_1_method_64_code (5 : Nat) (Option.some Jvm.ClassFile.FieldType.long)) ∈ lw_all := lw_g (lw_at lw_m3 232 rfl) rfl
theorem q819 : (Jvm.Cond.methodLink "HatRank" (436 : Nat) ({ cls := "HatRank", name := "partOf", desc := "(JJI)J" } : Jvm.MethodName)) ∈ lw_all := lw_g (lw_at lw_m3 233 rfl) rfl
theorem q820 : (Jvm.Cond.static ({ cls := "HatRank", name := "partOf", desc := "(JJI)J" } : Jvm.MethodName)) ∈ lw_all := lw_g (lw_at lw_m3 234 rfl) rfl
theorem q821 : (Jvm.Cond.code ({ cls := "HatRank", name := "partOf", desc := "(JJI)J" } : Jvm.MethodName) prog_1_method_66_code (7 : Nat) (Option.some Jvm.ClassFile.FieldType.long)) ∈ lw_all := lw_g (lw_at lw_m3 235 rfl) rfl
theorem q822 : (Jvm.Cond.methodLink "HatRank" (416 : Nat) ({ cls := "HatRank", name := "common", desc := "(JJ)J" } : Jvm.MethodName)) ∈ lw_all := lw_g (lw_at lw_m3 236 rfl) rfl
theorem q823 : (Jvm.Cond.static ({ cls := "HatRank", name := "common", desc := "(JJ)J" } : Jvm.MethodName)) ∈ lw_all := lw_g (lw_at lw_m3 237 rfl) rfl
theorem q824 : (Jvm.Cond.code ({ cls := "HatRank", name := "common", desc := "(JJ)J" } : Jvm.MethodName) prog_1_method_65_code (4 : Nat) (Option.some Jvm.ClassFile.FieldType.long)) ∈ lw_all := lw_g (lw_at lw_m3 238 rfl) rfl
theorem q826 : (Jvm.Cond.instanceMethod ({ cls := "HatRank", name := "mean", desc := "(III)J" } : Jvm.MethodName)) ∈ lw_all := lw_g (lw_at lw_m4 0 rfl) rfl
theorem q827 : (Jvm.Cond.selects "HatRank" ({ cls := "HatRank", name := "mean", desc := "(III)J" } : Jvm.MethodName) ({ cls := "HatRank", name := "mean", desc := "(III)J" } : Jvm.MethodName)) ∈ lw_all := lw_g (lw_at lw_m4 1 rfl) rfl
theorem q828 : (Jvm.Cond.code ({ cls := "HatRank", name := "mean", desc := "(III)J" } : Jvm.MethodName) prog_1_method_69_code (4 : Nat) (Option.some Jvm.ClassFile.FieldType.long)) ∈ lw_all := lw_g (lw_at lw_m4 2 rfl) rfl
theorem q830 : (Jvm.Cond.instanceMethod ({ cls := "HatRank", name := "stand", desc := "(II)I" } : Jvm.MethodName)) ∈ lw_all := lw_g (lw_at lw_m4 4 rfl) rfl
theorem q831 : (Jvm.Cond.selects "HatRank" ({ cls := "HatRank", name := "stand", desc := "(II)I" } : Jvm.MethodName) ({ cls := "HatRank", name := "stand", desc := "(II)I" } : Jvm.MethodName)) ∈ lw_all := lw_g (lw_at lw_m4 5 rfl) rfl
theorem q832 : (Jvm.Cond.code ({ cls := "HatRank", name := "stand", desc := "(II)I" } : Jvm.MethodName) prog_1_method_70_code (7 : Nat) (Option.some Jvm.ClassFile.FieldType.int)) ∈ lw_all := lw_g (lw_at lw_m4 6 rfl) rfl
theorem q834 : (Jvm.Cond.instanceMethod ({ cls := "HatRank", name := "heavy", desc := "(II)I" } : Jvm.MethodName)) ∈ lw_all := lw_g (lw_at lw_m4 8 rfl) rfl
theorem q835 : (Jvm.Cond.selects "HatRank" ({ cls := "HatRank", name := "heavy", desc := "(II)I" } : Jvm.MethodName) ({ cls := "HatRank", name := "heavy", desc := "(II)I" } : Jvm.MethodName)) ∈ lw_all := lw_g (lw_at lw_m4 9 rfl) rfl
theorem q836 : (Jvm.Cond.code ({ cls := "HatRank", name := "heavy", desc := "(II)I" } : Jvm.MethodName) prog_1_method_71_code (4 : Nat) (Option.some Jvm.ClassFile.FieldType.int)) ∈ lw_all := lw_g (lw_at lw_m4 10 rfl) rfl
theorem q838 : (Jvm.Cond.instanceMethod ({ cls := "HatRank", name := "ahead", desc := "(IIII)I" } : Jvm.MethodName)) ∈ lw_all := lw_g (lw_at lw_m4 12 rfl) rfl
theorem q839 : (Jvm.Cond.selects "HatRank" ({ cls := "HatRank", name := "ahead", desc := "(IIII)I" } : Jvm.MethodName) ({ cls := "HatRank", name := "ahead", desc := "(IIII)I" } : Jvm.MethodName)) ∈ lw_all := lw_g (lw_at lw_m4 13 rfl) rfl
theorem q840 : (Jvm.Cond.code ({ cls := "HatRank", name := "ahead", desc := "(IIII)I" } : Jvm.MethodName) prog_1_method_74_code (6 : Nat) (Option.some Jvm.ClassFile.FieldType.int)) ∈ lw_all := lw_g (lw_at lw_m4 14 rfl) rfl
theorem q841 : (Jvm.Cond.methodLink "HatRank" (440 : Nat) ({ cls := "HatRank", name := "thinkHours", desc := "(II)V" } : Jvm.MethodName)) ∈ lw_all := lw_g (lw_at lw_m4 15 rfl) rfl
theorem q842 : (Jvm.Cond.privateMethod ({ cls := "HatRank", name := "thinkHours", desc := "(II)V" } : Jvm.MethodName)) ∈ lw_tbl := lw_at lw_m4 16 rfl
theorem q843 : (Jvm.Cond.instanceMethod ({ cls := "HatRank", name := "thinkHours", desc := "(II)V" } : Jvm.MethodName)) ∈ lw_all := lw_g (lw_at lw_m4 17 rfl) rfl
theorem q844 : (Jvm.Cond.code ({ cls := "HatRank", name := "thinkHours", desc := "(II)V" } : Jvm.MethodName) prog_1_method_72_code (4 : Nat) (Option.none : Option Jvm.ClassFile.FieldType)) ∈ lw_all := lw_g (lw_at lw_m4 18 rfl) rfl
theorem q845 : (Jvm.Cond.methodLink "HatRank" (444 : Nat) ({ cls := "HatRank", name := "allLying", desc := "(LHatRank$Town;)I" } : Jvm.MethodName)) ∈ lw_all := lw_g (lw_at lw_m4 19 rfl) rfl
theorem q846 : (Jvm.Cond.privateMethod ({ cls := "HatRank", name := "allLying", desc := "(LHatRank$Town;)I" } : Jvm.MethodName)) ∈ lw_tbl := lw_at lw_m4 20 rfl
theorem q847 : (Jvm.Cond.instanceMethod ({ cls := "HatRank", name := "allLying", desc := "(LHatRank$Town;)I" } : Jvm.MethodName)) ∈ lw_all := lw_g (lw_at lw_m4 21 rfl) rfl
theorem q848 : (Jvm.Cond.code ({ cls := "HatRank", name := "allLying", desc := "(LHatRank$Town;)I" } : Jvm.MethodName) prog_1_method_73_code (4 : Nat) (Option.some Jvm.ClassFile.FieldType.int)) ∈ lw_all := lw_g (lw_at lw_m4 22 rfl) rfl
theorem q850 : (Jvm.Cond.instanceMethod ({ cls := "HatRank", name := "storm", desc := "(I)I" } : Jvm.MethodName)) ∈ lw_all := lw_g (lw_at lw_m4 24 rfl) rfl
theorem q851 : (Jvm.Cond.selects "HatRank" ({ cls := "HatRank", name := "storm", desc := "(I)I" } : Jvm.MethodName) ({ cls := "HatRank", name := "storm", desc := "(I)I" } : Jvm.MethodName)) ∈ lw_all := lw_g (lw_at lw_m4 25 rfl) rfl
theorem q852 : (Jvm.Cond.code ({ cls := "HatRank", name := "storm", desc := "(I)I" } : Jvm.MethodName) prog_1_method_75_code (4 : Nat) (Option.some Jvm.ClassFile.FieldType.int)) ∈ lw_all := lw_g (lw_at lw_m4 26 rfl) rfl
theorem q854 : (Jvm.Cond.instanceMethod ({ cls := "HatRank", name := "seeded", desc := "(II)I" } : Jvm.MethodName)) ∈ lw_all := lw_g (lw_at lw_m4 28 rfl) rfl
theorem q855 : (Jvm.Cond.selects "HatRank" ({ cls := "HatRank", name := "seeded", desc := "(II)I" } : Jvm.MethodName) ({ cls := "HatRank", name := "seeded", desc := "(II)I" } : Jvm.MethodName)) ∈ lw_all := lw_g (lw_at lw_m4 29 rfl) rfl
theorem q856 : (Jvm.Cond.code ({ cls := "HatRank", name := "seeded", desc := "(II)I" } : Jvm.MethodName) prog_1_method_77_code (5 : Nat) (Option.some Jvm.ClassFile.FieldType.int)) ∈ lw_all := lw_g (lw_at lw_m4 30 rfl) rfl
theorem q857 : (Jvm.Cond.methodLink "HatRank" (447 : Nat) ({ cls := "HatRank", name := "isAsTold", desc := "([B)Z" } : Jvm.MethodName)) ∈ lw_all := lw_g (lw_at lw_m4 31 rfl) rfl
theorem q858 : (Jvm.Cond.privateMethod ({ cls := "HatRank", name := "isAsTold", desc := "([B)Z" } : Jvm.MethodName)) ∈ lw_tbl := lw_at lw_m4 32 rfl
theorem q859 : (Jvm.Cond.instanceMethod ({ cls := "HatRank", name := "isAsTold", desc := "([B)Z" } : Jvm.MethodName)) ∈ lw_all := lw_g (lw_at lw_m4 33 rfl) rfl
theorem q860 : (Jvm.Cond.code ({ cls := "HatRank", name := "isAsTold", desc := "([B)Z" } : Jvm.MethodName) prog_1_method_76_code (3 : Nat) (Option.some Jvm.ClassFile.FieldType.boolean)) ∈ lw_all := lw_g (lw_at lw_m4 34 rfl) rfl
theorem q862 : (Jvm.Cond.instanceMethod ({ cls := "HatRank", name := "image", desc := "()I" } : Jvm.MethodName)) ∈ lw_all := lw_g (lw_at lw_m4 36 rfl) rfl
theorem q863 : (Jvm.Cond.selects "HatRank" ({ cls := "HatRank", name := "image", desc := "()I" } : Jvm.MethodName) ({ cls := "HatRank", name := "image", desc := "()I" } : Jvm.MethodName)) ∈ lw_all := lw_g (lw_at lw_m4 37 rfl) rfl
theorem q864 : (Jvm.Cond.code ({ cls := "HatRank", name := "image", desc := "()I" } : Jvm.MethodName) prog_1_method_78_code (1 : Nat) (Option.some Jvm.ClassFile.FieldType.int)) ∈ lw_all := lw_g (lw_at lw_m4 38 rfl) rfl
theorem q866 : (Jvm.Cond.instanceMethod ({ cls := "HatRank", name := "back", desc := "()I" } : Jvm.MethodName)) ∈ lw_all := lw_g (lw_at lw_m4 40 rfl) rfl
theorem q867 : (Jvm.Cond.selects "HatRank" ({ cls := "HatRank", name := "back", desc := "()I" } : Jvm.MethodName) ({ cls := "HatRank", name := "back", desc := "()I" } : Jvm.MethodName)) ∈ lw_all := lw_g (lw_at lw_m4 41 rfl) rfl
theorem q868 : (Jvm.Cond.code ({ cls := "HatRank", name := "back", desc := "()I" } : Jvm.MethodName) prog_1_method_79_code (1 : Nat) (Option.some Jvm.ClassFile.FieldType.int)) ∈ lw_all := lw_g (lw_at lw_m4 42 rfl) rfl
theorem q869 : (Jvm.Cond.methodLink "HatRank" (464 : Nat) ({ cls := "java/lang/System", name := "arraycopy", desc := "(Ljava/lang/Object;ILjava/lang/Object;II)V" } : Jvm.MethodName)) ∈ lw_all := lw_g (lw_at lw_m4 43 rfl) rfl
theorem q871 : (Jvm.Cond.instanceMethod ({ cls := "HatRank", name := "body", desc := "(I)I" } : Jvm.MethodName)) ∈ lw_all := lw_g (lw_at lw_m4 45 rfl) rfl
theorem q872 : (Jvm.Cond.selects "HatRank" ({ cls := "HatRank", name := "body", desc := "(I)I" } : Jvm.MethodName) ({ cls := "HatRank", name := "body", desc := "(I)I" } : Jvm.MethodName)) ∈ lw_all := lw_g (lw_at lw_m4 46 rfl) rfl
theorem q873 : (Jvm.Cond.code ({ cls := "HatRank", name := "body", desc := "(I)I" } : Jvm.MethodName) prog_1_method_82_code (2 : Nat) (Option.some Jvm.ClassFile.FieldType.int)) ∈ lw_all := lw_g (lw_at lw_m4 47 rfl) rfl
theorem q874 : (Jvm.Cond.constantLong "HatRank" (495 : Nat) (7 : Int64)) ∈ lw_all := lw_g (lw_at lw_m4 48 rfl) rfl
theorem q875 : (Jvm.Cond.methodLink "HatRank" (497 : Nat) ({ cls := "HatRank", name := "made", desc := "(I)LHatRank$Body;" } : Jvm.MethodName)) ∈ lw_all := lw_g (lw_at lw_m4 49 rfl) rfl
theorem q876 : (Jvm.Cond.privateMethod ({ cls := "HatRank", name := "made", desc := "(I)LHatRank$Body;" } : Jvm.MethodName)) ∈ lw_tbl := lw_at lw_m4 50 rfl
theorem q877 : (Jvm.Cond.instanceMethod ({ cls := "HatRank", name := "made", desc := "(I)LHatRank$Body;" } : Jvm.MethodName)) ∈ lw_all := lw_g (lw_at lw_m4 51 rfl) rfl
theorem q878 : (Jvm.Cond.code ({ cls := "HatRank", name := "made", desc := "(I)LHatRank$Body;" } : Jvm.MethodName) prog_1_method_81_code (2 : Nat) (Option.some (Jvm.ClassFile.FieldType.object "HatRank$Body"))) ∈ lw_all := lw_g (lw_at lw_m4 52 rfl) rfl
theorem q879 : (Jvm.Cond.classLink "HatRank" (473 : Nat) "HatRank$Strapped") ∈ lw_all := lw_g (lw_at lw_m4 53 rfl) rfl
theorem q881 : (Jvm.Cond.methodLink "HatRank" (475 : Nat) ({ cls := "HatRank$Strapped", name := "<init>", desc := "(LHatRank;I)V" } : Jvm.MethodName)) ∈ lw_all := lw_g (lw_at lw_m4 55 rfl) rfl
theorem q898 : (Jvm.Cond.classLink "HatRank" (476 : Nat) "HatRank$Blown") ∈ lw_all := lw_g (lw_at lw_m4 72 rfl) rfl
theorem q900 : (Jvm.Cond.methodLink "HatRank" (478 : Nat) ({ cls := "HatRank$Blown", name := "<init>", desc := "(LHatRank;I)V" } : Jvm.MethodName)) ∈ lw_all := lw_g (lw_at lw_m4 74 rfl) rfl
theorem q910 : (Jvm.Cond.classLink "HatRank" (479 : Nat) "HatRank$Caught") ∈ lw_all := lw_g (lw_at lw_m4 84 rfl) rfl
theorem q912 : (Jvm.Cond.methodLink "HatRank" (481 : Nat) ({ cls := "HatRank$Caught", name := "<init>", desc := "(LHatRank;I)V" } : Jvm.MethodName)) ∈ lw_all := lw_g (lw_at lw_m4 86 rfl) rfl
theorem q923 : (Jvm.Cond.classLink "HatRank" (482 : Nat) "HatRank$OldHat") ∈ lw_all := lw_g (lw_at lw_m4 97 rfl) rfl
theorem q925 : (Jvm.Cond.methodLink "HatRank" (484 : Nat) ({ cls := "HatRank$OldHat", name := "<init>", desc := "(LHatRank;I)V" } : Jvm.MethodName)) ∈ lw_all := lw_g (lw_at lw_m4 99 rfl) rfl
theorem q936 : (Jvm.Cond.classLink "HatRank" (485 : Nat) "HatRank$LostHat") ∈ lw_all := lw_g (lw_at lw_m4 110 rfl) rfl
theorem q938 : (Jvm.Cond.methodLink "HatRank" (487 : Nat) ({ cls := "HatRank$LostHat", name := "<init>", desc := "(LHatRank;I)V" } : Jvm.MethodName)) ∈ lw_all := lw_g (lw_at lw_m4 112 rfl) rfl
theorem q950 : (Jvm.Cond.classLink "HatRank" (488 : Nat) "HatRank$NewHat") ∈ lw_all := lw_g (lw_at lw_m4 124 rfl) rfl
theorem q952 : (Jvm.Cond.methodLink "HatRank" (490 : Nat) ({ cls := "HatRank$NewHat", name := "<init>", desc := "(LHatRank;I)V" } : Jvm.MethodName)) ∈ lw_all := lw_g (lw_at lw_m4 126 rfl) rfl
theorem q962 : (Jvm.Cond.classLink "HatRank" (491 : Nat) "HatRank$Crown") ∈ lw_all := lw_g (lw_at lw_m4 136 rfl) rfl
theorem q964 : (Jvm.Cond.methodLink "HatRank" (493 : Nat) ({ cls := "HatRank$Crown", name := "<init>", desc := "(LHatRank;I)V" } : Jvm.MethodName)) ∈ lw_all := lw_g (lw_at lw_m4 138 rfl) rfl
theorem q976 : (Jvm.Cond.methodLink "HatRank" (494 : Nat) ({ cls := "HatRank$Body", name := "<init>", desc := "(LHatRank;I)V" } : Jvm.MethodName)) ∈ lw_all := lw_g (lw_at lw_m4 150 rfl) rfl
theorem q981 : (Jvm.Cond.instanceMethod ({ cls := "HatRank", name := "act", desc := "(III)I" } : Jvm.MethodName)) ∈ lw_all := lw_g (lw_at lw_m4 155 rfl) rfl
theorem q982 : (Jvm.Cond.selects "HatRank" ({ cls := "HatRank", name := "act", desc := "(III)I" } : Jvm.MethodName) ({ cls := "HatRank", name := "act", desc := "(III)I" } : Jvm.MethodName)) ∈ lw_all := lw_g (lw_at lw_m4 156 rfl) rfl
theorem q983 : (Jvm.Cond.code ({ cls := "HatRank", name := "act", desc := "(III)I" } : Jvm.MethodName) prog_1_method_83_code (5 : Nat) (Option.some Jvm.ClassFile.FieldType.int)) ∈ lw_all := lw_g (lw_at lw_m4 157 rfl) rfl
theorem q984 : (Jvm.Cond.methodLink "HatRank" (504 : Nat) ({ cls := "HatRank", name := "isBody", desc := "(I)Z" } : Jvm.MethodName)) ∈ lw_all := lw_g (lw_at lw_m4 158 rfl) rfl
theorem q985 : (Jvm.Cond.privateMethod ({ cls := "HatRank", name := "isBody", desc := "(I)Z" } : Jvm.MethodName)) ∈ lw_tbl := lw_at lw_m4 159 rfl
theorem q986 : (Jvm.Cond.instanceMethod ({ cls := "HatRank", name := "isBody", desc := "(I)Z" } : Jvm.MethodName)) ∈ lw_all := lw_g (lw_at lw_m4 160 rfl) rfl
theorem q987 : (Jvm.Cond.code ({ cls := "HatRank", name := "isBody", desc := "(I)Z" } : Jvm.MethodName) prog_1_method_80_code (2 : Nat) (Option.some Jvm.ClassFile.FieldType.boolean)) ∈ lw_all := lw_g (lw_at lw_m4 161 rfl) rfl
theorem q1073 : (Jvm.Cond.methodLink "HatRank" (510 : Nat) ({ cls := "HatRank$Body", name := "falls", desc := "(I)I" } : Jvm.MethodName)) ∈ lw_all := lw_g (lw_at lw_m5 7 rfl) rfl
theorem q1112 : (Jvm.Cond.methodLink "HatRank" (513 : Nat) ({ cls := "HatRank$Body", name := "lands", desc := "(I)I" } : Jvm.MethodName)) ∈ lw_all := lw_g (lw_at lw_m5 46 rfl) rfl
theorem q1210 : (Jvm.Cond.instanceMethod ({ cls := "HatRank", name := "trace", desc := "(I)I" } : Jvm.MethodName)) ∈ lw_all := lw_g (lw_at lw_m5 144 rfl) rfl
theorem q1211 : (Jvm.Cond.selects "HatRank" ({ cls := "HatRank", name := "trace", desc := "(I)I" } : Jvm.MethodName) ({ cls := "HatRank", name := "trace", desc := "(I)I" } : Jvm.MethodName)) ∈ lw_all := lw_g (lw_at lw_m5 145 rfl) rfl
theorem q1212 : (Jvm.Cond.code ({ cls := "HatRank", name := "trace", desc := "(I)I" } : Jvm.MethodName) prog_1_method_84_code (2 : Nat) (Option.some Jvm.ClassFile.FieldType.int)) ∈ lw_all := lw_g (lw_at lw_m5 146 rfl) rfl
theorem q1214 : (Jvm.Cond.instanceMethod ({ cls := "HatRank", name := "keep", desc := "(II)I" } : Jvm.MethodName)) ∈ lw_all := lw_g (lw_at lw_m5 148 rfl) rfl
theorem q1215 : (Jvm.Cond.selects "HatRank" ({ cls := "HatRank", name := "keep", desc := "(II)I" } : Jvm.MethodName) ({ cls := "HatRank", name := "keep", desc := "(II)I" } : Jvm.MethodName)) ∈ lw_all := lw_g (lw_at lw_m5 149 rfl) rfl
theorem q1216 : (Jvm.Cond.code ({ cls := "HatRank", name := "keep", desc := "(II)I" } : Jvm.MethodName) prog_1_method_86_code (3 : Nat) (Option.some Jvm.ClassFile.FieldType.int)) ∈ lw_all := lw_g (lw_at lw_m5 150 rfl) rfl
theorem q1218 : (Jvm.Cond.instanceMethod ({ cls := "HatRank", name := "row", desc := "(III)I" } : Jvm.MethodName)) ∈ lw_all := lw_g (lw_at lw_m5 152 rfl) rfl
theorem q1219 : (Jvm.Cond.selects "HatRank" ({ cls := "HatRank", name := "row", desc := "(III)I" } : Jvm.MethodName) ({ cls := "HatRank", name := "row", desc := "(III)I" } : Jvm.MethodName)) ∈ lw_all := lw_g (lw_at lw_m5 153 rfl) rfl
theorem q1220 : (Jvm.Cond.code ({ cls := "HatRank", name := "row", desc := "(III)I" } : Jvm.MethodName) prog_1_method_87_code (4 : Nat) (Option.some Jvm.ClassFile.FieldType.int)) ∈ lw_all := lw_g (lw_at lw_m5 154 rfl) rfl
theorem q1226 : (Jvm.Cond.instanceMethod ({ cls := "HatRank", name := "put", desc := "(IIJ)I" } : Jvm.MethodName)) ∈ lw_all := lw_g (lw_at lw_m5 160 rfl) rfl
theorem q1227 : (Jvm.Cond.selects "HatRank" ({ cls := "HatRank", name := "put", desc := "(IIJ)I" } : Jvm.MethodName) ({ cls := "HatRank", name := "put", desc := "(IIJ)I" } : Jvm.MethodName)) ∈ lw_all := lw_g (lw_at lw_m5 161 rfl) rfl
theorem q1228 : (Jvm.Cond.code ({ cls := "HatRank", name := "put", desc := "(IIJ)I" } : Jvm.MethodName) prog_1_method_91_code (7 : Nat) (Option.some Jvm.ClassFile.FieldType.int)) ∈ lw_all := lw_g (lw_at lw_m5 162 rfl) rfl
theorem q1229 : (Jvm.Cond.methodLink "HatRank" (531 : Nat) ({ cls := "HatRank", name := "refusal", desc := "(II)I" } : Jvm.MethodName)) ∈ lw_all := lw_g (lw_at lw_m5 163 rfl) rfl
theorem q1230 : (Jvm.Cond.privateMethod ({ cls := "HatRank", name := "refusal", desc := "(II)I" } : Jvm.MethodName)) ∈ lw_tbl := lw_at lw_m5 164 rfl
theorem q1231 : (Jvm.Cond.instanceMethod ({ cls := "HatRank", name := "refusal", desc := "(II)I" } : Jvm.MethodName)) ∈ lw_all := lw_g (lw_at lw_m5 165 rfl) rfl
theorem q1232 : (Jvm.Cond.code ({ cls := "HatRank", name := "refusal", desc := "(II)I" } : Jvm.MethodName) prog_1_method_90_code (4 : Nat) (Option.some Jvm.ClassFile.FieldType.int)) ∈ lw_all := lw_g (lw_at lw_m5 166 rfl) rfl
theorem q1233 : (Jvm.Cond.methodLink "HatRank" (528 : Nat) ({ cls := "HatRank", name := "sizeOf", desc := "(Ljava/lang/Object;)I" } : Jvm.MethodName)) ∈ lw_all := lw_g (lw_at lw_m5 167 rfl) rfl
theorem q1234 : (Jvm.Cond.static ({ cls := "HatRank", name := "sizeOf", desc := "(Ljava/lang/Object;)I" } : Jvm.MethodName)) ∈ lw_all := lw_g (lw_at lw_m5 168 rfl) rfl
theorem q1235 : (Jvm.Cond.code ({ cls := "HatRank", name := "sizeOf", desc := "(Ljava/lang/Object;)I" } : Jvm.MethodName) prog_1_method_89_code (1 : Nat) (Option.some Jvm.ClassFile.FieldType.int)) ∈ lw_all := lw_g (lw_at lw_m5 169 rfl) rfl
theorem q1237 : (Jvm.Cond.instanceMethod ({ cls := "HatRank", name := "element", desc := "(II)J" } : Jvm.MethodName)) ∈ lw_all := lw_g (lw_at lw_m5 171 rfl) rfl
theorem q1238 : (Jvm.Cond.selects "HatRank" ({ cls := "HatRank", name := "element", desc := "(II)J" } : Jvm.MethodName) ({ cls := "HatRank", name := "element", desc := "(II)J" } : Jvm.MethodName)) ∈ lw_all := lw_g (lw_at lw_m5 172 rfl) rfl
theorem q1239 : (Jvm.Cond.code ({ cls := "HatRank", name := "element", desc := "(II)J" } : Jvm.MethodName) prog_1_method_92_code (4 : Nat) (Option.some Jvm.ClassFile.FieldType.long)) ∈ lw_all := lw_g (lw_at lw_m5 173 rfl) rfl
theorem q1241 : (Jvm.Cond.instanceMethod ({ cls := "HatRank", name := "shift", desc := "(IIIII)I" } : Jvm.MethodName)) ∈ lw_all := lw_g (lw_at lw_m5 175 rfl) rfl
theorem q1242 : (Jvm.Cond.selects "HatRank" ({ cls := "HatRank", name := "shift", desc := "(IIIII)I" } : Jvm.MethodName) ({ cls := "HatRank", name := "shift", desc := "(IIIII)I" } : Jvm.MethodName)) ∈ lw_all := lw_g (lw_at lw_m5 176 rfl) rfl
theorem q1243 : (Jvm.Cond.code ({ cls := "HatRank", name := "shift", desc := "(IIIII)I" } : Jvm.MethodName) prog_1_method_93_code (8 : Nat) (Option.some Jvm.ClassFile.FieldType.int)) ∈ lw_all := lw_g (lw_at lw_m5 177 rfl) rfl
theorem q1245 : (Jvm.Cond.instanceMethod ({ cls := "HatRank", name := "taken", desc := "(II)I" } : Jvm.MethodName)) ∈ lw_all := lw_g (lw_at lw_m5 179 rfl) rfl
theorem q1246 : (Jvm.Cond.selects "HatRank" ({ cls := "HatRank", name := "taken", desc := "(II)I" } : Jvm.MethodName) ({ cls := "HatRank", name := "taken", desc := "(II)I" } : Jvm.MethodName)) ∈ lw_all := lw_g (lw_at lw_m5 180 rfl) rfl
theorem q1247 : (Jvm.Cond.code ({ cls := "HatRank", name := "taken", desc := "(II)I" } : Jvm.MethodName) prog_1_method_94_code (5 : Nat) (Option.some Jvm.ClassFile.FieldType.int)) ∈ lw_all := lw_g (lw_at lw_m5 181 rfl) rfl
theorem q1248 : (Jvm.Cond.methodLink "HatRank" (534 : Nat) ({ cls := "HatRank$Body", name := "isUnder", desc := "(I)Z" } : Jvm.MethodName)) ∈ lw_all := lw_g (lw_at lw_m5 182 rfl) rfl
theorem q1281 : (Jvm.Cond.methodLink "HatRank" (537 : Nat) ({ cls := "HatRank$Body", name := "kind", desc := "()I" } : Jvm.MethodName)) ∈ lw_all := lw_g (lw_at lw_m5 215 rfl) rfl
theorem q1308 : (Jvm.Cond.instanceMethod ({ cls := "HatRank", name := "count", desc := "(I)I" } : Jvm.MethodName)) ∈ lw_all := lw_g (lw_at lw_m6 2 rfl) rfl
theorem q1309 : (Jvm.Cond.selects "HatRank" ({ cls := "HatRank", name := "count", desc := "(I)I" } : Jvm.MethodName) ({ cls := "HatRank", name := "count", desc := "(I)I" } : Jvm.MethodName)) ∈ lw_all := lw_g (lw_at lw_m6 3 rfl) rfl
theorem q1310 : (Jvm.Cond.code ({ cls := "HatRank", name := "count", desc := "(I)I" } : Jvm.MethodName) prog_1_method_95_code (2 : Nat) (Option.some Jvm.ClassFile.FieldType.int)) ∈ lw_all := lw_g (lw_at lw_m6 4 rfl) rfl
theorem q1935 : (Jvm.Cond.castable "HatRank" "java/lang/Object") ∈ lw_tbl := lw_at lw_m8 149 rfl
theorem in_X0 : ∀ w ∈ wsX00, w ∈ lw_all := lw_in wsX00 [328, 330, 332, 334, 336, 338, 340, 342, 344, 346, 348, 350, 352, 354, 356, 358, 360, 362, 364, 366, 368, 370, 372, 374, 376, 378, 380, 382, 384, 386, 388, 390, 392, 394, 396, 398] (by decide +kernel) (by decide +kernel)
