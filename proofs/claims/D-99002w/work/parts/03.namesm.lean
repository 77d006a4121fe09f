/-! WhiteBoardModel -/
set_option maxRecDepth 100000
def RX4 : String := "WhiteBoardModel"
def TX4 : u_T := fun k => match k with
  | 0 => ("WhiteBoardModel", "thrown", "I", false)
  | 1 => ("WhiteBoardModel", "masters", "I", false)
  | 2 => ("WhiteBoardModel", "places", "I", false)
  | 3 => ("WhiteBoardModel", "ways", "I", false)
  | 4 => ("WhiteBoardModel", "people", "I", false)
  | 5 => ("WhiteBoardModel", "kins", "I", false)
  | 6 => ("WhiteBoardModel", "friends", "I", false)
  | 7 => ("WhiteBoardModel", "writesAt", "I", false)
  | 8 => ("WhiteBoardModel", "danger", "[I", true)
  | 9 => ("WhiteBoardModel", "wayA", "[I", true)
  | 10 => ("WhiteBoardModel", "wayB", "[I", true)
  | 11 => ("WhiteBoardModel", "gate", "[I", true)
  | 12 => ("WhiteBoardModel", "goods", "[I", true)
  | 13 => ("WhiteBoardModel", "kin", "[I", true)
  | 14 => ("WhiteBoardModel", "friendOf", "[I", true)
  | 15 => ("WhiteBoardModel", "friend", "[I", true)
  | 16 => ("WhiteBoardModel", "isFriend", "[I", true)
  | 17 => ("WhiteBoardModel", "code", "[I", true)
  | 18 => ("WhiteBoardModel", "tape", "[I", true)
  | 19 => ("WhiteBoardModel", "taped", "I", false)
  | 20 => ("WhiteBoardModel", "faultKind", "I", false)
  | 21 => ("WhiteBoardModel", "faultPlace", "I", false)
  | 22 => ("WhiteBoardModel", "refused", "[I", true)
  | 23 => ("WhiteBoardModel", "long1", "I", false)
  | 24 => ("WhiteBoardModel", "next0", "I", false)
  | 25 => ("WhiteBoardModel", "sort", "I", false)
  | 26 => ("WhiteBoardModel", "place0", "I", false)
  | 27 => ("WhiteBoardModel", "long0", "I", false)
  | 28 => ("WhiteBoardModel", "value", "I", false)
  | 29 => ("WhiteBoardModel", "sign", "I", false)
  | 30 => ("WhiteBoardModel", "word", "J", false)
  | 31 => ("WhiteBoardModel", "newMasters", "I", false)
  | 32 => ("WhiteBoardModel", "newPlaces", "I", false)
  | 33 => ("WhiteBoardModel", "newWays", "I", false)
  | 34 => ("WhiteBoardModel", "newPeople", "I", false)
  | 35 => ("WhiteBoardModel", "newKins", "I", false)
  | 36 => ("WhiteBoardModel", "newFriends", "I", false)
  | 37 => ("WhiteBoardModel", "newWritesAt", "I", false)
  | 38 => ("WhiteBoardModel", "top", "I", false)
  | 39 => ("WhiteBoardModel", "waiting", "I", false)
  | 40 => ("WhiteBoardModel", "depth", "I", false)
  | 41 => ("WhiteBoardModel", "newDanger", "[I", true)
  | 42 => ("WhiteBoardModel", "newWayA", "[I", true)
  | 43 => ("WhiteBoardModel", "newWayB", "[I", true)
  | 44 => ("WhiteBoardModel", "newGate", "[I", true)
  | 45 => ("WhiteBoardModel", "newGoods", "[I", true)
  | 46 => ("WhiteBoardModel", "newKin", "[I", true)
  | 47 => ("WhiteBoardModel", "newFriendOf", "[I", true)
  | 48 => ("WhiteBoardModel", "newFriend", "[I", true)
  | 49 => ("WhiteBoardModel", "newIsFriend", "[I", true)
  | 50 => ("WhiteBoardModel", "newRow", "[I", true)
  | 51 => ("WhiteBoardModel", "readCode", "[I", true)
  | 52 => ("WhiteBoardModel", "waits", "[I", true)
  | 53 => ("WhiteBoardModel", "tested", "[Z", true)
  | 54 => ("WhiteBoardModel", "now", "[I", true)
  | 55 => ("WhiteBoardModel", "ahead", "[I", true)
  | 56 => ("WhiteBoardModel", "acts", "I", false)
  | 57 => ("WhiteBoardModel", "told", "[I", true)
  | 58 => ("WhiteBoardModel", "pile", "[I", true)
  | 59 => ("WhiteBoardModel", "brought", "[I", true)
  | 60 => ("WhiteBoardModel", "nothing", "I", false)
  | 61 => ("WhiteBoardModel", "spared0", "I", false)
  | 62 => ("WhiteBoardModel", "named", "I", false)
  | 63 => ("WhiteBoardModel", "names", "[I", true)
  | 64 => ("WhiteBoardModel", "foundOn", "[I", true)
  | 65 => ("WhiteBoardModel", "listAt", "[I", true)
  | 66 => ("WhiteBoardModel", "foundMany", "[I", true)
  | 67 => ("WhiteBoardModel", "writtenMany", "[I", true)
  | 68 => ("WhiteBoardModel", "then", "[I", true)
  | 69 => ("WhiteBoardModel", "neverShut", "I", false)
  | 70 => ("WhiteBoardModel", "names2", "[I", true)
  | 71 => ("WhiteBoardModel", "mayBe", "[Z", true)
  | 72 => ("WhiteBoardModel", "mayBe2", "[Z", true)
  | 73 => ("WhiteBoardModel", "chance", "[I", true)
  | 74 => ("WhiteBoardModel", "chance2", "[I", true)
  | 75 => ("WhiteBoardModel", "canBe", "[Z", true)
  | 76 => ("WhiteBoardModel", "seenMany", "I", false)
  | 77 => ("WhiteBoardModel", "seen", "[I", true)
  | 78 => ("WhiteBoardModel", "lists0", "[I", true)
  | 79 => ("WhiteBoardModel", "its", "I", false)
  | 80 => ("WhiteBoardModel", "steps0", "[I", true)
  | 81 => ("WhiteBoardModel", "hasImage", "Z", false)
  | 82 => ("WhiteBoardModel", "imageActs", "I", false)
  | 83 => ("WhiteBoardModel", "imageSeen", "I", false)
  | 84 => ("WhiteBoardModel", "imageNow", "[I", true)
  | 85 => ("WhiteBoardModel", "imageAhead", "[I", true)
  | _ => ("WhiteBoardModel", "imageSees", "[I", true)
def tyX4 : Nat → FieldType := fun k => match k with
  | 0 => .int
  | 1 => .int
  | 2 => .int
  | 3 => .int
  | 4 => .int
  | 5 => .int
  | 6 => .int
  | 7 => .int
  | 8 => .array .int
  | 9 => .array .int
  | 10 => .array .int
  | 11 => .array .int
  | 12 => .array .int
  | 13 => .array .int
  | 14 => .array .int
  | 15 => .array .int
  | 16 => .array .int
  | 17 => .array .int
  | 18 => .array .int
  | 19 => .int
  | 20 => .int
  | 21 => .int
  | 22 => .array .int
  | 23 => .int
  | 24 => .int
  | 25 => .int
  | 26 => .int
  | 27 => .int
  | 28 => .int
  | 29 => .int
  | 30 => .long
  | 31 => .int
  | 32 => .int
  | 33 => .int
  | 34 => .int
  | 35 => .int
  | 36 => .int
  | 37 => .int
  | 38 => .int
  | 39 => .int
  | 40 => .int
  | 41 => .array .int
  | 42 => .array .int
  | 43 => .array .int
  | 44 => .array .int
  | 45 => .array .int
  | 46 => .array .int
  | 47 => .array .int
  | 48 => .array .int
  | 49 => .array .int
  | 50 => .array .int
  | 51 => .array .int
  | 52 => .array .int
  | 53 => .array .boolean
  | 54 => .array .int
  | 55 => .array .int
  | 56 => .int
  | 57 => .array .int
  | 58 => .array .int
  | 59 => .array .int
  | 60 => .int
  | 61 => .int
  | 62 => .int
  | 63 => .array .int
  | 64 => .array .int
  | 65 => .array .int
  | 66 => .array .int
  | 67 => .array .int
  | 68 => .array .int
  | 69 => .int
  | 70 => .array .int
  | 71 => .array .boolean
  | 72 => .array .boolean
  | 73 => .array .int
  | 74 => .array .int
  | 75 => .array .boolean
  | 76 => .int
  | 77 => .array .int
  | 78 => .array .int
  | 79 => .int
  | 80 => .array .int
  | 81 => .boolean
  | 82 => .int
  | 83 => .int
  | 84 => .array .int
  | 85 => .array .int
  | _ => .array .int
abbrev wsX40 : List Cond := u_ws RX4 TX4 87
set_option maxRecDepth 100000 in
theorem nmX4 : ∀ a, a < 87 → ∀ b, b < 87 → a ≠ b → (TX4 a).2.1 ≠ (TX4 b).2.1 := by decide +kernel
set_option maxRecDepth 100000 in
theorem tyX4_ok : ∀ k, k < 87 → parseFieldDescriptor (TX4 k).2.2.1 = some (tyX4 k) := by decide +kernel
abbrev cX4_init : ByteArray := prog_13_method_1_code
def yX4_init : MethodName := ⟨RX4, "<init>", "()V"⟩
def dkwX4_init_17 : List UInt8 := [17, 5, 80, 188, 10, 181, 0, 162, 42, 16, 24, 188, 10, 181, 0, 165, 42, 180, 0, 93, 6, 4, 79, 177]
abbrev dktX4_init_17 : List UInt8 := dkwX4_init_17 ++ []
def dkwX4_init_16 : List UInt8 := [188, 10, 181, 0, 153, 42, 16, 8, 188, 10, 181, 0, 156, 42, 16, 34, 188, 10, 181, 0, 159, 42]
abbrev dktX4_init_16 : List UInt8 := dkwX4_init_16 ++ dktX4_init_17
def dkwX4_init_15 : List UInt8 := [181, 0, 144, 42, 16, 8, 188, 4, 181, 0, 147, 42, 16, 24, 188, 10, 181, 0, 150, 42, 17, 10, 140]
abbrev dktX4_init_15 : List UInt8 := dkwX4_init_15 ++ dktX4_init_16
def dkwX4_init_14 : List UInt8 := [181, 0, 135, 42, 16, 8, 188, 4, 181, 0, 138, 42, 16, 8, 188, 10, 181, 0, 141, 42, 16, 8, 188, 10]
abbrev dktX4_init_14 : List UInt8 := dkwX4_init_14 ++ dktX4_init_15
def dkwX4_init_13 : List UInt8 := [188, 10, 181, 0, 126, 42, 2, 181, 0, 129, 42, 16, 9, 188, 10, 181, 0, 132, 42, 16, 8, 188, 4]
abbrev dktX4_init_13 : List UInt8 := dkwX4_init_13 ++ dktX4_init_14
def dkwX4_init_12 : List UInt8 := [188, 10, 181, 0, 117, 42, 16, 30, 188, 10, 181, 0, 120, 42, 16, 30, 188, 10, 181, 0, 123, 42, 16, 34]
abbrev dktX4_init_12 : List UInt8 := dkwX4_init_12 ++ dktX4_init_13
def dkwX4_init_11 : List UInt8 := [2, 181, 0, 108, 42, 16, 9, 188, 10, 181, 0, 111, 42, 16, 9, 188, 10, 181, 0, 114, 42, 16, 30]
abbrev dktX4_init_11 : List UInt8 := dkwX4_init_11 ++ dktX4_init_12
def dkwX4_init_10 : List UInt8 := [16, 8, 188, 10, 181, 0, 99, 42, 17, 3, 182, 188, 10, 181, 0, 102, 42, 6, 188, 10, 181, 0, 105, 42]
abbrev dktX4_init_10 : List UInt8 := dkwX4_init_10 ++ dktX4_init_11
def dkwX4_init_9 : List UInt8 := [188, 4, 181, 0, 89, 42, 16, 34, 188, 10, 181, 0, 93, 42, 17, 5, 80, 188, 10, 181, 0, 96, 42]
abbrev dktX4_init_9 : List UInt8 := dkwX4_init_9 ++ dktX4_init_10
def dkwX4_init_8 : List UInt8 := [181, 0, 80, 42, 17, 5, 120, 188, 10, 181, 0, 83, 42, 17, 3, 182, 188, 10, 181, 0, 86, 42, 16, 9]
abbrev dktX4_init_8 : List UInt8 := dkwX4_init_8 ++ dktX4_init_9
def dkwX4_init_7 : List UInt8 := [181, 0, 71, 42, 16, 12, 188, 10, 181, 0, 74, 42, 16, 12, 188, 10, 181, 0, 77, 42, 16, 34, 188, 10]
abbrev dktX4_init_7 : List UInt8 := dkwX4_init_7 ++ dktX4_init_8
def dkwX4_init_6 : List UInt8 := [181, 0, 62, 42, 16, 9, 188, 10, 181, 0, 65, 42, 16, 9, 188, 10, 181, 0, 68, 42, 16, 12, 188, 10]
abbrev dktX4_init_6 : List UInt8 := dkwX4_init_6 ++ dktX4_init_7
def dkwX4_init_5 : List UInt8 := [181, 0, 53, 42, 16, 12, 188, 10, 181, 0, 56, 42, 16, 12, 188, 10, 181, 0, 59, 42, 16, 12, 188, 10]
abbrev dktX4_init_5 : List UInt8 := dkwX4_init_5 ++ dktX4_init_6
def dkwX4_init_4 : List UInt8 := [188, 10, 181, 0, 44, 42, 2, 181, 0, 47, 42, 6, 188, 10, 181, 0, 50, 42, 16, 8, 188, 10]
abbrev dktX4_init_4 : List UInt8 := dkwX4_init_4 ++ dktX4_init_5
def dkwX4_init_3 : List UInt8 := [181, 0, 35, 42, 16, 12, 188, 10, 181, 0, 38, 42, 17, 5, 120, 188, 10, 181, 0, 41, 42, 17, 2, 188]
abbrev dktX4_init_3 : List UInt8 := dkwX4_init_3 ++ dktX4_init_4
def dkwX4_init_2 : List UInt8 := [181, 0, 26, 42, 16, 9, 188, 10, 181, 0, 29, 42, 16, 12, 188, 10, 181, 0, 32, 42, 16, 12, 188, 10]
abbrev dktX4_init_2 : List UInt8 := dkwX4_init_2 ++ dktX4_init_3
def dkwX4_init_1 : List UInt8 := [181, 0, 17, 42, 16, 12, 188, 10, 181, 0, 20, 42, 16, 12, 188, 10, 181, 0, 23, 42, 16, 9, 188, 10]
abbrev dktX4_init_1 : List UInt8 := dkwX4_init_1 ++ dktX4_init_2
def dkwX4_init_0 : List UInt8 := [42, 183, 0, 1, 42, 2, 181, 0, 9, 42, 16, 8, 188, 10, 181, 0, 13, 42, 16, 12, 188, 10]
abbrev dktX4_init_0 : List UInt8 := dkwX4_init_0 ++ dktX4_init_1
theorem dksX4_init_0 : cX4_init.data.toList.drop 0 = dktX4_init_0 := by decide +kernel
theorem dksX4_init_1 : cX4_init.data.toList.drop 22 = dktX4_init_1 := dk_seg dksX4_init_0 22 rfl rfl
theorem dksX4_init_2 : cX4_init.data.toList.drop 46 = dktX4_init_2 := dk_seg dksX4_init_1 24 rfl rfl
theorem dksX4_init_3 : cX4_init.data.toList.drop 70 = dktX4_init_3 := dk_seg dksX4_init_2 24 rfl rfl
theorem dksX4_init_4 : cX4_init.data.toList.drop 94 = dktX4_init_4 := dk_seg dksX4_init_3 24 rfl rfl
theorem dksX4_init_5 : cX4_init.data.toList.drop 116 = dktX4_init_5 := dk_seg dksX4_init_4 22 rfl rfl
theorem dksX4_init_6 : cX4_init.data.toList.drop 140 = dktX4_init_6 := dk_seg dksX4_init_5 24 rfl rfl
theorem dksX4_init_7 : cX4_init.data.toList.drop 164 = dktX4_init_7 := dk_seg dksX4_init_6 24 rfl rfl
theorem dksX4_init_8 : cX4_init.data.toList.drop 188 = dktX4_init_8 := dk_seg dksX4_init_7 24 rfl rfl
theorem dksX4_init_9 : cX4_init.data.toList.drop 212 = dktX4_init_9 := dk_seg dksX4_init_8 24 rfl rfl
theorem dksX4_init_10 : cX4_init.data.toList.drop 235 = dktX4_init_10 := dk_seg dksX4_init_9 23 rfl rfl
theorem dksX4_init_11 : cX4_init.data.toList.drop 259 = dktX4_init_11 := dk_seg dksX4_init_10 24 rfl rfl
theorem dksX4_init_12 : cX4_init.data.toList.drop 282 = dktX4_init_12 := dk_seg dksX4_init_11 23 rfl rfl
theorem dksX4_init_13 : cX4_init.data.toList.drop 306 = dktX4_init_13 := dk_seg dksX4_init_12 24 rfl rfl
theorem dksX4_init_14 : cX4_init.data.toList.drop 329 = dktX4_init_14 := dk_seg dksX4_init_13 23 rfl rfl
theorem dksX4_init_15 : cX4_init.data.toList.drop 353 = dktX4_init_15 := dk_seg dksX4_init_14 24 rfl rfl
theorem dksX4_init_16 : cX4_init.data.toList.drop 376 = dktX4_init_16 := dk_seg dksX4_init_15 23 rfl rfl
theorem dksX4_init_17 : cX4_init.data.toList.drop 398 = dktX4_init_17 := dk_seg dksX4_init_16 22 rfl rfl
theorem dX4_init_0 : decode cX4_init 0 = .ok (.aload_n 0, 1) := dk_42 (dk_at dksX4_init_0 0 rfl rfl)
theorem dX4_init_1 : decode cX4_init 1 = .ok (.invokespecial 1, 3) := dk_183 0 1 (dk_at dksX4_init_0 1 rfl rfl)
theorem dX4_init_4 : decode cX4_init 4 = .ok (.aload_n 0, 1) := dk_42 (dk_at dksX4_init_0 4 rfl rfl)
theorem dX4_init_5 : decode cX4_init 5 = .ok (.iconst (-1), 1) := dk_2 (dk_at dksX4_init_0 5 rfl rfl)
theorem dX4_init_6 : decode cX4_init 6 = .ok (.putfield 9, 3) := dk_181 0 9 (dk_at dksX4_init_0 6 rfl rfl)
theorem dX4_init_9 : decode cX4_init 9 = .ok (.aload_n 0, 1) := dk_42 (dk_at dksX4_init_0 9 rfl rfl)
theorem dX4_init_10 : decode cX4_init 10 = .ok (.bipush 8, 2) := dk_16 8 (dk_at dksX4_init_0 10 rfl rfl)
theorem dX4_init_12 : decode cX4_init 12 = .ok (.newarray .int, 2) := dk_188_10 (dk_at dksX4_init_0 12 rfl rfl)
theorem dX4_init_14 : decode cX4_init 14 = .ok (.putfield 13, 3) := dk_181 0 13 (dk_at dksX4_init_0 14 rfl rfl)
theorem dX4_init_17 : decode cX4_init 17 = .ok (.aload_n 0, 1) := dk_42 (dk_at dksX4_init_0 17 rfl rfl)
theorem dX4_init_18 : decode cX4_init 18 = .ok (.bipush 12, 2) := dk_16 12 (dk_at dksX4_init_0 18 rfl rfl)
theorem dX4_init_20 : decode cX4_init 20 = .ok (.newarray .int, 2) := dk_188_10 (dk_at dksX4_init_0 20 rfl rfl)
theorem dX4_init_22 : decode cX4_init 22 = .ok (.putfield 17, 3) := dk_181 0 17 (dk_at dksX4_init_1 0 rfl rfl)
theorem dX4_init_25 : decode cX4_init 25 = .ok (.aload_n 0, 1) := dk_42 (dk_at dksX4_init_1 3 rfl rfl)
theorem dX4_init_26 : decode cX4_init 26 = .ok (.bipush 12, 2) := dk_16 12 (dk_at dksX4_init_1 4 rfl rfl)
theorem dX4_init_28 : decode cX4_init 28 = .ok (.newarray .int, 2) := dk_188_10 (dk_at dksX4_init_1 6 rfl rfl)
theorem dX4_init_30 : decode cX4_init 30 = .ok (.putfield 20, 3) := dk_181 0 20 (dk_at dksX4_init_1 8 rfl rfl)
theorem dX4_init_33 : decode cX4_init 33 = .ok (.aload_n 0, 1) := dk_42 (dk_at dksX4_init_1 11 rfl rfl)
theorem dX4_init_34 : decode cX4_init 34 = .ok (.bipush 12, 2) := dk_16 12 (dk_at dksX4_init_1 12 rfl rfl)
theorem dX4_init_36 : decode cX4_init 36 = .ok (.newarray .int, 2) := dk_188_10 (dk_at dksX4_init_1 14 rfl rfl)
theorem dX4_init_38 : decode cX4_init 38 = .ok (.putfield 23, 3) := dk_181 0 23 (dk_at dksX4_init_1 16 rfl rfl)
theorem dX4_init_41 : decode cX4_init 41 = .ok (.aload_n 0, 1) := dk_42 (dk_at dksX4_init_1 19 rfl rfl)
theorem dX4_init_42 : decode cX4_init 42 = .ok (.bipush 9, 2) := dk_16 9 (dk_at dksX4_init_1 20 rfl rfl)
theorem dX4_init_44 : decode cX4_init 44 = .ok (.newarray .int, 2) := dk_188_10 (dk_at dksX4_init_1 22 rfl rfl)
theorem dX4_init_46 : decode cX4_init 46 = .ok (.putfield 26, 3) := dk_181 0 26 (dk_at dksX4_init_2 0 rfl rfl)
theorem dX4_init_49 : decode cX4_init 49 = .ok (.aload_n 0, 1) := dk_42 (dk_at dksX4_init_2 3 rfl rfl)
theorem dX4_init_50 : decode cX4_init 50 = .ok (.bipush 9, 2) := dk_16 9 (dk_at dksX4_init_2 4 rfl rfl)
theorem dX4_init_52 : decode cX4_init 52 = .ok (.newarray .int, 2) := dk_188_10 (dk_at dksX4_init_2 6 rfl rfl)
theorem dX4_init_54 : decode cX4_init 54 = .ok (.putfield 29, 3) := dk_181 0 29 (dk_at dksX4_init_2 8 rfl rfl)
theorem dX4_init_57 : decode cX4_init 57 = .ok (.aload_n 0, 1) := dk_42 (dk_at dksX4_init_2 11 rfl rfl)
theorem dX4_init_58 : decode cX4_init 58 = .ok (.bipush 12, 2) := dk_16 12 (dk_at dksX4_init_2 12 rfl rfl)
theorem dX4_init_60 : decode cX4_init 60 = .ok (.newarray .int, 2) := dk_188_10 (dk_at dksX4_init_2 14 rfl rfl)
theorem dX4_init_62 : decode cX4_init 62 = .ok (.putfield 32, 3) := dk_181 0 32 (dk_at dksX4_init_2 16 rfl rfl)
theorem dX4_init_65 : decode cX4_init 65 = .ok (.aload_n 0, 1) := dk_42 (dk_at dksX4_init_2 19 rfl rfl)
theorem dX4_init_66 : decode cX4_init 66 = .ok (.bipush 12, 2) := dk_16 12 (dk_at dksX4_init_2 20 rfl rfl)
theorem dX4_init_68 : decode cX4_init 68 = .ok (.newarray .int, 2) := dk_188_10 (dk_at dksX4_init_2 22 rfl rfl)
theorem dX4_init_70 : decode cX4_init 70 = .ok (.putfield 35, 3) := dk_181 0 35 (dk_at dksX4_init_3 0 rfl rfl)
theorem dX4_init_73 : decode cX4_init 73 = .ok (.aload_n 0, 1) := dk_42 (dk_at dksX4_init_3 3 rfl rfl)
theorem dX4_init_74 : decode cX4_init 74 = .ok (.bipush 12, 2) := dk_16 12 (dk_at dksX4_init_3 4 rfl rfl)
theorem dX4_init_76 : decode cX4_init 76 = .ok (.newarray .int, 2) := dk_188_10 (dk_at dksX4_init_3 6 rfl rfl)
theorem dX4_init_78 : decode cX4_init 78 = .ok (.putfield 38, 3) := dk_181 0 38 (dk_at dksX4_init_3 8 rfl rfl)
theorem dX4_init_81 : decode cX4_init 81 = .ok (.aload_n 0, 1) := dk_42 (dk_at dksX4_init_3 11 rfl rfl)
theorem dX4_init_82 : decode cX4_init 82 = .ok (.sipush 1400, 3) := dk_17 5 120 (dk_at dksX4_init_3 12 rfl rfl)
theorem dX4_init_85 : decode cX4_init 85 = .ok (.newarray .int, 2) := dk_188_10 (dk_at dksX4_init_3 15 rfl rfl)
theorem dX4_init_87 : decode cX4_init 87 = .ok (.putfield 41, 3) := dk_181 0 41 (dk_at dksX4_init_3 17 rfl rfl)
theorem dX4_init_90 : decode cX4_init 90 = .ok (.aload_n 0, 1) := dk_42 (dk_at dksX4_init_3 20 rfl rfl)
theorem dX4_init_91 : decode cX4_init 91 = .ok (.sipush 700, 3) := dk_17 2 188 (dk_at dksX4_init_3 21 rfl rfl)
theorem dX4_init_94 : decode cX4_init 94 = .ok (.newarray .int, 2) := dk_188_10 (dk_at dksX4_init_4 0 rfl rfl)
theorem dX4_init_96 : decode cX4_init 96 = .ok (.putfield 44, 3) := dk_181 0 44 (dk_at dksX4_init_4 2 rfl rfl)
theorem dX4_init_99 : decode cX4_init 99 = .ok (.aload_n 0, 1) := dk_42 (dk_at dksX4_init_4 5 rfl rfl)
theorem dX4_init_100 : decode cX4_init 100 = .ok (.iconst (-1), 1) := dk_2 (dk_at dksX4_init_4 6 rfl rfl)
theorem dX4_init_101 : decode cX4_init 101 = .ok (.putfield 47, 3) := dk_181 0 47 (dk_at dksX4_init_4 7 rfl rfl)
theorem dX4_init_104 : decode cX4_init 104 = .ok (.aload_n 0, 1) := dk_42 (dk_at dksX4_init_4 10 rfl rfl)
theorem dX4_init_105 : decode cX4_init 105 = .ok (.iconst 3, 1) := dk_6 (dk_at dksX4_init_4 11 rfl rfl)
theorem dX4_init_106 : decode cX4_init 106 = .ok (.newarray .int, 2) := dk_188_10 (dk_at dksX4_init_4 12 rfl rfl)
theorem dX4_init_108 : decode cX4_init 108 = .ok (.putfield 50, 3) := dk_181 0 50 (dk_at dksX4_init_4 14 rfl rfl)
theorem dX4_init_111 : decode cX4_init 111 = .ok (.aload_n 0, 1) := dk_42 (dk_at dksX4_init_4 17 rfl rfl)
theorem dX4_init_112 : decode cX4_init 112 = .ok (.bipush 8, 2) := dk_16 8 (dk_at dksX4_init_4 18 rfl rfl)
theorem dX4_init_114 : decode cX4_init 114 = .ok (.newarray .int, 2) := dk_188_10 (dk_at dksX4_init_4 20 rfl rfl)
theorem dX4_init_116 : decode cX4_init 116 = .ok (.putfield 53, 3) := dk_181 0 53 (dk_at dksX4_init_5 0 rfl rfl)
theorem dX4_init_119 : decode cX4_init 119 = .ok (.aload_n 0, 1) := dk_42 (dk_at dksX4_init_5 3 rfl rfl)
theorem dX4_init_120 : decode cX4_init 120 = .ok (.bipush 12, 2) := dk_16 12 (dk_at dksX4_init_5 4 rfl rfl)
theorem dX4_init_122 : decode cX4_init 122 = .ok (.newarray .int, 2) := dk_188_10 (dk_at dksX4_init_5 6 rfl rfl)
theorem dX4_init_124 : decode cX4_init 124 = .ok (.putfield 56, 3) := dk_181 0 56 (dk_at dksX4_init_5 8 rfl rfl)
theorem dX4_init_127 : decode cX4_init 127 = .ok (.aload_n 0, 1) := dk_42 (dk_at dksX4_init_5 11 rfl rfl)
theorem dX4_init_128 : decode cX4_init 128 = .ok (.bipush 12, 2) := dk_16 12 (dk_at dksX4_init_5 12 rfl rfl)
theorem dX4_init_130 : decode cX4_init 130 = .ok (.newarray .int, 2) := dk_188_10 (dk_at dksX4_init_5 14 rfl rfl)
theorem dX4_init_132 : decode cX4_init 132 = .ok (.putfield 59, 3) := dk_181 0 59 (dk_at dksX4_init_5 16 rfl rfl)
theorem dX4_init_135 : decode cX4_init 135 = .ok (.aload_n 0, 1) := dk_42 (dk_at dksX4_init_5 19 rfl rfl)
theorem dX4_init_136 : decode cX4_init 136 = .ok (.bipush 12, 2) := dk_16 12 (dk_at dksX4_init_5 20 rfl rfl)
theorem dX4_init_138 : decode cX4_init 138 = .ok (.newarray .int, 2) := dk_188_10 (dk_at dksX4_init_5 22 rfl rfl)
theorem dX4_init_140 : decode cX4_init 140 = .ok (.putfield 62, 3) := dk_181 0 62 (dk_at dksX4_init_6 0 rfl rfl)
theorem dX4_init_143 : decode cX4_init 143 = .ok (.aload_n 0, 1) := dk_42 (dk_at dksX4_init_6 3 rfl rfl)
theorem dX4_init_144 : decode cX4_init 144 = .ok (.bipush 9, 2) := dk_16 9 (dk_at dksX4_init_6 4 rfl rfl)
theorem dX4_init_146 : decode cX4_init 146 = .ok (.newarray .int, 2) := dk_188_10 (dk_at dksX4_init_6 6 rfl rfl)
theorem dX4_init_148 : decode cX4_init 148 = .ok (.putfield 65, 3) := dk_181 0 65 (dk_at dksX4_init_6 8 rfl rfl)
theorem dX4_init_151 : decode cX4_init 151 = .ok (.aload_n 0, 1) := dk_42 (dk_at dksX4_init_6 11 rfl rfl)
theorem dX4_init_152 : decode cX4_init 152 = .ok (.bipush 9, 2) := dk_16 9 (dk_at dksX4_init_6 12 rfl rfl)
theorem dX4_init_154 : decode cX4_init 154 = .ok (.newarray .int, 2) := dk_188_10 (dk_at dksX4_init_6 14 rfl rfl)
theorem dX4_init_156 : decode cX4_init 156 = .ok (.putfield 68, 3) := dk_181 0 68 (dk_at dksX4_init_6 16 rfl rfl)
theorem dX4_init_159 : decode cX4_init 159 = .ok (.aload_n 0, 1) := dk_42 (dk_at dksX4_init_6 19 rfl rfl)
theorem dX4_init_160 : decode cX4_init 160 = .ok (.bipush 12, 2) := dk_16 12 (dk_at dksX4_init_6 20 rfl rfl)
theorem dX4_init_162 : decode cX4_init 162 = .ok (.newarray .int, 2) := dk_188_10 (dk_at dksX4_init_6 22 rfl rfl)
theorem dX4_init_164 : decode cX4_init 164 = .ok (.putfield 71, 3) := dk_181 0 71 (dk_at dksX4_init_7 0 rfl rfl)
theorem dX4_init_167 : decode cX4_init 167 = .ok (.aload_n 0, 1) := dk_42 (dk_at dksX4_init_7 3 rfl rfl)
theorem dX4_init_168 : decode cX4_init 168 = .ok (.bipush 12, 2) := dk_16 12 (dk_at dksX4_init_7 4 rfl rfl)
theorem dX4_init_170 : decode cX4_init 170 = .ok (.newarray .int, 2) := dk_188_10 (dk_at dksX4_init_7 6 rfl rfl)
theorem dX4_init_172 : decode cX4_init 172 = .ok (.putfield 74, 3) := dk_181 0 74 (dk_at dksX4_init_7 8 rfl rfl)
theorem dX4_init_175 : decode cX4_init 175 = .ok (.aload_n 0, 1) := dk_42 (dk_at dksX4_init_7 11 rfl rfl)
theorem dX4_init_176 : decode cX4_init 176 = .ok (.bipush 12, 2) := dk_16 12 (dk_at dksX4_init_7 12 rfl rfl)
theorem dX4_init_178 : decode cX4_init 178 = .ok (.newarray .int, 2) := dk_188_10 (dk_at dksX4_init_7 14 rfl rfl)
theorem dX4_init_180 : decode cX4_init 180 = .ok (.putfield 77, 3) := dk_181 0 77 (dk_at dksX4_init_7 16 rfl rfl)
theorem dX4_init_183 : decode cX4_init 183 = .ok (.aload_n 0, 1) := dk_42 (dk_at dksX4_init_7 19 rfl rfl)
theorem dX4_init_184 : decode cX4_init 184 = .ok (.bipush 34, 2) := dk_16 34 (dk_at dksX4_init_7 20 rfl rfl)
theorem dX4_init_186 : decode cX4_init 186 = .ok (.newarray .int, 2) := dk_188_10 (dk_at dksX4_init_7 22 rfl rfl)
theorem dX4_init_188 : decode cX4_init 188 = .ok (.putfield 80, 3) := dk_181 0 80 (dk_at dksX4_init_8 0 rfl rfl)
theorem dX4_init_191 : decode cX4_init 191 = .ok (.aload_n 0, 1) := dk_42 (dk_at dksX4_init_8 3 rfl rfl)
theorem dX4_init_192 : decode cX4_init 192 = .ok (.sipush 1400, 3) := dk_17 5 120 (dk_at dksX4_init_8 4 rfl rfl)
theorem dX4_init_195 : decode cX4_init 195 = .ok (.newarray .int, 2) := dk_188_10 (dk_at dksX4_init_8 7 rfl rfl)
theorem dX4_init_197 : decode cX4_init 197 = .ok (.putfield 83, 3) := dk_181 0 83 (dk_at dksX4_init_8 9 rfl rfl)
theorem dX4_init_200 : decode cX4_init 200 = .ok (.aload_n 0, 1) := dk_42 (dk_at dksX4_init_8 12 rfl rfl)
theorem dX4_init_201 : decode cX4_init 201 = .ok (.sipush 950, 3) := dk_17 3 182 (dk_at dksX4_init_8 13 rfl rfl)
theorem dX4_init_204 : decode cX4_init 204 = .ok (.newarray .int, 2) := dk_188_10 (dk_at dksX4_init_8 16 rfl rfl)
theorem dX4_init_206 : decode cX4_init 206 = .ok (.putfield 86, 3) := dk_181 0 86 (dk_at dksX4_init_8 18 rfl rfl)
theorem dX4_init_209 : decode cX4_init 209 = .ok (.aload_n 0, 1) := dk_42 (dk_at dksX4_init_8 21 rfl rfl)
theorem dX4_init_210 : decode cX4_init 210 = .ok (.bipush 9, 2) := dk_16 9 (dk_at dksX4_init_8 22 rfl rfl)
theorem dX4_init_212 : decode cX4_init 212 = .ok (.newarray .boolean, 2) := dk_188_4 (dk_at dksX4_init_9 0 rfl rfl)
theorem dX4_init_214 : decode cX4_init 214 = .ok (.putfield 89, 3) := dk_181 0 89 (dk_at dksX4_init_9 2 rfl rfl)
theorem dX4_init_217 : decode cX4_init 217 = .ok (.aload_n 0, 1) := dk_42 (dk_at dksX4_init_9 5 rfl rfl)
theorem dX4_init_218 : decode cX4_init 218 = .ok (.bipush 34, 2) := dk_16 34 (dk_at dksX4_init_9 6 rfl rfl)
theorem dX4_init_220 : decode cX4_init 220 = .ok (.newarray .int, 2) := dk_188_10 (dk_at dksX4_init_9 8 rfl rfl)
theorem dX4_init_222 : decode cX4_init 222 = .ok (.putfield 93, 3) := dk_181 0 93 (dk_at dksX4_init_9 10 rfl rfl)
theorem dX4_init_225 : decode cX4_init 225 = .ok (.aload_n 0, 1) := dk_42 (dk_at dksX4_init_9 13 rfl rfl)
theorem dX4_init_226 : decode cX4_init 226 = .ok (.sipush 1360, 3) := dk_17 5 80 (dk_at dksX4_init_9 14 rfl rfl)
theorem dX4_init_229 : decode cX4_init 229 = .ok (.newarray .int, 2) := dk_188_10 (dk_at dksX4_init_9 17 rfl rfl)
theorem dX4_init_231 : decode cX4_init 231 = .ok (.putfield 96, 3) := dk_181 0 96 (dk_at dksX4_init_9 19 rfl rfl)
theorem dX4_init_234 : decode cX4_init 234 = .ok (.aload_n 0, 1) := dk_42 (dk_at dksX4_init_9 22 rfl rfl)
theorem dX4_init_235 : decode cX4_init 235 = .ok (.bipush 8, 2) := dk_16 8 (dk_at dksX4_init_10 0 rfl rfl)
theorem dX4_init_237 : decode cX4_init 237 = .ok (.newarray .int, 2) := dk_188_10 (dk_at dksX4_init_10 2 rfl rfl)
theorem dX4_init_239 : decode cX4_init 239 = .ok (.putfield 99, 3) := dk_181 0 99 (dk_at dksX4_init_10 4 rfl rfl)
theorem dX4_init_242 : decode cX4_init 242 = .ok (.aload_n 0, 1) := dk_42 (dk_at dksX4_init_10 7 rfl rfl)
theorem dX4_init_243 : decode cX4_init 243 = .ok (.sipush 950, 3) := dk_17 3 182 (dk_at dksX4_init_10 8 rfl rfl)
theorem dX4_init_246 : decode cX4_init 246 = .ok (.newarray .int, 2) := dk_188_10 (dk_at dksX4_init_10 11 rfl rfl)
theorem dX4_init_248 : decode cX4_init 248 = .ok (.putfield 102, 3) := dk_181 0 102 (dk_at dksX4_init_10 13 rfl rfl)
theorem dX4_init_251 : decode cX4_init 251 = .ok (.aload_n 0, 1) := dk_42 (dk_at dksX4_init_10 16 rfl rfl)
theorem dX4_init_252 : decode cX4_init 252 = .ok (.iconst 3, 1) := dk_6 (dk_at dksX4_init_10 17 rfl rfl)
theorem dX4_init_253 : decode cX4_init 253 = .ok (.newarray .int, 2) := dk_188_10 (dk_at dksX4_init_10 18 rfl rfl)
theorem dX4_init_255 : decode cX4_init 255 = .ok (.putfield 105, 3) := dk_181 0 105 (dk_at dksX4_init_10 20 rfl rfl)
theorem dX4_init_258 : decode cX4_init 258 = .ok (.aload_n 0, 1) := dk_42 (dk_at dksX4_init_10 23 rfl rfl)
theorem dX4_init_259 : decode cX4_init 259 = .ok (.iconst (-1), 1) := dk_2 (dk_at dksX4_init_11 0 rfl rfl)
theorem dX4_init_260 : decode cX4_init 260 = .ok (.putfield 108, 3) := dk_181 0 108 (dk_at dksX4_init_11 1 rfl rfl)
theorem dX4_init_263 : decode cX4_init 263 = .ok (.aload_n 0, 1) := dk_42 (dk_at dksX4_init_11 4 rfl rfl)
theorem dX4_init_264 : decode cX4_init 264 = .ok (.bipush 9, 2) := dk_16 9 (dk_at dksX4_init_11 5 rfl rfl)
theorem dX4_init_266 : decode cX4_init 266 = .ok (.newarray .int, 2) := dk_188_10 (dk_at dksX4_init_11 7 rfl rfl)
theorem dX4_init_268 : decode cX4_init 268 = .ok (.putfield 111, 3) := dk_181 0 111 (dk_at dksX4_init_11 9 rfl rfl)
theorem dX4_init_271 : decode cX4_init 271 = .ok (.aload_n 0, 1) := dk_42 (dk_at dksX4_init_11 12 rfl rfl)
theorem dX4_init_272 : decode cX4_init 272 = .ok (.bipush 9, 2) := dk_16 9 (dk_at dksX4_init_11 13 rfl rfl)
theorem dX4_init_274 : decode cX4_init 274 = .ok (.newarray .int, 2) := dk_188_10 (dk_at dksX4_init_11 15 rfl rfl)
theorem dX4_init_276 : decode cX4_init 276 = .ok (.putfield 114, 3) := dk_181 0 114 (dk_at dksX4_init_11 17 rfl rfl)
theorem dX4_init_279 : decode cX4_init 279 = .ok (.aload_n 0, 1) := dk_42 (dk_at dksX4_init_11 20 rfl rfl)
theorem dX4_init_280 : decode cX4_init 280 = .ok (.bipush 30, 2) := dk_16 30 (dk_at dksX4_init_11 21 rfl rfl)
theorem dX4_init_282 : decode cX4_init 282 = .ok (.newarray .int, 2) := dk_188_10 (dk_at dksX4_init_12 0 rfl rfl)
theorem dX4_init_284 : decode cX4_init 284 = .ok (.putfield 117, 3) := dk_181 0 117 (dk_at dksX4_init_12 2 rfl rfl)
theorem dX4_init_287 : decode cX4_init 287 = .ok (.aload_n 0, 1) := dk_42 (dk_at dksX4_init_12 5 rfl rfl)
theorem dX4_init_288 : decode cX4_init 288 = .ok (.bipush 30, 2) := dk_16 30 (dk_at dksX4_init_12 6 rfl rfl)
theorem dX4_init_290 : decode cX4_init 290 = .ok (.newarray .int, 2) := dk_188_10 (dk_at dksX4_init_12 8 rfl rfl)
theorem dX4_init_292 : decode cX4_init 292 = .ok (.putfield 120, 3) := dk_181 0 120 (dk_at dksX4_init_12 10 rfl rfl)
theorem dX4_init_295 : decode cX4_init 295 = .ok (.aload_n 0, 1) := dk_42 (dk_at dksX4_init_12 13 rfl rfl)
theorem dX4_init_296 : decode cX4_init 296 = .ok (.bipush 30, 2) := dk_16 30 (dk_at dksX4_init_12 14 rfl rfl)
theorem dX4_init_298 : decode cX4_init 298 = .ok (.newarray .int, 2) := dk_188_10 (dk_at dksX4_init_12 16 rfl rfl)
theorem dX4_init_300 : decode cX4_init 300 = .ok (.putfield 123, 3) := dk_181 0 123 (dk_at dksX4_init_12 18 rfl rfl)
theorem dX4_init_303 : decode cX4_init 303 = .ok (.aload_n 0, 1) := dk_42 (dk_at dksX4_init_12 21 rfl rfl)
theorem dX4_init_304 : decode cX4_init 304 = .ok (.bipush 34, 2) := dk_16 34 (dk_at dksX4_init_12 22 rfl rfl)
theorem dX4_init_306 : decode cX4_init 306 = .ok (.newarray .int, 2) := dk_188_10 (dk_at dksX4_init_13 0 rfl rfl)
theorem dX4_init_308 : decode cX4_init 308 = .ok (.putfield 126, 3) := dk_181 0 126 (dk_at dksX4_init_13 2 rfl rfl)
theorem dX4_init_311 : decode cX4_init 311 = .ok (.aload_n 0, 1) := dk_42 (dk_at dksX4_init_13 5 rfl rfl)
theorem dX4_init_312 : decode cX4_init 312 = .ok (.iconst (-1), 1) := dk_2 (dk_at dksX4_init_13 6 rfl rfl)
theorem dX4_init_313 : decode cX4_init 313 = .ok (.putfield 129, 3) := dk_181 0 129 (dk_at dksX4_init_13 7 rfl rfl)
theorem dX4_init_316 : decode cX4_init 316 = .ok (.aload_n 0, 1) := dk_42 (dk_at dksX4_init_13 10 rfl rfl)
theorem dX4_init_317 : decode cX4_init 317 = .ok (.bipush 9, 2) := dk_16 9 (dk_at dksX4_init_13 11 rfl rfl)
theorem dX4_init_319 : decode cX4_init 319 = .ok (.newarray .int, 2) := dk_188_10 (dk_at dksX4_init_13 13 rfl rfl)
theorem dX4_init_321 : decode cX4_init 321 = .ok (.putfield 132, 3) := dk_181 0 132 (dk_at dksX4_init_13 15 rfl rfl)
theorem dX4_init_324 : decode cX4_init 324 = .ok (.aload_n 0, 1) := dk_42 (dk_at dksX4_init_13 18 rfl rfl)
theorem dX4_init_325 : decode cX4_init 325 = .ok (.bipush 8, 2) := dk_16 8 (dk_at dksX4_init_13 19 rfl rfl)
theorem dX4_init_327 : decode cX4_init 327 = .ok (.newarray .boolean, 2) := dk_188_4 (dk_at dksX4_init_13 21 rfl rfl)
theorem dX4_init_329 : decode cX4_init 329 = .ok (.putfield 135, 3) := dk_181 0 135 (dk_at dksX4_init_14 0 rfl rfl)
theorem dX4_init_332 : decode cX4_init 332 = .ok (.aload_n 0, 1) := dk_42 (dk_at dksX4_init_14 3 rfl rfl)
theorem dX4_init_333 : decode cX4_init 333 = .ok (.bipush 8, 2) := dk_16 8 (dk_at dksX4_init_14 4 rfl rfl)
theorem dX4_init_335 : decode cX4_init 335 = .ok (.newarray .boolean, 2) := dk_188_4 (dk_at dksX4_init_14 6 rfl rfl)
theorem dX4_init_337 : decode cX4_init 337 = .ok (.putfield 138, 3) := dk_181 0 138 (dk_at dksX4_init_14 8 rfl rfl)
theorem dX4_init_340 : decode cX4_init 340 = .ok (.aload_n 0, 1) := dk_42 (dk_at dksX4_init_14 11 rfl rfl)
theorem dX4_init_341 : decode cX4_init 341 = .ok (.bipush 8, 2) := dk_16 8 (dk_at dksX4_init_14 12 rfl rfl)
theorem dX4_init_343 : decode cX4_init 343 = .ok (.newarray .int, 2) := dk_188_10 (dk_at dksX4_init_14 14 rfl rfl)
theorem dX4_init_345 : decode cX4_init 345 = .ok (.putfield 141, 3) := dk_181 0 141 (dk_at dksX4_init_14 16 rfl rfl)
theorem dX4_init_348 : decode cX4_init 348 = .ok (.aload_n 0, 1) := dk_42 (dk_at dksX4_init_14 19 rfl rfl)
theorem dX4_init_349 : decode cX4_init 349 = .ok (.bipush 8, 2) := dk_16 8 (dk_at dksX4_init_14 20 rfl rfl)
theorem dX4_init_351 : decode cX4_init 351 = .ok (.newarray .int, 2) := dk_188_10 (dk_at dksX4_init_14 22 rfl rfl)
theorem dX4_init_353 : decode cX4_init 353 = .ok (.putfield 144, 3) := dk_181 0 144 (dk_at dksX4_init_15 0 rfl rfl)
theorem dX4_init_356 : decode cX4_init 356 = .ok (.aload_n 0, 1) := dk_42 (dk_at dksX4_init_15 3 rfl rfl)
theorem dX4_init_357 : decode cX4_init 357 = .ok (.bipush 8, 2) := dk_16 8 (dk_at dksX4_init_15 4 rfl rfl)
theorem dX4_init_359 : decode cX4_init 359 = .ok (.newarray .boolean, 2) := dk_188_4 (dk_at dksX4_init_15 6 rfl rfl)
theorem dX4_init_361 : decode cX4_init 361 = .ok (.putfield 147, 3) := dk_181 0 147 (dk_at dksX4_init_15 8 rfl rfl)
theorem dX4_init_364 : decode cX4_init 364 = .ok (.aload_n 0, 1) := dk_42 (dk_at dksX4_init_15 11 rfl rfl)
theorem dX4_init_365 : decode cX4_init 365 = .ok (.bipush 24, 2) := dk_16 24 (dk_at dksX4_init_15 12 rfl rfl)
theorem dX4_init_367 : decode cX4_init 367 = .ok (.newarray .int, 2) := dk_188_10 (dk_at dksX4_init_15 14 rfl rfl)
theorem dX4_init_369 : decode cX4_init 369 = .ok (.putfield 150, 3) := dk_181 0 150 (dk_at dksX4_init_15 16 rfl rfl)
theorem dX4_init_372 : decode cX4_init 372 = .ok (.aload_n 0, 1) := dk_42 (dk_at dksX4_init_15 19 rfl rfl)
theorem dX4_init_373 : decode cX4_init 373 = .ok (.sipush 2700, 3) := dk_17 10 140 (dk_at dksX4_init_15 20 rfl rfl)
theorem dX4_init_376 : decode cX4_init 376 = .ok (.newarray .int, 2) := dk_188_10 (dk_at dksX4_init_16 0 rfl rfl)
theorem dX4_init_378 : decode cX4_init 378 = .ok (.putfield 153, 3) := dk_181 0 153 (dk_at dksX4_init_16 2 rfl rfl)
theorem dX4_init_381 : decode cX4_init 381 = .ok (.aload_n 0, 1) := dk_42 (dk_at dksX4_init_16 5 rfl rfl)
theorem dX4_init_382 : decode cX4_init 382 = .ok (.bipush 8, 2) := dk_16 8 (dk_at dksX4_init_16 6 rfl rfl)
theorem dX4_init_384 : decode cX4_init 384 = .ok (.newarray .int, 2) := dk_188_10 (dk_at dksX4_init_16 8 rfl rfl)
theorem dX4_init_386 : decode cX4_init 386 = .ok (.putfield 156, 3) := dk_181 0 156 (dk_at dksX4_init_16 10 rfl rfl)
theorem dX4_init_389 : decode cX4_init 389 = .ok (.aload_n 0, 1) := dk_42 (dk_at dksX4_init_16 13 rfl rfl)
theorem dX4_init_390 : decode cX4_init 390 = .ok (.bipush 34, 2) := dk_16 34 (dk_at dksX4_init_16 14 rfl rfl)
theorem dX4_init_392 : decode cX4_init 392 = .ok (.newarray .int, 2) := dk_188_10 (dk_at dksX4_init_16 16 rfl rfl)
theorem dX4_init_394 : decode cX4_init 394 = .ok (.putfield 159, 3) := dk_181 0 159 (dk_at dksX4_init_16 18 rfl rfl)
theorem dX4_init_397 : decode cX4_init 397 = .ok (.aload_n 0, 1) := dk_42 (dk_at dksX4_init_16 21 rfl rfl)
theorem dX4_init_398 : decode cX4_init 398 = .ok (.sipush 1360, 3) := dk_17 5 80 (dk_at dksX4_init_17 0 rfl rfl)
theorem dX4_init_401 : decode cX4_init 401 = .ok (.newarray .int, 2) := dk_188_10 (dk_at dksX4_init_17 3 rfl rfl)
theorem dX4_init_403 : decode cX4_init 403 = .ok (.putfield 162, 3) := dk_181 0 162 (dk_at dksX4_init_17 5 rfl rfl)
theorem dX4_init_406 : decode cX4_init 406 = .ok (.aload_n 0, 1) := dk_42 (dk_at dksX4_init_17 8 rfl rfl)
theorem dX4_init_407 : decode cX4_init 407 = .ok (.bipush 24, 2) := dk_16 24 (dk_at dksX4_init_17 9 rfl rfl)
theorem dX4_init_409 : decode cX4_init 409 = .ok (.newarray .int, 2) := dk_188_10 (dk_at dksX4_init_17 11 rfl rfl)
theorem dX4_init_411 : decode cX4_init 411 = .ok (.putfield 165, 3) := dk_181 0 165 (dk_at dksX4_init_17 13 rfl rfl)
theorem dX4_init_414 : decode cX4_init 414 = .ok (.aload_n 0, 1) := dk_42 (dk_at dksX4_init_17 16 rfl rfl)
theorem dX4_init_415 : decode cX4_init 415 = .ok (.getfield 93, 3) := dk_180 0 93 (dk_at dksX4_init_17 17 rfl rfl)
theorem dX4_init_418 : decode cX4_init 418 = .ok (.iconst 3, 1) := dk_6 (dk_at dksX4_init_17 20 rfl rfl)
theorem dX4_init_419 : decode cX4_init 419 = .ok (.iconst 1, 1) := dk_4 (dk_at dksX4_init_17 21 rfl rfl)
theorem dX4_init_420 : decode cX4_init 420 = .ok (.iastore, 1) := dk_79 (dk_at dksX4_init_17 22 rfl rfl)
theorem dX4_init_421 : decode cX4_init 421 = .ok (.return_, 1) := dk_177 (dk_at dksX4_init_17 23 rfl rfl)
abbrev cX4_thrown : ByteArray := prog_13_method_2_code
def yX4_thrown : MethodName := ⟨RX4, "thrown", "()I"⟩
theorem dX4_thrown_0 : decode cX4_thrown 0 = .ok (.aload_n 0, 1) := by decide +kernel
theorem dX4_thrown_1 : decode cX4_thrown 1 = .ok (.getfield 168, 3) := by decide +kernel
theorem dX4_thrown_4 : decode cX4_thrown 4 = .ok (.ireturn, 1) := by decide +kernel
abbrev cX4_feed : ByteArray := prog_13_method_8_code
def yX4_feed : MethodName := ⟨RX4, "feed", "(IIIII)I"⟩
def dkwX4_feed_2 : List UInt8 := [182, 0, 174, 42, 180, 0, 171, 172]
abbrev dktX4_feed_2 : List UInt8 := dkwX4_feed_2 ++ []
def dkwX4_feed_1 : List UInt8 := [182, 0, 174, 42, 28, 182, 0, 174, 42, 29, 182, 0, 174, 42, 21, 4, 182, 0, 174, 42, 21, 5]
abbrev dktX4_feed_1 : List UInt8 := dkwX4_feed_1 ++ dktX4_feed_2
def dkwX4_feed_0 : List UInt8 := [42, 3, 181, 0, 168, 42, 180, 0, 171, 16, 20, 96, 17, 2, 188, 164, 0, 5, 2, 172, 42, 27]
abbrev dktX4_feed_0 : List UInt8 := dkwX4_feed_0 ++ dktX4_feed_1
theorem dksX4_feed_0 : cX4_feed.data.toList.drop 0 = dktX4_feed_0 := by decide +kernel
theorem dksX4_feed_1 : cX4_feed.data.toList.drop 22 = dktX4_feed_1 := dk_seg dksX4_feed_0 22 rfl rfl
theorem dksX4_feed_2 : cX4_feed.data.toList.drop 44 = dktX4_feed_2 := dk_seg dksX4_feed_1 22 rfl rfl
theorem dX4_feed_0 : decode cX4_feed 0 = .ok (.aload_n 0, 1) := dk_42 (dk_at dksX4_feed_0 0 rfl rfl)
theorem dX4_feed_1 : decode cX4_feed 1 = .ok (.iconst 0, 1) := dk_3 (dk_at dksX4_feed_0 1 rfl rfl)
theorem dX4_feed_2 : decode cX4_feed 2 = .ok (.putfield 168, 3) := dk_181 0 168 (dk_at dksX4_feed_0 2 rfl rfl)
theorem dX4_feed_5 : decode cX4_feed 5 = .ok (.aload_n 0, 1) := dk_42 (dk_at dksX4_feed_0 5 rfl rfl)
theorem dX4_feed_6 : decode cX4_feed 6 = .ok (.getfield 171, 3) := dk_180 0 171 (dk_at dksX4_feed_0 6 rfl rfl)
theorem dX4_feed_9 : decode cX4_feed 9 = .ok (.bipush 20, 2) := dk_16 20 (dk_at dksX4_feed_0 9 rfl rfl)
theorem dX4_feed_11 : decode cX4_feed 11 = .ok (.iadd, 1) := dk_96 (dk_at dksX4_feed_0 11 rfl rfl)
theorem dX4_feed_12 : decode cX4_feed 12 = .ok (.sipush 700, 3) := dk_17 2 188 (dk_at dksX4_feed_0 12 rfl rfl)
theorem dX4_feed_15 : decode cX4_feed 15 = .ok (.if_icmp .le 5, 3) := dk_164 0 5 (dk_at dksX4_feed_0 15 rfl rfl)
theorem dX4_feed_18 : decode cX4_feed 18 = .ok (.iconst (-1), 1) := dk_2 (dk_at dksX4_feed_0 18 rfl rfl)
theorem dX4_feed_19 : decode cX4_feed 19 = .ok (.ireturn, 1) := dk_172 (dk_at dksX4_feed_0 19 rfl rfl)
theorem dX4_feed_20 : decode cX4_feed 20 = .ok (.aload_n 0, 1) := dk_42 (dk_at dksX4_feed_0 20 rfl rfl)
theorem dX4_feed_21 : decode cX4_feed 21 = .ok (.iload_n 1, 1) := dk_27 (dk_at dksX4_feed_0 21 rfl rfl)
theorem dX4_feed_22 : decode cX4_feed 22 = .ok (.invokevirtual 174, 3) := dk_182 0 174 (dk_at dksX4_feed_1 0 rfl rfl)
theorem dX4_feed_25 : decode cX4_feed 25 = .ok (.aload_n 0, 1) := dk_42 (dk_at dksX4_feed_1 3 rfl rfl)
theorem dX4_feed_26 : decode cX4_feed 26 = .ok (.iload_n 2, 1) := dk_28 (dk_at dksX4_feed_1 4 rfl rfl)
theorem dX4_feed_27 : decode cX4_feed 27 = .ok (.invokevirtual 174, 3) := dk_182 0 174 (dk_at dksX4_feed_1 5 rfl rfl)
theorem dX4_feed_30 : decode cX4_feed 30 = .ok (.aload_n 0, 1) := dk_42 (dk_at dksX4_feed_1 8 rfl rfl)
theorem dX4_feed_31 : decode cX4_feed 31 = .ok (.iload_n 3, 1) := dk_29 (dk_at dksX4_feed_1 9 rfl rfl)
theorem dX4_feed_32 : decode cX4_feed 32 = .ok (.invokevirtual 174, 3) := dk_182 0 174 (dk_at dksX4_feed_1 10 rfl rfl)
theorem dX4_feed_35 : decode cX4_feed 35 = .ok (.aload_n 0, 1) := dk_42 (dk_at dksX4_feed_1 13 rfl rfl)
theorem dX4_feed_36 : decode cX4_feed 36 = .ok (.iload 4, 2) := dk_21 4 (dk_at dksX4_feed_1 14 rfl rfl)
theorem dX4_feed_38 : decode cX4_feed 38 = .ok (.invokevirtual 174, 3) := dk_182 0 174 (dk_at dksX4_feed_1 16 rfl rfl)
theorem dX4_feed_41 : decode cX4_feed 41 = .ok (.aload_n 0, 1) := dk_42 (dk_at dksX4_feed_1 19 rfl rfl)
theorem dX4_feed_42 : decode cX4_feed 42 = .ok (.iload 5, 2) := dk_21 5 (dk_at dksX4_feed_1 20 rfl rfl)
theorem dX4_feed_44 : decode cX4_feed 44 = .ok (.invokevirtual 174, 3) := dk_182 0 174 (dk_at dksX4_feed_2 0 rfl rfl)
theorem dX4_feed_47 : decode cX4_feed 47 = .ok (.aload_n 0, 1) := dk_42 (dk_at dksX4_feed_2 3 rfl rfl)
theorem dX4_feed_48 : decode cX4_feed 48 = .ok (.getfield 171, 3) := dk_180 0 171 (dk_at dksX4_feed_2 4 rfl rfl)
theorem dX4_feed_51 : decode cX4_feed 51 = .ok (.ireturn, 1) := dk_172 (dk_at dksX4_feed_2 7 rfl rfl)
abbrev cX4_lays : ByteArray := prog_13_method_9_code
def yX4_lays : MethodName := ⟨RX4, "lays", "(I)V"⟩
def dkwX4_lays_1 : List UInt8 := [89, 180, 0, 171, 4, 96, 181, 0, 171, 132, 2, 248, 167, 255, 223, 177]
abbrev dktX4_lays_1 : List UInt8 := dkwX4_lays_1 ++ []
def dkwX4_lays_0 : List UInt8 := [16, 24, 61, 28, 155, 0, 35, 42, 180, 0, 44, 42, 180, 0, 171, 27, 28, 122, 17, 0, 255, 126, 79, 42]
abbrev dktX4_lays_0 : List UInt8 := dkwX4_lays_0 ++ dktX4_lays_1
theorem dksX4_lays_0 : cX4_lays.data.toList.drop 0 = dktX4_lays_0 := by decide +kernel
theorem dksX4_lays_1 : cX4_lays.data.toList.drop 24 = dktX4_lays_1 := dk_seg dksX4_lays_0 24 rfl rfl
theorem dX4_lays_0 : decode cX4_lays 0 = .ok (.bipush 24, 2) := dk_16 24 (dk_at dksX4_lays_0 0 rfl rfl)
theorem dX4_lays_2 : decode cX4_lays 2 = .ok (.istore_n 2, 1) := dk_61 (dk_at dksX4_lays_0 2 rfl rfl)
theorem dX4_lays_3 : decode cX4_lays 3 = .ok (.iload_n 2, 1) := dk_28 (dk_at dksX4_lays_0 3 rfl rfl)
theorem dX4_lays_4 : decode cX4_lays 4 = .ok (.ifCond .lt 35, 3) := dk_155 0 35 (dk_at dksX4_lays_0 4 rfl rfl)
theorem dX4_lays_7 : decode cX4_lays 7 = .ok (.aload_n 0, 1) := dk_42 (dk_at dksX4_lays_0 7 rfl rfl)
theorem dX4_lays_8 : decode cX4_lays 8 = .ok (.getfield 44, 3) := dk_180 0 44 (dk_at dksX4_lays_0 8 rfl rfl)
theorem dX4_lays_11 : decode cX4_lays 11 = .ok (.aload_n 0, 1) := dk_42 (dk_at dksX4_lays_0 11 rfl rfl)
theorem dX4_lays_12 : decode cX4_lays 12 = .ok (.getfield 171, 3) := dk_180 0 171 (dk_at dksX4_lays_0 12 rfl rfl)
theorem dX4_lays_15 : decode cX4_lays 15 = .ok (.iload_n 1, 1) := dk_27 (dk_at dksX4_lays_0 15 rfl rfl)
theorem dX4_lays_16 : decode cX4_lays 16 = .ok (.iload_n 2, 1) := dk_28 (dk_at dksX4_lays_0 16 rfl rfl)
theorem dX4_lays_17 : decode cX4_lays 17 = .ok (.ishr, 1) := dk_122 (dk_at dksX4_lays_0 17 rfl rfl)
theorem dX4_lays_18 : decode cX4_lays 18 = .ok (.sipush 255, 3) := dk_17 0 255 (dk_at dksX4_lays_0 18 rfl rfl)
theorem dX4_lays_21 : decode cX4_lays 21 = .ok (.iand, 1) := dk_126 (dk_at dksX4_lays_0 21 rfl rfl)
theorem dX4_lays_22 : decode cX4_lays 22 = .ok (.iastore, 1) := dk_79 (dk_at dksX4_lays_0 22 rfl rfl)
theorem dX4_lays_23 : decode cX4_lays 23 = .ok (.aload_n 0, 1) := dk_42 (dk_at dksX4_lays_0 23 rfl rfl)
theorem dX4_lays_24 : decode cX4_lays 24 = .ok (.dup, 1) := dk_89 (dk_at dksX4_lays_1 0 rfl rfl)
theorem dX4_lays_25 : decode cX4_lays 25 = .ok (.getfield 171, 3) := dk_180 0 171 (dk_at dksX4_lays_1 1 rfl rfl)
theorem dX4_lays_28 : decode cX4_lays 28 = .ok (.iconst 1, 1) := dk_4 (dk_at dksX4_lays_1 4 rfl rfl)
theorem dX4_lays_29 : decode cX4_lays 29 = .ok (.iadd, 1) := dk_96 (dk_at dksX4_lays_1 5 rfl rfl)
theorem dX4_lays_30 : decode cX4_lays 30 = .ok (.putfield 171, 3) := dk_181 0 171 (dk_at dksX4_lays_1 6 rfl rfl)
theorem dX4_lays_33 : decode cX4_lays 33 = .ok (.iinc 2 (-8), 3) := dk_132 2 248 (dk_at dksX4_lays_1 9 rfl rfl)
theorem dX4_lays_36 : decode cX4_lays 36 = .ok (.goto (-33), 3) := dk_167 255 223 (dk_at dksX4_lays_1 12 rfl rfl)
theorem dX4_lays_39 : decode cX4_lays 39 = .ok (.return_, 1) := dk_177 (dk_at dksX4_lays_1 15 rfl rfl)
abbrev cX4_board : ByteArray := prog_13_method_42_code
def yX4_board : MethodName := ⟨RX4, "board", "(I)I"⟩
def dkwX4_board_17 : List UInt8 := [3, 181, 1, 116, 42, 3, 181, 1, 119, 3, 172]
abbrev dktX4_board_17 : List UInt8 := dkwX4_board_17 ++ []
def dkwX4_board_16 : List UInt8 := [132, 2, 1, 167, 255, 228, 42, 42, 180, 0, 80, 42, 180, 0, 93, 182, 1, 109, 42, 3, 181, 1, 113, 42]
abbrev dktX4_board_16 : List UInt8 := dkwX4_board_16 ++ dktX4_board_17
def dkwX4_board_15 : List UInt8 := [16, 9, 162, 0, 28, 42, 180, 0, 80, 7, 28, 96, 2, 79, 42, 180, 0, 80, 16, 13, 28, 96, 2, 79]
abbrev dktX4_board_15 : List UInt8 := dkwX4_board_15 ++ dktX4_board_16
def dkwX4_board_14 : List UInt8 := [180, 0, 80, 4, 3, 79, 42, 180, 0, 80, 5, 3, 79, 42, 180, 0, 80, 6, 4, 79, 3, 61, 28]
abbrev dktX4_board_14 : List UInt8 := dkwX4_board_14 ++ dktX4_board_15
def dkwX4_board_13 : List UInt8 := [182, 1, 109, 42, 42, 180, 0, 83, 42, 180, 0, 41, 182, 1, 109, 42, 180, 0, 80, 3, 3, 79, 42]
abbrev dktX4_board_13 : List UInt8 := dkwX4_board_13 ++ dktX4_board_14
def dkwX4_board_12 : List UInt8 := [182, 1, 109, 42, 42, 180, 0, 74, 42, 180, 0, 35, 182, 1, 109, 42, 42, 180, 0, 77, 42, 180, 0, 38]
abbrev dktX4_board_12 : List UInt8 := dkwX4_board_12 ++ dktX4_board_13
def dkwX4_board_11 : List UInt8 := [182, 1, 109, 42, 42, 180, 0, 68, 42, 180, 0, 29, 182, 1, 109, 42, 42, 180, 0, 71, 42, 180, 0, 32]
abbrev dktX4_board_11 : List UInt8 := dkwX4_board_11 ++ dktX4_board_12
def dkwX4_board_10 : List UInt8 := [182, 1, 109, 42, 42, 180, 0, 62, 42, 180, 0, 23, 182, 1, 109, 42, 42, 180, 0, 65, 42, 180, 0, 26]
abbrev dktX4_board_10 : List UInt8 := dkwX4_board_10 ++ dktX4_board_11
def dkwX4_board_9 : List UInt8 := [182, 1, 109, 42, 42, 180, 0, 56, 42, 180, 0, 17, 182, 1, 109, 42, 42, 180, 0, 59, 42, 180, 0, 20]
abbrev dktX4_board_9 : List UInt8 := dkwX4_board_9 ++ dktX4_board_10
def dkwX4_board_8 : List UInt8 := [180, 1, 54, 181, 1, 106, 42, 42, 180, 1, 75, 181, 0, 9, 42, 42, 180, 0, 53, 42, 180, 0, 13]
abbrev dktX4_board_8 : List UInt8 := dkwX4_board_8 ++ dktX4_board_9
def dkwX4_board_7 : List UInt8 := [180, 1, 38, 181, 1, 97, 42, 42, 180, 1, 48, 181, 1, 100, 42, 42, 180, 1, 51, 181, 1, 103, 42, 42]
abbrev dktX4_board_7 : List UInt8 := dkwX4_board_7 ++ dktX4_board_8
def dkwX4_board_6 : List UInt8 := [180, 0, 224, 172, 42, 42, 180, 1, 57, 181, 1, 91, 42, 42, 180, 1, 31, 181, 1, 94, 42, 42]
abbrev dktX4_board_6 : List UInt8 := dkwX4_board_6 ++ dktX4_board_7
def dkwX4_board_5 : List UInt8 := [182, 1, 88, 167, 255, 238, 42, 182, 0, 227, 154, 0, 18, 42, 180, 0, 50, 3, 92, 46, 4, 96, 79, 42]
abbrev dktX4_board_5 : List UInt8 := dkwX4_board_5 ++ dktX4_board_6
def dkwX4_board_4 : List UInt8 := [181, 0, 240, 42, 182, 0, 231, 42, 182, 0, 227, 153, 0, 17, 42, 180, 0, 201, 153, 0, 10, 42]
abbrev dktX4_board_4 : List UInt8 := dkwX4_board_4 ++ dktX4_board_5
def dkwX4_board_3 : List UInt8 := [42, 3, 181, 1, 48, 42, 3, 181, 1, 51, 42, 3, 181, 1, 54, 42, 2, 181, 1, 75, 42, 3]
abbrev dktX4_board_3 : List UInt8 := dkwX4_board_3 ++ dktX4_board_4
def dkwX4_board_2 : List UInt8 := [27, 181, 0, 178, 42, 3, 181, 0, 181, 42, 3, 181, 1, 57, 42, 3, 181, 1, 31, 42, 3, 181, 1, 38]
abbrev dktX4_board_2 : List UInt8 := dkwX4_board_2 ++ dktX4_board_3
def dkwX4_board_1 : List UInt8 := [182, 1, 84, 154, 0, 5, 3, 172, 42, 3, 181, 0, 171, 42, 2, 181, 0, 47, 42, 3, 181, 0, 224, 42]
abbrev dktX4_board_1 : List UInt8 := dkwX4_board_1 ++ dktX4_board_2
def dkwX4_board_0 : List UInt8 := [42, 3, 181, 0, 168, 42, 27, 155, 0, 15, 27, 42, 180, 0, 171, 163, 0, 7, 4, 167, 0, 4, 3, 4]
abbrev dktX4_board_0 : List UInt8 := dkwX4_board_0 ++ dktX4_board_1
theorem dksX4_board_0 : cX4_board.data.toList.drop 0 = dktX4_board_0 := by decide +kernel
theorem dksX4_board_1 : cX4_board.data.toList.drop 24 = dktX4_board_1 := dk_seg dksX4_board_0 24 rfl rfl
theorem dksX4_board_2 : cX4_board.data.toList.drop 48 = dktX4_board_2 := dk_seg dksX4_board_1 24 rfl rfl
theorem dksX4_board_3 : cX4_board.data.toList.drop 72 = dktX4_board_3 := dk_seg dksX4_board_2 24 rfl rfl
theorem dksX4_board_4 : cX4_board.data.toList.drop 94 = dktX4_board_4 := dk_seg dksX4_board_3 22 rfl rfl
theorem dksX4_board_5 : cX4_board.data.toList.drop 116 = dktX4_board_5 := dk_seg dksX4_board_4 22 rfl rfl
theorem dksX4_board_6 : cX4_board.data.toList.drop 140 = dktX4_board_6 := dk_seg dksX4_board_5 24 rfl rfl
theorem dksX4_board_7 : cX4_board.data.toList.drop 162 = dktX4_board_7 := dk_seg dksX4_board_6 22 rfl rfl
theorem dksX4_board_8 : cX4_board.data.toList.drop 186 = dktX4_board_8 := dk_seg dksX4_board_7 24 rfl rfl
theorem dksX4_board_9 : cX4_board.data.toList.drop 209 = dktX4_board_9 := dk_seg dksX4_board_8 23 rfl rfl
theorem dksX4_board_10 : cX4_board.data.toList.drop 233 = dktX4_board_10 := dk_seg dksX4_board_9 24 rfl rfl
theorem dksX4_board_11 : cX4_board.data.toList.drop 257 = dktX4_board_11 := dk_seg dksX4_board_10 24 rfl rfl
theorem dksX4_board_12 : cX4_board.data.toList.drop 281 = dktX4_board_12 := dk_seg dksX4_board_11 24 rfl rfl
theorem dksX4_board_13 : cX4_board.data.toList.drop 305 = dktX4_board_13 := dk_seg dksX4_board_12 24 rfl rfl
theorem dksX4_board_14 : cX4_board.data.toList.drop 328 = dktX4_board_14 := dk_seg dksX4_board_13 23 rfl rfl
theorem dksX4_board_15 : cX4_board.data.toList.drop 351 = dktX4_board_15 := dk_seg dksX4_board_14 23 rfl rfl
theorem dksX4_board_16 : cX4_board.data.toList.drop 375 = dktX4_board_16 := dk_seg dksX4_board_15 24 rfl rfl
theorem dksX4_board_17 : cX4_board.data.toList.drop 399 = dktX4_board_17 := dk_seg dksX4_board_16 24 rfl rfl
theorem dX4_board_0 : decode cX4_board 0 = .ok (.aload_n 0, 1) := dk_42 (dk_at dksX4_board_0 0 rfl rfl)
theorem dX4_board_1 : decode cX4_board 1 = .ok (.iconst 0, 1) := dk_3 (dk_at dksX4_board_0 1 rfl rfl)
theorem dX4_board_2 : decode cX4_board 2 = .ok (.putfield 168, 3) := dk_181 0 168 (dk_at dksX4_board_0 2 rfl rfl)
theorem dX4_board_5 : decode cX4_board 5 = .ok (.aload_n 0, 1) := dk_42 (dk_at dksX4_board_0 5 rfl rfl)
theorem dX4_board_6 : decode cX4_board 6 = .ok (.iload_n 1, 1) := dk_27 (dk_at dksX4_board_0 6 rfl rfl)
theorem dX4_board_7 : decode cX4_board 7 = .ok (.ifCond .lt 15, 3) := dk_155 0 15 (dk_at dksX4_board_0 7 rfl rfl)
theorem dX4_board_10 : decode cX4_board 10 = .ok (.iload_n 1, 1) := dk_27 (dk_at dksX4_board_0 10 rfl rfl)
theorem dX4_board_11 : decode cX4_board 11 = .ok (.aload_n 0, 1) := dk_42 (dk_at dksX4_board_0 11 rfl rfl)
theorem dX4_board_12 : decode cX4_board 12 = .ok (.getfield 171, 3) := dk_180 0 171 (dk_at dksX4_board_0 12 rfl rfl)
theorem dX4_board_15 : decode cX4_board 15 = .ok (.if_icmp .gt 7, 3) := dk_163 0 7 (dk_at dksX4_board_0 15 rfl rfl)
theorem dX4_board_18 : decode cX4_board 18 = .ok (.iconst 1, 1) := dk_4 (dk_at dksX4_board_0 18 rfl rfl)
theorem dX4_board_19 : decode cX4_board 19 = .ok (.goto 4, 3) := dk_167 0 4 (dk_at dksX4_board_0 19 rfl rfl)
theorem dX4_board_22 : decode cX4_board 22 = .ok (.iconst 0, 1) := dk_3 (dk_at dksX4_board_0 22 rfl rfl)
theorem dX4_board_23 : decode cX4_board 23 = .ok (.iconst 1, 1) := dk_4 (dk_at dksX4_board_0 23 rfl rfl)
theorem dX4_board_24 : decode cX4_board 24 = .ok (.invokevirtual 340, 3) := dk_182 1 84 (dk_at dksX4_board_1 0 rfl rfl)
theorem dX4_board_27 : decode cX4_board 27 = .ok (.ifCond .ne 5, 3) := dk_154 0 5 (dk_at dksX4_board_1 3 rfl rfl)
theorem dX4_board_30 : decode cX4_board 30 = .ok (.iconst 0, 1) := dk_3 (dk_at dksX4_board_1 6 rfl rfl)
theorem dX4_board_31 : decode cX4_board 31 = .ok (.ireturn, 1) := dk_172 (dk_at dksX4_board_1 7 rfl rfl)
theorem dX4_board_32 : decode cX4_board 32 = .ok (.aload_n 0, 1) := dk_42 (dk_at dksX4_board_1 8 rfl rfl)
theorem dX4_board_33 : decode cX4_board 33 = .ok (.iconst 0, 1) := dk_3 (dk_at dksX4_board_1 9 rfl rfl)
theorem dX4_board_34 : decode cX4_board 34 = .ok (.putfield 171, 3) := dk_181 0 171 (dk_at dksX4_board_1 10 rfl rfl)
theorem dX4_board_37 : decode cX4_board 37 = .ok (.aload_n 0, 1) := dk_42 (dk_at dksX4_board_1 13 rfl rfl)
theorem dX4_board_38 : decode cX4_board 38 = .ok (.iconst (-1), 1) := dk_2 (dk_at dksX4_board_1 14 rfl rfl)
theorem dX4_board_39 : decode cX4_board 39 = .ok (.putfield 47, 3) := dk_181 0 47 (dk_at dksX4_board_1 15 rfl rfl)
theorem dX4_board_42 : decode cX4_board 42 = .ok (.aload_n 0, 1) := dk_42 (dk_at dksX4_board_1 18 rfl rfl)
theorem dX4_board_43 : decode cX4_board 43 = .ok (.iconst 0, 1) := dk_3 (dk_at dksX4_board_1 19 rfl rfl)
theorem dX4_board_44 : decode cX4_board 44 = .ok (.putfield 224, 3) := dk_181 0 224 (dk_at dksX4_board_1 20 rfl rfl)
theorem dX4_board_47 : decode cX4_board 47 = .ok (.aload_n 0, 1) := dk_42 (dk_at dksX4_board_1 23 rfl rfl)
theorem dX4_board_48 : decode cX4_board 48 = .ok (.iload_n 1, 1) := dk_27 (dk_at dksX4_board_2 0 rfl rfl)
theorem dX4_board_49 : decode cX4_board 49 = .ok (.putfield 178, 3) := dk_181 0 178 (dk_at dksX4_board_2 1 rfl rfl)
theorem dX4_board_52 : decode cX4_board 52 = .ok (.aload_n 0, 1) := dk_42 (dk_at dksX4_board_2 4 rfl rfl)
theorem dX4_board_53 : decode cX4_board 53 = .ok (.iconst 0, 1) := dk_3 (dk_at dksX4_board_2 5 rfl rfl)
theorem dX4_board_54 : decode cX4_board 54 = .ok (.putfield 181, 3) := dk_181 0 181 (dk_at dksX4_board_2 6 rfl rfl)
theorem dX4_board_57 : decode cX4_board 57 = .ok (.aload_n 0, 1) := dk_42 (dk_at dksX4_board_2 9 rfl rfl)
theorem dX4_board_58 : decode cX4_board 58 = .ok (.iconst 0, 1) := dk_3 (dk_at dksX4_board_2 10 rfl rfl)
theorem dX4_board_59 : decode cX4_board 59 = .ok (.putfield 313, 3) := dk_181 1 57 (dk_at dksX4_board_2 11 rfl rfl)
theorem dX4_board_62 : decode cX4_board 62 = .ok (.aload_n 0, 1) := dk_42 (dk_at dksX4_board_2 14 rfl rfl)
theorem dX4_board_63 : decode cX4_board 63 = .ok (.iconst 0, 1) := dk_3 (dk_at dksX4_board_2 15 rfl rfl)
theorem dX4_board_64 : decode cX4_board 64 = .ok (.putfield 287, 3) := dk_181 1 31 (dk_at dksX4_board_2 16 rfl rfl)
theorem dX4_board_67 : decode cX4_board 67 = .ok (.aload_n 0, 1) := dk_42 (dk_at dksX4_board_2 19 rfl rfl)
theorem dX4_board_68 : decode cX4_board 68 = .ok (.iconst 0, 1) := dk_3 (dk_at dksX4_board_2 20 rfl rfl)
theorem dX4_board_69 : decode cX4_board 69 = .ok (.putfield 294, 3) := dk_181 1 38 (dk_at dksX4_board_2 21 rfl rfl)
theorem dX4_board_72 : decode cX4_board 72 = .ok (.aload_n 0, 1) := dk_42 (dk_at dksX4_board_3 0 rfl rfl)
theorem dX4_board_73 : decode cX4_board 73 = .ok (.iconst 0, 1) := dk_3 (dk_at dksX4_board_3 1 rfl rfl)
theorem dX4_board_74 : decode cX4_board 74 = .ok (.putfield 304, 3) := dk_181 1 48 (dk_at dksX4_board_3 2 rfl rfl)
theorem dX4_board_77 : decode cX4_board 77 = .ok (.aload_n 0, 1) := dk_42 (dk_at dksX4_board_3 5 rfl rfl)
theorem dX4_board_78 : decode cX4_board 78 = .ok (.iconst 0, 1) := dk_3 (dk_at dksX4_board_3 6 rfl rfl)
theorem dX4_board_79 : decode cX4_board 79 = .ok (.putfield 307, 3) := dk_181 1 51 (dk_at dksX4_board_3 7 rfl rfl)
theorem dX4_board_82 : decode cX4_board 82 = .ok (.aload_n 0, 1) := dk_42 (dk_at dksX4_board_3 10 rfl rfl)
theorem dX4_board_83 : decode cX4_board 83 = .ok (.iconst 0, 1) := dk_3 (dk_at dksX4_board_3 11 rfl rfl)
theorem dX4_board_84 : decode cX4_board 84 = .ok (.putfield 310, 3) := dk_181 1 54 (dk_at dksX4_board_3 12 rfl rfl)
theorem dX4_board_87 : decode cX4_board 87 = .ok (.aload_n 0, 1) := dk_42 (dk_at dksX4_board_3 15 rfl rfl)
theorem dX4_board_88 : decode cX4_board 88 = .ok (.iconst (-1), 1) := dk_2 (dk_at dksX4_board_3 16 rfl rfl)
theorem dX4_board_89 : decode cX4_board 89 = .ok (.putfield 331, 3) := dk_181 1 75 (dk_at dksX4_board_3 17 rfl rfl)
theorem dX4_board_92 : decode cX4_board 92 = .ok (.aload_n 0, 1) := dk_42 (dk_at dksX4_board_3 20 rfl rfl)
theorem dX4_board_93 : decode cX4_board 93 = .ok (.iconst 0, 1) := dk_3 (dk_at dksX4_board_3 21 rfl rfl)
theorem dX4_board_94 : decode cX4_board 94 = .ok (.putfield 240, 3) := dk_181 0 240 (dk_at dksX4_board_4 0 rfl rfl)
theorem dX4_board_97 : decode cX4_board 97 = .ok (.aload_n 0, 1) := dk_42 (dk_at dksX4_board_4 3 rfl rfl)
theorem dX4_board_98 : decode cX4_board 98 = .ok (.invokevirtual 231, 3) := dk_182 0 231 (dk_at dksX4_board_4 4 rfl rfl)
theorem dX4_board_101 : decode cX4_board 101 = .ok (.aload_n 0, 1) := dk_42 (dk_at dksX4_board_4 7 rfl rfl)
theorem dX4_board_102 : decode cX4_board 102 = .ok (.invokevirtual 227, 3) := dk_182 0 227 (dk_at dksX4_board_4 8 rfl rfl)
theorem dX4_board_105 : decode cX4_board 105 = .ok (.ifCond .eq 17, 3) := dk_153 0 17 (dk_at dksX4_board_4 11 rfl rfl)
theorem dX4_board_108 : decode cX4_board 108 = .ok (.aload_n 0, 1) := dk_42 (dk_at dksX4_board_4 14 rfl rfl)
theorem dX4_board_109 : decode cX4_board 109 = .ok (.getfield 201, 3) := dk_180 0 201 (dk_at dksX4_board_4 15 rfl rfl)
theorem dX4_board_112 : decode cX4_board 112 = .ok (.ifCond .eq 10, 3) := dk_153 0 10 (dk_at dksX4_board_4 18 rfl rfl)
theorem dX4_board_115 : decode cX4_board 115 = .ok (.aload_n 0, 1) := dk_42 (dk_at dksX4_board_4 21 rfl rfl)
theorem dX4_board_116 : decode cX4_board 116 = .ok (.invokevirtual 344, 3) := dk_182 1 88 (dk_at dksX4_board_5 0 rfl rfl)
theorem dX4_board_119 : decode cX4_board 119 = .ok (.goto (-18), 3) := dk_167 255 238 (dk_at dksX4_board_5 3 rfl rfl)
theorem dX4_board_122 : decode cX4_board 122 = .ok (.aload_n 0, 1) := dk_42 (dk_at dksX4_board_5 6 rfl rfl)
theorem dX4_board_123 : decode cX4_board 123 = .ok (.invokevirtual 227, 3) := dk_182 0 227 (dk_at dksX4_board_5 7 rfl rfl)
theorem dX4_board_126 : decode cX4_board 126 = .ok (.ifCond .ne 18, 3) := dk_154 0 18 (dk_at dksX4_board_5 10 rfl rfl)
theorem dX4_board_129 : decode cX4_board 129 = .ok (.aload_n 0, 1) := dk_42 (dk_at dksX4_board_5 13 rfl rfl)
theorem dX4_board_130 : decode cX4_board 130 = .ok (.getfield 50, 3) := dk_180 0 50 (dk_at dksX4_board_5 14 rfl rfl)
theorem dX4_board_133 : decode cX4_board 133 = .ok (.iconst 0, 1) := dk_3 (dk_at dksX4_board_5 17 rfl rfl)
theorem dX4_board_134 : decode cX4_board 134 = .ok (.dup2, 1) := dk_92 (dk_at dksX4_board_5 18 rfl rfl)
theorem dX4_board_135 : decode cX4_board 135 = .ok (.iaload, 1) := dk_46 (dk_at dksX4_board_5 19 rfl rfl)
theorem dX4_board_136 : decode cX4_board 136 = .ok (.iconst 1, 1) := dk_4 (dk_at dksX4_board_5 20 rfl rfl)
theorem dX4_board_137 : decode cX4_board 137 = .ok (.iadd, 1) := dk_96 (dk_at dksX4_board_5 21 rfl rfl)
theorem dX4_board_138 : decode cX4_board 138 = .ok (.iastore, 1) := dk_79 (dk_at dksX4_board_5 22 rfl rfl)
theorem dX4_board_139 : decode cX4_board 139 = .ok (.aload_n 0, 1) := dk_42 (dk_at dksX4_board_5 23 rfl rfl)
theorem dX4_board_140 : decode cX4_board 140 = .ok (.getfield 224, 3) := dk_180 0 224 (dk_at dksX4_board_6 0 rfl rfl)
theorem dX4_board_143 : decode cX4_board 143 = .ok (.ireturn, 1) := dk_172 (dk_at dksX4_board_6 3 rfl rfl)
theorem dX4_board_144 : decode cX4_board 144 = .ok (.aload_n 0, 1) := dk_42 (dk_at dksX4_board_6 4 rfl rfl)
theorem dX4_board_145 : decode cX4_board 145 = .ok (.aload_n 0, 1) := dk_42 (dk_at dksX4_board_6 5 rfl rfl)
theorem dX4_board_146 : decode cX4_board 146 = .ok (.getfield 313, 3) := dk_180 1 57 (dk_at dksX4_board_6 6 rfl rfl)
theorem dX4_board_149 : decode cX4_board 149 = .ok (.putfield 347, 3) := dk_181 1 91 (dk_at dksX4_board_6 9 rfl rfl)
theorem dX4_board_152 : decode cX4_board 152 = .ok (.aload_n 0, 1) := dk_42 (dk_at dksX4_board_6 12 rfl rfl)
theorem dX4_board_153 : decode cX4_board 153 = .ok (.aload_n 0, 1) := dk_42 (dk_at dksX4_board_6 13 rfl rfl)
theorem dX4_board_154 : decode cX4_board 154 = .ok (.getfield 287, 3) := dk_180 1 31 (dk_at dksX4_board_6 14 rfl rfl)
theorem dX4_board_157 : decode cX4_board 157 = .ok (.putfield 350, 3) := dk_181 1 94 (dk_at dksX4_board_6 17 rfl rfl)
theorem dX4_board_160 : decode cX4_board 160 = .ok (.aload_n 0, 1) := dk_42 (dk_at dksX4_board_6 20 rfl rfl)
theorem dX4_board_161 : decode cX4_board 161 = .ok (.aload_n 0, 1) := dk_42 (dk_at dksX4_board_6 21 rfl rfl)
theorem dX4_board_162 : decode cX4_board 162 = .ok (.getfield 294, 3) := dk_180 1 38 (dk_at dksX4_board_7 0 rfl rfl)
theorem dX4_board_165 : decode cX4_board 165 = .ok (.putfield 353, 3) := dk_181 1 97 (dk_at dksX4_board_7 3 rfl rfl)
theorem dX4_board_168 : decode cX4_board 168 = .ok (.aload_n 0, 1) := dk_42 (dk_at dksX4_board_7 6 rfl rfl)
theorem dX4_board_169 : decode cX4_board 169 = .ok (.aload_n 0, 1) := dk_42 (dk_at dksX4_board_7 7 rfl rfl)
theorem dX4_board_170 : decode cX4_board 170 = .ok (.getfield 304, 3) := dk_180 1 48 (dk_at dksX4_board_7 8 rfl rfl)
theorem dX4_board_173 : decode cX4_board 173 = .ok (.putfield 356, 3) := dk_181 1 100 (dk_at dksX4_board_7 11 rfl rfl)
theorem dX4_board_176 : decode cX4_board 176 = .ok (.aload_n 0, 1) := dk_42 (dk_at dksX4_board_7 14 rfl rfl)
theorem dX4_board_177 : decode cX4_board 177 = .ok (.aload_n 0, 1) := dk_42 (dk_at dksX4_board_7 15 rfl rfl)
theorem dX4_board_178 : decode cX4_board 178 = .ok (.getfield 307, 3) := dk_180 1 51 (dk_at dksX4_board_7 16 rfl rfl)
theorem dX4_board_181 : decode cX4_board 181 = .ok (.putfield 359, 3) := dk_181 1 103 (dk_at dksX4_board_7 19 rfl rfl)
theorem dX4_board_184 : decode cX4_board 184 = .ok (.aload_n 0, 1) := dk_42 (dk_at dksX4_board_7 22 rfl rfl)
theorem dX4_board_185 : decode cX4_board 185 = .ok (.aload_n 0, 1) := dk_42 (dk_at dksX4_board_7 23 rfl rfl)
theorem dX4_board_186 : decode cX4_board 186 = .ok (.getfield 310, 3) := dk_180 1 54 (dk_at dksX4_board_8 0 rfl rfl)
theorem dX4_board_189 : decode cX4_board 189 = .ok (.putfield 362, 3) := dk_181 1 106 (dk_at dksX4_board_8 3 rfl rfl)
theorem dX4_board_192 : decode cX4_board 192 = .ok (.aload_n 0, 1) := dk_42 (dk_at dksX4_board_8 6 rfl rfl)
theorem dX4_board_193 : decode cX4_board 193 = .ok (.aload_n 0, 1) := dk_42 (dk_at dksX4_board_8 7 rfl rfl)
theorem dX4_board_194 : decode cX4_board 194 = .ok (.getfield 331, 3) := dk_180 1 75 (dk_at dksX4_board_8 8 rfl rfl)
theorem dX4_board_197 : decode cX4_board 197 = .ok (.putfield 9, 3) := dk_181 0 9 (dk_at dksX4_board_8 11 rfl rfl)
theorem dX4_board_200 : decode cX4_board 200 = .ok (.aload_n 0, 1) := dk_42 (dk_at dksX4_board_8 14 rfl rfl)
theorem dX4_board_201 : decode cX4_board 201 = .ok (.aload_n 0, 1) := dk_42 (dk_at dksX4_board_8 15 rfl rfl)
theorem dX4_board_202 : decode cX4_board 202 = .ok (.getfield 53, 3) := dk_180 0 53 (dk_at dksX4_board_8 16 rfl rfl)
theorem dX4_board_205 : decode cX4_board 205 = .ok (.aload_n 0, 1) := dk_42 (dk_at dksX4_board_8 19 rfl rfl)
theorem dX4_board_206 : decode cX4_board 206 = .ok (.getfield 13, 3) := dk_180 0 13 (dk_at dksX4_board_8 20 rfl rfl)
theorem dX4_board_209 : decode cX4_board 209 = .ok (.invokevirtual 365, 3) := dk_182 1 109 (dk_at dksX4_board_9 0 rfl rfl)
theorem dX4_board_212 : decode cX4_board 212 = .ok (.aload_n 0, 1) := dk_42 (dk_at dksX4_board_9 3 rfl rfl)
theorem dX4_board_213 : decode cX4_board 213 = .ok (.aload_n 0, 1) := dk_42 (dk_at dksX4_board_9 4 rfl rfl)
theorem dX4_board_214 : decode cX4_board 214 = .ok (.getfield 56, 3) := dk_180 0 56 (dk_at dksX4_board_9 5 rfl rfl)
theorem dX4_board_217 : decode cX4_board 217 = .ok (.aload_n 0, 1) := dk_42 (dk_at dksX4_board_9 8 rfl rfl)
theorem dX4_board_218 : decode cX4_board 218 = .ok (.getfield 17, 3) := dk_180 0 17 (dk_at dksX4_board_9 9 rfl rfl)
theorem dX4_board_221 : decode cX4_board 221 = .ok (.invokevirtual 365, 3) := dk_182 1 109 (dk_at dksX4_board_9 12 rfl rfl)
theorem dX4_board_224 : decode cX4_board 224 = .ok (.aload_n 0, 1) := dk_42 (dk_at dksX4_board_9 15 rfl rfl)
theorem dX4_board_225 : decode cX4_board 225 = .ok (.aload_n 0, 1) := dk_42 (dk_at dksX4_board_9 16 rfl rfl)
theorem dX4_board_226 : decode cX4_board 226 = .ok (.getfield 59, 3) := dk_180 0 59 (dk_at dksX4_board_9 17 rfl rfl)
theorem dX4_board_229 : decode cX4_board 229 = .ok (.aload_n 0, 1) := dk_42 (dk_at dksX4_board_9 20 rfl rfl)
theorem dX4_board_230 : decode cX4_board 230 = .ok (.getfield 20, 3) := dk_180 0 20 (dk_at dksX4_board_9 21 rfl rfl)
theorem dX4_board_233 : decode cX4_board 233 = .ok (.invokevirtual 365, 3) := dk_182 1 109 (dk_at dksX4_board_10 0 rfl rfl)
theorem dX4_board_236 : decode cX4_board 236 = .ok (.aload_n 0, 1) := dk_42 (dk_at dksX4_board_10 3 rfl rfl)
theorem dX4_board_237 : decode cX4_board 237 = .ok (.aload_n 0, 1) := dk_42 (dk_at dksX4_board_10 4 rfl rfl)
theorem dX4_board_238 : decode cX4_board 238 = .ok (.getfield 62, 3) := dk_180 0 62 (dk_at dksX4_board_10 5 rfl rfl)
theorem dX4_board_241 : decode cX4_board 241 = .ok (.aload_n 0, 1) := dk_42 (dk_at dksX4_board_10 8 rfl rfl)
theorem dX4_board_242 : decode cX4_board 242 = .ok (.getfield 23, 3) := dk_180 0 23 (dk_at dksX4_board_10 9 rfl rfl)
theorem dX4_board_245 : decode cX4_board 245 = .ok (.invokevirtual 365, 3) := dk_182 1 109 (dk_at dksX4_board_10 12 rfl rfl)
theorem dX4_board_248 : decode cX4_board 248 = .ok (.aload_n 0, 1) := dk_42 (dk_at dksX4_board_10 15 rfl rfl)
theorem dX4_board_249 : decode cX4_board 249 = .ok (.aload_n 0, 1) := dk_42 (dk_at dksX4_board_10 16 rfl rfl)
theorem dX4_board_250 : decode cX4_board 250 = .ok (.getfield 65, 3) := dk_180 0 65 (dk_at dksX4_board_10 17 rfl rfl)
theorem dX4_board_253 : decode cX4_board 253 = .ok (.aload_n 0, 1) := dk_42 (dk_at dksX4_board_10 20 rfl rfl)
theorem dX4_board_254 : decode cX4_board 254 = .ok (.getfield 26, 3) := dk_180 0 26 (dk_at dksX4_board_10 21 rfl rfl)
theorem dX4_board_257 : decode cX4_board 257 = .ok (.invokevirtual 365, 3) := dk_182 1 109 (dk_at dksX4_board_11 0 rfl rfl)
theorem dX4_board_260 : decode cX4_board 260 = .ok (.aload_n 0, 1) := dk_42 (dk_at dksX4_board_11 3 rfl rfl)
theorem dX4_board_261 : decode cX4_board 261 = .ok (.aload_n 0, 1) := dk_42 (dk_at dksX4_board_11 4 rfl rfl)
theorem dX4_board_262 : decode cX4_board 262 = .ok (.getfield 68, 3) := dk_180 0 68 (dk_at dksX4_board_11 5 rfl rfl)
theorem dX4_board_265 : decode cX4_board 265 = .ok (.aload_n 0, 1) := dk_42 (dk_at dksX4_board_11 8 rfl rfl)
theorem dX4_board_266 : decode cX4_board 266 = .ok (.getfield 29, 3) := dk_180 0 29 (dk_at dksX4_board_11 9 rfl rfl)
theorem dX4_board_269 : decode cX4_board 269 = .ok (.invokevirtual 365, 3) := dk_182 1 109 (dk_at dksX4_board_11 12 rfl rfl)
theorem dX4_board_272 : decode cX4_board 272 = .ok (.aload_n 0, 1) := dk_42 (dk_at dksX4_board_11 15 rfl rfl)
theorem dX4_board_273 : decode cX4_board 273 = .ok (.aload_n 0, 1) := dk_42 (dk_at dksX4_board_11 16 rfl rfl)
theorem dX4_board_274 : decode cX4_board 274 = .ok (.getfield 71, 3) := dk_180 0 71 (dk_at dksX4_board_11 17 rfl rfl)
theorem dX4_board_277 : decode cX4_board 277 = .ok (.aload_n 0, 1) := dk_42 (dk_at dksX4_board_11 20 rfl rfl)
theorem dX4_board_278 : decode cX4_board 278 = .ok (.getfield 32, 3) := dk_180 0 32 (dk_at dksX4_board_11 21 rfl rfl)
theorem dX4_board_281 : decode cX4_board 281 = .ok (.invokevirtual 365, 3) := dk_182 1 109 (dk_at dksX4_board_12 0 rfl rfl)
theorem dX4_board_284 : decode cX4_board 284 = .ok (.aload_n 0, 1) := dk_42 (dk_at dksX4_board_12 3 rfl rfl)
theorem dX4_board_285 : decode cX4_board 285 = .ok (.aload_n 0, 1) := dk_42 (dk_at dksX4_board_12 4 rfl rfl)
theorem dX4_board_286 : decode cX4_board 286 = .ok (.getfield 74, 3) := dk_180 0 74 (dk_at dksX4_board_12 5 rfl rfl)
theorem dX4_board_289 : decode cX4_board 289 = .ok (.aload_n 0, 1) := dk_42 (dk_at dksX4_board_12 8 rfl rfl)
theorem dX4_board_290 : decode cX4_board 290 = .ok (.getfield 35, 3) := dk_180 0 35 (dk_at dksX4_board_12 9 rfl rfl)
theorem dX4_board_293 : decode cX4_board 293 = .ok (.invokevirtual 365, 3) := dk_182 1 109 (dk_at dksX4_board_12 12 rfl rfl)
theorem dX4_board_296 : decode cX4_board 296 = .ok (.aload_n 0, 1) := dk_42 (dk_at dksX4_board_12 15 rfl rfl)
theorem dX4_board_297 : decode cX4_board 297 = .ok (.aload_n 0, 1) := dk_42 (dk_at dksX4_board_12 16 rfl rfl)
theorem dX4_board_298 : decode cX4_board 298 = .ok (.getfield 77, 3) := dk_180 0 77 (dk_at dksX4_board_12 17 rfl rfl)
theorem dX4_board_301 : decode cX4_board 301 = .ok (.aload_n 0, 1) := dk_42 (dk_at dksX4_board_12 20 rfl rfl)
theorem dX4_board_302 : decode cX4_board 302 = .ok (.getfield 38, 3) := dk_180 0 38 (dk_at dksX4_board_12 21 rfl rfl)
theorem dX4_board_305 : decode cX4_board 305 = .ok (.invokevirtual 365, 3) := dk_182 1 109 (dk_at dksX4_board_13 0 rfl rfl)
theorem dX4_board_308 : decode cX4_board 308 = .ok (.aload_n 0, 1) := dk_42 (dk_at dksX4_board_13 3 rfl rfl)
theorem dX4_board_309 : decode cX4_board 309 = .ok (.aload_n 0, 1) := dk_42 (dk_at dksX4_board_13 4 rfl rfl)
theorem dX4_board_310 : decode cX4_board 310 = .ok (.getfield 83, 3) := dk_180 0 83 (dk_at dksX4_board_13 5 rfl rfl)
theorem dX4_board_313 : decode cX4_board 313 = .ok (.aload_n 0, 1) := dk_42 (dk_at dksX4_board_13 8 rfl rfl)
theorem dX4_board_314 : decode cX4_board 314 = .ok (.getfield 41, 3) := dk_180 0 41 (dk_at dksX4_board_13 9 rfl rfl)
theorem dX4_board_317 : decode cX4_board 317 = .ok (.invokevirtual 365, 3) := dk_182 1 109 (dk_at dksX4_board_13 12 rfl rfl)
theorem dX4_board_320 : decode cX4_board 320 = .ok (.aload_n 0, 1) := dk_42 (dk_at dksX4_board_13 15 rfl rfl)
theorem dX4_board_321 : decode cX4_board 321 = .ok (.getfield 80, 3) := dk_180 0 80 (dk_at dksX4_board_13 16 rfl rfl)
theorem dX4_board_324 : decode cX4_board 324 = .ok (.iconst 0, 1) := dk_3 (dk_at dksX4_board_13 19 rfl rfl)
theorem dX4_board_325 : decode cX4_board 325 = .ok (.iconst 0, 1) := dk_3 (dk_at dksX4_board_13 20 rfl rfl)
theorem dX4_board_326 : decode cX4_board 326 = .ok (.iastore, 1) := dk_79 (dk_at dksX4_board_13 21 rfl rfl)
theorem dX4_board_327 : decode cX4_board 327 = .ok (.aload_n 0, 1) := dk_42 (dk_at dksX4_board_13 22 rfl rfl)
theorem dX4_board_328 : decode cX4_board 328 = .ok (.getfield 80, 3) := dk_180 0 80 (dk_at dksX4_board_14 0 rfl rfl)
theorem dX4_board_331 : decode cX4_board 331 = .ok (.iconst 1, 1) := dk_4 (dk_at dksX4_board_14 3 rfl rfl)
theorem dX4_board_332 : decode cX4_board 332 = .ok (.iconst 0, 1) := dk_3 (dk_at dksX4_board_14 4 rfl rfl)
theorem dX4_board_333 : decode cX4_board 333 = .ok (.iastore, 1) := dk_79 (dk_at dksX4_board_14 5 rfl rfl)
theorem dX4_board_334 : decode cX4_board 334 = .ok (.aload_n 0, 1) := dk_42 (dk_at dksX4_board_14 6 rfl rfl)
theorem dX4_board_335 : decode cX4_board 335 = .ok (.getfield 80, 3) := dk_180 0 80 (dk_at dksX4_board_14 7 rfl rfl)
theorem dX4_board_338 : decode cX4_board 338 = .ok (.iconst 2, 1) := dk_5 (dk_at dksX4_board_14 10 rfl rfl)
theorem dX4_board_339 : decode cX4_board 339 = .ok (.iconst 0, 1) := dk_3 (dk_at dksX4_board_14 11 rfl rfl)
theorem dX4_board_340 : decode cX4_board 340 = .ok (.iastore, 1) := dk_79 (dk_at dksX4_board_14 12 rfl rfl)
theorem dX4_board_341 : decode cX4_board 341 = .ok (.aload_n 0, 1) := dk_42 (dk_at dksX4_board_14 13 rfl rfl)
theorem dX4_board_342 : decode cX4_board 342 = .ok (.getfield 80, 3) := dk_180 0 80 (dk_at dksX4_board_14 14 rfl rfl)
theorem dX4_board_345 : decode cX4_board 345 = .ok (.iconst 3, 1) := dk_6 (dk_at dksX4_board_14 17 rfl rfl)
theorem dX4_board_346 : decode cX4_board 346 = .ok (.iconst 1, 1) := dk_4 (dk_at dksX4_board_14 18 rfl rfl)
theorem dX4_board_347 : decode cX4_board 347 = .ok (.iastore, 1) := dk_79 (dk_at dksX4_board_14 19 rfl rfl)
theorem dX4_board_348 : decode cX4_board 348 = .ok (.iconst 0, 1) := dk_3 (dk_at dksX4_board_14 20 rfl rfl)
theorem dX4_board_349 : decode cX4_board 349 = .ok (.istore_n 2, 1) := dk_61 (dk_at dksX4_board_14 21 rfl rfl)
theorem dX4_board_350 : decode cX4_board 350 = .ok (.iload_n 2, 1) := dk_28 (dk_at dksX4_board_14 22 rfl rfl)
theorem dX4_board_351 : decode cX4_board 351 = .ok (.bipush 9, 2) := dk_16 9 (dk_at dksX4_board_15 0 rfl rfl)
theorem dX4_board_353 : decode cX4_board 353 = .ok (.if_icmp .ge 28, 3) := dk_162 0 28 (dk_at dksX4_board_15 2 rfl rfl)
theorem dX4_board_356 : decode cX4_board 356 = .ok (.aload_n 0, 1) := dk_42 (dk_at dksX4_board_15 5 rfl rfl)
theorem dX4_board_357 : decode cX4_board 357 = .ok (.getfield 80, 3) := dk_180 0 80 (dk_at dksX4_board_15 6 rfl rfl)
theorem dX4_board_360 : decode cX4_board 360 = .ok (.iconst 4, 1) := dk_7 (dk_at dksX4_board_15 9 rfl rfl)
theorem dX4_board_361 : decode cX4_board 361 = .ok (.iload_n 2, 1) := dk_28 (dk_at dksX4_board_15 10 rfl rfl)
theorem dX4_board_362 : decode cX4_board 362 = .ok (.iadd, 1) := dk_96 (dk_at dksX4_board_15 11 rfl rfl)
theorem dX4_board_363 : decode cX4_board 363 = .ok (.iconst (-1), 1) := dk_2 (dk_at dksX4_board_15 12 rfl rfl)
theorem dX4_board_364 : decode cX4_board 364 = .ok (.iastore, 1) := dk_79 (dk_at dksX4_board_15 13 rfl rfl)
theorem dX4_board_365 : decode cX4_board 365 = .ok (.aload_n 0, 1) := dk_42 (dk_at dksX4_board_15 14 rfl rfl)
theorem dX4_board_366 : decode cX4_board 366 = .ok (.getfield 80, 3) := dk_180 0 80 (dk_at dksX4_board_15 15 rfl rfl)
theorem dX4_board_369 : decode cX4_board 369 = .ok (.bipush 13, 2) := dk_16 13 (dk_at dksX4_board_15 18 rfl rfl)
theorem dX4_board_371 : decode cX4_board 371 = .ok (.iload_n 2, 1) := dk_28 (dk_at dksX4_board_15 20 rfl rfl)
theorem dX4_board_372 : decode cX4_board 372 = .ok (.iadd, 1) := dk_96 (dk_at dksX4_board_15 21 rfl rfl)
theorem dX4_board_373 : decode cX4_board 373 = .ok (.iconst (-1), 1) := dk_2 (dk_at dksX4_board_15 22 rfl rfl)
theorem dX4_board_374 : decode cX4_board 374 = .ok (.iastore, 1) := dk_79 (dk_at dksX4_board_15 23 rfl rfl)
theorem dX4_board_375 : decode cX4_board 375 = .ok (.iinc 2 1, 3) := dk_132 2 1 (dk_at dksX4_board_16 0 rfl rfl)
theorem dX4_board_378 : decode cX4_board 378 = .ok (.goto (-28), 3) := dk_167 255 228 (dk_at dksX4_board_16 3 rfl rfl)
theorem dX4_board_381 : decode cX4_board 381 = .ok (.aload_n 0, 1) := dk_42 (dk_at dksX4_board_16 6 rfl rfl)
theorem dX4_board_382 : decode cX4_board 382 = .ok (.aload_n 0, 1) := dk_42 (dk_at dksX4_board_16 7 rfl rfl)
theorem dX4_board_383 : decode cX4_board 383 = .ok (.getfield 80, 3) := dk_180 0 80 (dk_at dksX4_board_16 8 rfl rfl)
theorem dX4_board_386 : decode cX4_board 386 = .ok (.aload_n 0, 1) := dk_42 (dk_at dksX4_board_16 11 rfl rfl)
theorem dX4_board_387 : decode cX4_board 387 = .ok (.getfield 93, 3) := dk_180 0 93 (dk_at dksX4_board_16 12 rfl rfl)
theorem dX4_board_390 : decode cX4_board 390 = .ok (.invokevirtual 365, 3) := dk_182 1 109 (dk_at dksX4_board_16 15 rfl rfl)
theorem dX4_board_393 : decode cX4_board 393 = .ok (.aload_n 0, 1) := dk_42 (dk_at dksX4_board_16 18 rfl rfl)
theorem dX4_board_394 : decode cX4_board 394 = .ok (.iconst 0, 1) := dk_3 (dk_at dksX4_board_16 19 rfl rfl)
theorem dX4_board_395 : decode cX4_board 395 = .ok (.putfield 369, 3) := dk_181 1 113 (dk_at dksX4_board_16 20 rfl rfl)
theorem dX4_board_398 : decode cX4_board 398 = .ok (.aload_n 0, 1) := dk_42 (dk_at dksX4_board_16 23 rfl rfl)
theorem dX4_board_399 : decode cX4_board 399 = .ok (.iconst 0, 1) := dk_3 (dk_at dksX4_board_17 0 rfl rfl)
theorem dX4_board_400 : decode cX4_board 400 = .ok (.putfield 372, 3) := dk_181 1 116 (dk_at dksX4_board_17 1 rfl rfl)
theorem dX4_board_403 : decode cX4_board 403 = .ok (.aload_n 0, 1) := dk_42 (dk_at dksX4_board_17 4 rfl rfl)
theorem dX4_board_404 : decode cX4_board 404 = .ok (.iconst 0, 1) := dk_3 (dk_at dksX4_board_17 5 rfl rfl)
theorem dX4_board_405 : decode cX4_board 405 = .ok (.putfield 375, 3) := dk_181 1 119 (dk_at dksX4_board_17 6 rfl rfl)
theorem dX4_board_408 : decode cX4_board 408 = .ok (.iconst 0, 1) := dk_3 (dk_at dksX4_board_17 9 rfl rfl)
theorem dX4_board_409 : decode cX4_board 409 = .ok (.ireturn, 1) := dk_172 (dk_at dksX4_board_17 10 rfl rfl)
abbrev cX4_right : ByteArray := prog_13_method_3_code
def yX4_right : MethodName := ⟨RX4, "right", "(ZI)Z"⟩
def dkwX4_right_1 : List UInt8 := [167, 0, 4, 3, 172]
abbrev dktX4_right_1 : List UInt8 := dkwX4_right_1 ++ []
def dkwX4_right_0 : List UInt8 := [42, 180, 0, 168, 154, 0, 12, 27, 154, 0, 8, 42, 28, 181, 0, 168, 42, 180, 0, 168, 154, 0, 7, 4]
abbrev dktX4_right_0 : List UInt8 := dkwX4_right_0 ++ dktX4_right_1
theorem dksX4_right_0 : cX4_right.data.toList.drop 0 = dktX4_right_0 := by decide +kernel
theorem dksX4_right_1 : cX4_right.data.toList.drop 24 = dktX4_right_1 := dk_seg dksX4_right_0 24 rfl rfl
theorem dX4_right_0 : decode cX4_right 0 = .ok (.aload_n 0, 1) := dk_42 (dk_at dksX4_right_0 0 rfl rfl)
theorem dX4_right_1 : decode cX4_right 1 = .ok (.getfield 168, 3) := dk_180 0 168 (dk_at dksX4_right_0 1 rfl rfl)
theorem dX4_right_4 : decode cX4_right 4 = .ok (.ifCond .ne 12, 3) := dk_154 0 12 (dk_at dksX4_right_0 4 rfl rfl)
theorem dX4_right_7 : decode cX4_right 7 = .ok (.iload_n 1, 1) := dk_27 (dk_at dksX4_right_0 7 rfl rfl)
theorem dX4_right_8 : decode cX4_right 8 = .ok (.ifCond .ne 8, 3) := dk_154 0 8 (dk_at dksX4_right_0 8 rfl rfl)
theorem dX4_right_11 : decode cX4_right 11 = .ok (.aload_n 0, 1) := dk_42 (dk_at dksX4_right_0 11 rfl rfl)
theorem dX4_right_12 : decode cX4_right 12 = .ok (.iload_n 2, 1) := dk_28 (dk_at dksX4_right_0 12 rfl rfl)
theorem dX4_right_13 : decode cX4_right 13 = .ok (.putfield 168, 3) := dk_181 0 168 (dk_at dksX4_right_0 13 rfl rfl)
theorem dX4_right_16 : decode cX4_right 16 = .ok (.aload_n 0, 1) := dk_42 (dk_at dksX4_right_0 16 rfl rfl)
theorem dX4_right_17 : decode cX4_right 17 = .ok (.getfield 168, 3) := dk_180 0 168 (dk_at dksX4_right_0 17 rfl rfl)
theorem dX4_right_20 : decode cX4_right 20 = .ok (.ifCond .ne 7, 3) := dk_154 0 7 (dk_at dksX4_right_0 20 rfl rfl)
theorem dX4_right_23 : decode cX4_right 23 = .ok (.iconst 1, 1) := dk_4 (dk_at dksX4_right_0 23 rfl rfl)
theorem dX4_right_24 : decode cX4_right 24 = .ok (.goto 4, 3) := dk_167 0 4 (dk_at dksX4_right_1 0 rfl rfl)
theorem dX4_right_27 : decode cX4_right 27 = .ok (.iconst 0, 1) := dk_3 (dk_at dksX4_right_1 3 rfl rfl)
theorem dX4_right_28 : decode cX4_right 28 = .ok (.ireturn, 1) := dk_172 (dk_at dksX4_right_1 4 rfl rfl)
abbrev cX4_goes : ByteArray := prog_13_method_13_code
def yX4_goes : MethodName := ⟨RX4, "goes", "()V"⟩
def dkwX4_goes_14 : List UInt8 := [167, 0, 4, 7, 181, 0, 201, 42, 42, 180, 0, 181, 42, 180, 0, 188, 100, 181, 0, 211, 177]
abbrev dktX4_goes_14 : List UInt8 := dkwX4_goes_14 ++ []
def dkwX4_goes_13 : List UInt8 := [16, 42, 159, 0, 21, 27, 16, 47, 159, 0, 15, 27, 16, 60, 159, 0, 9, 27, 16, 61, 160, 0, 7, 6]
abbrev dktX4_goes_13 : List UInt8 := dkwX4_goes_13 ++ dktX4_goes_14
def dkwX4_goes_12 : List UInt8 := [16, 40, 159, 0, 45, 27, 16, 41, 159, 0, 39, 27, 16, 43, 159, 0, 33, 27, 16, 45, 159, 0, 27, 27]
abbrev dktX4_goes_12 : List UInt8 := dkwX4_goes_12 ++ dktX4_goes_13
def dkwX4_goes_11 : List UInt8 := [181, 0, 201, 167, 0, 76, 42, 89, 180, 0, 181, 4, 96, 181, 0, 181, 42, 27, 16, 59, 159, 0, 51, 27]
abbrev dktX4_goes_11 : List UInt8 := dkwX4_goes_11 ++ dktX4_goes_12
def dkwX4_goes_10 : List UInt8 := [96, 16, 48, 100, 181, 0, 195, 42, 89, 180, 0, 181, 4, 96, 181, 0, 181, 167, 255, 196, 42, 5]
abbrev dktX4_goes_10 : List UInt8 := dkwX4_goes_10 ++ dktX4_goes_11
def dkwX4_goes_9 : List UInt8 := [180, 0, 188, 100, 7, 162, 0, 26, 42, 16, 10, 42, 180, 0, 195, 104, 42, 42, 180, 0, 181, 182, 0, 184]
abbrev dktX4_goes_9 : List UInt8 := dkwX4_goes_9 ++ dktX4_goes_10
def dkwX4_goes_8 : List UInt8 := [153, 0, 74, 42, 42, 180, 0, 181, 182, 0, 184, 184, 0, 208, 153, 0, 52, 42, 180, 0, 181, 42]
abbrev dktX4_goes_8 : List UInt8 := dkwX4_goes_8 ++ dktX4_goes_9
def dkwX4_goes_7 : List UInt8 := [180, 0, 181, 4, 96, 181, 0, 181, 167, 255, 195, 42, 4, 181, 0, 201, 167, 0, 154, 27, 184, 0, 208]
abbrev dktX4_goes_7 : List UInt8 := dkwX4_goes_7 ++ dktX4_goes_8
def dkwX4_goes_6 : List UInt8 := [180, 0, 191, 8, 121, 42, 42, 180, 0, 181, 182, 0, 184, 16, 96, 100, 133, 129, 181, 0, 191, 42, 89]
abbrev dktX4_goes_6 : List UInt8 := dkwX4_goes_6 ++ dktX4_goes_7
def dkwX4_goes_5 : List UInt8 := [184, 0, 204, 153, 0, 53, 42, 180, 0, 181, 42, 180, 0, 188, 100, 16, 6, 162, 0, 26, 42, 42]
abbrev dktX4_goes_5 : List UInt8 := dkwX4_goes_5 ++ dktX4_goes_6
def dkwX4_goes_4 : List UInt8 := [3, 181, 0, 201, 167, 0, 233, 27, 184, 0, 204, 153, 0, 75, 42, 42, 180, 0, 181, 182, 0, 184]
abbrev dktX4_goes_4 : List UInt8 := dkwX4_goes_4 ++ dktX4_goes_5
def dkwX4_goes_3 : List UInt8 := [180, 0, 181, 182, 0, 184, 60, 42, 27, 181, 0, 198, 42, 180, 0, 181, 42, 180, 0, 178, 161, 0, 11, 42]
abbrev dktX4_goes_3 : List UInt8 := dkwX4_goes_3 ++ dktX4_goes_4
def dkwX4_goes_2 : List UInt8 := [167, 255, 209, 42, 42, 180, 0, 181, 181, 0, 188, 42, 9, 181, 0, 191, 42, 3, 181, 0, 195, 42, 42]
abbrev dktX4_goes_2 : List UInt8 := dkwX4_goes_2 ++ dktX4_goes_3
def dkwX4_goes_1 : List UInt8 := [42, 42, 180, 0, 181, 182, 0, 184, 16, 10, 160, 0, 16, 42, 89, 180, 0, 181, 4, 96, 181, 0, 181]
abbrev dktX4_goes_1 : List UInt8 := dkwX4_goes_1 ++ dktX4_goes_2
def dkwX4_goes_0 : List UInt8 := [42, 180, 0, 181, 42, 180, 0, 178, 162, 0, 42, 42, 42, 180, 0, 181, 182, 0, 184, 16, 32, 159, 0, 16]
abbrev dktX4_goes_0 : List UInt8 := dkwX4_goes_0 ++ dktX4_goes_1
theorem dksX4_goes_0 : cX4_goes.data.toList.drop 0 = dktX4_goes_0 := by decide +kernel
theorem dksX4_goes_1 : cX4_goes.data.toList.drop 24 = dktX4_goes_1 := dk_seg dksX4_goes_0 24 rfl rfl
theorem dksX4_goes_2 : cX4_goes.data.toList.drop 47 = dktX4_goes_2 := dk_seg dksX4_goes_1 23 rfl rfl
theorem dksX4_goes_3 : cX4_goes.data.toList.drop 70 = dktX4_goes_3 := dk_seg dksX4_goes_2 23 rfl rfl
theorem dksX4_goes_4 : cX4_goes.data.toList.drop 94 = dktX4_goes_4 := dk_seg dksX4_goes_3 24 rfl rfl
theorem dksX4_goes_5 : cX4_goes.data.toList.drop 116 = dktX4_goes_5 := dk_seg dksX4_goes_4 22 rfl rfl
theorem dksX4_goes_6 : cX4_goes.data.toList.drop 138 = dktX4_goes_6 := dk_seg dksX4_goes_5 22 rfl rfl
theorem dksX4_goes_7 : cX4_goes.data.toList.drop 161 = dktX4_goes_7 := dk_seg dksX4_goes_6 23 rfl rfl
theorem dksX4_goes_8 : cX4_goes.data.toList.drop 184 = dktX4_goes_8 := dk_seg dksX4_goes_7 23 rfl rfl
theorem dksX4_goes_9 : cX4_goes.data.toList.drop 206 = dktX4_goes_9 := dk_seg dksX4_goes_8 22 rfl rfl
theorem dksX4_goes_10 : cX4_goes.data.toList.drop 230 = dktX4_goes_10 := dk_seg dksX4_goes_9 24 rfl rfl
theorem dksX4_goes_11 : cX4_goes.data.toList.drop 252 = dktX4_goes_11 := dk_seg dksX4_goes_10 22 rfl rfl
theorem dksX4_goes_12 : cX4_goes.data.toList.drop 276 = dktX4_goes_12 := dk_seg dksX4_goes_11 24 rfl rfl
theorem dksX4_goes_13 : cX4_goes.data.toList.drop 300 = dktX4_goes_13 := dk_seg dksX4_goes_12 24 rfl rfl
theorem dksX4_goes_14 : cX4_goes.data.toList.drop 324 = dktX4_goes_14 := dk_seg dksX4_goes_13 24 rfl rfl
theorem dX4_goes_0 : decode cX4_goes 0 = .ok (.aload_n 0, 1) := dk_42 (dk_at dksX4_goes_0 0 rfl rfl)
theorem dX4_goes_1 : decode cX4_goes 1 = .ok (.getfield 181, 3) := dk_180 0 181 (dk_at dksX4_goes_0 1 rfl rfl)
theorem dX4_goes_4 : decode cX4_goes 4 = .ok (.aload_n 0, 1) := dk_42 (dk_at dksX4_goes_0 4 rfl rfl)
theorem dX4_goes_5 : decode cX4_goes 5 = .ok (.getfield 178, 3) := dk_180 0 178 (dk_at dksX4_goes_0 5 rfl rfl)
theorem dX4_goes_8 : decode cX4_goes 8 = .ok (.if_icmp .ge 42, 3) := dk_162 0 42 (dk_at dksX4_goes_0 8 rfl rfl)
theorem dX4_goes_11 : decode cX4_goes 11 = .ok (.aload_n 0, 1) := dk_42 (dk_at dksX4_goes_0 11 rfl rfl)
theorem dX4_goes_12 : decode cX4_goes 12 = .ok (.aload_n 0, 1) := dk_42 (dk_at dksX4_goes_0 12 rfl rfl)
theorem dX4_goes_13 : decode cX4_goes 13 = .ok (.getfield 181, 3) := dk_180 0 181 (dk_at dksX4_goes_0 13 rfl rfl)
theorem dX4_goes_16 : decode cX4_goes 16 = .ok (.invokevirtual 184, 3) := dk_182 0 184 (dk_at dksX4_goes_0 16 rfl rfl)
theorem dX4_goes_19 : decode cX4_goes 19 = .ok (.bipush 32, 2) := dk_16 32 (dk_at dksX4_goes_0 19 rfl rfl)
theorem dX4_goes_21 : decode cX4_goes 21 = .ok (.if_icmp .eq 16, 3) := dk_159 0 16 (dk_at dksX4_goes_0 21 rfl rfl)
theorem dX4_goes_24 : decode cX4_goes 24 = .ok (.aload_n 0, 1) := dk_42 (dk_at dksX4_goes_1 0 rfl rfl)
theorem dX4_goes_25 : decode cX4_goes 25 = .ok (.aload_n 0, 1) := dk_42 (dk_at dksX4_goes_1 1 rfl rfl)
theorem dX4_goes_26 : decode cX4_goes 26 = .ok (.getfield 181, 3) := dk_180 0 181 (dk_at dksX4_goes_1 2 rfl rfl)
theorem dX4_goes_29 : decode cX4_goes 29 = .ok (.invokevirtual 184, 3) := dk_182 0 184 (dk_at dksX4_goes_1 5 rfl rfl)
theorem dX4_goes_32 : decode cX4_goes 32 = .ok (.bipush 10, 2) := dk_16 10 (dk_at dksX4_goes_1 8 rfl rfl)
theorem dX4_goes_34 : decode cX4_goes 34 = .ok (.if_icmp .ne 16, 3) := dk_160 0 16 (dk_at dksX4_goes_1 10 rfl rfl)
theorem dX4_goes_37 : decode cX4_goes 37 = .ok (.aload_n 0, 1) := dk_42 (dk_at dksX4_goes_1 13 rfl rfl)
theorem dX4_goes_38 : decode cX4_goes 38 = .ok (.dup, 1) := dk_89 (dk_at dksX4_goes_1 14 rfl rfl)
theorem dX4_goes_39 : decode cX4_goes 39 = .ok (.getfield 181, 3) := dk_180 0 181 (dk_at dksX4_goes_1 15 rfl rfl)
theorem dX4_goes_42 : decode cX4_goes 42 = .ok (.iconst 1, 1) := dk_4 (dk_at dksX4_goes_1 18 rfl rfl)
theorem dX4_goes_43 : decode cX4_goes 43 = .ok (.iadd, 1) := dk_96 (dk_at dksX4_goes_1 19 rfl rfl)
theorem dX4_goes_44 : decode cX4_goes 44 = .ok (.putfield 181, 3) := dk_181 0 181 (dk_at dksX4_goes_1 20 rfl rfl)
theorem dX4_goes_47 : decode cX4_goes 47 = .ok (.goto (-47), 3) := dk_167 255 209 (dk_at dksX4_goes_2 0 rfl rfl)
theorem dX4_goes_50 : decode cX4_goes 50 = .ok (.aload_n 0, 1) := dk_42 (dk_at dksX4_goes_2 3 rfl rfl)
theorem dX4_goes_51 : decode cX4_goes 51 = .ok (.aload_n 0, 1) := dk_42 (dk_at dksX4_goes_2 4 rfl rfl)
theorem dX4_goes_52 : decode cX4_goes 52 = .ok (.getfield 181, 3) := dk_180 0 181 (dk_at dksX4_goes_2 5 rfl rfl)
theorem dX4_goes_55 : decode cX4_goes 55 = .ok (.putfield 188, 3) := dk_181 0 188 (dk_at dksX4_goes_2 8 rfl rfl)
theorem dX4_goes_58 : decode cX4_goes 58 = .ok (.aload_n 0, 1) := dk_42 (dk_at dksX4_goes_2 11 rfl rfl)
theorem dX4_goes_59 : decode cX4_goes 59 = .ok (.lconst 0, 1) := dk_9 (dk_at dksX4_goes_2 12 rfl rfl)
theorem dX4_goes_60 : decode cX4_goes 60 = .ok (.putfield 191, 3) := dk_181 0 191 (dk_at dksX4_goes_2 13 rfl rfl)
theorem dX4_goes_63 : decode cX4_goes 63 = .ok (.aload_n 0, 1) := dk_42 (dk_at dksX4_goes_2 16 rfl rfl)
theorem dX4_goes_64 : decode cX4_goes 64 = .ok (.iconst 0, 1) := dk_3 (dk_at dksX4_goes_2 17 rfl rfl)
theorem dX4_goes_65 : decode cX4_goes 65 = .ok (.putfield 195, 3) := dk_181 0 195 (dk_at dksX4_goes_2 18 rfl rfl)
theorem dX4_goes_68 : decode cX4_goes 68 = .ok (.aload_n 0, 1) := dk_42 (dk_at dksX4_goes_2 21 rfl rfl)
theorem dX4_goes_69 : decode cX4_goes 69 = .ok (.aload_n 0, 1) := dk_42 (dk_at dksX4_goes_2 22 rfl rfl)
theorem dX4_goes_70 : decode cX4_goes 70 = .ok (.getfield 181, 3) := dk_180 0 181 (dk_at dksX4_goes_3 0 rfl rfl)
theorem dX4_goes_73 : decode cX4_goes 73 = .ok (.invokevirtual 184, 3) := dk_182 0 184 (dk_at dksX4_goes_3 3 rfl rfl)
theorem dX4_goes_76 : decode cX4_goes 76 = .ok (.istore_n 1, 1) := dk_60 (dk_at dksX4_goes_3 6 rfl rfl)
theorem dX4_goes_77 : decode cX4_goes 77 = .ok (.aload_n 0, 1) := dk_42 (dk_at dksX4_goes_3 7 rfl rfl)
theorem dX4_goes_78 : decode cX4_goes 78 = .ok (.iload_n 1, 1) := dk_27 (dk_at dksX4_goes_3 8 rfl rfl)
theorem dX4_goes_79 : decode cX4_goes 79 = .ok (.putfield 198, 3) := dk_181 0 198 (dk_at dksX4_goes_3 9 rfl rfl)
theorem dX4_goes_82 : decode cX4_goes 82 = .ok (.aload_n 0, 1) := dk_42 (dk_at dksX4_goes_3 12 rfl rfl)
theorem dX4_goes_83 : decode cX4_goes 83 = .ok (.getfield 181, 3) := dk_180 0 181 (dk_at dksX4_goes_3 13 rfl rfl)
theorem dX4_goes_86 : decode cX4_goes 86 = .ok (.aload_n 0, 1) := dk_42 (dk_at dksX4_goes_3 16 rfl rfl)
theorem dX4_goes_87 : decode cX4_goes 87 = .ok (.getfield 178, 3) := dk_180 0 178 (dk_at dksX4_goes_3 17 rfl rfl)
theorem dX4_goes_90 : decode cX4_goes 90 = .ok (.if_icmp .lt 11, 3) := dk_161 0 11 (dk_at dksX4_goes_3 20 rfl rfl)
theorem dX4_goes_93 : decode cX4_goes 93 = .ok (.aload_n 0, 1) := dk_42 (dk_at dksX4_goes_3 23 rfl rfl)
theorem dX4_goes_94 : decode cX4_goes 94 = .ok (.iconst 0, 1) := dk_3 (dk_at dksX4_goes_4 0 rfl rfl)
theorem dX4_goes_95 : decode cX4_goes 95 = .ok (.putfield 201, 3) := dk_181 0 201 (dk_at dksX4_goes_4 1 rfl rfl)
theorem dX4_goes_98 : decode cX4_goes 98 = .ok (.goto 233, 3) := dk_167 0 233 (dk_at dksX4_goes_4 4 rfl rfl)
theorem dX4_goes_101 : decode cX4_goes 101 = .ok (.iload_n 1, 1) := dk_27 (dk_at dksX4_goes_4 7 rfl rfl)
theorem dX4_goes_102 : decode cX4_goes 102 = .ok (.invokestatic 204, 3) := dk_184 0 204 (dk_at dksX4_goes_4 8 rfl rfl)
theorem dX4_goes_105 : decode cX4_goes 105 = .ok (.ifCond .eq 75, 3) := dk_153 0 75 (dk_at dksX4_goes_4 11 rfl rfl)
theorem dX4_goes_108 : decode cX4_goes 108 = .ok (.aload_n 0, 1) := dk_42 (dk_at dksX4_goes_4 14 rfl rfl)
theorem dX4_goes_109 : decode cX4_goes 109 = .ok (.aload_n 0, 1) := dk_42 (dk_at dksX4_goes_4 15 rfl rfl)
theorem dX4_goes_110 : decode cX4_goes 110 = .ok (.getfield 181, 3) := dk_180 0 181 (dk_at dksX4_goes_4 16 rfl rfl)
theorem dX4_goes_113 : decode cX4_goes 113 = .ok (.invokevirtual 184, 3) := dk_182 0 184 (dk_at dksX4_goes_4 19 rfl rfl)
theorem dX4_goes_116 : decode cX4_goes 116 = .ok (.invokestatic 204, 3) := dk_184 0 204 (dk_at dksX4_goes_5 0 rfl rfl)
theorem dX4_goes_119 : decode cX4_goes 119 = .ok (.ifCond .eq 53, 3) := dk_153 0 53 (dk_at dksX4_goes_5 3 rfl rfl)
theorem dX4_goes_122 : decode cX4_goes 122 = .ok (.aload_n 0, 1) := dk_42 (dk_at dksX4_goes_5 6 rfl rfl)
theorem dX4_goes_123 : decode cX4_goes 123 = .ok (.getfield 181, 3) := dk_180 0 181 (dk_at dksX4_goes_5 7 rfl rfl)
theorem dX4_goes_126 : decode cX4_goes 126 = .ok (.aload_n 0, 1) := dk_42 (dk_at dksX4_goes_5 10 rfl rfl)
theorem dX4_goes_127 : decode cX4_goes 127 = .ok (.getfield 188, 3) := dk_180 0 188 (dk_at dksX4_goes_5 11 rfl rfl)
theorem dX4_goes_130 : decode cX4_goes 130 = .ok (.isub, 1) := dk_100 (dk_at dksX4_goes_5 14 rfl rfl)
theorem dX4_goes_131 : decode cX4_goes 131 = .ok (.bipush 6, 2) := dk_16 6 (dk_at dksX4_goes_5 15 rfl rfl)
theorem dX4_goes_133 : decode cX4_goes 133 = .ok (.if_icmp .ge 26, 3) := dk_162 0 26 (dk_at dksX4_goes_5 17 rfl rfl)
theorem dX4_goes_136 : decode cX4_goes 136 = .ok (.aload_n 0, 1) := dk_42 (dk_at dksX4_goes_5 20 rfl rfl)
theorem dX4_goes_137 : decode cX4_goes 137 = .ok (.aload_n 0, 1) := dk_42 (dk_at dksX4_goes_5 21 rfl rfl)
theorem dX4_goes_138 : decode cX4_goes 138 = .ok (.getfield 191, 3) := dk_180 0 191 (dk_at dksX4_goes_6 0 rfl rfl)
theorem dX4_goes_141 : decode cX4_goes 141 = .ok (.iconst 5, 1) := dk_8 (dk_at dksX4_goes_6 3 rfl rfl)
theorem dX4_goes_142 : decode cX4_goes 142 = .ok (.lshl, 1) := dk_121 (dk_at dksX4_goes_6 4 rfl rfl)
theorem dX4_goes_143 : decode cX4_goes 143 = .ok (.aload_n 0, 1) := dk_42 (dk_at dksX4_goes_6 5 rfl rfl)
theorem dX4_goes_144 : decode cX4_goes 144 = .ok (.aload_n 0, 1) := dk_42 (dk_at dksX4_goes_6 6 rfl rfl)
theorem dX4_goes_145 : decode cX4_goes 145 = .ok (.getfield 181, 3) := dk_180 0 181 (dk_at dksX4_goes_6 7 rfl rfl)
theorem dX4_goes_148 : decode cX4_goes 148 = .ok (.invokevirtual 184, 3) := dk_182 0 184 (dk_at dksX4_goes_6 10 rfl rfl)
theorem dX4_goes_151 : decode cX4_goes 151 = .ok (.bipush 96, 2) := dk_16 96 (dk_at dksX4_goes_6 13 rfl rfl)
theorem dX4_goes_153 : decode cX4_goes 153 = .ok (.isub, 1) := dk_100 (dk_at dksX4_goes_6 15 rfl rfl)
theorem dX4_goes_154 : decode cX4_goes 154 = .ok (.i2l, 1) := dk_133 (dk_at dksX4_goes_6 16 rfl rfl)
theorem dX4_goes_155 : decode cX4_goes 155 = .ok (.lor, 1) := dk_129 (dk_at dksX4_goes_6 17 rfl rfl)
theorem dX4_goes_156 : decode cX4_goes 156 = .ok (.putfield 191, 3) := dk_181 0 191 (dk_at dksX4_goes_6 18 rfl rfl)
theorem dX4_goes_159 : decode cX4_goes 159 = .ok (.aload_n 0, 1) := dk_42 (dk_at dksX4_goes_6 21 rfl rfl)
theorem dX4_goes_160 : decode cX4_goes 160 = .ok (.dup, 1) := dk_89 (dk_at dksX4_goes_6 22 rfl rfl)
theorem dX4_goes_161 : decode cX4_goes 161 = .ok (.getfield 181, 3) := dk_180 0 181 (dk_at dksX4_goes_7 0 rfl rfl)
theorem dX4_goes_164 : decode cX4_goes 164 = .ok (.iconst 1, 1) := dk_4 (dk_at dksX4_goes_7 3 rfl rfl)
theorem dX4_goes_165 : decode cX4_goes 165 = .ok (.iadd, 1) := dk_96 (dk_at dksX4_goes_7 4 rfl rfl)
theorem dX4_goes_166 : decode cX4_goes 166 = .ok (.putfield 181, 3) := dk_181 0 181 (dk_at dksX4_goes_7 5 rfl rfl)
theorem dX4_goes_169 : decode cX4_goes 169 = .ok (.goto (-61), 3) := dk_167 255 195 (dk_at dksX4_goes_7 8 rfl rfl)
theorem dX4_goes_172 : decode cX4_goes 172 = .ok (.aload_n 0, 1) := dk_42 (dk_at dksX4_goes_7 11 rfl rfl)
theorem dX4_goes_173 : decode cX4_goes 173 = .ok (.iconst 1, 1) := dk_4 (dk_at dksX4_goes_7 12 rfl rfl)
theorem dX4_goes_174 : decode cX4_goes 174 = .ok (.putfield 201, 3) := dk_181 0 201 (dk_at dksX4_goes_7 13 rfl rfl)
theorem dX4_goes_177 : decode cX4_goes 177 = .ok (.goto 154, 3) := dk_167 0 154 (dk_at dksX4_goes_7 16 rfl rfl)
theorem dX4_goes_180 : decode cX4_goes 180 = .ok (.iload_n 1, 1) := dk_27 (dk_at dksX4_goes_7 19 rfl rfl)
theorem dX4_goes_181 : decode cX4_goes 181 = .ok (.invokestatic 208, 3) := dk_184 0 208 (dk_at dksX4_goes_7 20 rfl rfl)
theorem dX4_goes_184 : decode cX4_goes 184 = .ok (.ifCond .eq 74, 3) := dk_153 0 74 (dk_at dksX4_goes_8 0 rfl rfl)
theorem dX4_goes_187 : decode cX4_goes 187 = .ok (.aload_n 0, 1) := dk_42 (dk_at dksX4_goes_8 3 rfl rfl)
theorem dX4_goes_188 : decode cX4_goes 188 = .ok (.aload_n 0, 1) := dk_42 (dk_at dksX4_goes_8 4 rfl rfl)
theorem dX4_goes_189 : decode cX4_goes 189 = .ok (.getfield 181, 3) := dk_180 0 181 (dk_at dksX4_goes_8 5 rfl rfl)
theorem dX4_goes_192 : decode cX4_goes 192 = .ok (.invokevirtual 184, 3) := dk_182 0 184 (dk_at dksX4_goes_8 8 rfl rfl)
theorem dX4_goes_195 : decode cX4_goes 195 = .ok (.invokestatic 208, 3) := dk_184 0 208 (dk_at dksX4_goes_8 11 rfl rfl)
theorem dX4_goes_198 : decode cX4_goes 198 = .ok (.ifCond .eq 52, 3) := dk_153 0 52 (dk_at dksX4_goes_8 14 rfl rfl)
theorem dX4_goes_201 : decode cX4_goes 201 = .ok (.aload_n 0, 1) := dk_42 (dk_at dksX4_goes_8 17 rfl rfl)
theorem dX4_goes_202 : decode cX4_goes 202 = .ok (.getfield 181, 3) := dk_180 0 181 (dk_at dksX4_goes_8 18 rfl rfl)
theorem dX4_goes_205 : decode cX4_goes 205 = .ok (.aload_n 0, 1) := dk_42 (dk_at dksX4_goes_8 21 rfl rfl)
theorem dX4_goes_206 : decode cX4_goes 206 = .ok (.getfield 188, 3) := dk_180 0 188 (dk_at dksX4_goes_9 0 rfl rfl)
theorem dX4_goes_209 : decode cX4_goes 209 = .ok (.isub, 1) := dk_100 (dk_at dksX4_goes_9 3 rfl rfl)
theorem dX4_goes_210 : decode cX4_goes 210 = .ok (.iconst 4, 1) := dk_7 (dk_at dksX4_goes_9 4 rfl rfl)
theorem dX4_goes_211 : decode cX4_goes 211 = .ok (.if_icmp .ge 26, 3) := dk_162 0 26 (dk_at dksX4_goes_9 5 rfl rfl)
theorem dX4_goes_214 : decode cX4_goes 214 = .ok (.aload_n 0, 1) := dk_42 (dk_at dksX4_goes_9 8 rfl rfl)
theorem dX4_goes_215 : decode cX4_goes 215 = .ok (.bipush 10, 2) := dk_16 10 (dk_at dksX4_goes_9 9 rfl rfl)
theorem dX4_goes_217 : decode cX4_goes 217 = .ok (.aload_n 0, 1) := dk_42 (dk_at dksX4_goes_9 11 rfl rfl)
theorem dX4_goes_218 : decode cX4_goes 218 = .ok (.getfield 195, 3) := dk_180 0 195 (dk_at dksX4_goes_9 12 rfl rfl)
theorem dX4_goes_221 : decode cX4_goes 221 = .ok (.imul, 1) := dk_104 (dk_at dksX4_goes_9 15 rfl rfl)
theorem dX4_goes_222 : decode cX4_goes 222 = .ok (.aload_n 0, 1) := dk_42 (dk_at dksX4_goes_9 16 rfl rfl)
theorem dX4_goes_223 : decode cX4_goes 223 = .ok (.aload_n 0, 1) := dk_42 (dk_at dksX4_goes_9 17 rfl rfl)
theorem dX4_goes_224 : decode cX4_goes 224 = .ok (.getfield 181, 3) := dk_180 0 181 (dk_at dksX4_goes_9 18 rfl rfl)
theorem dX4_goes_227 : decode cX4_goes 227 = .ok (.invokevirtual 184, 3) := dk_182 0 184 (dk_at dksX4_goes_9 21 rfl rfl)
theorem dX4_goes_230 : decode cX4_goes 230 = .ok (.iadd, 1) := dk_96 (dk_at dksX4_goes_10 0 rfl rfl)
theorem dX4_goes_231 : decode cX4_goes 231 = .ok (.bipush 48, 2) := dk_16 48 (dk_at dksX4_goes_10 1 rfl rfl)
theorem dX4_goes_233 : decode cX4_goes 233 = .ok (.isub, 1) := dk_100 (dk_at dksX4_goes_10 3 rfl rfl)
theorem dX4_goes_234 : decode cX4_goes 234 = .ok (.putfield 195, 3) := dk_181 0 195 (dk_at dksX4_goes_10 4 rfl rfl)
theorem dX4_goes_237 : decode cX4_goes 237 = .ok (.aload_n 0, 1) := dk_42 (dk_at dksX4_goes_10 7 rfl rfl)
theorem dX4_goes_238 : decode cX4_goes 238 = .ok (.dup, 1) := dk_89 (dk_at dksX4_goes_10 8 rfl rfl)
theorem dX4_goes_239 : decode cX4_goes 239 = .ok (.getfield 181, 3) := dk_180 0 181 (dk_at dksX4_goes_10 9 rfl rfl)
theorem dX4_goes_242 : decode cX4_goes 242 = .ok (.iconst 1, 1) := dk_4 (dk_at dksX4_goes_10 12 rfl rfl)
theorem dX4_goes_243 : decode cX4_goes 243 = .ok (.iadd, 1) := dk_96 (dk_at dksX4_goes_10 13 rfl rfl)
theorem dX4_goes_244 : decode cX4_goes 244 = .ok (.putfield 181, 3) := dk_181 0 181 (dk_at dksX4_goes_10 14 rfl rfl)
theorem dX4_goes_247 : decode cX4_goes 247 = .ok (.goto (-60), 3) := dk_167 255 196 (dk_at dksX4_goes_10 17 rfl rfl)
theorem dX4_goes_250 : decode cX4_goes 250 = .ok (.aload_n 0, 1) := dk_42 (dk_at dksX4_goes_10 20 rfl rfl)
theorem dX4_goes_251 : decode cX4_goes 251 = .ok (.iconst 2, 1) := dk_5 (dk_at dksX4_goes_10 21 rfl rfl)
theorem dX4_goes_252 : decode cX4_goes 252 = .ok (.putfield 201, 3) := dk_181 0 201 (dk_at dksX4_goes_11 0 rfl rfl)
theorem dX4_goes_255 : decode cX4_goes 255 = .ok (.goto 76, 3) := dk_167 0 76 (dk_at dksX4_goes_11 3 rfl rfl)
theorem dX4_goes_258 : decode cX4_goes 258 = .ok (.aload_n 0, 1) := dk_42 (dk_at dksX4_goes_11 6 rfl rfl)
theorem dX4_goes_259 : decode cX4_goes 259 = .ok (.dup, 1) := dk_89 (dk_at dksX4_goes_11 7 rfl rfl)
theorem dX4_goes_260 : decode cX4_goes 260 = .ok (.getfield 181, 3) := dk_180 0 181 (dk_at dksX4_goes_11 8 rfl rfl)
theorem dX4_goes_263 : decode cX4_goes 263 = .ok (.iconst 1, 1) := dk_4 (dk_at dksX4_goes_11 11 rfl rfl)
theorem dX4_goes_264 : decode cX4_goes 264 = .ok (.iadd, 1) := dk_96 (dk_at dksX4_goes_11 12 rfl rfl)
theorem dX4_goes_265 : decode cX4_goes 265 = .ok (.putfield 181, 3) := dk_181 0 181 (dk_at dksX4_goes_11 13 rfl rfl)
theorem dX4_goes_268 : decode cX4_goes 268 = .ok (.aload_n 0, 1) := dk_42 (dk_at dksX4_goes_11 16 rfl rfl)
theorem dX4_goes_269 : decode cX4_goes 269 = .ok (.iload_n 1, 1) := dk_27 (dk_at dksX4_goes_11 17 rfl rfl)
theorem dX4_goes_270 : decode cX4_goes 270 = .ok (.bipush 59, 2) := dk_16 59 (dk_at dksX4_goes_11 18 rfl rfl)
theorem dX4_goes_272 : decode cX4_goes 272 = .ok (.if_icmp .eq 51, 3) := dk_159 0 51 (dk_at dksX4_goes_11 20 rfl rfl)
theorem dX4_goes_275 : decode cX4_goes 275 = .ok (.iload_n 1, 1) := dk_27 (dk_at dksX4_goes_11 23 rfl rfl)
theorem dX4_goes_276 : decode cX4_goes 276 = .ok (.bipush 40, 2) := dk_16 40 (dk_at dksX4_goes_12 0 rfl rfl)
theorem dX4_goes_278 : decode cX4_goes 278 = .ok (.if_icmp .eq 45, 3) := dk_159 0 45 (dk_at dksX4_goes_12 2 rfl rfl)
theorem dX4_goes_281 : decode cX4_goes 281 = .ok (.iload_n 1, 1) := dk_27 (dk_at dksX4_goes_12 5 rfl rfl)
theorem dX4_goes_282 : decode cX4_goes 282 = .ok (.bipush 41, 2) := dk_16 41 (dk_at dksX4_goes_12 6 rfl rfl)
theorem dX4_goes_284 : decode cX4_goes 284 = .ok (.if_icmp .eq 39, 3) := dk_159 0 39 (dk_at dksX4_goes_12 8 rfl rfl)
theorem dX4_goes_287 : decode cX4_goes 287 = .ok (.iload_n 1, 1) := dk_27 (dk_at dksX4_goes_12 11 rfl rfl)
theorem dX4_goes_288 : decode cX4_goes 288 = .ok (.bipush 43, 2) := dk_16 43 (dk_at dksX4_goes_12 12 rfl rfl)
theorem dX4_goes_290 : decode cX4_goes 290 = .ok (.if_icmp .eq 33, 3) := dk_159 0 33 (dk_at dksX4_goes_12 14 rfl rfl)
theorem dX4_goes_293 : decode cX4_goes 293 = .ok (.iload_n 1, 1) := dk_27 (dk_at dksX4_goes_12 17 rfl rfl)
theorem dX4_goes_294 : decode cX4_goes 294 = .ok (.bipush 45, 2) := dk_16 45 (dk_at dksX4_goes_12 18 rfl rfl)
theorem dX4_goes_296 : decode cX4_goes 296 = .ok (.if_icmp .eq 27, 3) := dk_159 0 27 (dk_at dksX4_goes_12 20 rfl rfl)
theorem dX4_goes_299 : decode cX4_goes 299 = .ok (.iload_n 1, 1) := dk_27 (dk_at dksX4_goes_12 23 rfl rfl)
theorem dX4_goes_300 : decode cX4_goes 300 = .ok (.bipush 42, 2) := dk_16 42 (dk_at dksX4_goes_13 0 rfl rfl)
theorem dX4_goes_302 : decode cX4_goes 302 = .ok (.if_icmp .eq 21, 3) := dk_159 0 21 (dk_at dksX4_goes_13 2 rfl rfl)
theorem dX4_goes_305 : decode cX4_goes 305 = .ok (.iload_n 1, 1) := dk_27 (dk_at dksX4_goes_13 5 rfl rfl)
theorem dX4_goes_306 : decode cX4_goes 306 = .ok (.bipush 47, 2) := dk_16 47 (dk_at dksX4_goes_13 6 rfl rfl)
theorem dX4_goes_308 : decode cX4_goes 308 = .ok (.if_icmp .eq 15, 3) := dk_159 0 15 (dk_at dksX4_goes_13 8 rfl rfl)
theorem dX4_goes_311 : decode cX4_goes 311 = .ok (.iload_n 1, 1) := dk_27 (dk_at dksX4_goes_13 11 rfl rfl)
theorem dX4_goes_312 : decode cX4_goes 312 = .ok (.bipush 60, 2) := dk_16 60 (dk_at dksX4_goes_13 12 rfl rfl)
theorem dX4_goes_314 : decode cX4_goes 314 = .ok (.if_icmp .eq 9, 3) := dk_159 0 9 (dk_at dksX4_goes_13 14 rfl rfl)
theorem dX4_goes_317 : decode cX4_goes 317 = .ok (.iload_n 1, 1) := dk_27 (dk_at dksX4_goes_13 17 rfl rfl)
theorem dX4_goes_318 : decode cX4_goes 318 = .ok (.bipush 61, 2) := dk_16 61 (dk_at dksX4_goes_13 18 rfl rfl)
theorem dX4_goes_320 : decode cX4_goes 320 = .ok (.if_icmp .ne 7, 3) := dk_160 0 7 (dk_at dksX4_goes_13 20 rfl rfl)
theorem dX4_goes_323 : decode cX4_goes 323 = .ok (.iconst 3, 1) := dk_6 (dk_at dksX4_goes_13 23 rfl rfl)
theorem dX4_goes_324 : decode cX4_goes 324 = .ok (.goto 4, 3) := dk_167 0 4 (dk_at dksX4_goes_14 0 rfl rfl)
theorem dX4_goes_327 : decode cX4_goes 327 = .ok (.iconst 4, 1) := dk_7 (dk_at dksX4_goes_14 3 rfl rfl)
theorem dX4_goes_328 : decode cX4_goes 328 = .ok (.putfield 201, 3) := dk_181 0 201 (dk_at dksX4_goes_14 4 rfl rfl)
theorem dX4_goes_331 : decode cX4_goes 331 = .ok (.aload_n 0, 1) := dk_42 (dk_at dksX4_goes_14 7 rfl rfl)
theorem dX4_goes_332 : decode cX4_goes 332 = .ok (.aload_n 0, 1) := dk_42 (dk_at dksX4_goes_14 8 rfl rfl)
theorem dX4_goes_333 : decode cX4_goes 333 = .ok (.getfield 181, 3) := dk_180 0 181 (dk_at dksX4_goes_14 9 rfl rfl)
theorem dX4_goes_336 : decode cX4_goes 336 = .ok (.aload_n 0, 1) := dk_42 (dk_at dksX4_goes_14 12 rfl rfl)
theorem dX4_goes_337 : decode cX4_goes 337 = .ok (.getfield 188, 3) := dk_180 0 188 (dk_at dksX4_goes_14 13 rfl rfl)
theorem dX4_goes_340 : decode cX4_goes 340 = .ok (.isub, 1) := dk_100 (dk_at dksX4_goes_14 16 rfl rfl)
theorem dX4_goes_341 : decode cX4_goes 341 = .ok (.putfield 211, 3) := dk_181 0 211 (dk_at dksX4_goes_14 17 rfl rfl)
theorem dX4_goes_344 : decode cX4_goes 344 = .ok (.return_, 1) := dk_177 (dk_at dksX4_goes_14 20 rfl rfl)
abbrev cX4_byteAt : ByteArray := prog_13_method_10_code
def yX4_byteAt : MethodName := ⟨RX4, "byteAt", "(I)I"⟩
def dkwX4_byteAt_0 : List UInt8 := [27, 42, 180, 0, 178, 162, 0, 12, 42, 180, 0, 44, 27, 46, 167, 0, 4, 3, 172]
abbrev dktX4_byteAt_0 : List UInt8 := dkwX4_byteAt_0 ++ []
theorem dksX4_byteAt_0 : cX4_byteAt.data.toList.drop 0 = dktX4_byteAt_0 := by decide +kernel
theorem dX4_byteAt_0 : decode cX4_byteAt 0 = .ok (.iload_n 1, 1) := dk_27 (dk_at dksX4_byteAt_0 0 rfl rfl)
theorem dX4_byteAt_1 : decode cX4_byteAt 1 = .ok (.aload_n 0, 1) := dk_42 (dk_at dksX4_byteAt_0 1 rfl rfl)
theorem dX4_byteAt_2 : decode cX4_byteAt 2 = .ok (.getfield 178, 3) := dk_180 0 178 (dk_at dksX4_byteAt_0 2 rfl rfl)
theorem dX4_byteAt_5 : decode cX4_byteAt 5 = .ok (.if_icmp .ge 12, 3) := dk_162 0 12 (dk_at dksX4_byteAt_0 5 rfl rfl)
theorem dX4_byteAt_8 : decode cX4_byteAt 8 = .ok (.aload_n 0, 1) := dk_42 (dk_at dksX4_byteAt_0 8 rfl rfl)
theorem dX4_byteAt_9 : decode cX4_byteAt 9 = .ok (.getfield 44, 3) := dk_180 0 44 (dk_at dksX4_byteAt_0 9 rfl rfl)
theorem dX4_byteAt_12 : decode cX4_byteAt 12 = .ok (.iload_n 1, 1) := dk_27 (dk_at dksX4_byteAt_0 12 rfl rfl)
theorem dX4_byteAt_13 : decode cX4_byteAt 13 = .ok (.iaload, 1) := dk_46 (dk_at dksX4_byteAt_0 13 rfl rfl)
theorem dX4_byteAt_14 : decode cX4_byteAt 14 = .ok (.goto 4, 3) := dk_167 0 4 (dk_at dksX4_byteAt_0 14 rfl rfl)
theorem dX4_byteAt_17 : decode cX4_byteAt 17 = .ok (.iconst 0, 1) := dk_3 (dk_at dksX4_byteAt_0 17 rfl rfl)
theorem dX4_byteAt_18 : decode cX4_byteAt 18 = .ok (.ireturn, 1) := dk_172 (dk_at dksX4_byteAt_0 18 rfl rfl)
abbrev cX4_isLetter : ByteArray := prog_13_method_11_code
def yX4_isLetter : MethodName := ⟨RX4, "isLetter", "(I)Z"⟩
def dkwX4_isLetter_0 : List UInt8 := [26, 16, 97, 161, 0, 13, 26, 16, 122, 163, 0, 7, 4, 167, 0, 4, 3, 172]
abbrev dktX4_isLetter_0 : List UInt8 := dkwX4_isLetter_0 ++ []
theorem dksX4_isLetter_0 : cX4_isLetter.data.toList.drop 0 = dktX4_isLetter_0 := by decide +kernel
theorem dX4_isLetter_0 : decode cX4_isLetter 0 = .ok (.iload_n 0, 1) := dk_26 (dk_at dksX4_isLetter_0 0 rfl rfl)
theorem dX4_isLetter_1 : decode cX4_isLetter 1 = .ok (.bipush 97, 2) := dk_16 97 (dk_at dksX4_isLetter_0 1 rfl rfl)
theorem dX4_isLetter_3 : decode cX4_isLetter 3 = .ok (.if_icmp .lt 13, 3) := dk_161 0 13 (dk_at dksX4_isLetter_0 3 rfl rfl)
theorem dX4_isLetter_6 : decode cX4_isLetter 6 = .ok (.iload_n 0, 1) := dk_26 (dk_at dksX4_isLetter_0 6 rfl rfl)
theorem dX4_isLetter_7 : decode cX4_isLetter 7 = .ok (.bipush 122, 2) := dk_16 122 (dk_at dksX4_isLetter_0 7 rfl rfl)
theorem dX4_isLetter_9 : decode cX4_isLetter 9 = .ok (.if_icmp .gt 7, 3) := dk_163 0 7 (dk_at dksX4_isLetter_0 9 rfl rfl)
theorem dX4_isLetter_12 : decode cX4_isLetter 12 = .ok (.iconst 1, 1) := dk_4 (dk_at dksX4_isLetter_0 12 rfl rfl)
theorem dX4_isLetter_13 : decode cX4_isLetter 13 = .ok (.goto 4, 3) := dk_167 0 4 (dk_at dksX4_isLetter_0 13 rfl rfl)
theorem dX4_isLetter_16 : decode cX4_isLetter 16 = .ok (.iconst 0, 1) := dk_3 (dk_at dksX4_isLetter_0 16 rfl rfl)
theorem dX4_isLetter_17 : decode cX4_isLetter 17 = .ok (.ireturn, 1) := dk_172 (dk_at dksX4_isLetter_0 17 rfl rfl)
abbrev cX4_isDigit : ByteArray := prog_13_method_12_code
def yX4_isDigit : MethodName := ⟨RX4, "isDigit", "(I)Z"⟩
def dkwX4_isDigit_0 : List UInt8 := [26, 16, 48, 161, 0, 13, 26, 16, 57, 163, 0, 7, 4, 167, 0, 4, 3, 172]
abbrev dktX4_isDigit_0 : List UInt8 := dkwX4_isDigit_0 ++ []
theorem dksX4_isDigit_0 : cX4_isDigit.data.toList.drop 0 = dktX4_isDigit_0 := by decide +kernel
theorem dX4_isDigit_0 : decode cX4_isDigit 0 = .ok (.iload_n 0, 1) := dk_26 (dk_at dksX4_isDigit_0 0 rfl rfl)
theorem dX4_isDigit_1 : decode cX4_isDigit 1 = .ok (.bipush 48, 2) := dk_16 48 (dk_at dksX4_isDigit_0 1 rfl rfl)
theorem dX4_isDigit_3 : decode cX4_isDigit 3 = .ok (.if_icmp .lt 13, 3) := dk_161 0 13 (dk_at dksX4_isDigit_0 3 rfl rfl)
theorem dX4_isDigit_6 : decode cX4_isDigit 6 = .ok (.iload_n 0, 1) := dk_26 (dk_at dksX4_isDigit_0 6 rfl rfl)
theorem dX4_isDigit_7 : decode cX4_isDigit 7 = .ok (.bipush 57, 2) := dk_16 57 (dk_at dksX4_isDigit_0 7 rfl rfl)
theorem dX4_isDigit_9 : decode cX4_isDigit 9 = .ok (.if_icmp .gt 7, 3) := dk_163 0 7 (dk_at dksX4_isDigit_0 9 rfl rfl)
theorem dX4_isDigit_12 : decode cX4_isDigit 12 = .ok (.iconst 1, 1) := dk_4 (dk_at dksX4_isDigit_0 12 rfl rfl)
theorem dX4_isDigit_13 : decode cX4_isDigit 13 = .ok (.goto 4, 3) := dk_167 0 4 (dk_at dksX4_isDigit_0 13 rfl rfl)
theorem dX4_isDigit_16 : decode cX4_isDigit 16 = .ok (.iconst 0, 1) := dk_3 (dk_at dksX4_isDigit_0 16 rfl rfl)
theorem dX4_isDigit_17 : decode cX4_isDigit 17 = .ok (.ireturn, 1) := dk_172 (dk_at dksX4_isDigit_0 17 rfl rfl)
abbrev cX4_isGood : ByteArray := prog_13_method_18_code
def yX4_isGood : MethodName := ⟨RX4, "isGood", "()Z"⟩
def dkwX4_isGood_0 : List UInt8 := [42, 180, 0, 224, 154, 0, 7, 4, 167, 0, 4, 3, 172]
abbrev dktX4_isGood_0 : List UInt8 := dkwX4_isGood_0 ++ []
theorem dksX4_isGood_0 : cX4_isGood.data.toList.drop 0 = dktX4_isGood_0 := by decide +kernel
theorem dX4_isGood_0 : decode cX4_isGood 0 = .ok (.aload_n 0, 1) := dk_42 (dk_at dksX4_isGood_0 0 rfl rfl)
theorem dX4_isGood_1 : decode cX4_isGood 1 = .ok (.getfield 224, 3) := dk_180 0 224 (dk_at dksX4_isGood_0 1 rfl rfl)
theorem dX4_isGood_4 : decode cX4_isGood 4 = .ok (.ifCond .ne 7, 3) := dk_154 0 7 (dk_at dksX4_isGood_0 4 rfl rfl)
theorem dX4_isGood_7 : decode cX4_isGood 7 = .ok (.iconst 1, 1) := dk_4 (dk_at dksX4_isGood_0 7 rfl rfl)
theorem dX4_isGood_8 : decode cX4_isGood 8 = .ok (.goto 4, 3) := dk_167 0 4 (dk_at dksX4_isGood_0 8 rfl rfl)
theorem dX4_isGood_11 : decode cX4_isGood 11 = .ok (.iconst 0, 1) := dk_3 (dk_at dksX4_isGood_0 11 rfl rfl)
theorem dX4_isGood_12 : decode cX4_isGood 12 = .ok (.ireturn, 1) := dk_172 (dk_at dksX4_isGood_0 12 rfl rfl)
abbrev cX4_line : ByteArray := prog_13_method_41_code
def yX4_line : MethodName := ⟨RX4, "line", "()V"⟩
def dkwX4_line_10 : List UInt8 := [182, 1, 81, 177]
abbrev dktX4_line_10 : List UInt8 := dkwX4_line_10 ++ []
def dkwX4_line_9 : List UInt8 := [181, 1, 75, 42, 182, 1, 78, 167, 0, 8, 42, 4, 182, 0, 234, 42, 42, 16, 59, 182, 1, 6]
abbrev dktX4_line_9 : List UInt8 := dkwX4_line_9 ++ dktX4_line_10
def dkwX4_line_8 : List UInt8 := [42, 8, 182, 0, 234, 42, 182, 0, 227, 154, 0, 4, 177, 42, 182, 0, 231, 42, 42, 180, 0, 240]
abbrev dktX4_line_8 : List UInt8 := dkwX4_line_8 ++ dktX4_line_9
def dkwX4_line_7 : List UInt8 := [167, 0, 4, 3, 182, 1, 72, 167, 0, 54, 27, 16, 13, 160, 0, 43, 42, 180, 1, 75, 2, 159, 0, 8]
abbrev dktX4_line_7 : List UInt8 := dkwX4_line_7 ++ dktX4_line_8
def dkwX4_line_6 : List UInt8 := [182, 1, 69, 167, 0, 81, 27, 6, 159, 0, 8, 27, 5, 160, 0, 20, 42, 27, 6, 160, 0, 7, 4]
abbrev dktX4_line_6 : List UInt8 := dkwX4_line_6 ++ dktX4_line_7
def dkwX4_line_5 : List UInt8 := [167, 0, 106, 27, 16, 12, 160, 0, 10, 42, 182, 1, 66, 167, 0, 93, 27, 7, 160, 0, 10, 42]
abbrev dktX4_line_5 : List UInt8 := dkwX4_line_5 ++ dktX4_line_6
def dkwX4_line_4 : List UInt8 := [160, 0, 7, 4, 167, 0, 4, 3, 182, 1, 60, 167, 0, 119, 27, 16, 11, 160, 0, 10, 42, 182, 1, 63]
abbrev dktX4_line_4 : List UInt8 := dkwX4_line_4 ++ dktX4_line_5
def dkwX4_line_3 : List UInt8 := [181, 1, 57, 167, 0, 149, 27, 16, 9, 159, 0, 9, 27, 16, 10, 160, 0, 21, 42, 27, 16, 10]
abbrev dktX4_line_3 : List UInt8 := dkwX4_line_3 ++ dktX4_line_4
def dkwX4_line_2 : List UInt8 := [3, 17, 3, 231, 182, 1, 34, 79, 42, 182, 0, 227, 153, 0, 162, 42, 89, 180, 1, 57, 4, 96]
abbrev dktX4_line_2 : List UInt8 := dkwX4_line_2 ++ dktX4_line_3
def dkwX4_line_1 : List UInt8 := [42, 182, 0, 227, 154, 0, 4, 177, 42, 182, 0, 231, 42, 180, 0, 80, 16, 31, 42, 180, 1, 57, 96, 42]
abbrev dktX4_line_1 : List UInt8 := dkwX4_line_1 ++ dktX4_line_2
def dkwX4_line_0 : List UInt8 := [42, 182, 0, 255, 60, 27, 16, 8, 160, 0, 68, 42, 180, 1, 57, 6, 160, 0, 8, 42, 5, 182, 0, 234]
abbrev dktX4_line_0 : List UInt8 := dkwX4_line_0 ++ dktX4_line_1
theorem dksX4_line_0 : cX4_line.data.toList.drop 0 = dktX4_line_0 := by decide +kernel
theorem dksX4_line_1 : cX4_line.data.toList.drop 24 = dktX4_line_1 := dk_seg dksX4_line_0 24 rfl rfl
theorem dksX4_line_2 : cX4_line.data.toList.drop 48 = dktX4_line_2 := dk_seg dksX4_line_1 24 rfl rfl
theorem dksX4_line_3 : cX4_line.data.toList.drop 70 = dktX4_line_3 := dk_seg dksX4_line_2 22 rfl rfl
theorem dksX4_line_4 : cX4_line.data.toList.drop 92 = dktX4_line_4 := dk_seg dksX4_line_3 22 rfl rfl
theorem dksX4_line_5 : cX4_line.data.toList.drop 116 = dktX4_line_5 := dk_seg dksX4_line_4 24 rfl rfl
theorem dksX4_line_6 : cX4_line.data.toList.drop 138 = dktX4_line_6 := dk_seg dksX4_line_5 22 rfl rfl
theorem dksX4_line_7 : cX4_line.data.toList.drop 161 = dktX4_line_7 := dk_seg dksX4_line_6 23 rfl rfl
theorem dksX4_line_8 : cX4_line.data.toList.drop 185 = dktX4_line_8 := dk_seg dksX4_line_7 24 rfl rfl
theorem dksX4_line_9 : cX4_line.data.toList.drop 207 = dktX4_line_9 := dk_seg dksX4_line_8 22 rfl rfl
theorem dksX4_line_10 : cX4_line.data.toList.drop 229 = dktX4_line_10 := dk_seg dksX4_line_9 22 rfl rfl
theorem dX4_line_0 : decode cX4_line 0 = .ok (.aload_n 0, 1) := dk_42 (dk_at dksX4_line_0 0 rfl rfl)
theorem dX4_line_1 : decode cX4_line 1 = .ok (.invokevirtual 255, 3) := dk_182 0 255 (dk_at dksX4_line_0 1 rfl rfl)
theorem dX4_line_4 : decode cX4_line 4 = .ok (.istore_n 1, 1) := dk_60 (dk_at dksX4_line_0 4 rfl rfl)
theorem dX4_line_5 : decode cX4_line 5 = .ok (.iload_n 1, 1) := dk_27 (dk_at dksX4_line_0 5 rfl rfl)
theorem dX4_line_6 : decode cX4_line 6 = .ok (.bipush 8, 2) := dk_16 8 (dk_at dksX4_line_0 6 rfl rfl)
theorem dX4_line_8 : decode cX4_line 8 = .ok (.if_icmp .ne 68, 3) := dk_160 0 68 (dk_at dksX4_line_0 8 rfl rfl)
theorem dX4_line_11 : decode cX4_line 11 = .ok (.aload_n 0, 1) := dk_42 (dk_at dksX4_line_0 11 rfl rfl)
theorem dX4_line_12 : decode cX4_line 12 = .ok (.getfield 313, 3) := dk_180 1 57 (dk_at dksX4_line_0 12 rfl rfl)
theorem dX4_line_15 : decode cX4_line 15 = .ok (.iconst 3, 1) := dk_6 (dk_at dksX4_line_0 15 rfl rfl)
theorem dX4_line_16 : decode cX4_line 16 = .ok (.if_icmp .ne 8, 3) := dk_160 0 8 (dk_at dksX4_line_0 16 rfl rfl)
theorem dX4_line_19 : decode cX4_line 19 = .ok (.aload_n 0, 1) := dk_42 (dk_at dksX4_line_0 19 rfl rfl)
theorem dX4_line_20 : decode cX4_line 20 = .ok (.iconst 2, 1) := dk_5 (dk_at dksX4_line_0 20 rfl rfl)
theorem dX4_line_21 : decode cX4_line 21 = .ok (.invokevirtual 234, 3) := dk_182 0 234 (dk_at dksX4_line_0 21 rfl rfl)
theorem dX4_line_24 : decode cX4_line 24 = .ok (.aload_n 0, 1) := dk_42 (dk_at dksX4_line_1 0 rfl rfl)
theorem dX4_line_25 : decode cX4_line 25 = .ok (.invokevirtual 227, 3) := dk_182 0 227 (dk_at dksX4_line_1 1 rfl rfl)
theorem dX4_line_28 : decode cX4_line 28 = .ok (.ifCond .ne 4, 3) := dk_154 0 4 (dk_at dksX4_line_1 4 rfl rfl)
theorem dX4_line_31 : decode cX4_line 31 = .ok (.return_, 1) := dk_177 (dk_at dksX4_line_1 7 rfl rfl)
theorem dX4_line_32 : decode cX4_line 32 = .ok (.aload_n 0, 1) := dk_42 (dk_at dksX4_line_1 8 rfl rfl)
theorem dX4_line_33 : decode cX4_line 33 = .ok (.invokevirtual 231, 3) := dk_182 0 231 (dk_at dksX4_line_1 9 rfl rfl)
theorem dX4_line_36 : decode cX4_line 36 = .ok (.aload_n 0, 1) := dk_42 (dk_at dksX4_line_1 12 rfl rfl)
theorem dX4_line_37 : decode cX4_line 37 = .ok (.getfield 80, 3) := dk_180 0 80 (dk_at dksX4_line_1 13 rfl rfl)
theorem dX4_line_40 : decode cX4_line 40 = .ok (.bipush 31, 2) := dk_16 31 (dk_at dksX4_line_1 16 rfl rfl)
theorem dX4_line_42 : decode cX4_line 42 = .ok (.aload_n 0, 1) := dk_42 (dk_at dksX4_line_1 18 rfl rfl)
theorem dX4_line_43 : decode cX4_line 43 = .ok (.getfield 313, 3) := dk_180 1 57 (dk_at dksX4_line_1 19 rfl rfl)
theorem dX4_line_46 : decode cX4_line 46 = .ok (.iadd, 1) := dk_96 (dk_at dksX4_line_1 22 rfl rfl)
theorem dX4_line_47 : decode cX4_line 47 = .ok (.aload_n 0, 1) := dk_42 (dk_at dksX4_line_1 23 rfl rfl)
theorem dX4_line_48 : decode cX4_line 48 = .ok (.iconst 0, 1) := dk_3 (dk_at dksX4_line_2 0 rfl rfl)
theorem dX4_line_49 : decode cX4_line 49 = .ok (.sipush 999, 3) := dk_17 3 231 (dk_at dksX4_line_2 1 rfl rfl)
theorem dX4_line_52 : decode cX4_line 52 = .ok (.invokevirtual 290, 3) := dk_182 1 34 (dk_at dksX4_line_2 4 rfl rfl)
theorem dX4_line_55 : decode cX4_line 55 = .ok (.iastore, 1) := dk_79 (dk_at dksX4_line_2 7 rfl rfl)
theorem dX4_line_56 : decode cX4_line 56 = .ok (.aload_n 0, 1) := dk_42 (dk_at dksX4_line_2 8 rfl rfl)
theorem dX4_line_57 : decode cX4_line 57 = .ok (.invokevirtual 227, 3) := dk_182 0 227 (dk_at dksX4_line_2 9 rfl rfl)
theorem dX4_line_60 : decode cX4_line 60 = .ok (.ifCond .eq 162, 3) := dk_153 0 162 (dk_at dksX4_line_2 12 rfl rfl)
theorem dX4_line_63 : decode cX4_line 63 = .ok (.aload_n 0, 1) := dk_42 (dk_at dksX4_line_2 15 rfl rfl)
theorem dX4_line_64 : decode cX4_line 64 = .ok (.dup, 1) := dk_89 (dk_at dksX4_line_2 16 rfl rfl)
theorem dX4_line_65 : decode cX4_line 65 = .ok (.getfield 313, 3) := dk_180 1 57 (dk_at dksX4_line_2 17 rfl rfl)
theorem dX4_line_68 : decode cX4_line 68 = .ok (.iconst 1, 1) := dk_4 (dk_at dksX4_line_2 20 rfl rfl)
theorem dX4_line_69 : decode cX4_line 69 = .ok (.iadd, 1) := dk_96 (dk_at dksX4_line_2 21 rfl rfl)
theorem dX4_line_70 : decode cX4_line 70 = .ok (.putfield 313, 3) := dk_181 1 57 (dk_at dksX4_line_3 0 rfl rfl)
theorem dX4_line_73 : decode cX4_line 73 = .ok (.goto 149, 3) := dk_167 0 149 (dk_at dksX4_line_3 3 rfl rfl)
theorem dX4_line_76 : decode cX4_line 76 = .ok (.iload_n 1, 1) := dk_27 (dk_at dksX4_line_3 6 rfl rfl)
theorem dX4_line_77 : decode cX4_line 77 = .ok (.bipush 9, 2) := dk_16 9 (dk_at dksX4_line_3 7 rfl rfl)
theorem dX4_line_79 : decode cX4_line 79 = .ok (.if_icmp .eq 9, 3) := dk_159 0 9 (dk_at dksX4_line_3 9 rfl rfl)
theorem dX4_line_82 : decode cX4_line 82 = .ok (.iload_n 1, 1) := dk_27 (dk_at dksX4_line_3 12 rfl rfl)
theorem dX4_line_83 : decode cX4_line 83 = .ok (.bipush 10, 2) := dk_16 10 (dk_at dksX4_line_3 13 rfl rfl)
theorem dX4_line_85 : decode cX4_line 85 = .ok (.if_icmp .ne 21, 3) := dk_160 0 21 (dk_at dksX4_line_3 15 rfl rfl)
theorem dX4_line_88 : decode cX4_line 88 = .ok (.aload_n 0, 1) := dk_42 (dk_at dksX4_line_3 18 rfl rfl)
theorem dX4_line_89 : decode cX4_line 89 = .ok (.iload_n 1, 1) := dk_27 (dk_at dksX4_line_3 19 rfl rfl)
theorem dX4_line_90 : decode cX4_line 90 = .ok (.bipush 10, 2) := dk_16 10 (dk_at dksX4_line_3 20 rfl rfl)
theorem dX4_line_92 : decode cX4_line 92 = .ok (.if_icmp .ne 7, 3) := dk_160 0 7 (dk_at dksX4_line_4 0 rfl rfl)
theorem dX4_line_95 : decode cX4_line 95 = .ok (.iconst 1, 1) := dk_4 (dk_at dksX4_line_4 3 rfl rfl)
theorem dX4_line_96 : decode cX4_line 96 = .ok (.goto 4, 3) := dk_167 0 4 (dk_at dksX4_line_4 4 rfl rfl)
theorem dX4_line_99 : decode cX4_line 99 = .ok (.iconst 0, 1) := dk_3 (dk_at dksX4_line_4 7 rfl rfl)
theorem dX4_line_100 : decode cX4_line 100 = .ok (.invokevirtual 316, 3) := dk_182 1 60 (dk_at dksX4_line_4 8 rfl rfl)
theorem dX4_line_103 : decode cX4_line 103 = .ok (.goto 119, 3) := dk_167 0 119 (dk_at dksX4_line_4 11 rfl rfl)
theorem dX4_line_106 : decode cX4_line 106 = .ok (.iload_n 1, 1) := dk_27 (dk_at dksX4_line_4 14 rfl rfl)
theorem dX4_line_107 : decode cX4_line 107 = .ok (.bipush 11, 2) := dk_16 11 (dk_at dksX4_line_4 15 rfl rfl)
theorem dX4_line_109 : decode cX4_line 109 = .ok (.if_icmp .ne 10, 3) := dk_160 0 10 (dk_at dksX4_line_4 17 rfl rfl)
theorem dX4_line_112 : decode cX4_line 112 = .ok (.aload_n 0, 1) := dk_42 (dk_at dksX4_line_4 20 rfl rfl)
theorem dX4_line_113 : decode cX4_line 113 = .ok (.invokevirtual 319, 3) := dk_182 1 63 (dk_at dksX4_line_4 21 rfl rfl)
theorem dX4_line_116 : decode cX4_line 116 = .ok (.goto 106, 3) := dk_167 0 106 (dk_at dksX4_line_5 0 rfl rfl)
theorem dX4_line_119 : decode cX4_line 119 = .ok (.iload_n 1, 1) := dk_27 (dk_at dksX4_line_5 3 rfl rfl)
theorem dX4_line_120 : decode cX4_line 120 = .ok (.bipush 12, 2) := dk_16 12 (dk_at dksX4_line_5 4 rfl rfl)
theorem dX4_line_122 : decode cX4_line 122 = .ok (.if_icmp .ne 10, 3) := dk_160 0 10 (dk_at dksX4_line_5 6 rfl rfl)
theorem dX4_line_125 : decode cX4_line 125 = .ok (.aload_n 0, 1) := dk_42 (dk_at dksX4_line_5 9 rfl rfl)
theorem dX4_line_126 : decode cX4_line 126 = .ok (.invokevirtual 322, 3) := dk_182 1 66 (dk_at dksX4_line_5 10 rfl rfl)
theorem dX4_line_129 : decode cX4_line 129 = .ok (.goto 93, 3) := dk_167 0 93 (dk_at dksX4_line_5 13 rfl rfl)
theorem dX4_line_132 : decode cX4_line 132 = .ok (.iload_n 1, 1) := dk_27 (dk_at dksX4_line_5 16 rfl rfl)
theorem dX4_line_133 : decode cX4_line 133 = .ok (.iconst 4, 1) := dk_7 (dk_at dksX4_line_5 17 rfl rfl)
theorem dX4_line_134 : decode cX4_line 134 = .ok (.if_icmp .ne 10, 3) := dk_160 0 10 (dk_at dksX4_line_5 18 rfl rfl)
theorem dX4_line_137 : decode cX4_line 137 = .ok (.aload_n 0, 1) := dk_42 (dk_at dksX4_line_5 21 rfl rfl)
theorem dX4_line_138 : decode cX4_line 138 = .ok (.invokevirtual 325, 3) := dk_182 1 69 (dk_at dksX4_line_6 0 rfl rfl)
theorem dX4_line_141 : decode cX4_line 141 = .ok (.goto 81, 3) := dk_167 0 81 (dk_at dksX4_line_6 3 rfl rfl)
theorem dX4_line_144 : decode cX4_line 144 = .ok (.iload_n 1, 1) := dk_27 (dk_at dksX4_line_6 6 rfl rfl)
theorem dX4_line_145 : decode cX4_line 145 = .ok (.iconst 3, 1) := dk_6 (dk_at dksX4_line_6 7 rfl rfl)
theorem dX4_line_146 : decode cX4_line 146 = .ok (.if_icmp .eq 8, 3) := dk_159 0 8 (dk_at dksX4_line_6 8 rfl rfl)
theorem dX4_line_149 : decode cX4_line 149 = .ok (.iload_n 1, 1) := dk_27 (dk_at dksX4_line_6 11 rfl rfl)
theorem dX4_line_150 : decode cX4_line 150 = .ok (.iconst 2, 1) := dk_5 (dk_at dksX4_line_6 12 rfl rfl)
theorem dX4_line_151 : decode cX4_line 151 = .ok (.if_icmp .ne 20, 3) := dk_160 0 20 (dk_at dksX4_line_6 13 rfl rfl)
theorem dX4_line_154 : decode cX4_line 154 = .ok (.aload_n 0, 1) := dk_42 (dk_at dksX4_line_6 16 rfl rfl)
theorem dX4_line_155 : decode cX4_line 155 = .ok (.iload_n 1, 1) := dk_27 (dk_at dksX4_line_6 17 rfl rfl)
theorem dX4_line_156 : decode cX4_line 156 = .ok (.iconst 3, 1) := dk_6 (dk_at dksX4_line_6 18 rfl rfl)
theorem dX4_line_157 : decode cX4_line 157 = .ok (.if_icmp .ne 7, 3) := dk_160 0 7 (dk_at dksX4_line_6 19 rfl rfl)
theorem dX4_line_160 : decode cX4_line 160 = .ok (.iconst 1, 1) := dk_4 (dk_at dksX4_line_6 22 rfl rfl)
theorem dX4_line_161 : decode cX4_line 161 = .ok (.goto 4, 3) := dk_167 0 4 (dk_at dksX4_line_7 0 rfl rfl)
theorem dX4_line_164 : decode cX4_line 164 = .ok (.iconst 0, 1) := dk_3 (dk_at dksX4_line_7 3 rfl rfl)
theorem dX4_line_165 : decode cX4_line 165 = .ok (.invokevirtual 328, 3) := dk_182 1 72 (dk_at dksX4_line_7 4 rfl rfl)
theorem dX4_line_168 : decode cX4_line 168 = .ok (.goto 54, 3) := dk_167 0 54 (dk_at dksX4_line_7 7 rfl rfl)
theorem dX4_line_171 : decode cX4_line 171 = .ok (.iload_n 1, 1) := dk_27 (dk_at dksX4_line_7 10 rfl rfl)
theorem dX4_line_172 : decode cX4_line 172 = .ok (.bipush 13, 2) := dk_16 13 (dk_at dksX4_line_7 11 rfl rfl)
theorem dX4_line_174 : decode cX4_line 174 = .ok (.if_icmp .ne 43, 3) := dk_160 0 43 (dk_at dksX4_line_7 13 rfl rfl)
theorem dX4_line_177 : decode cX4_line 177 = .ok (.aload_n 0, 1) := dk_42 (dk_at dksX4_line_7 16 rfl rfl)
theorem dX4_line_178 : decode cX4_line 178 = .ok (.getfield 331, 3) := dk_180 1 75 (dk_at dksX4_line_7 17 rfl rfl)
theorem dX4_line_181 : decode cX4_line 181 = .ok (.iconst (-1), 1) := dk_2 (dk_at dksX4_line_7 20 rfl rfl)
theorem dX4_line_182 : decode cX4_line 182 = .ok (.if_icmp .eq 8, 3) := dk_159 0 8 (dk_at dksX4_line_7 21 rfl rfl)
theorem dX4_line_185 : decode cX4_line 185 = .ok (.aload_n 0, 1) := dk_42 (dk_at dksX4_line_8 0 rfl rfl)
theorem dX4_line_186 : decode cX4_line 186 = .ok (.iconst 5, 1) := dk_8 (dk_at dksX4_line_8 1 rfl rfl)
theorem dX4_line_187 : decode cX4_line 187 = .ok (.invokevirtual 234, 3) := dk_182 0 234 (dk_at dksX4_line_8 2 rfl rfl)
theorem dX4_line_190 : decode cX4_line 190 = .ok (.aload_n 0, 1) := dk_42 (dk_at dksX4_line_8 5 rfl rfl)
theorem dX4_line_191 : decode cX4_line 191 = .ok (.invokevirtual 227, 3) := dk_182 0 227 (dk_at dksX4_line_8 6 rfl rfl)
theorem dX4_line_194 : decode cX4_line 194 = .ok (.ifCond .ne 4, 3) := dk_154 0 4 (dk_at dksX4_line_8 9 rfl rfl)
theorem dX4_line_197 : decode cX4_line 197 = .ok (.return_, 1) := dk_177 (dk_at dksX4_line_8 12 rfl rfl)
theorem dX4_line_198 : decode cX4_line 198 = .ok (.aload_n 0, 1) := dk_42 (dk_at dksX4_line_8 13 rfl rfl)
theorem dX4_line_199 : decode cX4_line 199 = .ok (.invokevirtual 231, 3) := dk_182 0 231 (dk_at dksX4_line_8 14 rfl rfl)
theorem dX4_line_202 : decode cX4_line 202 = .ok (.aload_n 0, 1) := dk_42 (dk_at dksX4_line_8 17 rfl rfl)
theorem dX4_line_203 : decode cX4_line 203 = .ok (.aload_n 0, 1) := dk_42 (dk_at dksX4_line_8 18 rfl rfl)
theorem dX4_line_204 : decode cX4_line 204 = .ok (.getfield 240, 3) := dk_180 0 240 (dk_at dksX4_line_8 19 rfl rfl)
theorem dX4_line_207 : decode cX4_line 207 = .ok (.putfield 331, 3) := dk_181 1 75 (dk_at dksX4_line_9 0 rfl rfl)
theorem dX4_line_210 : decode cX4_line 210 = .ok (.aload_n 0, 1) := dk_42 (dk_at dksX4_line_9 3 rfl rfl)
theorem dX4_line_211 : decode cX4_line 211 = .ok (.invokevirtual 334, 3) := dk_182 1 78 (dk_at dksX4_line_9 4 rfl rfl)
theorem dX4_line_214 : decode cX4_line 214 = .ok (.goto 8, 3) := dk_167 0 8 (dk_at dksX4_line_9 7 rfl rfl)
theorem dX4_line_217 : decode cX4_line 217 = .ok (.aload_n 0, 1) := dk_42 (dk_at dksX4_line_9 10 rfl rfl)
theorem dX4_line_218 : decode cX4_line 218 = .ok (.iconst 1, 1) := dk_4 (dk_at dksX4_line_9 11 rfl rfl)
theorem dX4_line_219 : decode cX4_line 219 = .ok (.invokevirtual 234, 3) := dk_182 0 234 (dk_at dksX4_line_9 12 rfl rfl)
theorem dX4_line_222 : decode cX4_line 222 = .ok (.aload_n 0, 1) := dk_42 (dk_at dksX4_line_9 15 rfl rfl)
theorem dX4_line_223 : decode cX4_line 223 = .ok (.aload_n 0, 1) := dk_42 (dk_at dksX4_line_9 16 rfl rfl)
theorem dX4_line_224 : decode cX4_line 224 = .ok (.bipush 59, 2) := dk_16 59 (dk_at dksX4_line_9 17 rfl rfl)
theorem dX4_line_226 : decode cX4_line 226 = .ok (.invokevirtual 262, 3) := dk_182 1 6 (dk_at dksX4_line_9 19 rfl rfl)
theorem dX4_line_229 : decode cX4_line 229 = .ok (.invokevirtual 337, 3) := dk_182 1 81 (dk_at dksX4_line_10 0 rfl rfl)
theorem dX4_line_232 : decode cX4_line 232 = .ok (.return_, 1) := dk_177 (dk_at dksX4_line_10 3 rfl rfl)
abbrev cX4_knownWord : ByteArray := prog_13_method_16_code
def yX4_knownWord : MethodName := ⟨RX4, "knownWord", "()I"⟩
def dkwX4_knownWord_2 : List UInt8 := [172]
abbrev dktX4_knownWord_2 : List UInt8 := dkwX4_knownWord_2 ++ []
def dkwX4_knownWord_1 : List UInt8 := [162, 0, 23, 27, 184, 0, 220, 42, 180, 0, 191, 148, 154, 0, 5, 27, 172, 132, 1, 1, 167, 255, 233, 2]
abbrev dktX4_knownWord_1 : List UInt8 := dkwX4_knownWord_1 ++ dktX4_knownWord_2
def dkwX4_knownWord_0 : List UInt8 := [42, 180, 0, 201, 4, 160, 0, 12, 42, 180, 0, 211, 16, 6, 164, 0, 5, 2, 172, 3, 60, 27, 16, 17]
abbrev dktX4_knownWord_0 : List UInt8 := dkwX4_knownWord_0 ++ dktX4_knownWord_1
theorem dksX4_knownWord_0 : cX4_knownWord.data.toList.drop 0 = dktX4_knownWord_0 := by decide +kernel
theorem dksX4_knownWord_1 : cX4_knownWord.data.toList.drop 24 = dktX4_knownWord_1 := dk_seg dksX4_knownWord_0 24 rfl rfl
theorem dksX4_knownWord_2 : cX4_knownWord.data.toList.drop 48 = dktX4_knownWord_2 := dk_seg dksX4_knownWord_1 24 rfl rfl
theorem dX4_knownWord_0 : decode cX4_knownWord 0 = .ok (.aload_n 0, 1) := dk_42 (dk_at dksX4_knownWord_0 0 rfl rfl)
theorem dX4_knownWord_1 : decode cX4_knownWord 1 = .ok (.getfield 201, 3) := dk_180 0 201 (dk_at dksX4_knownWord_0 1 rfl rfl)
theorem dX4_knownWord_4 : decode cX4_knownWord 4 = .ok (.iconst 1, 1) := dk_4 (dk_at dksX4_knownWord_0 4 rfl rfl)
theorem dX4_knownWord_5 : decode cX4_knownWord 5 = .ok (.if_icmp .ne 12, 3) := dk_160 0 12 (dk_at dksX4_knownWord_0 5 rfl rfl)
theorem dX4_knownWord_8 : decode cX4_knownWord 8 = .ok (.aload_n 0, 1) := dk_42 (dk_at dksX4_knownWord_0 8 rfl rfl)
theorem dX4_knownWord_9 : decode cX4_knownWord 9 = .ok (.getfield 211, 3) := dk_180 0 211 (dk_at dksX4_knownWord_0 9 rfl rfl)
theorem dX4_knownWord_12 : decode cX4_knownWord 12 = .ok (.bipush 6, 2) := dk_16 6 (dk_at dksX4_knownWord_0 12 rfl rfl)
theorem dX4_knownWord_14 : decode cX4_knownWord 14 = .ok (.if_icmp .le 5, 3) := dk_164 0 5 (dk_at dksX4_knownWord_0 14 rfl rfl)
theorem dX4_knownWord_17 : decode cX4_knownWord 17 = .ok (.iconst (-1), 1) := dk_2 (dk_at dksX4_knownWord_0 17 rfl rfl)
theorem dX4_knownWord_18 : decode cX4_knownWord 18 = .ok (.ireturn, 1) := dk_172 (dk_at dksX4_knownWord_0 18 rfl rfl)
theorem dX4_knownWord_19 : decode cX4_knownWord 19 = .ok (.iconst 0, 1) := dk_3 (dk_at dksX4_knownWord_0 19 rfl rfl)
theorem dX4_knownWord_20 : decode cX4_knownWord 20 = .ok (.istore_n 1, 1) := dk_60 (dk_at dksX4_knownWord_0 20 rfl rfl)
theorem dX4_knownWord_21 : decode cX4_knownWord 21 = .ok (.iload_n 1, 1) := dk_27 (dk_at dksX4_knownWord_0 21 rfl rfl)
theorem dX4_knownWord_22 : decode cX4_knownWord 22 = .ok (.bipush 17, 2) := dk_16 17 (dk_at dksX4_knownWord_0 22 rfl rfl)
theorem dX4_knownWord_24 : decode cX4_knownWord 24 = .ok (.if_icmp .ge 23, 3) := dk_162 0 23 (dk_at dksX4_knownWord_1 0 rfl rfl)
theorem dX4_knownWord_27 : decode cX4_knownWord 27 = .ok (.iload_n 1, 1) := dk_27 (dk_at dksX4_knownWord_1 3 rfl rfl)
theorem dX4_knownWord_28 : decode cX4_knownWord 28 = .ok (.invokestatic 220, 3) := dk_184 0 220 (dk_at dksX4_knownWord_1 4 rfl rfl)
theorem dX4_knownWord_31 : decode cX4_knownWord 31 = .ok (.aload_n 0, 1) := dk_42 (dk_at dksX4_knownWord_1 7 rfl rfl)
theorem dX4_knownWord_32 : decode cX4_knownWord 32 = .ok (.getfield 191, 3) := dk_180 0 191 (dk_at dksX4_knownWord_1 8 rfl rfl)
theorem dX4_knownWord_35 : decode cX4_knownWord 35 = .ok (.lcmp, 1) := dk_148 (dk_at dksX4_knownWord_1 11 rfl rfl)
theorem dX4_knownWord_36 : decode cX4_knownWord 36 = .ok (.ifCond .ne 5, 3) := dk_154 0 5 (dk_at dksX4_knownWord_1 12 rfl rfl)
theorem dX4_knownWord_39 : decode cX4_knownWord 39 = .ok (.iload_n 1, 1) := dk_27 (dk_at dksX4_knownWord_1 15 rfl rfl)
theorem dX4_knownWord_40 : decode cX4_knownWord 40 = .ok (.ireturn, 1) := dk_172 (dk_at dksX4_knownWord_1 16 rfl rfl)
theorem dX4_knownWord_41 : decode cX4_knownWord 41 = .ok (.iinc 1 1, 3) := dk_132 1 1 (dk_at dksX4_knownWord_1 17 rfl rfl)
theorem dX4_knownWord_44 : decode cX4_knownWord 44 = .ok (.goto (-23), 3) := dk_167 255 233 (dk_at dksX4_knownWord_1 20 rfl rfl)
theorem dX4_knownWord_47 : decode cX4_knownWord 47 = .ok (.iconst (-1), 1) := dk_2 (dk_at dksX4_knownWord_1 23 rfl rfl)
theorem dX4_knownWord_48 : decode cX4_knownWord 48 = .ok (.ireturn, 1) := dk_172 (dk_at dksX4_knownWord_2 0 rfl rfl)
abbrev cX4_letters : ByteArray := prog_13_method_15_code
def yX4_letters : MethodName := ⟨RX4, "letters", "(I)J"⟩
def dkwX4_letters_12 : List UInt8 := [3, 184, 0, 216, 173]
abbrev dktX4_letters_12 : List UInt8 := dkwX4_letters_12 ++ []
def dkwX4_letters_11 : List UInt8 := [184, 0, 216, 173, 16, 111, 16, 114, 3, 3, 3, 3, 184, 0, 216, 173, 16, 110, 16, 111, 16, 116, 3, 3]
abbrev dktX4_letters_11 : List UInt8 := dkwX4_letters_11 ++ dktX4_letters_12
def dkwX4_letters_10 : List UInt8 := [16, 114, 16, 105, 16, 116, 16, 101, 16, 115, 184, 0, 216, 173, 16, 97, 16, 110, 16, 100, 3, 3, 3]
abbrev dktX4_letters_10 : List UInt8 := dkwX4_letters_10 ++ dktX4_letters_11
def dkwX4_letters_9 : List UInt8 := [3, 3, 184, 0, 216, 173, 16, 112, 16, 101, 16, 114, 16, 115, 16, 111, 16, 110, 184, 0, 216, 173, 16, 119]
abbrev dktX4_letters_9 : List UInt8 := dkwX4_letters_9 ++ dktX4_letters_10
def dkwX4_letters_8 : List UInt8 := [184, 0, 216, 173, 16, 115, 16, 101, 16, 97, 3, 3, 3, 184, 0, 216, 173, 16, 119, 16, 97, 16, 121, 3]
abbrev dktX4_letters_8 : List UInt8 := dkwX4_letters_8 ++ dktX4_letters_9
def dkwX4_letters_7 : List UInt8 := [16, 115, 16, 116, 16, 101, 16, 114, 184, 0, 216, 173, 16, 112, 16, 108, 16, 97, 16, 99, 16, 101, 3]
abbrev dktX4_letters_7 : List UInt8 := dkwX4_letters_7 ++ dktX4_letters_8
def dkwX4_letters_6 : List UInt8 := [3, 184, 0, 216, 173, 16, 115, 16, 97, 16, 108, 16, 101, 16, 115, 3, 184, 0, 216, 173, 16, 109, 16, 97]
abbrev dktX4_letters_6 : List UInt8 := dkwX4_letters_6 ++ dktX4_letters_7
def dkwX4_letters_5 : List UInt8 := [16, 108, 16, 105, 16, 115, 16, 116, 16, 101, 16, 100, 184, 0, 216, 173, 16, 100, 16, 97, 16, 121, 3, 3]
abbrev dktX4_letters_5 : List UInt8 := dkwX4_letters_5 ++ dktX4_letters_6
def dkwX4_letters_4 : List UInt8 := [16, 101, 16, 110, 16, 100, 184, 0, 216, 173, 16, 107, 16, 105, 16, 110, 3, 3, 3, 184, 0, 216, 173]
abbrev dktX4_letters_4 : List UInt8 := dkwX4_letters_4 ++ dktX4_letters_5
def dkwX4_letters_3 : List UInt8 := [3, 184, 0, 216, 173, 16, 102, 16, 111, 16, 101, 3, 3, 3, 184, 0, 216, 173, 16, 102, 16, 114, 16, 105]
abbrev dktX4_letters_3 : List UInt8 := dkwX4_letters_3 ++ dktX4_letters_4
def dkwX4_letters_2 : List UInt8 := [16, 103, 16, 111, 16, 111, 16, 100, 16, 115, 3, 184, 0, 216, 173, 16, 100, 16, 101, 16, 98, 16, 116, 3]
abbrev dktX4_letters_2 : List UInt8 := dkwX4_letters_2 ++ dktX4_letters_3
def dkwX4_letters_1 : List UInt8 := [170, 0, 0, 0, 0, 1, 52, 0, 0, 0, 0, 0, 0, 0, 15, 0, 0, 0, 79, 0, 0, 0, 94, 0, 0, 0, 108, 0, 0, 0, 121, 0, 0, 0, 137, 0, 0, 0, 150, 0, 0, 0, 166, 0, 0, 0, 179, 0, 0, 0, 194, 0, 0, 0, 210, 0, 0, 0, 225, 0, 0, 0, 238, 0, 0, 0, 251, 0, 0, 1, 11, 0, 0, 1, 27, 0, 0, 1, 40]
abbrev dktX4_letters_1 : List UInt8 := dkwX4_letters_1 ++ dktX4_letters_2
def dkwX4_letters_0 : List UInt8 := [26]
abbrev dktX4_letters_0 : List UInt8 := dkwX4_letters_0 ++ dktX4_letters_1
theorem dksX4_letters_0 : cX4_letters.data.toList.drop 0 = dktX4_letters_0 := by decide +kernel
theorem dksX4_letters_1 : cX4_letters.data.toList.drop 1 = dktX4_letters_1 := dk_seg dksX4_letters_0 1 rfl rfl
theorem dksX4_letters_2 : cX4_letters.data.toList.drop 80 = dktX4_letters_2 := dk_seg dksX4_letters_1 79 rfl rfl
theorem dksX4_letters_3 : cX4_letters.data.toList.drop 104 = dktX4_letters_3 := dk_seg dksX4_letters_2 24 rfl rfl
theorem dksX4_letters_4 : cX4_letters.data.toList.drop 128 = dktX4_letters_4 := dk_seg dksX4_letters_3 24 rfl rfl
theorem dksX4_letters_5 : cX4_letters.data.toList.drop 151 = dktX4_letters_5 := dk_seg dksX4_letters_4 23 rfl rfl
theorem dksX4_letters_6 : cX4_letters.data.toList.drop 175 = dktX4_letters_6 := dk_seg dksX4_letters_5 24 rfl rfl
theorem dksX4_letters_7 : cX4_letters.data.toList.drop 199 = dktX4_letters_7 := dk_seg dksX4_letters_6 24 rfl rfl
theorem dksX4_letters_8 : cX4_letters.data.toList.drop 222 = dktX4_letters_8 := dk_seg dksX4_letters_7 23 rfl rfl
theorem dksX4_letters_9 : cX4_letters.data.toList.drop 246 = dktX4_letters_9 := dk_seg dksX4_letters_8 24 rfl rfl
theorem dksX4_letters_10 : cX4_letters.data.toList.drop 270 = dktX4_letters_10 := dk_seg dksX4_letters_9 24 rfl rfl
theorem dksX4_letters_11 : cX4_letters.data.toList.drop 293 = dktX4_letters_11 := dk_seg dksX4_letters_10 23 rfl rfl
theorem dksX4_letters_12 : cX4_letters.data.toList.drop 317 = dktX4_letters_12 := dk_seg dksX4_letters_11 24 rfl rfl
theorem dX4_letters_0 : decode cX4_letters 0 = .ok (.iload_n 0, 1) := dk_26 (dk_at dksX4_letters_0 0 rfl rfl)
theorem dX4_letters_1 : decode cX4_letters 1 = .ok (.tableswitch 308 0 15 #[79, 94, 108, 121, 137, 150, 166, 179, 194, 210, 225, 238, 251, 267, 283, 296], 79) := by decide +kernel
theorem dX4_letters_80 : decode cX4_letters 80 = .ok (.bipush 103, 2) := dk_16 103 (dk_at dksX4_letters_2 0 rfl rfl)
theorem dX4_letters_82 : decode cX4_letters 82 = .ok (.bipush 111, 2) := dk_16 111 (dk_at dksX4_letters_2 2 rfl rfl)
theorem dX4_letters_84 : decode cX4_letters 84 = .ok (.bipush 111, 2) := dk_16 111 (dk_at dksX4_letters_2 4 rfl rfl)
theorem dX4_letters_86 : decode cX4_letters 86 = .ok (.bipush 100, 2) := dk_16 100 (dk_at dksX4_letters_2 6 rfl rfl)
theorem dX4_letters_88 : decode cX4_letters 88 = .ok (.bipush 115, 2) := dk_16 115 (dk_at dksX4_letters_2 8 rfl rfl)
theorem dX4_letters_90 : decode cX4_letters 90 = .ok (.iconst 0, 1) := dk_3 (dk_at dksX4_letters_2 10 rfl rfl)
theorem dX4_letters_91 : decode cX4_letters 91 = .ok (.invokestatic 216, 3) := dk_184 0 216 (dk_at dksX4_letters_2 11 rfl rfl)
theorem dX4_letters_94 : decode cX4_letters 94 = .ok (.lreturn, 1) := dk_173 (dk_at dksX4_letters_2 14 rfl rfl)
theorem dX4_letters_95 : decode cX4_letters 95 = .ok (.bipush 100, 2) := dk_16 100 (dk_at dksX4_letters_2 15 rfl rfl)
theorem dX4_letters_97 : decode cX4_letters 97 = .ok (.bipush 101, 2) := dk_16 101 (dk_at dksX4_letters_2 17 rfl rfl)
theorem dX4_letters_99 : decode cX4_letters 99 = .ok (.bipush 98, 2) := dk_16 98 (dk_at dksX4_letters_2 19 rfl rfl)
theorem dX4_letters_101 : decode cX4_letters 101 = .ok (.bipush 116, 2) := dk_16 116 (dk_at dksX4_letters_2 21 rfl rfl)
theorem dX4_letters_103 : decode cX4_letters 103 = .ok (.iconst 0, 1) := dk_3 (dk_at dksX4_letters_2 23 rfl rfl)
theorem dX4_letters_104 : decode cX4_letters 104 = .ok (.iconst 0, 1) := dk_3 (dk_at dksX4_letters_3 0 rfl rfl)
theorem dX4_letters_105 : decode cX4_letters 105 = .ok (.invokestatic 216, 3) := dk_184 0 216 (dk_at dksX4_letters_3 1 rfl rfl)
theorem dX4_letters_108 : decode cX4_letters 108 = .ok (.lreturn, 1) := dk_173 (dk_at dksX4_letters_3 4 rfl rfl)
theorem dX4_letters_109 : decode cX4_letters 109 = .ok (.bipush 102, 2) := dk_16 102 (dk_at dksX4_letters_3 5 rfl rfl)
theorem dX4_letters_111 : decode cX4_letters 111 = .ok (.bipush 111, 2) := dk_16 111 (dk_at dksX4_letters_3 7 rfl rfl)
theorem dX4_letters_113 : decode cX4_letters 113 = .ok (.bipush 101, 2) := dk_16 101 (dk_at dksX4_letters_3 9 rfl rfl)
theorem dX4_letters_115 : decode cX4_letters 115 = .ok (.iconst 0, 1) := dk_3 (dk_at dksX4_letters_3 11 rfl rfl)
theorem dX4_letters_116 : decode cX4_letters 116 = .ok (.iconst 0, 1) := dk_3 (dk_at dksX4_letters_3 12 rfl rfl)
theorem dX4_letters_117 : decode cX4_letters 117 = .ok (.iconst 0, 1) := dk_3 (dk_at dksX4_letters_3 13 rfl rfl)
theorem dX4_letters_118 : decode cX4_letters 118 = .ok (.invokestatic 216, 3) := dk_184 0 216 (dk_at dksX4_letters_3 14 rfl rfl)
theorem dX4_letters_121 : decode cX4_letters 121 = .ok (.lreturn, 1) := dk_173 (dk_at dksX4_letters_3 17 rfl rfl)
theorem dX4_letters_122 : decode cX4_letters 122 = .ok (.bipush 102, 2) := dk_16 102 (dk_at dksX4_letters_3 18 rfl rfl)
theorem dX4_letters_124 : decode cX4_letters 124 = .ok (.bipush 114, 2) := dk_16 114 (dk_at dksX4_letters_3 20 rfl rfl)
theorem dX4_letters_126 : decode cX4_letters 126 = .ok (.bipush 105, 2) := dk_16 105 (dk_at dksX4_letters_3 22 rfl rfl)
theorem dX4_letters_128 : decode cX4_letters 128 = .ok (.bipush 101, 2) := dk_16 101 (dk_at dksX4_letters_4 0 rfl rfl)
theorem dX4_letters_130 : decode cX4_letters 130 = .ok (.bipush 110, 2) := dk_16 110 (dk_at dksX4_letters_4 2 rfl rfl)
theorem dX4_letters_132 : decode cX4_letters 132 = .ok (.bipush 100, 2) := dk_16 100 (dk_at dksX4_letters_4 4 rfl rfl)
theorem dX4_letters_134 : decode cX4_letters 134 = .ok (.invokestatic 216, 3) := dk_184 0 216 (dk_at dksX4_letters_4 6 rfl rfl)
theorem dX4_letters_137 : decode cX4_letters 137 = .ok (.lreturn, 1) := dk_173 (dk_at dksX4_letters_4 9 rfl rfl)
theorem dX4_letters_138 : decode cX4_letters 138 = .ok (.bipush 107, 2) := dk_16 107 (dk_at dksX4_letters_4 10 rfl rfl)
theorem dX4_letters_140 : decode cX4_letters 140 = .ok (.bipush 105, 2) := dk_16 105 (dk_at dksX4_letters_4 12 rfl rfl)
theorem dX4_letters_142 : decode cX4_letters 142 = .ok (.bipush 110, 2) := dk_16 110 (dk_at dksX4_letters_4 14 rfl rfl)
theorem dX4_letters_144 : decode cX4_letters 144 = .ok (.iconst 0, 1) := dk_3 (dk_at dksX4_letters_4 16 rfl rfl)
theorem dX4_letters_145 : decode cX4_letters 145 = .ok (.iconst 0, 1) := dk_3 (dk_at dksX4_letters_4 17 rfl rfl)
theorem dX4_letters_146 : decode cX4_letters 146 = .ok (.iconst 0, 1) := dk_3 (dk_at dksX4_letters_4 18 rfl rfl)
theorem dX4_letters_147 : decode cX4_letters 147 = .ok (.invokestatic 216, 3) := dk_184 0 216 (dk_at dksX4_letters_4 19 rfl rfl)
theorem dX4_letters_150 : decode cX4_letters 150 = .ok (.lreturn, 1) := dk_173 (dk_at dksX4_letters_4 22 rfl rfl)
theorem dX4_letters_151 : decode cX4_letters 151 = .ok (.bipush 108, 2) := dk_16 108 (dk_at dksX4_letters_5 0 rfl rfl)
theorem dX4_letters_153 : decode cX4_letters 153 = .ok (.bipush 105, 2) := dk_16 105 (dk_at dksX4_letters_5 2 rfl rfl)
theorem dX4_letters_155 : decode cX4_letters 155 = .ok (.bipush 115, 2) := dk_16 115 (dk_at dksX4_letters_5 4 rfl rfl)
theorem dX4_letters_157 : decode cX4_letters 157 = .ok (.bipush 116, 2) := dk_16 116 (dk_at dksX4_letters_5 6 rfl rfl)
theorem dX4_letters_159 : decode cX4_letters 159 = .ok (.bipush 101, 2) := dk_16 101 (dk_at dksX4_letters_5 8 rfl rfl)
theorem dX4_letters_161 : decode cX4_letters 161 = .ok (.bipush 100, 2) := dk_16 100 (dk_at dksX4_letters_5 10 rfl rfl)
theorem dX4_letters_163 : decode cX4_letters 163 = .ok (.invokestatic 216, 3) := dk_184 0 216 (dk_at dksX4_letters_5 12 rfl rfl)
theorem dX4_letters_166 : decode cX4_letters 166 = .ok (.lreturn, 1) := dk_173 (dk_at dksX4_letters_5 15 rfl rfl)
theorem dX4_letters_167 : decode cX4_letters 167 = .ok (.bipush 100, 2) := dk_16 100 (dk_at dksX4_letters_5 16 rfl rfl)
theorem dX4_letters_169 : decode cX4_letters 169 = .ok (.bipush 97, 2) := dk_16 97 (dk_at dksX4_letters_5 18 rfl rfl)
theorem dX4_letters_171 : decode cX4_letters 171 = .ok (.bipush 121, 2) := dk_16 121 (dk_at dksX4_letters_5 20 rfl rfl)
theorem dX4_letters_173 : decode cX4_letters 173 = .ok (.iconst 0, 1) := dk_3 (dk_at dksX4_letters_5 22 rfl rfl)
theorem dX4_letters_174 : decode cX4_letters 174 = .ok (.iconst 0, 1) := dk_3 (dk_at dksX4_letters_5 23 rfl rfl)
theorem dX4_letters_175 : decode cX4_letters 175 = .ok (.iconst 0, 1) := dk_3 (dk_at dksX4_letters_6 0 rfl rfl)
theorem dX4_letters_176 : decode cX4_letters 176 = .ok (.invokestatic 216, 3) := dk_184 0 216 (dk_at dksX4_letters_6 1 rfl rfl)
theorem dX4_letters_179 : decode cX4_letters 179 = .ok (.lreturn, 1) := dk_173 (dk_at dksX4_letters_6 4 rfl rfl)
theorem dX4_letters_180 : decode cX4_letters 180 = .ok (.bipush 115, 2) := dk_16 115 (dk_at dksX4_letters_6 5 rfl rfl)
theorem dX4_letters_182 : decode cX4_letters 182 = .ok (.bipush 97, 2) := dk_16 97 (dk_at dksX4_letters_6 7 rfl rfl)
theorem dX4_letters_184 : decode cX4_letters 184 = .ok (.bipush 108, 2) := dk_16 108 (dk_at dksX4_letters_6 9 rfl rfl)
theorem dX4_letters_186 : decode cX4_letters 186 = .ok (.bipush 101, 2) := dk_16 101 (dk_at dksX4_letters_6 11 rfl rfl)
theorem dX4_letters_188 : decode cX4_letters 188 = .ok (.bipush 115, 2) := dk_16 115 (dk_at dksX4_letters_6 13 rfl rfl)
theorem dX4_letters_190 : decode cX4_letters 190 = .ok (.iconst 0, 1) := dk_3 (dk_at dksX4_letters_6 15 rfl rfl)
theorem dX4_letters_191 : decode cX4_letters 191 = .ok (.invokestatic 216, 3) := dk_184 0 216 (dk_at dksX4_letters_6 16 rfl rfl)
theorem dX4_letters_194 : decode cX4_letters 194 = .ok (.lreturn, 1) := dk_173 (dk_at dksX4_letters_6 19 rfl rfl)
theorem dX4_letters_195 : decode cX4_letters 195 = .ok (.bipush 109, 2) := dk_16 109 (dk_at dksX4_letters_6 20 rfl rfl)
theorem dX4_letters_197 : decode cX4_letters 197 = .ok (.bipush 97, 2) := dk_16 97 (dk_at dksX4_letters_6 22 rfl rfl)
theorem dX4_letters_199 : decode cX4_letters 199 = .ok (.bipush 115, 2) := dk_16 115 (dk_at dksX4_letters_7 0 rfl rfl)
theorem dX4_letters_201 : decode cX4_letters 201 = .ok (.bipush 116, 2) := dk_16 116 (dk_at dksX4_letters_7 2 rfl rfl)
theorem dX4_letters_203 : decode cX4_letters 203 = .ok (.bipush 101, 2) := dk_16 101 (dk_at dksX4_letters_7 4 rfl rfl)
theorem dX4_letters_205 : decode cX4_letters 205 = .ok (.bipush 114, 2) := dk_16 114 (dk_at dksX4_letters_7 6 rfl rfl)
theorem dX4_letters_207 : decode cX4_letters 207 = .ok (.invokestatic 216, 3) := dk_184 0 216 (dk_at dksX4_letters_7 8 rfl rfl)
theorem dX4_letters_210 : decode cX4_letters 210 = .ok (.lreturn, 1) := dk_173 (dk_at dksX4_letters_7 11 rfl rfl)
theorem dX4_letters_211 : decode cX4_letters 211 = .ok (.bipush 112, 2) := dk_16 112 (dk_at dksX4_letters_7 12 rfl rfl)
theorem dX4_letters_213 : decode cX4_letters 213 = .ok (.bipush 108, 2) := dk_16 108 (dk_at dksX4_letters_7 14 rfl rfl)
theorem dX4_letters_215 : decode cX4_letters 215 = .ok (.bipush 97, 2) := dk_16 97 (dk_at dksX4_letters_7 16 rfl rfl)
theorem dX4_letters_217 : decode cX4_letters 217 = .ok (.bipush 99, 2) := dk_16 99 (dk_at dksX4_letters_7 18 rfl rfl)
theorem dX4_letters_219 : decode cX4_letters 219 = .ok (.bipush 101, 2) := dk_16 101 (dk_at dksX4_letters_7 20 rfl rfl)
theorem dX4_letters_221 : decode cX4_letters 221 = .ok (.iconst 0, 1) := dk_3 (dk_at dksX4_letters_7 22 rfl rfl)
theorem dX4_letters_222 : decode cX4_letters 222 = .ok (.invokestatic 216, 3) := dk_184 0 216 (dk_at dksX4_letters_8 0 rfl rfl)
theorem dX4_letters_225 : decode cX4_letters 225 = .ok (.lreturn, 1) := dk_173 (dk_at dksX4_letters_8 3 rfl rfl)
theorem dX4_letters_226 : decode cX4_letters 226 = .ok (.bipush 115, 2) := dk_16 115 (dk_at dksX4_letters_8 4 rfl rfl)
theorem dX4_letters_228 : decode cX4_letters 228 = .ok (.bipush 101, 2) := dk_16 101 (dk_at dksX4_letters_8 6 rfl rfl)
theorem dX4_letters_230 : decode cX4_letters 230 = .ok (.bipush 97, 2) := dk_16 97 (dk_at dksX4_letters_8 8 rfl rfl)
theorem dX4_letters_232 : decode cX4_letters 232 = .ok (.iconst 0, 1) := dk_3 (dk_at dksX4_letters_8 10 rfl rfl)
theorem dX4_letters_233 : decode cX4_letters 233 = .ok (.iconst 0, 1) := dk_3 (dk_at dksX4_letters_8 11 rfl rfl)
theorem dX4_letters_234 : decode cX4_letters 234 = .ok (.iconst 0, 1) := dk_3 (dk_at dksX4_letters_8 12 rfl rfl)
theorem dX4_letters_235 : decode cX4_letters 235 = .ok (.invokestatic 216, 3) := dk_184 0 216 (dk_at dksX4_letters_8 13 rfl rfl)
theorem dX4_letters_238 : decode cX4_letters 238 = .ok (.lreturn, 1) := dk_173 (dk_at dksX4_letters_8 16 rfl rfl)
theorem dX4_letters_239 : decode cX4_letters 239 = .ok (.bipush 119, 2) := dk_16 119 (dk_at dksX4_letters_8 17 rfl rfl)
theorem dX4_letters_241 : decode cX4_letters 241 = .ok (.bipush 97, 2) := dk_16 97 (dk_at dksX4_letters_8 19 rfl rfl)
theorem dX4_letters_243 : decode cX4_letters 243 = .ok (.bipush 121, 2) := dk_16 121 (dk_at dksX4_letters_8 21 rfl rfl)
theorem dX4_letters_245 : decode cX4_letters 245 = .ok (.iconst 0, 1) := dk_3 (dk_at dksX4_letters_8 23 rfl rfl)
theorem dX4_letters_246 : decode cX4_letters 246 = .ok (.iconst 0, 1) := dk_3 (dk_at dksX4_letters_9 0 rfl rfl)
theorem dX4_letters_247 : decode cX4_letters 247 = .ok (.iconst 0, 1) := dk_3 (dk_at dksX4_letters_9 1 rfl rfl)
theorem dX4_letters_248 : decode cX4_letters 248 = .ok (.invokestatic 216, 3) := dk_184 0 216 (dk_at dksX4_letters_9 2 rfl rfl)
theorem dX4_letters_251 : decode cX4_letters 251 = .ok (.lreturn, 1) := dk_173 (dk_at dksX4_letters_9 5 rfl rfl)
theorem dX4_letters_252 : decode cX4_letters 252 = .ok (.bipush 112, 2) := dk_16 112 (dk_at dksX4_letters_9 6 rfl rfl)
theorem dX4_letters_254 : decode cX4_letters 254 = .ok (.bipush 101, 2) := dk_16 101 (dk_at dksX4_letters_9 8 rfl rfl)
theorem dX4_letters_256 : decode cX4_letters 256 = .ok (.bipush 114, 2) := dk_16 114 (dk_at dksX4_letters_9 10 rfl rfl)
theorem dX4_letters_258 : decode cX4_letters 258 = .ok (.bipush 115, 2) := dk_16 115 (dk_at dksX4_letters_9 12 rfl rfl)
theorem dX4_letters_260 : decode cX4_letters 260 = .ok (.bipush 111, 2) := dk_16 111 (dk_at dksX4_letters_9 14 rfl rfl)
theorem dX4_letters_262 : decode cX4_letters 262 = .ok (.bipush 110, 2) := dk_16 110 (dk_at dksX4_letters_9 16 rfl rfl)
theorem dX4_letters_264 : decode cX4_letters 264 = .ok (.invokestatic 216, 3) := dk_184 0 216 (dk_at dksX4_letters_9 18 rfl rfl)
theorem dX4_letters_267 : decode cX4_letters 267 = .ok (.lreturn, 1) := dk_173 (dk_at dksX4_letters_9 21 rfl rfl)
theorem dX4_letters_268 : decode cX4_letters 268 = .ok (.bipush 119, 2) := dk_16 119 (dk_at dksX4_letters_9 22 rfl rfl)
theorem dX4_letters_270 : decode cX4_letters 270 = .ok (.bipush 114, 2) := dk_16 114 (dk_at dksX4_letters_10 0 rfl rfl)
theorem dX4_letters_272 : decode cX4_letters 272 = .ok (.bipush 105, 2) := dk_16 105 (dk_at dksX4_letters_10 2 rfl rfl)
theorem dX4_letters_274 : decode cX4_letters 274 = .ok (.bipush 116, 2) := dk_16 116 (dk_at dksX4_letters_10 4 rfl rfl)
theorem dX4_letters_276 : decode cX4_letters 276 = .ok (.bipush 101, 2) := dk_16 101 (dk_at dksX4_letters_10 6 rfl rfl)
theorem dX4_letters_278 : decode cX4_letters 278 = .ok (.bipush 115, 2) := dk_16 115 (dk_at dksX4_letters_10 8 rfl rfl)
theorem dX4_letters_280 : decode cX4_letters 280 = .ok (.invokestatic 216, 3) := dk_184 0 216 (dk_at dksX4_letters_10 10 rfl rfl)
theorem dX4_letters_283 : decode cX4_letters 283 = .ok (.lreturn, 1) := dk_173 (dk_at dksX4_letters_10 13 rfl rfl)
theorem dX4_letters_284 : decode cX4_letters 284 = .ok (.bipush 97, 2) := dk_16 97 (dk_at dksX4_letters_10 14 rfl rfl)
theorem dX4_letters_286 : decode cX4_letters 286 = .ok (.bipush 110, 2) := dk_16 110 (dk_at dksX4_letters_10 16 rfl rfl)
theorem dX4_letters_288 : decode cX4_letters 288 = .ok (.bipush 100, 2) := dk_16 100 (dk_at dksX4_letters_10 18 rfl rfl)
theorem dX4_letters_290 : decode cX4_letters 290 = .ok (.iconst 0, 1) := dk_3 (dk_at dksX4_letters_10 20 rfl rfl)
theorem dX4_letters_291 : decode cX4_letters 291 = .ok (.iconst 0, 1) := dk_3 (dk_at dksX4_letters_10 21 rfl rfl)
theorem dX4_letters_292 : decode cX4_letters 292 = .ok (.iconst 0, 1) := dk_3 (dk_at dksX4_letters_10 22 rfl rfl)
theorem dX4_letters_293 : decode cX4_letters 293 = .ok (.invokestatic 216, 3) := dk_184 0 216 (dk_at dksX4_letters_11 0 rfl rfl)
theorem dX4_letters_296 : decode cX4_letters 296 = .ok (.lreturn, 1) := dk_173 (dk_at dksX4_letters_11 3 rfl rfl)
theorem dX4_letters_297 : decode cX4_letters 297 = .ok (.bipush 111, 2) := dk_16 111 (dk_at dksX4_letters_11 4 rfl rfl)
theorem dX4_letters_299 : decode cX4_letters 299 = .ok (.bipush 114, 2) := dk_16 114 (dk_at dksX4_letters_11 6 rfl rfl)
theorem dX4_letters_301 : decode cX4_letters 301 = .ok (.iconst 0, 1) := dk_3 (dk_at dksX4_letters_11 8 rfl rfl)
theorem dX4_letters_302 : decode cX4_letters 302 = .ok (.iconst 0, 1) := dk_3 (dk_at dksX4_letters_11 9 rfl rfl)
theorem dX4_letters_303 : decode cX4_letters 303 = .ok (.iconst 0, 1) := dk_3 (dk_at dksX4_letters_11 10 rfl rfl)
theorem dX4_letters_304 : decode cX4_letters 304 = .ok (.iconst 0, 1) := dk_3 (dk_at dksX4_letters_11 11 rfl rfl)
theorem dX4_letters_305 : decode cX4_letters 305 = .ok (.invokestatic 216, 3) := dk_184 0 216 (dk_at dksX4_letters_11 12 rfl rfl)
theorem dX4_letters_308 : decode cX4_letters 308 = .ok (.lreturn, 1) := dk_173 (dk_at dksX4_letters_11 15 rfl rfl)
theorem dX4_letters_309 : decode cX4_letters 309 = .ok (.bipush 110, 2) := dk_16 110 (dk_at dksX4_letters_11 16 rfl rfl)
theorem dX4_letters_311 : decode cX4_letters 311 = .ok (.bipush 111, 2) := dk_16 111 (dk_at dksX4_letters_11 18 rfl rfl)
theorem dX4_letters_313 : decode cX4_letters 313 = .ok (.bipush 116, 2) := dk_16 116 (dk_at dksX4_letters_11 20 rfl rfl)
theorem dX4_letters_315 : decode cX4_letters 315 = .ok (.iconst 0, 1) := dk_3 (dk_at dksX4_letters_11 22 rfl rfl)
theorem dX4_letters_316 : decode cX4_letters 316 = .ok (.iconst 0, 1) := dk_3 (dk_at dksX4_letters_11 23 rfl rfl)
theorem dX4_letters_317 : decode cX4_letters 317 = .ok (.iconst 0, 1) := dk_3 (dk_at dksX4_letters_12 0 rfl rfl)
theorem dX4_letters_318 : decode cX4_letters 318 = .ok (.invokestatic 216, 3) := dk_184 0 216 (dk_at dksX4_letters_12 1 rfl rfl)
theorem dX4_letters_321 : decode cX4_letters 321 = .ok (.lreturn, 1) := dk_173 (dk_at dksX4_letters_12 4 rfl rfl)
abbrev cX4_spelled : ByteArray := prog_13_method_14_code
def yX4_spelled : MethodName := ⟨RX4, "spelled", "(IIIIII)J"⟩
def dkwX4_spelled_3 : List UInt8 := [22, 6, 8, 121, 21, 5, 16, 96, 100, 133, 129, 55, 6, 22, 6, 173]
abbrev dktX4_spelled_3 : List UInt8 := dkwX4_spelled_3 ++ []
def dkwX4_spelled_2 : List UInt8 := [21, 4, 153, 0, 16, 22, 6, 8, 121, 21, 4, 16, 96, 100, 133, 129, 55, 6, 21, 5, 153, 0, 16]
abbrev dktX4_spelled_2 : List UInt8 := dkwX4_spelled_2 ++ dktX4_spelled_3
def dkwX4_spelled_1 : List UInt8 := [28, 16, 96, 100, 133, 129, 55, 6, 29, 153, 0, 15, 22, 6, 8, 121, 29, 16, 96, 100, 133, 129, 55, 6]
abbrev dktX4_spelled_1 : List UInt8 := dkwX4_spelled_1 ++ dktX4_spelled_2
def dkwX4_spelled_0 : List UInt8 := [26, 133, 20, 0, 214, 101, 8, 121, 27, 16, 96, 100, 133, 129, 55, 6, 28, 153, 0, 15, 22, 6, 8, 121]
abbrev dktX4_spelled_0 : List UInt8 := dkwX4_spelled_0 ++ dktX4_spelled_1
theorem dksX4_spelled_0 : cX4_spelled.data.toList.drop 0 = dktX4_spelled_0 := by decide +kernel
theorem dksX4_spelled_1 : cX4_spelled.data.toList.drop 24 = dktX4_spelled_1 := dk_seg dksX4_spelled_0 24 rfl rfl
theorem dksX4_spelled_2 : cX4_spelled.data.toList.drop 48 = dktX4_spelled_2 := dk_seg dksX4_spelled_1 24 rfl rfl
theorem dksX4_spelled_3 : cX4_spelled.data.toList.drop 71 = dktX4_spelled_3 := dk_seg dksX4_spelled_2 23 rfl rfl
theorem dX4_spelled_0 : decode cX4_spelled 0 = .ok (.iload_n 0, 1) := dk_26 (dk_at dksX4_spelled_0 0 rfl rfl)
theorem dX4_spelled_1 : decode cX4_spelled 1 = .ok (.i2l, 1) := dk_133 (dk_at dksX4_spelled_0 1 rfl rfl)
theorem dX4_spelled_2 : decode cX4_spelled 2 = .ok (.ldc2_w 214, 3) := dk_20 0 214 (dk_at dksX4_spelled_0 2 rfl rfl)
theorem dX4_spelled_5 : decode cX4_spelled 5 = .ok (.lsub, 1) := dk_101 (dk_at dksX4_spelled_0 5 rfl rfl)
theorem dX4_spelled_6 : decode cX4_spelled 6 = .ok (.iconst 5, 1) := dk_8 (dk_at dksX4_spelled_0 6 rfl rfl)
theorem dX4_spelled_7 : decode cX4_spelled 7 = .ok (.lshl, 1) := dk_121 (dk_at dksX4_spelled_0 7 rfl rfl)
theorem dX4_spelled_8 : decode cX4_spelled 8 = .ok (.iload_n 1, 1) := dk_27 (dk_at dksX4_spelled_0 8 rfl rfl)
theorem dX4_spelled_9 : decode cX4_spelled 9 = .ok (.bipush 96, 2) := dk_16 96 (dk_at dksX4_spelled_0 9 rfl rfl)
theorem dX4_spelled_11 : decode cX4_spelled 11 = .ok (.isub, 1) := dk_100 (dk_at dksX4_spelled_0 11 rfl rfl)
theorem dX4_spelled_12 : decode cX4_spelled 12 = .ok (.i2l, 1) := dk_133 (dk_at dksX4_spelled_0 12 rfl rfl)
theorem dX4_spelled_13 : decode cX4_spelled 13 = .ok (.lor, 1) := dk_129 (dk_at dksX4_spelled_0 13 rfl rfl)
theorem dX4_spelled_14 : decode cX4_spelled 14 = .ok (.lstore 6, 2) := dk_55 6 (dk_at dksX4_spelled_0 14 rfl rfl)
theorem dX4_spelled_16 : decode cX4_spelled 16 = .ok (.iload_n 2, 1) := dk_28 (dk_at dksX4_spelled_0 16 rfl rfl)
theorem dX4_spelled_17 : decode cX4_spelled 17 = .ok (.ifCond .eq 15, 3) := dk_153 0 15 (dk_at dksX4_spelled_0 17 rfl rfl)
theorem dX4_spelled_20 : decode cX4_spelled 20 = .ok (.lload 6, 2) := dk_22 6 (dk_at dksX4_spelled_0 20 rfl rfl)
theorem dX4_spelled_22 : decode cX4_spelled 22 = .ok (.iconst 5, 1) := dk_8 (dk_at dksX4_spelled_0 22 rfl rfl)
theorem dX4_spelled_23 : decode cX4_spelled 23 = .ok (.lshl, 1) := dk_121 (dk_at dksX4_spelled_0 23 rfl rfl)
theorem dX4_spelled_24 : decode cX4_spelled 24 = .ok (.iload_n 2, 1) := dk_28 (dk_at dksX4_spelled_1 0 rfl rfl)
theorem dX4_spelled_25 : decode cX4_spelled 25 = .ok (.bipush 96, 2) := dk_16 96 (dk_at dksX4_spelled_1 1 rfl rfl)
theorem dX4_spelled_27 : decode cX4_spelled 27 = .ok (.isub, 1) := dk_100 (dk_at dksX4_spelled_1 3 rfl rfl)
theorem dX4_spelled_28 : decode cX4_spelled 28 = .ok (.i2l, 1) := dk_133 (dk_at dksX4_spelled_1 4 rfl rfl)
theorem dX4_spelled_29 : decode cX4_spelled 29 = .ok (.lor, 1) := dk_129 (dk_at dksX4_spelled_1 5 rfl rfl)
theorem dX4_spelled_30 : decode cX4_spelled 30 = .ok (.lstore 6, 2) := dk_55 6 (dk_at dksX4_spelled_1 6 rfl rfl)
theorem dX4_spelled_32 : decode cX4_spelled 32 = .ok (.iload_n 3, 1) := dk_29 (dk_at dksX4_spelled_1 8 rfl rfl)
theorem dX4_spelled_33 : decode cX4_spelled 33 = .ok (.ifCond .eq 15, 3) := dk_153 0 15 (dk_at dksX4_spelled_1 9 rfl rfl)
theorem dX4_spelled_36 : decode cX4_spelled 36 = .ok (.lload 6, 2) := dk_22 6 (dk_at dksX4_spelled_1 12 rfl rfl)
theorem dX4_spelled_38 : decode cX4_spelled 38 = .ok (.iconst 5, 1) := dk_8 (dk_at dksX4_spelled_1 14 rfl rfl)
theorem dX4_spelled_39 : decode cX4_spelled 39 = .ok (.lshl, 1) := dk_121 (dk_at dksX4_spelled_1 15 rfl rfl)
theorem dX4_spelled_40 : decode cX4_spelled 40 = .ok (.iload_n 3, 1) := dk_29 (dk_at dksX4_spelled_1 16 rfl rfl)
theorem dX4_spelled_41 : decode cX4_spelled 41 = .ok (.bipush 96, 2) := dk_16 96 (dk_at dksX4_spelled_1 17 rfl rfl)
theorem dX4_spelled_43 : decode cX4_spelled 43 = .ok (.isub, 1) := dk_100 (dk_at dksX4_spelled_1 19 rfl rfl)
theorem dX4_spelled_44 : decode cX4_spelled 44 = .ok (.i2l, 1) := dk_133 (dk_at dksX4_spelled_1 20 rfl rfl)
theorem dX4_spelled_45 : decode cX4_spelled 45 = .ok (.lor, 1) := dk_129 (dk_at dksX4_spelled_1 21 rfl rfl)
theorem dX4_spelled_46 : decode cX4_spelled 46 = .ok (.lstore 6, 2) := dk_55 6 (dk_at dksX4_spelled_1 22 rfl rfl)
theorem dX4_spelled_48 : decode cX4_spelled 48 = .ok (.iload 4, 2) := dk_21 4 (dk_at dksX4_spelled_2 0 rfl rfl)
theorem dX4_spelled_50 : decode cX4_spelled 50 = .ok (.ifCond .eq 16, 3) := dk_153 0 16 (dk_at dksX4_spelled_2 2 rfl rfl)
theorem dX4_spelled_53 : decode cX4_spelled 53 = .ok (.lload 6, 2) := dk_22 6 (dk_at dksX4_spelled_2 5 rfl rfl)
theorem dX4_spelled_55 : decode cX4_spelled 55 = .ok (.iconst 5, 1) := dk_8 (dk_at dksX4_spelled_2 7 rfl rfl)
theorem dX4_spelled_56 : decode cX4_spelled 56 = .ok (.lshl, 1) := dk_121 (dk_at dksX4_spelled_2 8 rfl rfl)
theorem dX4_spelled_57 : decode cX4_spelled 57 = .ok (.iload 4, 2) := dk_21 4 (dk_at dksX4_spelled_2 9 rfl rfl)
theorem dX4_spelled_59 : decode cX4_spelled 59 = .ok (.bipush 96, 2) := dk_16 96 (dk_at dksX4_spelled_2 11 rfl rfl)
theorem dX4_spelled_61 : decode cX4_spelled 61 = .ok (.isub, 1) := dk_100 (dk_at dksX4_spelled_2 13 rfl rfl)
theorem dX4_spelled_62 : decode cX4_spelled 62 = .ok (.i2l, 1) := dk_133 (dk_at dksX4_spelled_2 14 rfl rfl)
theorem dX4_spelled_63 : decode cX4_spelled 63 = .ok (.lor, 1) := dk_129 (dk_at dksX4_spelled_2 15 rfl rfl)
theorem dX4_spelled_64 : decode cX4_spelled 64 = .ok (.lstore 6, 2) := dk_55 6 (dk_at dksX4_spelled_2 16 rfl rfl)
theorem dX4_spelled_66 : decode cX4_spelled 66 = .ok (.iload 5, 2) := dk_21 5 (dk_at dksX4_spelled_2 18 rfl rfl)
theorem dX4_spelled_68 : decode cX4_spelled 68 = .ok (.ifCond .eq 16, 3) := dk_153 0 16 (dk_at dksX4_spelled_2 20 rfl rfl)
theorem dX4_spelled_71 : decode cX4_spelled 71 = .ok (.lload 6, 2) := dk_22 6 (dk_at dksX4_spelled_3 0 rfl rfl)
theorem dX4_spelled_73 : decode cX4_spelled 73 = .ok (.iconst 5, 1) := dk_8 (dk_at dksX4_spelled_3 2 rfl rfl)
theorem dX4_spelled_74 : decode cX4_spelled 74 = .ok (.lshl, 1) := dk_121 (dk_at dksX4_spelled_3 3 rfl rfl)
theorem dX4_spelled_75 : decode cX4_spelled 75 = .ok (.iload 5, 2) := dk_21 5 (dk_at dksX4_spelled_3 4 rfl rfl)
theorem dX4_spelled_77 : decode cX4_spelled 77 = .ok (.bipush 96, 2) := dk_16 96 (dk_at dksX4_spelled_3 6 rfl rfl)
theorem dX4_spelled_79 : decode cX4_spelled 79 = .ok (.isub, 1) := dk_100 (dk_at dksX4_spelled_3 8 rfl rfl)
theorem dX4_spelled_80 : decode cX4_spelled 80 = .ok (.i2l, 1) := dk_133 (dk_at dksX4_spelled_3 9 rfl rfl)
theorem dX4_spelled_81 : decode cX4_spelled 81 = .ok (.lor, 1) := dk_129 (dk_at dksX4_spelled_3 10 rfl rfl)
theorem dX4_spelled_82 : decode cX4_spelled 82 = .ok (.lstore 6, 2) := dk_55 6 (dk_at dksX4_spelled_3 11 rfl rfl)
theorem dX4_spelled_84 : decode cX4_spelled 84 = .ok (.lload 6, 2) := dk_22 6 (dk_at dksX4_spelled_3 13 rfl rfl)
theorem dX4_spelled_86 : decode cX4_spelled 86 = .ok (.lreturn, 1) := dk_173 (dk_at dksX4_spelled_3 15 rfl rfl)
abbrev cX4_wrong : ByteArray := prog_13_method_17_code
def yX4_wrong : MethodName := ⟨RX4, "wrong", "(I)V"⟩
def dkwX4_wrong_0 : List UInt8 := [42, 180, 0, 224, 153, 0, 4, 177, 42, 27, 181, 0, 224, 42, 42, 180, 0, 188, 181, 0, 47, 177]
abbrev dktX4_wrong_0 : List UInt8 := dkwX4_wrong_0 ++ []
theorem dksX4_wrong_0 : cX4_wrong.data.toList.drop 0 = dktX4_wrong_0 := by decide +kernel
theorem dX4_wrong_0 : decode cX4_wrong 0 = .ok (.aload_n 0, 1) := dk_42 (dk_at dksX4_wrong_0 0 rfl rfl)
theorem dX4_wrong_1 : decode cX4_wrong 1 = .ok (.getfield 224, 3) := dk_180 0 224 (dk_at dksX4_wrong_0 1 rfl rfl)
theorem dX4_wrong_4 : decode cX4_wrong 4 = .ok (.ifCond .eq 4, 3) := dk_153 0 4 (dk_at dksX4_wrong_0 4 rfl rfl)
theorem dX4_wrong_7 : decode cX4_wrong 7 = .ok (.return_, 1) := dk_177 (dk_at dksX4_wrong_0 7 rfl rfl)
theorem dX4_wrong_8 : decode cX4_wrong 8 = .ok (.aload_n 0, 1) := dk_42 (dk_at dksX4_wrong_0 8 rfl rfl)
theorem dX4_wrong_9 : decode cX4_wrong 9 = .ok (.iload_n 1, 1) := dk_27 (dk_at dksX4_wrong_0 9 rfl rfl)
theorem dX4_wrong_10 : decode cX4_wrong 10 = .ok (.putfield 224, 3) := dk_181 0 224 (dk_at dksX4_wrong_0 10 rfl rfl)
theorem dX4_wrong_13 : decode cX4_wrong 13 = .ok (.aload_n 0, 1) := dk_42 (dk_at dksX4_wrong_0 13 rfl rfl)
theorem dX4_wrong_14 : decode cX4_wrong 14 = .ok (.aload_n 0, 1) := dk_42 (dk_at dksX4_wrong_0 14 rfl rfl)
theorem dX4_wrong_15 : decode cX4_wrong 15 = .ok (.getfield 188, 3) := dk_180 0 188 (dk_at dksX4_wrong_0 15 rfl rfl)
theorem dX4_wrong_18 : decode cX4_wrong 18 = .ok (.putfield 47, 3) := dk_181 0 47 (dk_at dksX4_wrong_0 18 rfl rfl)
theorem dX4_wrong_21 : decode cX4_wrong 21 = .ok (.return_, 1) := dk_177 (dk_at dksX4_wrong_0 21 rfl rfl)
abbrev cX4_number : ByteArray := prog_13_method_21_code
def yX4_number : MethodName := ⟨RX4, "number", "(II)I"⟩
def dkwX4_number_3 : List UInt8 := [29, 172]
abbrev dktX4_number_3 : List UInt8 := dkwX4_number_3 ++ []
def dkwX4_number_2 : List UInt8 := [164, 0, 8, 42, 5, 182, 0, 234, 42, 180, 0, 195, 62, 42, 182, 0, 227, 153, 0, 7, 42, 182, 0, 231]
abbrev dktX4_number_2 : List UInt8 := dkwX4_number_2 ++ dktX4_number_3
def dkwX4_number_1 : List UInt8 := [167, 0, 32, 42, 180, 0, 211, 7, 163, 0, 19, 42, 180, 0, 195, 27, 161, 0, 11, 42, 180, 0, 195, 28]
abbrev dktX4_number_1 : List UInt8 := dkwX4_number_1 ++ dktX4_number_2
def dkwX4_number_0 : List UInt8 := [42, 182, 0, 227, 154, 0, 5, 3, 172, 42, 180, 0, 201, 5, 159, 0, 11, 42, 4, 182, 0, 234]
abbrev dktX4_number_0 : List UInt8 := dkwX4_number_0 ++ dktX4_number_1
theorem dksX4_number_0 : cX4_number.data.toList.drop 0 = dktX4_number_0 := by decide +kernel
theorem dksX4_number_1 : cX4_number.data.toList.drop 22 = dktX4_number_1 := dk_seg dksX4_number_0 22 rfl rfl
theorem dksX4_number_2 : cX4_number.data.toList.drop 46 = dktX4_number_2 := dk_seg dksX4_number_1 24 rfl rfl
theorem dksX4_number_3 : cX4_number.data.toList.drop 70 = dktX4_number_3 := dk_seg dksX4_number_2 24 rfl rfl
theorem dX4_number_0 : decode cX4_number 0 = .ok (.aload_n 0, 1) := dk_42 (dk_at dksX4_number_0 0 rfl rfl)
theorem dX4_number_1 : decode cX4_number 1 = .ok (.invokevirtual 227, 3) := dk_182 0 227 (dk_at dksX4_number_0 1 rfl rfl)
theorem dX4_number_4 : decode cX4_number 4 = .ok (.ifCond .ne 5, 3) := dk_154 0 5 (dk_at dksX4_number_0 4 rfl rfl)
theorem dX4_number_7 : decode cX4_number 7 = .ok (.iconst 0, 1) := dk_3 (dk_at dksX4_number_0 7 rfl rfl)
theorem dX4_number_8 : decode cX4_number 8 = .ok (.ireturn, 1) := dk_172 (dk_at dksX4_number_0 8 rfl rfl)
theorem dX4_number_9 : decode cX4_number 9 = .ok (.aload_n 0, 1) := dk_42 (dk_at dksX4_number_0 9 rfl rfl)
theorem dX4_number_10 : decode cX4_number 10 = .ok (.getfield 201, 3) := dk_180 0 201 (dk_at dksX4_number_0 10 rfl rfl)
theorem dX4_number_13 : decode cX4_number 13 = .ok (.iconst 2, 1) := dk_5 (dk_at dksX4_number_0 13 rfl rfl)
theorem dX4_number_14 : decode cX4_number 14 = .ok (.if_icmp .eq 11, 3) := dk_159 0 11 (dk_at dksX4_number_0 14 rfl rfl)
theorem dX4_number_17 : decode cX4_number 17 = .ok (.aload_n 0, 1) := dk_42 (dk_at dksX4_number_0 17 rfl rfl)
theorem dX4_number_18 : decode cX4_number 18 = .ok (.iconst 1, 1) := dk_4 (dk_at dksX4_number_0 18 rfl rfl)
theorem dX4_number_19 : decode cX4_number 19 = .ok (.invokevirtual 234, 3) := dk_182 0 234 (dk_at dksX4_number_0 19 rfl rfl)
theorem dX4_number_22 : decode cX4_number 22 = .ok (.goto 32, 3) := dk_167 0 32 (dk_at dksX4_number_1 0 rfl rfl)
theorem dX4_number_25 : decode cX4_number 25 = .ok (.aload_n 0, 1) := dk_42 (dk_at dksX4_number_1 3 rfl rfl)
theorem dX4_number_26 : decode cX4_number 26 = .ok (.getfield 211, 3) := dk_180 0 211 (dk_at dksX4_number_1 4 rfl rfl)
theorem dX4_number_29 : decode cX4_number 29 = .ok (.iconst 4, 1) := dk_7 (dk_at dksX4_number_1 7 rfl rfl)
theorem dX4_number_30 : decode cX4_number 30 = .ok (.if_icmp .gt 19, 3) := dk_163 0 19 (dk_at dksX4_number_1 8 rfl rfl)
theorem dX4_number_33 : decode cX4_number 33 = .ok (.aload_n 0, 1) := dk_42 (dk_at dksX4_number_1 11 rfl rfl)
theorem dX4_number_34 : decode cX4_number 34 = .ok (.getfield 195, 3) := dk_180 0 195 (dk_at dksX4_number_1 12 rfl rfl)
theorem dX4_number_37 : decode cX4_number 37 = .ok (.iload_n 1, 1) := dk_27 (dk_at dksX4_number_1 15 rfl rfl)
theorem dX4_number_38 : decode cX4_number 38 = .ok (.if_icmp .lt 11, 3) := dk_161 0 11 (dk_at dksX4_number_1 16 rfl rfl)
theorem dX4_number_41 : decode cX4_number 41 = .ok (.aload_n 0, 1) := dk_42 (dk_at dksX4_number_1 19 rfl rfl)
theorem dX4_number_42 : decode cX4_number 42 = .ok (.getfield 195, 3) := dk_180 0 195 (dk_at dksX4_number_1 20 rfl rfl)
theorem dX4_number_45 : decode cX4_number 45 = .ok (.iload_n 2, 1) := dk_28 (dk_at dksX4_number_1 23 rfl rfl)
theorem dX4_number_46 : decode cX4_number 46 = .ok (.if_icmp .le 8, 3) := dk_164 0 8 (dk_at dksX4_number_2 0 rfl rfl)
theorem dX4_number_49 : decode cX4_number 49 = .ok (.aload_n 0, 1) := dk_42 (dk_at dksX4_number_2 3 rfl rfl)
theorem dX4_number_50 : decode cX4_number 50 = .ok (.iconst 2, 1) := dk_5 (dk_at dksX4_number_2 4 rfl rfl)
theorem dX4_number_51 : decode cX4_number 51 = .ok (.invokevirtual 234, 3) := dk_182 0 234 (dk_at dksX4_number_2 5 rfl rfl)
theorem dX4_number_54 : decode cX4_number 54 = .ok (.aload_n 0, 1) := dk_42 (dk_at dksX4_number_2 8 rfl rfl)
theorem dX4_number_55 : decode cX4_number 55 = .ok (.getfield 195, 3) := dk_180 0 195 (dk_at dksX4_number_2 9 rfl rfl)
theorem dX4_number_58 : decode cX4_number 58 = .ok (.istore_n 3, 1) := dk_62 (dk_at dksX4_number_2 12 rfl rfl)
theorem dX4_number_59 : decode cX4_number 59 = .ok (.aload_n 0, 1) := dk_42 (dk_at dksX4_number_2 13 rfl rfl)
theorem dX4_number_60 : decode cX4_number 60 = .ok (.invokevirtual 227, 3) := dk_182 0 227 (dk_at dksX4_number_2 14 rfl rfl)
theorem dX4_number_63 : decode cX4_number 63 = .ok (.ifCond .eq 7, 3) := dk_153 0 7 (dk_at dksX4_number_2 17 rfl rfl)
theorem dX4_number_66 : decode cX4_number 66 = .ok (.aload_n 0, 1) := dk_42 (dk_at dksX4_number_2 20 rfl rfl)
theorem dX4_number_67 : decode cX4_number 67 = .ok (.invokevirtual 231, 3) := dk_182 0 231 (dk_at dksX4_number_2 21 rfl rfl)
theorem dX4_number_70 : decode cX4_number 70 = .ok (.iload_n 3, 1) := dk_29 (dk_at dksX4_number_3 0 rfl rfl)
theorem dX4_number_71 : decode cX4_number 71 = .ok (.ireturn, 1) := dk_172 (dk_at dksX4_number_3 1 rfl rfl)
abbrev cX4_readsPlace : ByteArray := prog_13_method_35_code
def yX4_readsPlace : MethodName := ⟨RX4, "readsPlace", "(Z)V"⟩
def dkwX4_readsPlace_2 : List UInt8 := [182, 1, 34, 79, 42, 182, 0, 227, 153, 0, 13, 42, 89, 180, 1, 31, 4, 96, 181, 1, 31, 177]
abbrev dktX4_readsPlace_2 : List UInt8 := dkwX4_readsPlace_2 ++ []
def dkwX4_readsPlace_1 : List UInt8 := [182, 0, 231, 42, 180, 0, 53, 42, 180, 1, 31, 27, 153, 0, 7, 2, 167, 0, 10, 42, 3, 16, 9]
abbrev dktX4_readsPlace_1 : List UInt8 := dkwX4_readsPlace_1 ++ dktX4_readsPlace_2
def dkwX4_readsPlace_0 : List UInt8 := [42, 180, 1, 31, 16, 8, 160, 0, 8, 42, 5, 182, 0, 234, 42, 182, 0, 227, 154, 0, 4, 177, 42]
abbrev dktX4_readsPlace_0 : List UInt8 := dkwX4_readsPlace_0 ++ dktX4_readsPlace_1
theorem dksX4_readsPlace_0 : cX4_readsPlace.data.toList.drop 0 = dktX4_readsPlace_0 := by decide +kernel
theorem dksX4_readsPlace_1 : cX4_readsPlace.data.toList.drop 23 = dktX4_readsPlace_1 := dk_seg dksX4_readsPlace_0 23 rfl rfl
theorem dksX4_readsPlace_2 : cX4_readsPlace.data.toList.drop 46 = dktX4_readsPlace_2 := dk_seg dksX4_readsPlace_1 23 rfl rfl
theorem dX4_readsPlace_0 : decode cX4_readsPlace 0 = .ok (.aload_n 0, 1) := dk_42 (dk_at dksX4_readsPlace_0 0 rfl rfl)
theorem dX4_readsPlace_1 : decode cX4_readsPlace 1 = .ok (.getfield 287, 3) := dk_180 1 31 (dk_at dksX4_readsPlace_0 1 rfl rfl)
theorem dX4_readsPlace_4 : decode cX4_readsPlace 4 = .ok (.bipush 8, 2) := dk_16 8 (dk_at dksX4_readsPlace_0 4 rfl rfl)
theorem dX4_readsPlace_6 : decode cX4_readsPlace 6 = .ok (.if_icmp .ne 8, 3) := dk_160 0 8 (dk_at dksX4_readsPlace_0 6 rfl rfl)
theorem dX4_readsPlace_9 : decode cX4_readsPlace 9 = .ok (.aload_n 0, 1) := dk_42 (dk_at dksX4_readsPlace_0 9 rfl rfl)
theorem dX4_readsPlace_10 : decode cX4_readsPlace 10 = .ok (.iconst 2, 1) := dk_5 (dk_at dksX4_readsPlace_0 10 rfl rfl)
theorem dX4_readsPlace_11 : decode cX4_readsPlace 11 = .ok (.invokevirtual 234, 3) := dk_182 0 234 (dk_at dksX4_readsPlace_0 11 rfl rfl)
theorem dX4_readsPlace_14 : decode cX4_readsPlace 14 = .ok (.aload_n 0, 1) := dk_42 (dk_at dksX4_readsPlace_0 14 rfl rfl)
theorem dX4_readsPlace_15 : decode cX4_readsPlace 15 = .ok (.invokevirtual 227, 3) := dk_182 0 227 (dk_at dksX4_readsPlace_0 15 rfl rfl)
theorem dX4_readsPlace_18 : decode cX4_readsPlace 18 = .ok (.ifCond .ne 4, 3) := dk_154 0 4 (dk_at dksX4_readsPlace_0 18 rfl rfl)
theorem dX4_readsPlace_21 : decode cX4_readsPlace 21 = .ok (.return_, 1) := dk_177 (dk_at dksX4_readsPlace_0 21 rfl rfl)
theorem dX4_readsPlace_22 : decode cX4_readsPlace 22 = .ok (.aload_n 0, 1) := dk_42 (dk_at dksX4_readsPlace_0 22 rfl rfl)
theorem dX4_readsPlace_23 : decode cX4_readsPlace 23 = .ok (.invokevirtual 231, 3) := dk_182 0 231 (dk_at dksX4_readsPlace_1 0 rfl rfl)
theorem dX4_readsPlace_26 : decode cX4_readsPlace 26 = .ok (.aload_n 0, 1) := dk_42 (dk_at dksX4_readsPlace_1 3 rfl rfl)
theorem dX4_readsPlace_27 : decode cX4_readsPlace 27 = .ok (.getfield 53, 3) := dk_180 0 53 (dk_at dksX4_readsPlace_1 4 rfl rfl)
theorem dX4_readsPlace_30 : decode cX4_readsPlace 30 = .ok (.aload_n 0, 1) := dk_42 (dk_at dksX4_readsPlace_1 7 rfl rfl)
theorem dX4_readsPlace_31 : decode cX4_readsPlace 31 = .ok (.getfield 287, 3) := dk_180 1 31 (dk_at dksX4_readsPlace_1 8 rfl rfl)
theorem dX4_readsPlace_34 : decode cX4_readsPlace 34 = .ok (.iload_n 1, 1) := dk_27 (dk_at dksX4_readsPlace_1 11 rfl rfl)
theorem dX4_readsPlace_35 : decode cX4_readsPlace 35 = .ok (.ifCond .eq 7, 3) := dk_153 0 7 (dk_at dksX4_readsPlace_1 12 rfl rfl)
theorem dX4_readsPlace_38 : decode cX4_readsPlace 38 = .ok (.iconst (-1), 1) := dk_2 (dk_at dksX4_readsPlace_1 15 rfl rfl)
theorem dX4_readsPlace_39 : decode cX4_readsPlace 39 = .ok (.goto 10, 3) := dk_167 0 10 (dk_at dksX4_readsPlace_1 16 rfl rfl)
theorem dX4_readsPlace_42 : decode cX4_readsPlace 42 = .ok (.aload_n 0, 1) := dk_42 (dk_at dksX4_readsPlace_1 19 rfl rfl)
theorem dX4_readsPlace_43 : decode cX4_readsPlace 43 = .ok (.iconst 0, 1) := dk_3 (dk_at dksX4_readsPlace_1 20 rfl rfl)
theorem dX4_readsPlace_44 : decode cX4_readsPlace 44 = .ok (.bipush 9, 2) := dk_16 9 (dk_at dksX4_readsPlace_1 21 rfl rfl)
theorem dX4_readsPlace_46 : decode cX4_readsPlace 46 = .ok (.invokevirtual 290, 3) := dk_182 1 34 (dk_at dksX4_readsPlace_2 0 rfl rfl)
theorem dX4_readsPlace_49 : decode cX4_readsPlace 49 = .ok (.iastore, 1) := dk_79 (dk_at dksX4_readsPlace_2 3 rfl rfl)
theorem dX4_readsPlace_50 : decode cX4_readsPlace 50 = .ok (.aload_n 0, 1) := dk_42 (dk_at dksX4_readsPlace_2 4 rfl rfl)
theorem dX4_readsPlace_51 : decode cX4_readsPlace 51 = .ok (.invokevirtual 227, 3) := dk_182 0 227 (dk_at dksX4_readsPlace_2 5 rfl rfl)
theorem dX4_readsPlace_54 : decode cX4_readsPlace 54 = .ok (.ifCond .eq 13, 3) := dk_153 0 13 (dk_at dksX4_readsPlace_2 8 rfl rfl)
theorem dX4_readsPlace_57 : decode cX4_readsPlace 57 = .ok (.aload_n 0, 1) := dk_42 (dk_at dksX4_readsPlace_2 11 rfl rfl)
theorem dX4_readsPlace_58 : decode cX4_readsPlace 58 = .ok (.dup, 1) := dk_89 (dk_at dksX4_readsPlace_2 12 rfl rfl)
theorem dX4_readsPlace_59 : decode cX4_readsPlace 59 = .ok (.getfield 287, 3) := dk_180 1 31 (dk_at dksX4_readsPlace_2 13 rfl rfl)
theorem dX4_readsPlace_62 : decode cX4_readsPlace 62 = .ok (.iconst 1, 1) := dk_4 (dk_at dksX4_readsPlace_2 16 rfl rfl)
theorem dX4_readsPlace_63 : decode cX4_readsPlace 63 = .ok (.iadd, 1) := dk_96 (dk_at dksX4_readsPlace_2 17 rfl rfl)
theorem dX4_readsPlace_64 : decode cX4_readsPlace 64 = .ok (.putfield 287, 3) := dk_181 1 31 (dk_at dksX4_readsPlace_2 18 rfl rfl)
theorem dX4_readsPlace_67 : decode cX4_readsPlace 67 = .ok (.return_, 1) := dk_177 (dk_at dksX4_readsPlace_2 21 rfl rfl)
abbrev cX4_readsWay : ByteArray := prog_13_method_37_code
def yX4_readsWay : MethodName := ⟨RX4, "readsWay", "()V"⟩
def dkwX4_readsWay_6 : List UInt8 := [181, 1, 38, 177]
abbrev dktX4_readsWay_6 : List UInt8 := dkwX4_readsWay_6 ++ []
def dkwX4_readsWay_5 : List UInt8 := [42, 3, 16, 60, 182, 1, 34, 79, 42, 182, 0, 227, 153, 0, 13, 42, 89, 180, 1, 38, 4, 96]
abbrev dktX4_readsWay_5 : List UInt8 := dkwX4_readsWay_5 ++ dktX4_readsWay_6
def dkwX4_readsWay_4 : List UInt8 := [180, 0, 59, 42, 180, 1, 38, 42, 180, 0, 195, 79, 42, 182, 0, 231, 42, 180, 0, 62, 42, 180, 1, 38]
abbrev dktX4_readsWay_4 : List UInt8 := dkwX4_readsWay_4 ++ dktX4_readsWay_5
def dkwX4_readsWay_3 : List UInt8 := [182, 0, 234, 42, 182, 0, 227, 154, 0, 4, 177, 42, 180, 0, 56, 42, 180, 1, 38, 27, 79, 42]
abbrev dktX4_readsWay_3 : List UInt8 := dkwX4_readsWay_3 ++ dktX4_readsWay_4
def dkwX4_readsWay_2 : List UInt8 := [42, 180, 0, 195, 27, 159, 0, 15, 42, 27, 42, 180, 0, 195, 182, 1, 44, 153, 0, 8, 42, 7]
abbrev dktX4_readsWay_2 : List UInt8 := dkwX4_readsWay_2 ++ dktX4_readsWay_3
def dkwX4_readsWay_1 : List UInt8 := [182, 0, 231, 42, 42, 180, 1, 31, 182, 1, 41, 60, 42, 42, 180, 1, 31, 182, 0, 237, 154, 0, 4, 177]
abbrev dktX4_readsWay_1 : List UInt8 := dkwX4_readsWay_1 ++ dktX4_readsWay_2
def dkwX4_readsWay_0 : List UInt8 := [42, 180, 1, 38, 16, 12, 160, 0, 8, 42, 5, 182, 0, 234, 42, 182, 0, 227, 154, 0, 4, 177, 42]
abbrev dktX4_readsWay_0 : List UInt8 := dkwX4_readsWay_0 ++ dktX4_readsWay_1
theorem dksX4_readsWay_0 : cX4_readsWay.data.toList.drop 0 = dktX4_readsWay_0 := by decide +kernel
theorem dksX4_readsWay_1 : cX4_readsWay.data.toList.drop 23 = dktX4_readsWay_1 := dk_seg dksX4_readsWay_0 23 rfl rfl
theorem dksX4_readsWay_2 : cX4_readsWay.data.toList.drop 47 = dktX4_readsWay_2 := dk_seg dksX4_readsWay_1 24 rfl rfl
theorem dksX4_readsWay_3 : cX4_readsWay.data.toList.drop 69 = dktX4_readsWay_3 := dk_seg dksX4_readsWay_2 22 rfl rfl
theorem dksX4_readsWay_4 : cX4_readsWay.data.toList.drop 91 = dktX4_readsWay_4 := dk_seg dksX4_readsWay_3 22 rfl rfl
theorem dksX4_readsWay_5 : cX4_readsWay.data.toList.drop 115 = dktX4_readsWay_5 := dk_seg dksX4_readsWay_4 24 rfl rfl
theorem dksX4_readsWay_6 : cX4_readsWay.data.toList.drop 137 = dktX4_readsWay_6 := dk_seg dksX4_readsWay_5 22 rfl rfl
theorem dX4_readsWay_0 : decode cX4_readsWay 0 = .ok (.aload_n 0, 1) := dk_42 (dk_at dksX4_readsWay_0 0 rfl rfl)
theorem dX4_readsWay_1 : decode cX4_readsWay 1 = .ok (.getfield 294, 3) := dk_180 1 38 (dk_at dksX4_readsWay_0 1 rfl rfl)
theorem dX4_readsWay_4 : decode cX4_readsWay 4 = .ok (.bipush 12, 2) := dk_16 12 (dk_at dksX4_readsWay_0 4 rfl rfl)
theorem dX4_readsWay_6 : decode cX4_readsWay 6 = .ok (.if_icmp .ne 8, 3) := dk_160 0 8 (dk_at dksX4_readsWay_0 6 rfl rfl)
theorem dX4_readsWay_9 : decode cX4_readsWay 9 = .ok (.aload_n 0, 1) := dk_42 (dk_at dksX4_readsWay_0 9 rfl rfl)
theorem dX4_readsWay_10 : decode cX4_readsWay 10 = .ok (.iconst 2, 1) := dk_5 (dk_at dksX4_readsWay_0 10 rfl rfl)
theorem dX4_readsWay_11 : decode cX4_readsWay 11 = .ok (.invokevirtual 234, 3) := dk_182 0 234 (dk_at dksX4_readsWay_0 11 rfl rfl)
theorem dX4_readsWay_14 : decode cX4_readsWay 14 = .ok (.aload_n 0, 1) := dk_42 (dk_at dksX4_readsWay_0 14 rfl rfl)
theorem dX4_readsWay_15 : decode cX4_readsWay 15 = .ok (.invokevirtual 227, 3) := dk_182 0 227 (dk_at dksX4_readsWay_0 15 rfl rfl)
theorem dX4_readsWay_18 : decode cX4_readsWay 18 = .ok (.ifCond .ne 4, 3) := dk_154 0 4 (dk_at dksX4_readsWay_0 18 rfl rfl)
theorem dX4_readsWay_21 : decode cX4_readsWay 21 = .ok (.return_, 1) := dk_177 (dk_at dksX4_readsWay_0 21 rfl rfl)
theorem dX4_readsWay_22 : decode cX4_readsWay 22 = .ok (.aload_n 0, 1) := dk_42 (dk_at dksX4_readsWay_0 22 rfl rfl)
theorem dX4_readsWay_23 : decode cX4_readsWay 23 = .ok (.invokevirtual 231, 3) := dk_182 0 231 (dk_at dksX4_readsWay_1 0 rfl rfl)
theorem dX4_readsWay_26 : decode cX4_readsWay 26 = .ok (.aload_n 0, 1) := dk_42 (dk_at dksX4_readsWay_1 3 rfl rfl)
theorem dX4_readsWay_27 : decode cX4_readsWay 27 = .ok (.aload_n 0, 1) := dk_42 (dk_at dksX4_readsWay_1 4 rfl rfl)
theorem dX4_readsWay_28 : decode cX4_readsWay 28 = .ok (.getfield 287, 3) := dk_180 1 31 (dk_at dksX4_readsWay_1 5 rfl rfl)
theorem dX4_readsWay_31 : decode cX4_readsWay 31 = .ok (.invokevirtual 297, 3) := dk_182 1 41 (dk_at dksX4_readsWay_1 8 rfl rfl)
theorem dX4_readsWay_34 : decode cX4_readsWay 34 = .ok (.istore_n 1, 1) := dk_60 (dk_at dksX4_readsWay_1 11 rfl rfl)
theorem dX4_readsWay_35 : decode cX4_readsWay 35 = .ok (.aload_n 0, 1) := dk_42 (dk_at dksX4_readsWay_1 12 rfl rfl)
theorem dX4_readsWay_36 : decode cX4_readsWay 36 = .ok (.aload_n 0, 1) := dk_42 (dk_at dksX4_readsWay_1 13 rfl rfl)
theorem dX4_readsWay_37 : decode cX4_readsWay 37 = .ok (.getfield 287, 3) := dk_180 1 31 (dk_at dksX4_readsWay_1 14 rfl rfl)
theorem dX4_readsWay_40 : decode cX4_readsWay 40 = .ok (.invokevirtual 237, 3) := dk_182 0 237 (dk_at dksX4_readsWay_1 17 rfl rfl)
theorem dX4_readsWay_43 : decode cX4_readsWay 43 = .ok (.ifCond .ne 4, 3) := dk_154 0 4 (dk_at dksX4_readsWay_1 20 rfl rfl)
theorem dX4_readsWay_46 : decode cX4_readsWay 46 = .ok (.return_, 1) := dk_177 (dk_at dksX4_readsWay_1 23 rfl rfl)
theorem dX4_readsWay_47 : decode cX4_readsWay 47 = .ok (.aload_n 0, 1) := dk_42 (dk_at dksX4_readsWay_2 0 rfl rfl)
theorem dX4_readsWay_48 : decode cX4_readsWay 48 = .ok (.getfield 195, 3) := dk_180 0 195 (dk_at dksX4_readsWay_2 1 rfl rfl)
theorem dX4_readsWay_51 : decode cX4_readsWay 51 = .ok (.iload_n 1, 1) := dk_27 (dk_at dksX4_readsWay_2 4 rfl rfl)
theorem dX4_readsWay_52 : decode cX4_readsWay 52 = .ok (.if_icmp .eq 15, 3) := dk_159 0 15 (dk_at dksX4_readsWay_2 5 rfl rfl)
theorem dX4_readsWay_55 : decode cX4_readsWay 55 = .ok (.aload_n 0, 1) := dk_42 (dk_at dksX4_readsWay_2 8 rfl rfl)
theorem dX4_readsWay_56 : decode cX4_readsWay 56 = .ok (.iload_n 1, 1) := dk_27 (dk_at dksX4_readsWay_2 9 rfl rfl)
theorem dX4_readsWay_57 : decode cX4_readsWay 57 = .ok (.aload_n 0, 1) := dk_42 (dk_at dksX4_readsWay_2 10 rfl rfl)
theorem dX4_readsWay_58 : decode cX4_readsWay 58 = .ok (.getfield 195, 3) := dk_180 0 195 (dk_at dksX4_readsWay_2 11 rfl rfl)
theorem dX4_readsWay_61 : decode cX4_readsWay 61 = .ok (.invokevirtual 300, 3) := dk_182 1 44 (dk_at dksX4_readsWay_2 14 rfl rfl)
theorem dX4_readsWay_64 : decode cX4_readsWay 64 = .ok (.ifCond .eq 8, 3) := dk_153 0 8 (dk_at dksX4_readsWay_2 17 rfl rfl)
theorem dX4_readsWay_67 : decode cX4_readsWay 67 = .ok (.aload_n 0, 1) := dk_42 (dk_at dksX4_readsWay_2 20 rfl rfl)
theorem dX4_readsWay_68 : decode cX4_readsWay 68 = .ok (.iconst 4, 1) := dk_7 (dk_at dksX4_readsWay_2 21 rfl rfl)
theorem dX4_readsWay_69 : decode cX4_readsWay 69 = .ok (.invokevirtual 234, 3) := dk_182 0 234 (dk_at dksX4_readsWay_3 0 rfl rfl)
theorem dX4_readsWay_72 : decode cX4_readsWay 72 = .ok (.aload_n 0, 1) := dk_42 (dk_at dksX4_readsWay_3 3 rfl rfl)
theorem dX4_readsWay_73 : decode cX4_readsWay 73 = .ok (.invokevirtual 227, 3) := dk_182 0 227 (dk_at dksX4_readsWay_3 4 rfl rfl)
theorem dX4_readsWay_76 : decode cX4_readsWay 76 = .ok (.ifCond .ne 4, 3) := dk_154 0 4 (dk_at dksX4_readsWay_3 7 rfl rfl)
theorem dX4_readsWay_79 : decode cX4_readsWay 79 = .ok (.return_, 1) := dk_177 (dk_at dksX4_readsWay_3 10 rfl rfl)
theorem dX4_readsWay_80 : decode cX4_readsWay 80 = .ok (.aload_n 0, 1) := dk_42 (dk_at dksX4_readsWay_3 11 rfl rfl)
theorem dX4_readsWay_81 : decode cX4_readsWay 81 = .ok (.getfield 56, 3) := dk_180 0 56 (dk_at dksX4_readsWay_3 12 rfl rfl)
theorem dX4_readsWay_84 : decode cX4_readsWay 84 = .ok (.aload_n 0, 1) := dk_42 (dk_at dksX4_readsWay_3 15 rfl rfl)
theorem dX4_readsWay_85 : decode cX4_readsWay 85 = .ok (.getfield 294, 3) := dk_180 1 38 (dk_at dksX4_readsWay_3 16 rfl rfl)
theorem dX4_readsWay_88 : decode cX4_readsWay 88 = .ok (.iload_n 1, 1) := dk_27 (dk_at dksX4_readsWay_3 19 rfl rfl)
theorem dX4_readsWay_89 : decode cX4_readsWay 89 = .ok (.iastore, 1) := dk_79 (dk_at dksX4_readsWay_3 20 rfl rfl)
theorem dX4_readsWay_90 : decode cX4_readsWay 90 = .ok (.aload_n 0, 1) := dk_42 (dk_at dksX4_readsWay_3 21 rfl rfl)
theorem dX4_readsWay_91 : decode cX4_readsWay 91 = .ok (.getfield 59, 3) := dk_180 0 59 (dk_at dksX4_readsWay_4 0 rfl rfl)
theorem dX4_readsWay_94 : decode cX4_readsWay 94 = .ok (.aload_n 0, 1) := dk_42 (dk_at dksX4_readsWay_4 3 rfl rfl)
theorem dX4_readsWay_95 : decode cX4_readsWay 95 = .ok (.getfield 294, 3) := dk_180 1 38 (dk_at dksX4_readsWay_4 4 rfl rfl)
theorem dX4_readsWay_98 : decode cX4_readsWay 98 = .ok (.aload_n 0, 1) := dk_42 (dk_at dksX4_readsWay_4 7 rfl rfl)
theorem dX4_readsWay_99 : decode cX4_readsWay 99 = .ok (.getfield 195, 3) := dk_180 0 195 (dk_at dksX4_readsWay_4 8 rfl rfl)
theorem dX4_readsWay_102 : decode cX4_readsWay 102 = .ok (.iastore, 1) := dk_79 (dk_at dksX4_readsWay_4 11 rfl rfl)
theorem dX4_readsWay_103 : decode cX4_readsWay 103 = .ok (.aload_n 0, 1) := dk_42 (dk_at dksX4_readsWay_4 12 rfl rfl)
theorem dX4_readsWay_104 : decode cX4_readsWay 104 = .ok (.invokevirtual 231, 3) := dk_182 0 231 (dk_at dksX4_readsWay_4 13 rfl rfl)
theorem dX4_readsWay_107 : decode cX4_readsWay 107 = .ok (.aload_n 0, 1) := dk_42 (dk_at dksX4_readsWay_4 16 rfl rfl)
theorem dX4_readsWay_108 : decode cX4_readsWay 108 = .ok (.getfield 62, 3) := dk_180 0 62 (dk_at dksX4_readsWay_4 17 rfl rfl)
theorem dX4_readsWay_111 : decode cX4_readsWay 111 = .ok (.aload_n 0, 1) := dk_42 (dk_at dksX4_readsWay_4 20 rfl rfl)
theorem dX4_readsWay_112 : decode cX4_readsWay 112 = .ok (.getfield 294, 3) := dk_180 1 38 (dk_at dksX4_readsWay_4 21 rfl rfl)
theorem dX4_readsWay_115 : decode cX4_readsWay 115 = .ok (.aload_n 0, 1) := dk_42 (dk_at dksX4_readsWay_5 0 rfl rfl)
theorem dX4_readsWay_116 : decode cX4_readsWay 116 = .ok (.iconst 0, 1) := dk_3 (dk_at dksX4_readsWay_5 1 rfl rfl)
theorem dX4_readsWay_117 : decode cX4_readsWay 117 = .ok (.bipush 60, 2) := dk_16 60 (dk_at dksX4_readsWay_5 2 rfl rfl)
theorem dX4_readsWay_119 : decode cX4_readsWay 119 = .ok (.invokevirtual 290, 3) := dk_182 1 34 (dk_at dksX4_readsWay_5 4 rfl rfl)
theorem dX4_readsWay_122 : decode cX4_readsWay 122 = .ok (.iastore, 1) := dk_79 (dk_at dksX4_readsWay_5 7 rfl rfl)
theorem dX4_readsWay_123 : decode cX4_readsWay 123 = .ok (.aload_n 0, 1) := dk_42 (dk_at dksX4_readsWay_5 8 rfl rfl)
theorem dX4_readsWay_124 : decode cX4_readsWay 124 = .ok (.invokevirtual 227, 3) := dk_182 0 227 (dk_at dksX4_readsWay_5 9 rfl rfl)
theorem dX4_readsWay_127 : decode cX4_readsWay 127 = .ok (.ifCond .eq 13, 3) := dk_153 0 13 (dk_at dksX4_readsWay_5 12 rfl rfl)
theorem dX4_readsWay_130 : decode cX4_readsWay 130 = .ok (.aload_n 0, 1) := dk_42 (dk_at dksX4_readsWay_5 15 rfl rfl)
theorem dX4_readsWay_131 : decode cX4_readsWay 131 = .ok (.dup, 1) := dk_89 (dk_at dksX4_readsWay_5 16 rfl rfl)
theorem dX4_readsWay_132 : decode cX4_readsWay 132 = .ok (.getfield 294, 3) := dk_180 1 38 (dk_at dksX4_readsWay_5 17 rfl rfl)
theorem dX4_readsWay_135 : decode cX4_readsWay 135 = .ok (.iconst 1, 1) := dk_4 (dk_at dksX4_readsWay_5 20 rfl rfl)
theorem dX4_readsWay_136 : decode cX4_readsWay 136 = .ok (.iadd, 1) := dk_96 (dk_at dksX4_readsWay_5 21 rfl rfl)
theorem dX4_readsWay_137 : decode cX4_readsWay 137 = .ok (.putfield 294, 3) := dk_181 1 38 (dk_at dksX4_readsWay_6 0 rfl rfl)
theorem dX4_readsWay_140 : decode cX4_readsWay 140 = .ok (.return_, 1) := dk_177 (dk_at dksX4_readsWay_6 3 rfl rfl)
abbrev cX4_among : ByteArray := prog_13_method_23_code
def yX4_among : MethodName := ⟨RX4, "among", "(I)I"⟩
def dkwX4_among_1 : List UInt8 := [42, 182, 0, 231, 28, 172]
abbrev dktX4_among_1 : List UInt8 := dkwX4_among_1 ++ []
def dkwX4_among_0 : List UInt8 := [42, 27, 182, 0, 237, 153, 0, 10, 42, 180, 0, 195, 167, 0, 4, 3, 61, 42, 182, 0, 227, 153, 0, 7]
abbrev dktX4_among_0 : List UInt8 := dkwX4_among_0 ++ dktX4_among_1
theorem dksX4_among_0 : cX4_among.data.toList.drop 0 = dktX4_among_0 := by decide +kernel
theorem dksX4_among_1 : cX4_among.data.toList.drop 24 = dktX4_among_1 := dk_seg dksX4_among_0 24 rfl rfl
theorem dX4_among_0 : decode cX4_among 0 = .ok (.aload_n 0, 1) := dk_42 (dk_at dksX4_among_0 0 rfl rfl)
theorem dX4_among_1 : decode cX4_among 1 = .ok (.iload_n 1, 1) := dk_27 (dk_at dksX4_among_0 1 rfl rfl)
theorem dX4_among_2 : decode cX4_among 2 = .ok (.invokevirtual 237, 3) := dk_182 0 237 (dk_at dksX4_among_0 2 rfl rfl)
theorem dX4_among_5 : decode cX4_among 5 = .ok (.ifCond .eq 10, 3) := dk_153 0 10 (dk_at dksX4_among_0 5 rfl rfl)
theorem dX4_among_8 : decode cX4_among 8 = .ok (.aload_n 0, 1) := dk_42 (dk_at dksX4_among_0 8 rfl rfl)
theorem dX4_among_9 : decode cX4_among 9 = .ok (.getfield 195, 3) := dk_180 0 195 (dk_at dksX4_among_0 9 rfl rfl)
theorem dX4_among_12 : decode cX4_among 12 = .ok (.goto 4, 3) := dk_167 0 4 (dk_at dksX4_among_0 12 rfl rfl)
theorem dX4_among_15 : decode cX4_among 15 = .ok (.iconst 0, 1) := dk_3 (dk_at dksX4_among_0 15 rfl rfl)
theorem dX4_among_16 : decode cX4_among 16 = .ok (.istore_n 2, 1) := dk_61 (dk_at dksX4_among_0 16 rfl rfl)
theorem dX4_among_17 : decode cX4_among 17 = .ok (.aload_n 0, 1) := dk_42 (dk_at dksX4_among_0 17 rfl rfl)
theorem dX4_among_18 : decode cX4_among 18 = .ok (.invokevirtual 227, 3) := dk_182 0 227 (dk_at dksX4_among_0 18 rfl rfl)
theorem dX4_among_21 : decode cX4_among 21 = .ok (.ifCond .eq 7, 3) := dk_153 0 7 (dk_at dksX4_among_0 21 rfl rfl)
theorem dX4_among_24 : decode cX4_among 24 = .ok (.aload_n 0, 1) := dk_42 (dk_at dksX4_among_1 0 rfl rfl)
theorem dX4_among_25 : decode cX4_among 25 = .ok (.invokevirtual 231, 3) := dk_182 0 231 (dk_at dksX4_among_1 1 rfl rfl)
theorem dX4_among_28 : decode cX4_among 28 = .ok (.iload_n 2, 1) := dk_28 (dk_at dksX4_among_1 4 rfl rfl)
theorem dX4_among_29 : decode cX4_among 29 = .ok (.ireturn, 1) := dk_172 (dk_at dksX4_among_1 5 rfl rfl)
abbrev cX4_amongHere : ByteArray := prog_13_method_22_code
def yX4_amongHere : MethodName := ⟨RX4, "amongHere", "(I)Z"⟩
def dkwX4_amongHere_2 : List UInt8 := [161, 0, 8, 42, 6, 182, 0, 234, 42, 182, 0, 227, 172]
abbrev dktX4_amongHere_2 : List UInt8 := dkwX4_amongHere_2 ++ []
def dkwX4_amongHere_1 : List UInt8 := [167, 0, 32, 42, 180, 0, 211, 7, 164, 0, 11, 42, 5, 182, 0, 234, 167, 0, 16, 42, 180, 0, 195, 27]
abbrev dktX4_amongHere_1 : List UInt8 := dkwX4_amongHere_1 ++ dktX4_amongHere_2
def dkwX4_amongHere_0 : List UInt8 := [42, 182, 0, 227, 154, 0, 5, 3, 172, 42, 180, 0, 201, 5, 159, 0, 11, 42, 4, 182, 0, 234]
abbrev dktX4_amongHere_0 : List UInt8 := dkwX4_amongHere_0 ++ dktX4_amongHere_1
theorem dksX4_amongHere_0 : cX4_amongHere.data.toList.drop 0 = dktX4_amongHere_0 := by decide +kernel
theorem dksX4_amongHere_1 : cX4_amongHere.data.toList.drop 22 = dktX4_amongHere_1 := dk_seg dksX4_amongHere_0 22 rfl rfl
theorem dksX4_amongHere_2 : cX4_amongHere.data.toList.drop 46 = dktX4_amongHere_2 := dk_seg dksX4_amongHere_1 24 rfl rfl
theorem dX4_amongHere_0 : decode cX4_amongHere 0 = .ok (.aload_n 0, 1) := dk_42 (dk_at dksX4_amongHere_0 0 rfl rfl)
theorem dX4_amongHere_1 : decode cX4_amongHere 1 = .ok (.invokevirtual 227, 3) := dk_182 0 227 (dk_at dksX4_amongHere_0 1 rfl rfl)
theorem dX4_amongHere_4 : decode cX4_amongHere 4 = .ok (.ifCond .ne 5, 3) := dk_154 0 5 (dk_at dksX4_amongHere_0 4 rfl rfl)
theorem dX4_amongHere_7 : decode cX4_amongHere 7 = .ok (.iconst 0, 1) := dk_3 (dk_at dksX4_amongHere_0 7 rfl rfl)
theorem dX4_amongHere_8 : decode cX4_amongHere 8 = .ok (.ireturn, 1) := dk_172 (dk_at dksX4_amongHere_0 8 rfl rfl)
theorem dX4_amongHere_9 : decode cX4_amongHere 9 = .ok (.aload_n 0, 1) := dk_42 (dk_at dksX4_amongHere_0 9 rfl rfl)
theorem dX4_amongHere_10 : decode cX4_amongHere 10 = .ok (.getfield 201, 3) := dk_180 0 201 (dk_at dksX4_amongHere_0 10 rfl rfl)
theorem dX4_amongHere_13 : decode cX4_amongHere 13 = .ok (.iconst 2, 1) := dk_5 (dk_at dksX4_amongHere_0 13 rfl rfl)
theorem dX4_amongHere_14 : decode cX4_amongHere 14 = .ok (.if_icmp .eq 11, 3) := dk_159 0 11 (dk_at dksX4_amongHere_0 14 rfl rfl)
theorem dX4_amongHere_17 : decode cX4_amongHere 17 = .ok (.aload_n 0, 1) := dk_42 (dk_at dksX4_amongHere_0 17 rfl rfl)
theorem dX4_amongHere_18 : decode cX4_amongHere 18 = .ok (.iconst 1, 1) := dk_4 (dk_at dksX4_amongHere_0 18 rfl rfl)
theorem dX4_amongHere_19 : decode cX4_amongHere 19 = .ok (.invokevirtual 234, 3) := dk_182 0 234 (dk_at dksX4_amongHere_0 19 rfl rfl)
theorem dX4_amongHere_22 : decode cX4_amongHere 22 = .ok (.goto 32, 3) := dk_167 0 32 (dk_at dksX4_amongHere_1 0 rfl rfl)
theorem dX4_amongHere_25 : decode cX4_amongHere 25 = .ok (.aload_n 0, 1) := dk_42 (dk_at dksX4_amongHere_1 3 rfl rfl)
theorem dX4_amongHere_26 : decode cX4_amongHere 26 = .ok (.getfield 211, 3) := dk_180 0 211 (dk_at dksX4_amongHere_1 4 rfl rfl)
theorem dX4_amongHere_29 : decode cX4_amongHere 29 = .ok (.iconst 4, 1) := dk_7 (dk_at dksX4_amongHere_1 7 rfl rfl)
theorem dX4_amongHere_30 : decode cX4_amongHere 30 = .ok (.if_icmp .le 11, 3) := dk_164 0 11 (dk_at dksX4_amongHere_1 8 rfl rfl)
theorem dX4_amongHere_33 : decode cX4_amongHere 33 = .ok (.aload_n 0, 1) := dk_42 (dk_at dksX4_amongHere_1 11 rfl rfl)
theorem dX4_amongHere_34 : decode cX4_amongHere 34 = .ok (.iconst 2, 1) := dk_5 (dk_at dksX4_amongHere_1 12 rfl rfl)
theorem dX4_amongHere_35 : decode cX4_amongHere 35 = .ok (.invokevirtual 234, 3) := dk_182 0 234 (dk_at dksX4_amongHere_1 13 rfl rfl)
theorem dX4_amongHere_38 : decode cX4_amongHere 38 = .ok (.goto 16, 3) := dk_167 0 16 (dk_at dksX4_amongHere_1 16 rfl rfl)
theorem dX4_amongHere_41 : decode cX4_amongHere 41 = .ok (.aload_n 0, 1) := dk_42 (dk_at dksX4_amongHere_1 19 rfl rfl)
theorem dX4_amongHere_42 : decode cX4_amongHere 42 = .ok (.getfield 195, 3) := dk_180 0 195 (dk_at dksX4_amongHere_1 20 rfl rfl)
theorem dX4_amongHere_45 : decode cX4_amongHere 45 = .ok (.iload_n 1, 1) := dk_27 (dk_at dksX4_amongHere_1 23 rfl rfl)
theorem dX4_amongHere_46 : decode cX4_amongHere 46 = .ok (.if_icmp .lt 8, 3) := dk_161 0 8 (dk_at dksX4_amongHere_2 0 rfl rfl)
theorem dX4_amongHere_49 : decode cX4_amongHere 49 = .ok (.aload_n 0, 1) := dk_42 (dk_at dksX4_amongHere_2 3 rfl rfl)
theorem dX4_amongHere_50 : decode cX4_amongHere 50 = .ok (.iconst 3, 1) := dk_6 (dk_at dksX4_amongHere_2 4 rfl rfl)
theorem dX4_amongHere_51 : decode cX4_amongHere 51 = .ok (.invokevirtual 234, 3) := dk_182 0 234 (dk_at dksX4_amongHere_2 5 rfl rfl)
theorem dX4_amongHere_54 : decode cX4_amongHere 54 = .ok (.aload_n 0, 1) := dk_42 (dk_at dksX4_amongHere_2 8 rfl rfl)
theorem dX4_amongHere_55 : decode cX4_amongHere 55 = .ok (.invokevirtual 227, 3) := dk_182 0 227 (dk_at dksX4_amongHere_2 9 rfl rfl)
theorem dX4_amongHere_58 : decode cX4_amongHere 58 = .ok (.ireturn, 1) := dk_172 (dk_at dksX4_amongHere_2 12 rfl rfl)
abbrev cX4_hasWay : ByteArray := prog_13_method_36_code
def yX4_hasWay : MethodName := ⟨RX4, "hasWay", "(II)Z"⟩
def dkwX4_hasWay_2 : List UInt8 := [160, 0, 5, 4, 172, 132, 3, 1, 167, 255, 203, 3, 172]
abbrev dktX4_hasWay_2 : List UInt8 := dkwX4_hasWay_2 ++ []
def dkwX4_hasWay_1 : List UInt8 := [29, 46, 28, 159, 0, 23, 42, 180, 0, 56, 29, 46, 28, 160, 0, 15, 42, 180, 0, 59, 29, 46, 27]
abbrev dktX4_hasWay_1 : List UInt8 := dkwX4_hasWay_1 ++ dktX4_hasWay_2
def dkwX4_hasWay_0 : List UInt8 := [3, 62, 29, 42, 180, 1, 38, 162, 0, 51, 42, 180, 0, 56, 29, 46, 27, 160, 0, 13, 42, 180, 0, 59]
abbrev dktX4_hasWay_0 : List UInt8 := dkwX4_hasWay_0 ++ dktX4_hasWay_1
theorem dksX4_hasWay_0 : cX4_hasWay.data.toList.drop 0 = dktX4_hasWay_0 := by decide +kernel
theorem dksX4_hasWay_1 : cX4_hasWay.data.toList.drop 24 = dktX4_hasWay_1 := dk_seg dksX4_hasWay_0 24 rfl rfl
theorem dksX4_hasWay_2 : cX4_hasWay.data.toList.drop 47 = dktX4_hasWay_2 := dk_seg dksX4_hasWay_1 23 rfl rfl
theorem dX4_hasWay_0 : decode cX4_hasWay 0 = .ok (.iconst 0, 1) := dk_3 (dk_at dksX4_hasWay_0 0 rfl rfl)
theorem dX4_hasWay_1 : decode cX4_hasWay 1 = .ok (.istore_n 3, 1) := dk_62 (dk_at dksX4_hasWay_0 1 rfl rfl)
theorem dX4_hasWay_2 : decode cX4_hasWay 2 = .ok (.iload_n 3, 1) := dk_29 (dk_at dksX4_hasWay_0 2 rfl rfl)
theorem dX4_hasWay_3 : decode cX4_hasWay 3 = .ok (.aload_n 0, 1) := dk_42 (dk_at dksX4_hasWay_0 3 rfl rfl)
theorem dX4_hasWay_4 : decode cX4_hasWay 4 = .ok (.getfield 294, 3) := dk_180 1 38 (dk_at dksX4_hasWay_0 4 rfl rfl)
theorem dX4_hasWay_7 : decode cX4_hasWay 7 = .ok (.if_icmp .ge 51, 3) := dk_162 0 51 (dk_at dksX4_hasWay_0 7 rfl rfl)
theorem dX4_hasWay_10 : decode cX4_hasWay 10 = .ok (.aload_n 0, 1) := dk_42 (dk_at dksX4_hasWay_0 10 rfl rfl)
theorem dX4_hasWay_11 : decode cX4_hasWay 11 = .ok (.getfield 56, 3) := dk_180 0 56 (dk_at dksX4_hasWay_0 11 rfl rfl)
theorem dX4_hasWay_14 : decode cX4_hasWay 14 = .ok (.iload_n 3, 1) := dk_29 (dk_at dksX4_hasWay_0 14 rfl rfl)
theorem dX4_hasWay_15 : decode cX4_hasWay 15 = .ok (.iaload, 1) := dk_46 (dk_at dksX4_hasWay_0 15 rfl rfl)
theorem dX4_hasWay_16 : decode cX4_hasWay 16 = .ok (.iload_n 1, 1) := dk_27 (dk_at dksX4_hasWay_0 16 rfl rfl)
theorem dX4_hasWay_17 : decode cX4_hasWay 17 = .ok (.if_icmp .ne 13, 3) := dk_160 0 13 (dk_at dksX4_hasWay_0 17 rfl rfl)
theorem dX4_hasWay_20 : decode cX4_hasWay 20 = .ok (.aload_n 0, 1) := dk_42 (dk_at dksX4_hasWay_0 20 rfl rfl)
theorem dX4_hasWay_21 : decode cX4_hasWay 21 = .ok (.getfield 59, 3) := dk_180 0 59 (dk_at dksX4_hasWay_0 21 rfl rfl)
theorem dX4_hasWay_24 : decode cX4_hasWay 24 = .ok (.iload_n 3, 1) := dk_29 (dk_at dksX4_hasWay_1 0 rfl rfl)
theorem dX4_hasWay_25 : decode cX4_hasWay 25 = .ok (.iaload, 1) := dk_46 (dk_at dksX4_hasWay_1 1 rfl rfl)
theorem dX4_hasWay_26 : decode cX4_hasWay 26 = .ok (.iload_n 2, 1) := dk_28 (dk_at dksX4_hasWay_1 2 rfl rfl)
theorem dX4_hasWay_27 : decode cX4_hasWay 27 = .ok (.if_icmp .eq 23, 3) := dk_159 0 23 (dk_at dksX4_hasWay_1 3 rfl rfl)
theorem dX4_hasWay_30 : decode cX4_hasWay 30 = .ok (.aload_n 0, 1) := dk_42 (dk_at dksX4_hasWay_1 6 rfl rfl)
theorem dX4_hasWay_31 : decode cX4_hasWay 31 = .ok (.getfield 56, 3) := dk_180 0 56 (dk_at dksX4_hasWay_1 7 rfl rfl)
theorem dX4_hasWay_34 : decode cX4_hasWay 34 = .ok (.iload_n 3, 1) := dk_29 (dk_at dksX4_hasWay_1 10 rfl rfl)
theorem dX4_hasWay_35 : decode cX4_hasWay 35 = .ok (.iaload, 1) := dk_46 (dk_at dksX4_hasWay_1 11 rfl rfl)
theorem dX4_hasWay_36 : decode cX4_hasWay 36 = .ok (.iload_n 2, 1) := dk_28 (dk_at dksX4_hasWay_1 12 rfl rfl)
theorem dX4_hasWay_37 : decode cX4_hasWay 37 = .ok (.if_icmp .ne 15, 3) := dk_160 0 15 (dk_at dksX4_hasWay_1 13 rfl rfl)
theorem dX4_hasWay_40 : decode cX4_hasWay 40 = .ok (.aload_n 0, 1) := dk_42 (dk_at dksX4_hasWay_1 16 rfl rfl)
theorem dX4_hasWay_41 : decode cX4_hasWay 41 = .ok (.getfield 59, 3) := dk_180 0 59 (dk_at dksX4_hasWay_1 17 rfl rfl)
theorem dX4_hasWay_44 : decode cX4_hasWay 44 = .ok (.iload_n 3, 1) := dk_29 (dk_at dksX4_hasWay_1 20 rfl rfl)
theorem dX4_hasWay_45 : decode cX4_hasWay 45 = .ok (.iaload, 1) := dk_46 (dk_at dksX4_hasWay_1 21 rfl rfl)
theorem dX4_hasWay_46 : decode cX4_hasWay 46 = .ok (.iload_n 1, 1) := dk_27 (dk_at dksX4_hasWay_1 22 rfl rfl)
theorem dX4_hasWay_47 : decode cX4_hasWay 47 = .ok (.if_icmp .ne 5, 3) := dk_160 0 5 (dk_at dksX4_hasWay_2 0 rfl rfl)
theorem dX4_hasWay_50 : decode cX4_hasWay 50 = .ok (.iconst 1, 1) := dk_4 (dk_at dksX4_hasWay_2 3 rfl rfl)
theorem dX4_hasWay_51 : decode cX4_hasWay 51 = .ok (.ireturn, 1) := dk_172 (dk_at dksX4_hasWay_2 4 rfl rfl)
theorem dX4_hasWay_52 : decode cX4_hasWay 52 = .ok (.iinc 3 1, 3) := dk_132 3 1 (dk_at dksX4_hasWay_2 5 rfl rfl)
theorem dX4_hasWay_55 : decode cX4_hasWay 55 = .ok (.goto (-53), 3) := dk_167 255 203 (dk_at dksX4_hasWay_2 8 rfl rfl)
theorem dX4_hasWay_58 : decode cX4_hasWay 58 = .ok (.iconst 0, 1) := dk_3 (dk_at dksX4_hasWay_2 11 rfl rfl)
theorem dX4_hasWay_59 : decode cX4_hasWay 59 = .ok (.ireturn, 1) := dk_172 (dk_at dksX4_hasWay_2 12 rfl rfl)
abbrev cX4_readsPerson : ByteArray := prog_13_method_38_code
def yX4_readsPerson : MethodName := ⟨RX4, "readsPerson", "()V"⟩
def dkwX4_readsPerson_3 : List UInt8 := [3, 79, 42, 182, 0, 227, 153, 0, 13, 42, 89, 180, 1, 48, 4, 96, 181, 1, 48, 177]
abbrev dktX4_readsPerson_3 : List UInt8 := dkwX4_readsPerson_3 ++ []
def dkwX4_readsPerson_2 : List UInt8 := [16, 22, 42, 180, 1, 48, 96, 42, 42, 180, 1, 31, 182, 1, 41, 79, 42, 180, 0, 68, 42, 180, 1, 48]
abbrev dktX4_readsPerson_2 : List UInt8 := dkwX4_readsPerson_2 ++ dktX4_readsPerson_3
def dkwX4_readsPerson_1 : List UInt8 := [182, 0, 231, 42, 180, 0, 65, 42, 180, 1, 48, 42, 3, 16, 99, 182, 1, 34, 79, 42, 180, 0, 80]
abbrev dktX4_readsPerson_1 : List UInt8 := dkwX4_readsPerson_1 ++ dktX4_readsPerson_2
def dkwX4_readsPerson_0 : List UInt8 := [42, 180, 1, 48, 16, 9, 160, 0, 8, 42, 5, 182, 0, 234, 42, 182, 0, 227, 154, 0, 4, 177, 42]
abbrev dktX4_readsPerson_0 : List UInt8 := dkwX4_readsPerson_0 ++ dktX4_readsPerson_1
theorem dksX4_readsPerson_0 : cX4_readsPerson.data.toList.drop 0 = dktX4_readsPerson_0 := by decide +kernel
theorem dksX4_readsPerson_1 : cX4_readsPerson.data.toList.drop 23 = dktX4_readsPerson_1 := dk_seg dksX4_readsPerson_0 23 rfl rfl
theorem dksX4_readsPerson_2 : cX4_readsPerson.data.toList.drop 46 = dktX4_readsPerson_2 := dk_seg dksX4_readsPerson_1 23 rfl rfl
theorem dksX4_readsPerson_3 : cX4_readsPerson.data.toList.drop 70 = dktX4_readsPerson_3 := dk_seg dksX4_readsPerson_2 24 rfl rfl
theorem dX4_readsPerson_0 : decode cX4_readsPerson 0 = .ok (.aload_n 0, 1) := dk_42 (dk_at dksX4_readsPerson_0 0 rfl rfl)
theorem dX4_readsPerson_1 : decode cX4_readsPerson 1 = .ok (.getfield 304, 3) := dk_180 1 48 (dk_at dksX4_readsPerson_0 1 rfl rfl)
theorem dX4_readsPerson_4 : decode cX4_readsPerson 4 = .ok (.bipush 9, 2) := dk_16 9 (dk_at dksX4_readsPerson_0 4 rfl rfl)
theorem dX4_readsPerson_6 : decode cX4_readsPerson 6 = .ok (.if_icmp .ne 8, 3) := dk_160 0 8 (dk_at dksX4_readsPerson_0 6 rfl rfl)
theorem dX4_readsPerson_9 : decode cX4_readsPerson 9 = .ok (.aload_n 0, 1) := dk_42 (dk_at dksX4_readsPerson_0 9 rfl rfl)
theorem dX4_readsPerson_10 : decode cX4_readsPerson 10 = .ok (.iconst 2, 1) := dk_5 (dk_at dksX4_readsPerson_0 10 rfl rfl)
theorem dX4_readsPerson_11 : decode cX4_readsPerson 11 = .ok (.invokevirtual 234, 3) := dk_182 0 234 (dk_at dksX4_readsPerson_0 11 rfl rfl)
theorem dX4_readsPerson_14 : decode cX4_readsPerson 14 = .ok (.aload_n 0, 1) := dk_42 (dk_at dksX4_readsPerson_0 14 rfl rfl)
theorem dX4_readsPerson_15 : decode cX4_readsPerson 15 = .ok (.invokevirtual 227, 3) := dk_182 0 227 (dk_at dksX4_readsPerson_0 15 rfl rfl)
theorem dX4_readsPerson_18 : decode cX4_readsPerson 18 = .ok (.ifCond .ne 4, 3) := dk_154 0 4 (dk_at dksX4_readsPerson_0 18 rfl rfl)
theorem dX4_readsPerson_21 : decode cX4_readsPerson 21 = .ok (.return_, 1) := dk_177 (dk_at dksX4_readsPerson_0 21 rfl rfl)
theorem dX4_readsPerson_22 : decode cX4_readsPerson 22 = .ok (.aload_n 0, 1) := dk_42 (dk_at dksX4_readsPerson_0 22 rfl rfl)
theorem dX4_readsPerson_23 : decode cX4_readsPerson 23 = .ok (.invokevirtual 231, 3) := dk_182 0 231 (dk_at dksX4_readsPerson_1 0 rfl rfl)
theorem dX4_readsPerson_26 : decode cX4_readsPerson 26 = .ok (.aload_n 0, 1) := dk_42 (dk_at dksX4_readsPerson_1 3 rfl rfl)
theorem dX4_readsPerson_27 : decode cX4_readsPerson 27 = .ok (.getfield 65, 3) := dk_180 0 65 (dk_at dksX4_readsPerson_1 4 rfl rfl)
theorem dX4_readsPerson_30 : decode cX4_readsPerson 30 = .ok (.aload_n 0, 1) := dk_42 (dk_at dksX4_readsPerson_1 7 rfl rfl)
theorem dX4_readsPerson_31 : decode cX4_readsPerson 31 = .ok (.getfield 304, 3) := dk_180 1 48 (dk_at dksX4_readsPerson_1 8 rfl rfl)
theorem dX4_readsPerson_34 : decode cX4_readsPerson 34 = .ok (.aload_n 0, 1) := dk_42 (dk_at dksX4_readsPerson_1 11 rfl rfl)
theorem dX4_readsPerson_35 : decode cX4_readsPerson 35 = .ok (.iconst 0, 1) := dk_3 (dk_at dksX4_readsPerson_1 12 rfl rfl)
theorem dX4_readsPerson_36 : decode cX4_readsPerson 36 = .ok (.bipush 99, 2) := dk_16 99 (dk_at dksX4_readsPerson_1 13 rfl rfl)
theorem dX4_readsPerson_38 : decode cX4_readsPerson 38 = .ok (.invokevirtual 290, 3) := dk_182 1 34 (dk_at dksX4_readsPerson_1 15 rfl rfl)
theorem dX4_readsPerson_41 : decode cX4_readsPerson 41 = .ok (.iastore, 1) := dk_79 (dk_at dksX4_readsPerson_1 18 rfl rfl)
theorem dX4_readsPerson_42 : decode cX4_readsPerson 42 = .ok (.aload_n 0, 1) := dk_42 (dk_at dksX4_readsPerson_1 19 rfl rfl)
theorem dX4_readsPerson_43 : decode cX4_readsPerson 43 = .ok (.getfield 80, 3) := dk_180 0 80 (dk_at dksX4_readsPerson_1 20 rfl rfl)
theorem dX4_readsPerson_46 : decode cX4_readsPerson 46 = .ok (.bipush 22, 2) := dk_16 22 (dk_at dksX4_readsPerson_2 0 rfl rfl)
theorem dX4_readsPerson_48 : decode cX4_readsPerson 48 = .ok (.aload_n 0, 1) := dk_42 (dk_at dksX4_readsPerson_2 2 rfl rfl)
theorem dX4_readsPerson_49 : decode cX4_readsPerson 49 = .ok (.getfield 304, 3) := dk_180 1 48 (dk_at dksX4_readsPerson_2 3 rfl rfl)
theorem dX4_readsPerson_52 : decode cX4_readsPerson 52 = .ok (.iadd, 1) := dk_96 (dk_at dksX4_readsPerson_2 6 rfl rfl)
theorem dX4_readsPerson_53 : decode cX4_readsPerson 53 = .ok (.aload_n 0, 1) := dk_42 (dk_at dksX4_readsPerson_2 7 rfl rfl)
theorem dX4_readsPerson_54 : decode cX4_readsPerson 54 = .ok (.aload_n 0, 1) := dk_42 (dk_at dksX4_readsPerson_2 8 rfl rfl)
theorem dX4_readsPerson_55 : decode cX4_readsPerson 55 = .ok (.getfield 287, 3) := dk_180 1 31 (dk_at dksX4_readsPerson_2 9 rfl rfl)
theorem dX4_readsPerson_58 : decode cX4_readsPerson 58 = .ok (.invokevirtual 297, 3) := dk_182 1 41 (dk_at dksX4_readsPerson_2 12 rfl rfl)
theorem dX4_readsPerson_61 : decode cX4_readsPerson 61 = .ok (.iastore, 1) := dk_79 (dk_at dksX4_readsPerson_2 15 rfl rfl)
theorem dX4_readsPerson_62 : decode cX4_readsPerson 62 = .ok (.aload_n 0, 1) := dk_42 (dk_at dksX4_readsPerson_2 16 rfl rfl)
theorem dX4_readsPerson_63 : decode cX4_readsPerson 63 = .ok (.getfield 68, 3) := dk_180 0 68 (dk_at dksX4_readsPerson_2 17 rfl rfl)
theorem dX4_readsPerson_66 : decode cX4_readsPerson 66 = .ok (.aload_n 0, 1) := dk_42 (dk_at dksX4_readsPerson_2 20 rfl rfl)
theorem dX4_readsPerson_67 : decode cX4_readsPerson 67 = .ok (.getfield 304, 3) := dk_180 1 48 (dk_at dksX4_readsPerson_2 21 rfl rfl)
theorem dX4_readsPerson_70 : decode cX4_readsPerson 70 = .ok (.iconst 0, 1) := dk_3 (dk_at dksX4_readsPerson_3 0 rfl rfl)
theorem dX4_readsPerson_71 : decode cX4_readsPerson 71 = .ok (.iastore, 1) := dk_79 (dk_at dksX4_readsPerson_3 1 rfl rfl)
theorem dX4_readsPerson_72 : decode cX4_readsPerson 72 = .ok (.aload_n 0, 1) := dk_42 (dk_at dksX4_readsPerson_3 2 rfl rfl)
theorem dX4_readsPerson_73 : decode cX4_readsPerson 73 = .ok (.invokevirtual 227, 3) := dk_182 0 227 (dk_at dksX4_readsPerson_3 3 rfl rfl)
theorem dX4_readsPerson_76 : decode cX4_readsPerson 76 = .ok (.ifCond .eq 13, 3) := dk_153 0 13 (dk_at dksX4_readsPerson_3 6 rfl rfl)
theorem dX4_readsPerson_79 : decode cX4_readsPerson 79 = .ok (.aload_n 0, 1) := dk_42 (dk_at dksX4_readsPerson_3 9 rfl rfl)
theorem dX4_readsPerson_80 : decode cX4_readsPerson 80 = .ok (.dup, 1) := dk_89 (dk_at dksX4_readsPerson_3 10 rfl rfl)
theorem dX4_readsPerson_81 : decode cX4_readsPerson 81 = .ok (.getfield 304, 3) := dk_180 1 48 (dk_at dksX4_readsPerson_3 11 rfl rfl)
theorem dX4_readsPerson_84 : decode cX4_readsPerson 84 = .ok (.iconst 1, 1) := dk_4 (dk_at dksX4_readsPerson_3 14 rfl rfl)
theorem dX4_readsPerson_85 : decode cX4_readsPerson 85 = .ok (.iadd, 1) := dk_96 (dk_at dksX4_readsPerson_3 15 rfl rfl)
theorem dX4_readsPerson_86 : decode cX4_readsPerson 86 = .ok (.putfield 304, 3) := dk_181 1 48 (dk_at dksX4_readsPerson_3 16 rfl rfl)
theorem dX4_readsPerson_89 : decode cX4_readsPerson 89 = .ok (.return_, 1) := dk_177 (dk_at dksX4_readsPerson_3 19 rfl rfl)
abbrev cX4_readsKin : ByteArray := prog_13_method_39_code
def yX4_readsKin : MethodName := ⟨RX4, "readsKin", "()V"⟩
def dkwX4_readsKin_5 : List UInt8 := [180, 1, 51, 4, 96, 181, 1, 51, 42, 182, 0, 231, 177]
abbrev dktX4_readsKin_5 : List UInt8 := dkwX4_readsKin_5 ++ []
def dkwX4_readsKin_4 : List UInt8 := [42, 180, 0, 195, 120, 128, 79, 42, 180, 0, 68, 42, 180, 0, 195, 92, 46, 4, 27, 120, 128, 79, 42, 89]
abbrev dktX4_readsKin_4 : List UInt8 := dkwX4_readsKin_4 ++ dktX4_readsKin_5
def dkwX4_readsKin_3 : List UInt8 := [160, 0, 8, 42, 7, 182, 0, 234, 42, 182, 0, 227, 154, 0, 4, 177, 42, 180, 0, 68, 27, 92, 46, 4]
abbrev dktX4_readsKin_3 : List UInt8 := dkwX4_readsKin_3 ++ dktX4_readsKin_4
def dkwX4_readsKin_2 : List UInt8 := [42, 180, 0, 195, 27, 159, 0, 20, 42, 180, 0, 68, 27, 46, 42, 180, 0, 195, 122, 4, 126, 4]
abbrev dktX4_readsKin_2 : List UInt8 := dkwX4_readsKin_2 ++ dktX4_readsKin_3
def dkwX4_readsKin_1 : List UInt8 := [182, 0, 231, 42, 42, 180, 1, 48, 182, 1, 41, 60, 42, 42, 180, 1, 48, 182, 0, 237, 154, 0, 4, 177]
abbrev dktX4_readsKin_1 : List UInt8 := dkwX4_readsKin_1 ++ dktX4_readsKin_2
def dkwX4_readsKin_0 : List UInt8 := [42, 180, 1, 51, 16, 9, 160, 0, 8, 42, 5, 182, 0, 234, 42, 182, 0, 227, 154, 0, 4, 177, 42]
abbrev dktX4_readsKin_0 : List UInt8 := dkwX4_readsKin_0 ++ dktX4_readsKin_1
theorem dksX4_readsKin_0 : cX4_readsKin.data.toList.drop 0 = dktX4_readsKin_0 := by decide +kernel
theorem dksX4_readsKin_1 : cX4_readsKin.data.toList.drop 23 = dktX4_readsKin_1 := dk_seg dksX4_readsKin_0 23 rfl rfl
theorem dksX4_readsKin_2 : cX4_readsKin.data.toList.drop 47 = dktX4_readsKin_2 := dk_seg dksX4_readsKin_1 24 rfl rfl
theorem dksX4_readsKin_3 : cX4_readsKin.data.toList.drop 69 = dktX4_readsKin_3 := dk_seg dksX4_readsKin_2 22 rfl rfl
theorem dksX4_readsKin_4 : cX4_readsKin.data.toList.drop 93 = dktX4_readsKin_4 := dk_seg dksX4_readsKin_3 24 rfl rfl
theorem dksX4_readsKin_5 : cX4_readsKin.data.toList.drop 117 = dktX4_readsKin_5 := dk_seg dksX4_readsKin_4 24 rfl rfl
theorem dX4_readsKin_0 : decode cX4_readsKin 0 = .ok (.aload_n 0, 1) := dk_42 (dk_at dksX4_readsKin_0 0 rfl rfl)
theorem dX4_readsKin_1 : decode cX4_readsKin 1 = .ok (.getfield 307, 3) := dk_180 1 51 (dk_at dksX4_readsKin_0 1 rfl rfl)
theorem dX4_readsKin_4 : decode cX4_readsKin 4 = .ok (.bipush 9, 2) := dk_16 9 (dk_at dksX4_readsKin_0 4 rfl rfl)
theorem dX4_readsKin_6 : decode cX4_readsKin 6 = .ok (.if_icmp .ne 8, 3) := dk_160 0 8 (dk_at dksX4_readsKin_0 6 rfl rfl)
theorem dX4_readsKin_9 : decode cX4_readsKin 9 = .ok (.aload_n 0, 1) := dk_42 (dk_at dksX4_readsKin_0 9 rfl rfl)
theorem dX4_readsKin_10 : decode cX4_readsKin 10 = .ok (.iconst 2, 1) := dk_5 (dk_at dksX4_readsKin_0 10 rfl rfl)
theorem dX4_readsKin_11 : decode cX4_readsKin 11 = .ok (.invokevirtual 234, 3) := dk_182 0 234 (dk_at dksX4_readsKin_0 11 rfl rfl)
theorem dX4_readsKin_14 : decode cX4_readsKin 14 = .ok (.aload_n 0, 1) := dk_42 (dk_at dksX4_readsKin_0 14 rfl rfl)
theorem dX4_readsKin_15 : decode cX4_readsKin 15 = .ok (.invokevirtual 227, 3) := dk_182 0 227 (dk_at dksX4_readsKin_0 15 rfl rfl)
theorem dX4_readsKin_18 : decode cX4_readsKin 18 = .ok (.ifCond .ne 4, 3) := dk_154 0 4 (dk_at dksX4_readsKin_0 18 rfl rfl)
theorem dX4_readsKin_21 : decode cX4_readsKin 21 = .ok (.return_, 1) := dk_177 (dk_at dksX4_readsKin_0 21 rfl rfl)
theorem dX4_readsKin_22 : decode cX4_readsKin 22 = .ok (.aload_n 0, 1) := dk_42 (dk_at dksX4_readsKin_0 22 rfl rfl)
theorem dX4_readsKin_23 : decode cX4_readsKin 23 = .ok (.invokevirtual 231, 3) := dk_182 0 231 (dk_at dksX4_readsKin_1 0 rfl rfl)
theorem dX4_readsKin_26 : decode cX4_readsKin 26 = .ok (.aload_n 0, 1) := dk_42 (dk_at dksX4_readsKin_1 3 rfl rfl)
theorem dX4_readsKin_27 : decode cX4_readsKin 27 = .ok (.aload_n 0, 1) := dk_42 (dk_at dksX4_readsKin_1 4 rfl rfl)
theorem dX4_readsKin_28 : decode cX4_readsKin 28 = .ok (.getfield 304, 3) := dk_180 1 48 (dk_at dksX4_readsKin_1 5 rfl rfl)
theorem dX4_readsKin_31 : decode cX4_readsKin 31 = .ok (.invokevirtual 297, 3) := dk_182 1 41 (dk_at dksX4_readsKin_1 8 rfl rfl)
theorem dX4_readsKin_34 : decode cX4_readsKin 34 = .ok (.istore_n 1, 1) := dk_60 (dk_at dksX4_readsKin_1 11 rfl rfl)
theorem dX4_readsKin_35 : decode cX4_readsKin 35 = .ok (.aload_n 0, 1) := dk_42 (dk_at dksX4_readsKin_1 12 rfl rfl)
theorem dX4_readsKin_36 : decode cX4_readsKin 36 = .ok (.aload_n 0, 1) := dk_42 (dk_at dksX4_readsKin_1 13 rfl rfl)
theorem dX4_readsKin_37 : decode cX4_readsKin 37 = .ok (.getfield 304, 3) := dk_180 1 48 (dk_at dksX4_readsKin_1 14 rfl rfl)
theorem dX4_readsKin_40 : decode cX4_readsKin 40 = .ok (.invokevirtual 237, 3) := dk_182 0 237 (dk_at dksX4_readsKin_1 17 rfl rfl)
theorem dX4_readsKin_43 : decode cX4_readsKin 43 = .ok (.ifCond .ne 4, 3) := dk_154 0 4 (dk_at dksX4_readsKin_1 20 rfl rfl)
theorem dX4_readsKin_46 : decode cX4_readsKin 46 = .ok (.return_, 1) := dk_177 (dk_at dksX4_readsKin_1 23 rfl rfl)
theorem dX4_readsKin_47 : decode cX4_readsKin 47 = .ok (.aload_n 0, 1) := dk_42 (dk_at dksX4_readsKin_2 0 rfl rfl)
theorem dX4_readsKin_48 : decode cX4_readsKin 48 = .ok (.getfield 195, 3) := dk_180 0 195 (dk_at dksX4_readsKin_2 1 rfl rfl)
theorem dX4_readsKin_51 : decode cX4_readsKin 51 = .ok (.iload_n 1, 1) := dk_27 (dk_at dksX4_readsKin_2 4 rfl rfl)
theorem dX4_readsKin_52 : decode cX4_readsKin 52 = .ok (.if_icmp .eq 20, 3) := dk_159 0 20 (dk_at dksX4_readsKin_2 5 rfl rfl)
theorem dX4_readsKin_55 : decode cX4_readsKin 55 = .ok (.aload_n 0, 1) := dk_42 (dk_at dksX4_readsKin_2 8 rfl rfl)
theorem dX4_readsKin_56 : decode cX4_readsKin 56 = .ok (.getfield 68, 3) := dk_180 0 68 (dk_at dksX4_readsKin_2 9 rfl rfl)
theorem dX4_readsKin_59 : decode cX4_readsKin 59 = .ok (.iload_n 1, 1) := dk_27 (dk_at dksX4_readsKin_2 12 rfl rfl)
theorem dX4_readsKin_60 : decode cX4_readsKin 60 = .ok (.iaload, 1) := dk_46 (dk_at dksX4_readsKin_2 13 rfl rfl)
theorem dX4_readsKin_61 : decode cX4_readsKin 61 = .ok (.aload_n 0, 1) := dk_42 (dk_at dksX4_readsKin_2 14 rfl rfl)
theorem dX4_readsKin_62 : decode cX4_readsKin 62 = .ok (.getfield 195, 3) := dk_180 0 195 (dk_at dksX4_readsKin_2 15 rfl rfl)
theorem dX4_readsKin_65 : decode cX4_readsKin 65 = .ok (.ishr, 1) := dk_122 (dk_at dksX4_readsKin_2 18 rfl rfl)
theorem dX4_readsKin_66 : decode cX4_readsKin 66 = .ok (.iconst 1, 1) := dk_4 (dk_at dksX4_readsKin_2 19 rfl rfl)
theorem dX4_readsKin_67 : decode cX4_readsKin 67 = .ok (.iand, 1) := dk_126 (dk_at dksX4_readsKin_2 20 rfl rfl)
theorem dX4_readsKin_68 : decode cX4_readsKin 68 = .ok (.iconst 1, 1) := dk_4 (dk_at dksX4_readsKin_2 21 rfl rfl)
theorem dX4_readsKin_69 : decode cX4_readsKin 69 = .ok (.if_icmp .ne 8, 3) := dk_160 0 8 (dk_at dksX4_readsKin_3 0 rfl rfl)
theorem dX4_readsKin_72 : decode cX4_readsKin 72 = .ok (.aload_n 0, 1) := dk_42 (dk_at dksX4_readsKin_3 3 rfl rfl)
theorem dX4_readsKin_73 : decode cX4_readsKin 73 = .ok (.iconst 4, 1) := dk_7 (dk_at dksX4_readsKin_3 4 rfl rfl)
theorem dX4_readsKin_74 : decode cX4_readsKin 74 = .ok (.invokevirtual 234, 3) := dk_182 0 234 (dk_at dksX4_readsKin_3 5 rfl rfl)
theorem dX4_readsKin_77 : decode cX4_readsKin 77 = .ok (.aload_n 0, 1) := dk_42 (dk_at dksX4_readsKin_3 8 rfl rfl)
theorem dX4_readsKin_78 : decode cX4_readsKin 78 = .ok (.invokevirtual 227, 3) := dk_182 0 227 (dk_at dksX4_readsKin_3 9 rfl rfl)
theorem dX4_readsKin_81 : decode cX4_readsKin 81 = .ok (.ifCond .ne 4, 3) := dk_154 0 4 (dk_at dksX4_readsKin_3 12 rfl rfl)
theorem dX4_readsKin_84 : decode cX4_readsKin 84 = .ok (.return_, 1) := dk_177 (dk_at dksX4_readsKin_3 15 rfl rfl)
theorem dX4_readsKin_85 : decode cX4_readsKin 85 = .ok (.aload_n 0, 1) := dk_42 (dk_at dksX4_readsKin_3 16 rfl rfl)
theorem dX4_readsKin_86 : decode cX4_readsKin 86 = .ok (.getfield 68, 3) := dk_180 0 68 (dk_at dksX4_readsKin_3 17 rfl rfl)
theorem dX4_readsKin_89 : decode cX4_readsKin 89 = .ok (.iload_n 1, 1) := dk_27 (dk_at dksX4_readsKin_3 20 rfl rfl)
theorem dX4_readsKin_90 : decode cX4_readsKin 90 = .ok (.dup2, 1) := dk_92 (dk_at dksX4_readsKin_3 21 rfl rfl)
theorem dX4_readsKin_91 : decode cX4_readsKin 91 = .ok (.iaload, 1) := dk_46 (dk_at dksX4_readsKin_3 22 rfl rfl)
theorem dX4_readsKin_92 : decode cX4_readsKin 92 = .ok (.iconst 1, 1) := dk_4 (dk_at dksX4_readsKin_3 23 rfl rfl)
theorem dX4_readsKin_93 : decode cX4_readsKin 93 = .ok (.aload_n 0, 1) := dk_42 (dk_at dksX4_readsKin_4 0 rfl rfl)
theorem dX4_readsKin_94 : decode cX4_readsKin 94 = .ok (.getfield 195, 3) := dk_180 0 195 (dk_at dksX4_readsKin_4 1 rfl rfl)
theorem dX4_readsKin_97 : decode cX4_readsKin 97 = .ok (.ishl, 1) := dk_120 (dk_at dksX4_readsKin_4 4 rfl rfl)
theorem dX4_readsKin_98 : decode cX4_readsKin 98 = .ok (.ior, 1) := dk_128 (dk_at dksX4_readsKin_4 5 rfl rfl)
theorem dX4_readsKin_99 : decode cX4_readsKin 99 = .ok (.iastore, 1) := dk_79 (dk_at dksX4_readsKin_4 6 rfl rfl)
theorem dX4_readsKin_100 : decode cX4_readsKin 100 = .ok (.aload_n 0, 1) := dk_42 (dk_at dksX4_readsKin_4 7 rfl rfl)
theorem dX4_readsKin_101 : decode cX4_readsKin 101 = .ok (.getfield 68, 3) := dk_180 0 68 (dk_at dksX4_readsKin_4 8 rfl rfl)
theorem dX4_readsKin_104 : decode cX4_readsKin 104 = .ok (.aload_n 0, 1) := dk_42 (dk_at dksX4_readsKin_4 11 rfl rfl)
theorem dX4_readsKin_105 : decode cX4_readsKin 105 = .ok (.getfield 195, 3) := dk_180 0 195 (dk_at dksX4_readsKin_4 12 rfl rfl)
theorem dX4_readsKin_108 : decode cX4_readsKin 108 = .ok (.dup2, 1) := dk_92 (dk_at dksX4_readsKin_4 15 rfl rfl)
theorem dX4_readsKin_109 : decode cX4_readsKin 109 = .ok (.iaload, 1) := dk_46 (dk_at dksX4_readsKin_4 16 rfl rfl)
theorem dX4_readsKin_110 : decode cX4_readsKin 110 = .ok (.iconst 1, 1) := dk_4 (dk_at dksX4_readsKin_4 17 rfl rfl)
theorem dX4_readsKin_111 : decode cX4_readsKin 111 = .ok (.iload_n 1, 1) := dk_27 (dk_at dksX4_readsKin_4 18 rfl rfl)
theorem dX4_readsKin_112 : decode cX4_readsKin 112 = .ok (.ishl, 1) := dk_120 (dk_at dksX4_readsKin_4 19 rfl rfl)
theorem dX4_readsKin_113 : decode cX4_readsKin 113 = .ok (.ior, 1) := dk_128 (dk_at dksX4_readsKin_4 20 rfl rfl)
theorem dX4_readsKin_114 : decode cX4_readsKin 114 = .ok (.iastore, 1) := dk_79 (dk_at dksX4_readsKin_4 21 rfl rfl)
theorem dX4_readsKin_115 : decode cX4_readsKin 115 = .ok (.aload_n 0, 1) := dk_42 (dk_at dksX4_readsKin_4 22 rfl rfl)
theorem dX4_readsKin_116 : decode cX4_readsKin 116 = .ok (.dup, 1) := dk_89 (dk_at dksX4_readsKin_4 23 rfl rfl)
theorem dX4_readsKin_117 : decode cX4_readsKin 117 = .ok (.getfield 307, 3) := dk_180 1 51 (dk_at dksX4_readsKin_5 0 rfl rfl)
theorem dX4_readsKin_120 : decode cX4_readsKin 120 = .ok (.iconst 1, 1) := dk_4 (dk_at dksX4_readsKin_5 3 rfl rfl)
theorem dX4_readsKin_121 : decode cX4_readsKin 121 = .ok (.iadd, 1) := dk_96 (dk_at dksX4_readsKin_5 4 rfl rfl)
theorem dX4_readsKin_122 : decode cX4_readsKin 122 = .ok (.putfield 307, 3) := dk_181 1 51 (dk_at dksX4_readsKin_5 5 rfl rfl)
theorem dX4_readsKin_125 : decode cX4_readsKin 125 = .ok (.aload_n 0, 1) := dk_42 (dk_at dksX4_readsKin_5 8 rfl rfl)
theorem dX4_readsKin_126 : decode cX4_readsKin 126 = .ok (.invokevirtual 231, 3) := dk_182 0 231 (dk_at dksX4_readsKin_5 9 rfl rfl)
theorem dX4_readsKin_129 : decode cX4_readsKin 129 = .ok (.return_, 1) := dk_177 (dk_at dksX4_readsKin_5 12 rfl rfl)
abbrev cX4_readsFriend : ByteArray := prog_13_method_40_code
def yX4_readsFriend : MethodName := ⟨RX4, "readsFriend", "(I)V"⟩
def dkwX4_readsFriend_6 : List UInt8 := [180, 1, 54, 4, 96, 181, 1, 54, 42, 182, 0, 231, 177]
abbrev dktX4_readsFriend_6 : List UInt8 := dkwX4_readsFriend_6 ++ []
def dkwX4_readsFriend_5 : List UInt8 := [180, 0, 74, 42, 180, 1, 54, 42, 180, 0, 195, 79, 42, 180, 0, 77, 42, 180, 1, 54, 27, 79, 42, 89]
abbrev dktX4_readsFriend_5 : List UInt8 := dkwX4_readsFriend_5 ++ dktX4_readsFriend_6
def dkwX4_readsFriend_4 : List UInt8 := [167, 255, 210, 42, 182, 0, 227, 154, 0, 4, 177, 42, 180, 0, 71, 42, 180, 1, 54, 28, 79, 42]
abbrev dktX4_readsFriend_4 : List UInt8 := dkwX4_readsFriend_4 ++ dktX4_readsFriend_5
def dkwX4_readsFriend_3 : List UInt8 := [160, 0, 21, 42, 180, 0, 74, 29, 46, 42, 180, 0, 195, 160, 0, 8, 42, 7, 182, 0, 234, 132, 3, 1]
abbrev dktX4_readsFriend_3 : List UInt8 := dkwX4_readsFriend_3 ++ dktX4_readsFriend_4
def dkwX4_readsFriend_2 : List UInt8 := [3, 62, 29, 42, 180, 1, 54, 162, 0, 44, 42, 182, 0, 227, 153, 0, 37, 42, 180, 0, 71, 29, 46, 28]
abbrev dktX4_readsFriend_2 : List UInt8 := dkwX4_readsFriend_2 ++ dktX4_readsFriend_3
def dkwX4_readsFriend_1 : List UInt8 := [182, 0, 231, 42, 42, 180, 1, 57, 182, 1, 41, 61, 42, 42, 180, 1, 48, 182, 0, 237, 154, 0, 4, 177]
abbrev dktX4_readsFriend_1 : List UInt8 := dkwX4_readsFriend_1 ++ dktX4_readsFriend_2
def dkwX4_readsFriend_0 : List UInt8 := [42, 180, 1, 54, 16, 12, 160, 0, 8, 42, 5, 182, 0, 234, 42, 182, 0, 227, 154, 0, 4, 177, 42]
abbrev dktX4_readsFriend_0 : List UInt8 := dkwX4_readsFriend_0 ++ dktX4_readsFriend_1
theorem dksX4_readsFriend_0 : cX4_readsFriend.data.toList.drop 0 = dktX4_readsFriend_0 := by decide +kernel
theorem dksX4_readsFriend_1 : cX4_readsFriend.data.toList.drop 23 = dktX4_readsFriend_1 := dk_seg dksX4_readsFriend_0 23 rfl rfl
theorem dksX4_readsFriend_2 : cX4_readsFriend.data.toList.drop 47 = dktX4_readsFriend_2 := dk_seg dksX4_readsFriend_1 24 rfl rfl
theorem dksX4_readsFriend_3 : cX4_readsFriend.data.toList.drop 71 = dktX4_readsFriend_3 := dk_seg dksX4_readsFriend_2 24 rfl rfl
theorem dksX4_readsFriend_4 : cX4_readsFriend.data.toList.drop 95 = dktX4_readsFriend_4 := dk_seg dksX4_readsFriend_3 24 rfl rfl
theorem dksX4_readsFriend_5 : cX4_readsFriend.data.toList.drop 117 = dktX4_readsFriend_5 := dk_seg dksX4_readsFriend_4 22 rfl rfl
theorem dksX4_readsFriend_6 : cX4_readsFriend.data.toList.drop 141 = dktX4_readsFriend_6 := dk_seg dksX4_readsFriend_5 24 rfl rfl
theorem dX4_readsFriend_0 : decode cX4_readsFriend 0 = .ok (.aload_n 0, 1) := dk_42 (dk_at dksX4_readsFriend_0 0 rfl rfl)
theorem dX4_readsFriend_1 : decode cX4_readsFriend 1 = .ok (.getfield 310, 3) := dk_180 1 54 (dk_at dksX4_readsFriend_0 1 rfl rfl)
theorem dX4_readsFriend_4 : decode cX4_readsFriend 4 = .ok (.bipush 12, 2) := dk_16 12 (dk_at dksX4_readsFriend_0 4 rfl rfl)
theorem dX4_readsFriend_6 : decode cX4_readsFriend 6 = .ok (.if_icmp .ne 8, 3) := dk_160 0 8 (dk_at dksX4_readsFriend_0 6 rfl rfl)
theorem dX4_readsFriend_9 : decode cX4_readsFriend 9 = .ok (.aload_n 0, 1) := dk_42 (dk_at dksX4_readsFriend_0 9 rfl rfl)
theorem dX4_readsFriend_10 : decode cX4_readsFriend 10 = .ok (.iconst 2, 1) := dk_5 (dk_at dksX4_readsFriend_0 10 rfl rfl)
theorem dX4_readsFriend_11 : decode cX4_readsFriend 11 = .ok (.invokevirtual 234, 3) := dk_182 0 234 (dk_at dksX4_readsFriend_0 11 rfl rfl)
theorem dX4_readsFriend_14 : decode cX4_readsFriend 14 = .ok (.aload_n 0, 1) := dk_42 (dk_at dksX4_readsFriend_0 14 rfl rfl)
theorem dX4_readsFriend_15 : decode cX4_readsFriend 15 = .ok (.invokevirtual 227, 3) := dk_182 0 227 (dk_at dksX4_readsFriend_0 15 rfl rfl)
theorem dX4_readsFriend_18 : decode cX4_readsFriend 18 = .ok (.ifCond .ne 4, 3) := dk_154 0 4 (dk_at dksX4_readsFriend_0 18 rfl rfl)
theorem dX4_readsFriend_21 : decode cX4_readsFriend 21 = .ok (.return_, 1) := dk_177 (dk_at dksX4_readsFriend_0 21 rfl rfl)
theorem dX4_readsFriend_22 : decode cX4_readsFriend 22 = .ok (.aload_n 0, 1) := dk_42 (dk_at dksX4_readsFriend_0 22 rfl rfl)
theorem dX4_readsFriend_23 : decode cX4_readsFriend 23 = .ok (.invokevirtual 231, 3) := dk_182 0 231 (dk_at dksX4_readsFriend_1 0 rfl rfl)
theorem dX4_readsFriend_26 : decode cX4_readsFriend 26 = .ok (.aload_n 0, 1) := dk_42 (dk_at dksX4_readsFriend_1 3 rfl rfl)
theorem dX4_readsFriend_27 : decode cX4_readsFriend 27 = .ok (.aload_n 0, 1) := dk_42 (dk_at dksX4_readsFriend_1 4 rfl rfl)
theorem dX4_readsFriend_28 : decode cX4_readsFriend 28 = .ok (.getfield 313, 3) := dk_180 1 57 (dk_at dksX4_readsFriend_1 5 rfl rfl)
theorem dX4_readsFriend_31 : decode cX4_readsFriend 31 = .ok (.invokevirtual 297, 3) := dk_182 1 41 (dk_at dksX4_readsFriend_1 8 rfl rfl)
theorem dX4_readsFriend_34 : decode cX4_readsFriend 34 = .ok (.istore_n 2, 1) := dk_61 (dk_at dksX4_readsFriend_1 11 rfl rfl)
theorem dX4_readsFriend_35 : decode cX4_readsFriend 35 = .ok (.aload_n 0, 1) := dk_42 (dk_at dksX4_readsFriend_1 12 rfl rfl)
theorem dX4_readsFriend_36 : decode cX4_readsFriend 36 = .ok (.aload_n 0, 1) := dk_42 (dk_at dksX4_readsFriend_1 13 rfl rfl)
theorem dX4_readsFriend_37 : decode cX4_readsFriend 37 = .ok (.getfield 304, 3) := dk_180 1 48 (dk_at dksX4_readsFriend_1 14 rfl rfl)
theorem dX4_readsFriend_40 : decode cX4_readsFriend 40 = .ok (.invokevirtual 237, 3) := dk_182 0 237 (dk_at dksX4_readsFriend_1 17 rfl rfl)
theorem dX4_readsFriend_43 : decode cX4_readsFriend 43 = .ok (.ifCond .ne 4, 3) := dk_154 0 4 (dk_at dksX4_readsFriend_1 20 rfl rfl)
theorem dX4_readsFriend_46 : decode cX4_readsFriend 46 = .ok (.return_, 1) := dk_177 (dk_at dksX4_readsFriend_1 23 rfl rfl)
theorem dX4_readsFriend_47 : decode cX4_readsFriend 47 = .ok (.iconst 0, 1) := dk_3 (dk_at dksX4_readsFriend_2 0 rfl rfl)
theorem dX4_readsFriend_48 : decode cX4_readsFriend 48 = .ok (.istore_n 3, 1) := dk_62 (dk_at dksX4_readsFriend_2 1 rfl rfl)
theorem dX4_readsFriend_49 : decode cX4_readsFriend 49 = .ok (.iload_n 3, 1) := dk_29 (dk_at dksX4_readsFriend_2 2 rfl rfl)
theorem dX4_readsFriend_50 : decode cX4_readsFriend 50 = .ok (.aload_n 0, 1) := dk_42 (dk_at dksX4_readsFriend_2 3 rfl rfl)
theorem dX4_readsFriend_51 : decode cX4_readsFriend 51 = .ok (.getfield 310, 3) := dk_180 1 54 (dk_at dksX4_readsFriend_2 4 rfl rfl)
theorem dX4_readsFriend_54 : decode cX4_readsFriend 54 = .ok (.if_icmp .ge 44, 3) := dk_162 0 44 (dk_at dksX4_readsFriend_2 7 rfl rfl)
theorem dX4_readsFriend_57 : decode cX4_readsFriend 57 = .ok (.aload_n 0, 1) := dk_42 (dk_at dksX4_readsFriend_2 10 rfl rfl)
theorem dX4_readsFriend_58 : decode cX4_readsFriend 58 = .ok (.invokevirtual 227, 3) := dk_182 0 227 (dk_at dksX4_readsFriend_2 11 rfl rfl)
theorem dX4_readsFriend_61 : decode cX4_readsFriend 61 = .ok (.ifCond .eq 37, 3) := dk_153 0 37 (dk_at dksX4_readsFriend_2 14 rfl rfl)
theorem dX4_readsFriend_64 : decode cX4_readsFriend 64 = .ok (.aload_n 0, 1) := dk_42 (dk_at dksX4_readsFriend_2 17 rfl rfl)
theorem dX4_readsFriend_65 : decode cX4_readsFriend 65 = .ok (.getfield 71, 3) := dk_180 0 71 (dk_at dksX4_readsFriend_2 18 rfl rfl)
theorem dX4_readsFriend_68 : decode cX4_readsFriend 68 = .ok (.iload_n 3, 1) := dk_29 (dk_at dksX4_readsFriend_2 21 rfl rfl)
theorem dX4_readsFriend_69 : decode cX4_readsFriend 69 = .ok (.iaload, 1) := dk_46 (dk_at dksX4_readsFriend_2 22 rfl rfl)
theorem dX4_readsFriend_70 : decode cX4_readsFriend 70 = .ok (.iload_n 2, 1) := dk_28 (dk_at dksX4_readsFriend_2 23 rfl rfl)
theorem dX4_readsFriend_71 : decode cX4_readsFriend 71 = .ok (.if_icmp .ne 21, 3) := dk_160 0 21 (dk_at dksX4_readsFriend_3 0 rfl rfl)
theorem dX4_readsFriend_74 : decode cX4_readsFriend 74 = .ok (.aload_n 0, 1) := dk_42 (dk_at dksX4_readsFriend_3 3 rfl rfl)
theorem dX4_readsFriend_75 : decode cX4_readsFriend 75 = .ok (.getfield 74, 3) := dk_180 0 74 (dk_at dksX4_readsFriend_3 4 rfl rfl)
theorem dX4_readsFriend_78 : decode cX4_readsFriend 78 = .ok (.iload_n 3, 1) := dk_29 (dk_at dksX4_readsFriend_3 7 rfl rfl)
theorem dX4_readsFriend_79 : decode cX4_readsFriend 79 = .ok (.iaload, 1) := dk_46 (dk_at dksX4_readsFriend_3 8 rfl rfl)
theorem dX4_readsFriend_80 : decode cX4_readsFriend 80 = .ok (.aload_n 0, 1) := dk_42 (dk_at dksX4_readsFriend_3 9 rfl rfl)
theorem dX4_readsFriend_81 : decode cX4_readsFriend 81 = .ok (.getfield 195, 3) := dk_180 0 195 (dk_at dksX4_readsFriend_3 10 rfl rfl)
theorem dX4_readsFriend_84 : decode cX4_readsFriend 84 = .ok (.if_icmp .ne 8, 3) := dk_160 0 8 (dk_at dksX4_readsFriend_3 13 rfl rfl)
theorem dX4_readsFriend_87 : decode cX4_readsFriend 87 = .ok (.aload_n 0, 1) := dk_42 (dk_at dksX4_readsFriend_3 16 rfl rfl)
theorem dX4_readsFriend_88 : decode cX4_readsFriend 88 = .ok (.iconst 4, 1) := dk_7 (dk_at dksX4_readsFriend_3 17 rfl rfl)
theorem dX4_readsFriend_89 : decode cX4_readsFriend 89 = .ok (.invokevirtual 234, 3) := dk_182 0 234 (dk_at dksX4_readsFriend_3 18 rfl rfl)
theorem dX4_readsFriend_92 : decode cX4_readsFriend 92 = .ok (.iinc 3 1, 3) := dk_132 3 1 (dk_at dksX4_readsFriend_3 21 rfl rfl)
theorem dX4_readsFriend_95 : decode cX4_readsFriend 95 = .ok (.goto (-46), 3) := dk_167 255 210 (dk_at dksX4_readsFriend_4 0 rfl rfl)
theorem dX4_readsFriend_98 : decode cX4_readsFriend 98 = .ok (.aload_n 0, 1) := dk_42 (dk_at dksX4_readsFriend_4 3 rfl rfl)
theorem dX4_readsFriend_99 : decode cX4_readsFriend 99 = .ok (.invokevirtual 227, 3) := dk_182 0 227 (dk_at dksX4_readsFriend_4 4 rfl rfl)
theorem dX4_readsFriend_102 : decode cX4_readsFriend 102 = .ok (.ifCond .ne 4, 3) := dk_154 0 4 (dk_at dksX4_readsFriend_4 7 rfl rfl)
theorem dX4_readsFriend_105 : decode cX4_readsFriend 105 = .ok (.return_, 1) := dk_177 (dk_at dksX4_readsFriend_4 10 rfl rfl)
theorem dX4_readsFriend_106 : decode cX4_readsFriend 106 = .ok (.aload_n 0, 1) := dk_42 (dk_at dksX4_readsFriend_4 11 rfl rfl)
theorem dX4_readsFriend_107 : decode cX4_readsFriend 107 = .ok (.getfield 71, 3) := dk_180 0 71 (dk_at dksX4_readsFriend_4 12 rfl rfl)
theorem dX4_readsFriend_110 : decode cX4_readsFriend 110 = .ok (.aload_n 0, 1) := dk_42 (dk_at dksX4_readsFriend_4 15 rfl rfl)
theorem dX4_readsFriend_111 : decode cX4_readsFriend 111 = .ok (.getfield 310, 3) := dk_180 1 54 (dk_at dksX4_readsFriend_4 16 rfl rfl)
theorem dX4_readsFriend_114 : decode cX4_readsFriend 114 = .ok (.iload_n 2, 1) := dk_28 (dk_at dksX4_readsFriend_4 19 rfl rfl)
theorem dX4_readsFriend_115 : decode cX4_readsFriend 115 = .ok (.iastore, 1) := dk_79 (dk_at dksX4_readsFriend_4 20 rfl rfl)
theorem dX4_readsFriend_116 : decode cX4_readsFriend 116 = .ok (.aload_n 0, 1) := dk_42 (dk_at dksX4_readsFriend_4 21 rfl rfl)
theorem dX4_readsFriend_117 : decode cX4_readsFriend 117 = .ok (.getfield 74, 3) := dk_180 0 74 (dk_at dksX4_readsFriend_5 0 rfl rfl)
theorem dX4_readsFriend_120 : decode cX4_readsFriend 120 = .ok (.aload_n 0, 1) := dk_42 (dk_at dksX4_readsFriend_5 3 rfl rfl)
theorem dX4_readsFriend_121 : decode cX4_readsFriend 121 = .ok (.getfield 310, 3) := dk_180 1 54 (dk_at dksX4_readsFriend_5 4 rfl rfl)
theorem dX4_readsFriend_124 : decode cX4_readsFriend 124 = .ok (.aload_n 0, 1) := dk_42 (dk_at dksX4_readsFriend_5 7 rfl rfl)
theorem dX4_readsFriend_125 : decode cX4_readsFriend 125 = .ok (.getfield 195, 3) := dk_180 0 195 (dk_at dksX4_readsFriend_5 8 rfl rfl)
theorem dX4_readsFriend_128 : decode cX4_readsFriend 128 = .ok (.iastore, 1) := dk_79 (dk_at dksX4_readsFriend_5 11 rfl rfl)
theorem dX4_readsFriend_129 : decode cX4_readsFriend 129 = .ok (.aload_n 0, 1) := dk_42 (dk_at dksX4_readsFriend_5 12 rfl rfl)
theorem dX4_readsFriend_130 : decode cX4_readsFriend 130 = .ok (.getfield 77, 3) := dk_180 0 77 (dk_at dksX4_readsFriend_5 13 rfl rfl)
theorem dX4_readsFriend_133 : decode cX4_readsFriend 133 = .ok (.aload_n 0, 1) := dk_42 (dk_at dksX4_readsFriend_5 16 rfl rfl)
theorem dX4_readsFriend_134 : decode cX4_readsFriend 134 = .ok (.getfield 310, 3) := dk_180 1 54 (dk_at dksX4_readsFriend_5 17 rfl rfl)
theorem dX4_readsFriend_137 : decode cX4_readsFriend 137 = .ok (.iload_n 1, 1) := dk_27 (dk_at dksX4_readsFriend_5 20 rfl rfl)
theorem dX4_readsFriend_138 : decode cX4_readsFriend 138 = .ok (.iastore, 1) := dk_79 (dk_at dksX4_readsFriend_5 21 rfl rfl)
theorem dX4_readsFriend_139 : decode cX4_readsFriend 139 = .ok (.aload_n 0, 1) := dk_42 (dk_at dksX4_readsFriend_5 22 rfl rfl)
theorem dX4_readsFriend_140 : decode cX4_readsFriend 140 = .ok (.dup, 1) := dk_89 (dk_at dksX4_readsFriend_5 23 rfl rfl)
theorem dX4_readsFriend_141 : decode cX4_readsFriend 141 = .ok (.getfield 310, 3) := dk_180 1 54 (dk_at dksX4_readsFriend_6 0 rfl rfl)
theorem dX4_readsFriend_144 : decode cX4_readsFriend 144 = .ok (.iconst 1, 1) := dk_4 (dk_at dksX4_readsFriend_6 3 rfl rfl)
theorem dX4_readsFriend_145 : decode cX4_readsFriend 145 = .ok (.iadd, 1) := dk_96 (dk_at dksX4_readsFriend_6 4 rfl rfl)
theorem dX4_readsFriend_146 : decode cX4_readsFriend 146 = .ok (.putfield 310, 3) := dk_181 1 54 (dk_at dksX4_readsFriend_6 5 rfl rfl)
theorem dX4_readsFriend_149 : decode cX4_readsFriend 149 = .ok (.aload_n 0, 1) := dk_42 (dk_at dksX4_readsFriend_6 8 rfl rfl)
theorem dX4_readsFriend_150 : decode cX4_readsFriend 150 = .ok (.invokevirtual 231, 3) := dk_182 0 231 (dk_at dksX4_readsFriend_6 9 rfl rfl)
theorem dX4_readsFriend_153 : decode cX4_readsFriend 153 = .ok (.return_, 1) := dk_177 (dk_at dksX4_readsFriend_6 12 rfl rfl)
abbrev cX4_expression : ByteArray := prog_13_method_34_code
def yX4_expression : MethodName := ⟨RX4, "expression", "()V"⟩
def dkwX4_expression_15 : List UInt8 := [182, 0, 252, 177]
abbrev dktX4_expression_15 : List UInt8 := dkwX4_expression_15 ++ []
def dkwX4_expression_14 : List UInt8 := [153, 0, 16, 42, 180, 1, 3, 4, 164, 0, 8, 42, 4, 182, 0, 234, 42, 3, 182, 1, 18, 42, 3]
abbrev dktX4_expression_14 : List UInt8 := dkwX4_expression_14 ++ dktX4_expression_15
def dkwX4_expression_13 : List UInt8 := [42, 182, 1, 25, 153, 0, 10, 42, 182, 1, 28, 167, 0, 5, 3, 60, 167, 254, 219, 42, 182, 0, 227]
abbrev dktX4_expression_13 : List UInt8 := dkwX4_expression_13 ++ dktX4_expression_14
def dkwX4_expression_12 : List UInt8 := [182, 1, 9, 42, 182, 0, 231, 42, 3, 182, 1, 21, 167, 0, 28, 42, 16, 41, 182, 1, 6, 153, 0, 17]
abbrev dktX4_expression_12 : List UInt8 := dkwX4_expression_12 ++ dktX4_expression_13
def dkwX4_expression_11 : List UInt8 := [42, 16, 6, 182, 1, 18, 42, 42, 16, 42, 182, 1, 6, 153, 0, 8, 16, 10, 167, 0, 5, 16, 11]
abbrev dktX4_expression_11 : List UInt8 := dkwX4_expression_11 ++ dktX4_expression_12
def dkwX4_expression_10 : List UInt8 := [182, 1, 21, 167, 0, 84, 42, 16, 42, 182, 1, 6, 154, 0, 12, 42, 16, 47, 182, 1, 6, 153, 0, 41]
abbrev dktX4_expression_10 : List UInt8 := dkwX4_expression_10 ++ dktX4_expression_11
def dkwX4_expression_9 : List UInt8 := [182, 1, 6, 153, 0, 8, 16, 8, 167, 0, 5, 16, 9, 182, 1, 9, 42, 182, 0, 231, 42, 3]
abbrev dktX4_expression_9 : List UInt8 := dkwX4_expression_9 ++ dktX4_expression_10
def dkwX4_expression_8 : List UInt8 := [182, 1, 6, 154, 0, 12, 42, 16, 45, 182, 1, 6, 153, 0, 40, 42, 8, 182, 1, 18, 42, 42, 16, 43]
abbrev dktX4_expression_8 : List UInt8 := dkwX4_expression_8 ++ dktX4_expression_9
def dkwX4_expression_7 : List UInt8 := [180, 0, 89, 42, 180, 1, 3, 4, 84, 42, 182, 0, 231, 42, 3, 182, 1, 21, 167, 0, 139, 42, 16, 43]
abbrev dktX4_expression_7 : List UInt8 := dkwX4_expression_7 ++ dktX4_expression_8
def dkwX4_expression_6 : List UInt8 := [182, 1, 18, 42, 42, 16, 60, 182, 1, 6, 153, 0, 8, 16, 6, 167, 0, 5, 16, 7, 182, 1, 9, 42]
abbrev dktX4_expression_6 : List UInt8 := dkwX4_expression_6 ++ dktX4_expression_7
def dkwX4_expression_5 : List UInt8 := [16, 61, 182, 1, 6, 153, 0, 62, 42, 180, 0, 89, 42, 180, 1, 3, 51, 154, 0, 50, 42, 7]
abbrev dktX4_expression_5 : List UInt8 := dkwX4_expression_5 ++ dktX4_expression_6
def dkwX4_expression_4 : List UInt8 := [84, 42, 182, 0, 231, 42, 4, 182, 1, 21, 167, 0, 216, 42, 16, 60, 182, 1, 6, 154, 0, 12, 42]
abbrev dktX4_expression_4 : List UInt8 := dkwX4_expression_4 ++ dktX4_expression_5
def dkwX4_expression_3 : List UInt8 := [42, 28, 16, 14, 160, 0, 7, 7, 167, 0, 4, 8, 182, 1, 9, 42, 180, 0, 89, 42, 180, 1, 3, 3]
abbrev dktX4_expression_3 : List UInt8 := dkwX4_expression_3 ++ dktX4_expression_4
def dkwX4_expression_2 : List UInt8 := [159, 0, 9, 28, 16, 15, 160, 0, 55, 42, 28, 16, 14, 160, 0, 7, 5, 167, 0, 4, 4, 182, 1, 18]
abbrev dktX4_expression_2 : List UInt8 := dkwX4_expression_2 ++ dktX4_expression_3
def dkwX4_expression_1 : List UInt8 := [182, 1, 21, 4, 60, 27, 153, 1, 39, 42, 182, 0, 227, 153, 1, 32, 42, 182, 0, 255, 61, 28, 16, 14]
abbrev dktX4_expression_1 : List UInt8 := dkwX4_expression_1 ++ dktX4_expression_2
def dkwX4_expression_0 : List UInt8 := [42, 182, 0, 227, 154, 0, 4, 177, 42, 3, 181, 0, 243, 42, 3, 181, 1, 3, 42, 182, 1, 12, 42, 4]
abbrev dktX4_expression_0 : List UInt8 := dkwX4_expression_0 ++ dktX4_expression_1
theorem dksX4_expression_0 : cX4_expression.data.toList.drop 0 = dktX4_expression_0 := by decide +kernel
theorem dksX4_expression_1 : cX4_expression.data.toList.drop 24 = dktX4_expression_1 := dk_seg dksX4_expression_0 24 rfl rfl
theorem dksX4_expression_2 : cX4_expression.data.toList.drop 48 = dktX4_expression_2 := dk_seg dksX4_expression_1 24 rfl rfl
theorem dksX4_expression_3 : cX4_expression.data.toList.drop 72 = dktX4_expression_3 := dk_seg dksX4_expression_2 24 rfl rfl
theorem dksX4_expression_4 : cX4_expression.data.toList.drop 96 = dktX4_expression_4 := dk_seg dksX4_expression_3 24 rfl rfl
theorem dksX4_expression_5 : cX4_expression.data.toList.drop 119 = dktX4_expression_5 := dk_seg dksX4_expression_4 23 rfl rfl
theorem dksX4_expression_6 : cX4_expression.data.toList.drop 141 = dktX4_expression_6 := dk_seg dksX4_expression_5 22 rfl rfl
theorem dksX4_expression_7 : cX4_expression.data.toList.drop 165 = dktX4_expression_7 := dk_seg dksX4_expression_6 24 rfl rfl
theorem dksX4_expression_8 : cX4_expression.data.toList.drop 189 = dktX4_expression_8 := dk_seg dksX4_expression_7 24 rfl rfl
theorem dksX4_expression_9 : cX4_expression.data.toList.drop 213 = dktX4_expression_9 := dk_seg dksX4_expression_8 24 rfl rfl
theorem dksX4_expression_10 : cX4_expression.data.toList.drop 235 = dktX4_expression_10 := dk_seg dksX4_expression_9 22 rfl rfl
theorem dksX4_expression_11 : cX4_expression.data.toList.drop 259 = dktX4_expression_11 := dk_seg dksX4_expression_10 24 rfl rfl
theorem dksX4_expression_12 : cX4_expression.data.toList.drop 282 = dktX4_expression_12 := dk_seg dksX4_expression_11 23 rfl rfl
theorem dksX4_expression_13 : cX4_expression.data.toList.drop 306 = dktX4_expression_13 := dk_seg dksX4_expression_12 24 rfl rfl
theorem dksX4_expression_14 : cX4_expression.data.toList.drop 329 = dktX4_expression_14 := dk_seg dksX4_expression_13 23 rfl rfl
theorem dksX4_expression_15 : cX4_expression.data.toList.drop 352 = dktX4_expression_15 := dk_seg dksX4_expression_14 23 rfl rfl
theorem dX4_expression_0 : decode cX4_expression 0 = .ok (.aload_n 0, 1) := dk_42 (dk_at dksX4_expression_0 0 rfl rfl)
theorem dX4_expression_1 : decode cX4_expression 1 = .ok (.invokevirtual 227, 3) := dk_182 0 227 (dk_at dksX4_expression_0 1 rfl rfl)
theorem dX4_expression_4 : decode cX4_expression 4 = .ok (.ifCond .ne 4, 3) := dk_154 0 4 (dk_at dksX4_expression_0 4 rfl rfl)
theorem dX4_expression_7 : decode cX4_expression 7 = .ok (.return_, 1) := dk_177 (dk_at dksX4_expression_0 7 rfl rfl)
theorem dX4_expression_8 : decode cX4_expression 8 = .ok (.aload_n 0, 1) := dk_42 (dk_at dksX4_expression_0 8 rfl rfl)
theorem dX4_expression_9 : decode cX4_expression 9 = .ok (.iconst 0, 1) := dk_3 (dk_at dksX4_expression_0 9 rfl rfl)
theorem dX4_expression_10 : decode cX4_expression 10 = .ok (.putfield 243, 3) := dk_181 0 243 (dk_at dksX4_expression_0 10 rfl rfl)
theorem dX4_expression_13 : decode cX4_expression 13 = .ok (.aload_n 0, 1) := dk_42 (dk_at dksX4_expression_0 13 rfl rfl)
theorem dX4_expression_14 : decode cX4_expression 14 = .ok (.iconst 0, 1) := dk_3 (dk_at dksX4_expression_0 14 rfl rfl)
theorem dX4_expression_15 : decode cX4_expression 15 = .ok (.putfield 259, 3) := dk_181 1 3 (dk_at dksX4_expression_0 15 rfl rfl)
theorem dX4_expression_18 : decode cX4_expression 18 = .ok (.aload_n 0, 1) := dk_42 (dk_at dksX4_expression_0 18 rfl rfl)
theorem dX4_expression_19 : decode cX4_expression 19 = .ok (.invokevirtual 268, 3) := dk_182 1 12 (dk_at dksX4_expression_0 19 rfl rfl)
theorem dX4_expression_22 : decode cX4_expression 22 = .ok (.aload_n 0, 1) := dk_42 (dk_at dksX4_expression_0 22 rfl rfl)
theorem dX4_expression_23 : decode cX4_expression 23 = .ok (.iconst 1, 1) := dk_4 (dk_at dksX4_expression_0 23 rfl rfl)
theorem dX4_expression_24 : decode cX4_expression 24 = .ok (.invokevirtual 277, 3) := dk_182 1 21 (dk_at dksX4_expression_1 0 rfl rfl)
theorem dX4_expression_27 : decode cX4_expression 27 = .ok (.iconst 1, 1) := dk_4 (dk_at dksX4_expression_1 3 rfl rfl)
theorem dX4_expression_28 : decode cX4_expression 28 = .ok (.istore_n 1, 1) := dk_60 (dk_at dksX4_expression_1 4 rfl rfl)
theorem dX4_expression_29 : decode cX4_expression 29 = .ok (.iload_n 1, 1) := dk_27 (dk_at dksX4_expression_1 5 rfl rfl)
theorem dX4_expression_30 : decode cX4_expression 30 = .ok (.ifCond .eq 295, 3) := dk_153 1 39 (dk_at dksX4_expression_1 6 rfl rfl)
theorem dX4_expression_33 : decode cX4_expression 33 = .ok (.aload_n 0, 1) := dk_42 (dk_at dksX4_expression_1 9 rfl rfl)
theorem dX4_expression_34 : decode cX4_expression 34 = .ok (.invokevirtual 227, 3) := dk_182 0 227 (dk_at dksX4_expression_1 10 rfl rfl)
theorem dX4_expression_37 : decode cX4_expression 37 = .ok (.ifCond .eq 288, 3) := dk_153 1 32 (dk_at dksX4_expression_1 13 rfl rfl)
theorem dX4_expression_40 : decode cX4_expression 40 = .ok (.aload_n 0, 1) := dk_42 (dk_at dksX4_expression_1 16 rfl rfl)
theorem dX4_expression_41 : decode cX4_expression 41 = .ok (.invokevirtual 255, 3) := dk_182 0 255 (dk_at dksX4_expression_1 17 rfl rfl)
theorem dX4_expression_44 : decode cX4_expression 44 = .ok (.istore_n 2, 1) := dk_61 (dk_at dksX4_expression_1 20 rfl rfl)
theorem dX4_expression_45 : decode cX4_expression 45 = .ok (.iload_n 2, 1) := dk_28 (dk_at dksX4_expression_1 21 rfl rfl)
theorem dX4_expression_46 : decode cX4_expression 46 = .ok (.bipush 14, 2) := dk_16 14 (dk_at dksX4_expression_1 22 rfl rfl)
theorem dX4_expression_48 : decode cX4_expression 48 = .ok (.if_icmp .eq 9, 3) := dk_159 0 9 (dk_at dksX4_expression_2 0 rfl rfl)
theorem dX4_expression_51 : decode cX4_expression 51 = .ok (.iload_n 2, 1) := dk_28 (dk_at dksX4_expression_2 3 rfl rfl)
theorem dX4_expression_52 : decode cX4_expression 52 = .ok (.bipush 15, 2) := dk_16 15 (dk_at dksX4_expression_2 4 rfl rfl)
theorem dX4_expression_54 : decode cX4_expression 54 = .ok (.if_icmp .ne 55, 3) := dk_160 0 55 (dk_at dksX4_expression_2 6 rfl rfl)
theorem dX4_expression_57 : decode cX4_expression 57 = .ok (.aload_n 0, 1) := dk_42 (dk_at dksX4_expression_2 9 rfl rfl)
theorem dX4_expression_58 : decode cX4_expression 58 = .ok (.iload_n 2, 1) := dk_28 (dk_at dksX4_expression_2 10 rfl rfl)
theorem dX4_expression_59 : decode cX4_expression 59 = .ok (.bipush 14, 2) := dk_16 14 (dk_at dksX4_expression_2 11 rfl rfl)
theorem dX4_expression_61 : decode cX4_expression 61 = .ok (.if_icmp .ne 7, 3) := dk_160 0 7 (dk_at dksX4_expression_2 13 rfl rfl)
theorem dX4_expression_64 : decode cX4_expression 64 = .ok (.iconst 2, 1) := dk_5 (dk_at dksX4_expression_2 16 rfl rfl)
theorem dX4_expression_65 : decode cX4_expression 65 = .ok (.goto 4, 3) := dk_167 0 4 (dk_at dksX4_expression_2 17 rfl rfl)
theorem dX4_expression_68 : decode cX4_expression 68 = .ok (.iconst 1, 1) := dk_4 (dk_at dksX4_expression_2 20 rfl rfl)
theorem dX4_expression_69 : decode cX4_expression 69 = .ok (.invokevirtual 274, 3) := dk_182 1 18 (dk_at dksX4_expression_2 21 rfl rfl)
theorem dX4_expression_72 : decode cX4_expression 72 = .ok (.aload_n 0, 1) := dk_42 (dk_at dksX4_expression_3 0 rfl rfl)
theorem dX4_expression_73 : decode cX4_expression 73 = .ok (.iload_n 2, 1) := dk_28 (dk_at dksX4_expression_3 1 rfl rfl)
theorem dX4_expression_74 : decode cX4_expression 74 = .ok (.bipush 14, 2) := dk_16 14 (dk_at dksX4_expression_3 2 rfl rfl)
theorem dX4_expression_76 : decode cX4_expression 76 = .ok (.if_icmp .ne 7, 3) := dk_160 0 7 (dk_at dksX4_expression_3 4 rfl rfl)
theorem dX4_expression_79 : decode cX4_expression 79 = .ok (.iconst 4, 1) := dk_7 (dk_at dksX4_expression_3 7 rfl rfl)
theorem dX4_expression_80 : decode cX4_expression 80 = .ok (.goto 4, 3) := dk_167 0 4 (dk_at dksX4_expression_3 8 rfl rfl)
theorem dX4_expression_83 : decode cX4_expression 83 = .ok (.iconst 5, 1) := dk_8 (dk_at dksX4_expression_3 11 rfl rfl)
theorem dX4_expression_84 : decode cX4_expression 84 = .ok (.invokevirtual 265, 3) := dk_182 1 9 (dk_at dksX4_expression_3 12 rfl rfl)
theorem dX4_expression_87 : decode cX4_expression 87 = .ok (.aload_n 0, 1) := dk_42 (dk_at dksX4_expression_3 15 rfl rfl)
theorem dX4_expression_88 : decode cX4_expression 88 = .ok (.getfield 89, 3) := dk_180 0 89 (dk_at dksX4_expression_3 16 rfl rfl)
theorem dX4_expression_91 : decode cX4_expression 91 = .ok (.aload_n 0, 1) := dk_42 (dk_at dksX4_expression_3 19 rfl rfl)
theorem dX4_expression_92 : decode cX4_expression 92 = .ok (.getfield 259, 3) := dk_180 1 3 (dk_at dksX4_expression_3 20 rfl rfl)
theorem dX4_expression_95 : decode cX4_expression 95 = .ok (.iconst 0, 1) := dk_3 (dk_at dksX4_expression_3 23 rfl rfl)
theorem dX4_expression_96 : decode cX4_expression 96 = .ok (.bastore, 1) := dk_84 (dk_at dksX4_expression_4 0 rfl rfl)
theorem dX4_expression_97 : decode cX4_expression 97 = .ok (.aload_n 0, 1) := dk_42 (dk_at dksX4_expression_4 1 rfl rfl)
theorem dX4_expression_98 : decode cX4_expression 98 = .ok (.invokevirtual 231, 3) := dk_182 0 231 (dk_at dksX4_expression_4 2 rfl rfl)
theorem dX4_expression_101 : decode cX4_expression 101 = .ok (.aload_n 0, 1) := dk_42 (dk_at dksX4_expression_4 5 rfl rfl)
theorem dX4_expression_102 : decode cX4_expression 102 = .ok (.iconst 1, 1) := dk_4 (dk_at dksX4_expression_4 6 rfl rfl)
theorem dX4_expression_103 : decode cX4_expression 103 = .ok (.invokevirtual 277, 3) := dk_182 1 21 (dk_at dksX4_expression_4 7 rfl rfl)
theorem dX4_expression_106 : decode cX4_expression 106 = .ok (.goto 216, 3) := dk_167 0 216 (dk_at dksX4_expression_4 10 rfl rfl)
theorem dX4_expression_109 : decode cX4_expression 109 = .ok (.aload_n 0, 1) := dk_42 (dk_at dksX4_expression_4 13 rfl rfl)
theorem dX4_expression_110 : decode cX4_expression 110 = .ok (.bipush 60, 2) := dk_16 60 (dk_at dksX4_expression_4 14 rfl rfl)
theorem dX4_expression_112 : decode cX4_expression 112 = .ok (.invokevirtual 262, 3) := dk_182 1 6 (dk_at dksX4_expression_4 16 rfl rfl)
theorem dX4_expression_115 : decode cX4_expression 115 = .ok (.ifCond .ne 12, 3) := dk_154 0 12 (dk_at dksX4_expression_4 19 rfl rfl)
theorem dX4_expression_118 : decode cX4_expression 118 = .ok (.aload_n 0, 1) := dk_42 (dk_at dksX4_expression_4 22 rfl rfl)
theorem dX4_expression_119 : decode cX4_expression 119 = .ok (.bipush 61, 2) := dk_16 61 (dk_at dksX4_expression_5 0 rfl rfl)
theorem dX4_expression_121 : decode cX4_expression 121 = .ok (.invokevirtual 262, 3) := dk_182 1 6 (dk_at dksX4_expression_5 2 rfl rfl)
theorem dX4_expression_124 : decode cX4_expression 124 = .ok (.ifCond .eq 62, 3) := dk_153 0 62 (dk_at dksX4_expression_5 5 rfl rfl)
theorem dX4_expression_127 : decode cX4_expression 127 = .ok (.aload_n 0, 1) := dk_42 (dk_at dksX4_expression_5 8 rfl rfl)
theorem dX4_expression_128 : decode cX4_expression 128 = .ok (.getfield 89, 3) := dk_180 0 89 (dk_at dksX4_expression_5 9 rfl rfl)
theorem dX4_expression_131 : decode cX4_expression 131 = .ok (.aload_n 0, 1) := dk_42 (dk_at dksX4_expression_5 12 rfl rfl)
theorem dX4_expression_132 : decode cX4_expression 132 = .ok (.getfield 259, 3) := dk_180 1 3 (dk_at dksX4_expression_5 13 rfl rfl)
theorem dX4_expression_135 : decode cX4_expression 135 = .ok (.baload, 1) := dk_51 (dk_at dksX4_expression_5 16 rfl rfl)
theorem dX4_expression_136 : decode cX4_expression 136 = .ok (.ifCond .ne 50, 3) := dk_154 0 50 (dk_at dksX4_expression_5 17 rfl rfl)
theorem dX4_expression_139 : decode cX4_expression 139 = .ok (.aload_n 0, 1) := dk_42 (dk_at dksX4_expression_5 20 rfl rfl)
theorem dX4_expression_140 : decode cX4_expression 140 = .ok (.iconst 4, 1) := dk_7 (dk_at dksX4_expression_5 21 rfl rfl)
theorem dX4_expression_141 : decode cX4_expression 141 = .ok (.invokevirtual 274, 3) := dk_182 1 18 (dk_at dksX4_expression_6 0 rfl rfl)
theorem dX4_expression_144 : decode cX4_expression 144 = .ok (.aload_n 0, 1) := dk_42 (dk_at dksX4_expression_6 3 rfl rfl)
theorem dX4_expression_145 : decode cX4_expression 145 = .ok (.aload_n 0, 1) := dk_42 (dk_at dksX4_expression_6 4 rfl rfl)
theorem dX4_expression_146 : decode cX4_expression 146 = .ok (.bipush 60, 2) := dk_16 60 (dk_at dksX4_expression_6 5 rfl rfl)
theorem dX4_expression_148 : decode cX4_expression 148 = .ok (.invokevirtual 262, 3) := dk_182 1 6 (dk_at dksX4_expression_6 7 rfl rfl)
theorem dX4_expression_151 : decode cX4_expression 151 = .ok (.ifCond .eq 8, 3) := dk_153 0 8 (dk_at dksX4_expression_6 10 rfl rfl)
theorem dX4_expression_154 : decode cX4_expression 154 = .ok (.bipush 6, 2) := dk_16 6 (dk_at dksX4_expression_6 13 rfl rfl)
theorem dX4_expression_156 : decode cX4_expression 156 = .ok (.goto 5, 3) := dk_167 0 5 (dk_at dksX4_expression_6 15 rfl rfl)
theorem dX4_expression_159 : decode cX4_expression 159 = .ok (.bipush 7, 2) := dk_16 7 (dk_at dksX4_expression_6 18 rfl rfl)
theorem dX4_expression_161 : decode cX4_expression 161 = .ok (.invokevirtual 265, 3) := dk_182 1 9 (dk_at dksX4_expression_6 20 rfl rfl)
theorem dX4_expression_164 : decode cX4_expression 164 = .ok (.aload_n 0, 1) := dk_42 (dk_at dksX4_expression_6 23 rfl rfl)
theorem dX4_expression_165 : decode cX4_expression 165 = .ok (.getfield 89, 3) := dk_180 0 89 (dk_at dksX4_expression_7 0 rfl rfl)
theorem dX4_expression_168 : decode cX4_expression 168 = .ok (.aload_n 0, 1) := dk_42 (dk_at dksX4_expression_7 3 rfl rfl)
theorem dX4_expression_169 : decode cX4_expression 169 = .ok (.getfield 259, 3) := dk_180 1 3 (dk_at dksX4_expression_7 4 rfl rfl)
theorem dX4_expression_172 : decode cX4_expression 172 = .ok (.iconst 1, 1) := dk_4 (dk_at dksX4_expression_7 7 rfl rfl)
theorem dX4_expression_173 : decode cX4_expression 173 = .ok (.bastore, 1) := dk_84 (dk_at dksX4_expression_7 8 rfl rfl)
theorem dX4_expression_174 : decode cX4_expression 174 = .ok (.aload_n 0, 1) := dk_42 (dk_at dksX4_expression_7 9 rfl rfl)
theorem dX4_expression_175 : decode cX4_expression 175 = .ok (.invokevirtual 231, 3) := dk_182 0 231 (dk_at dksX4_expression_7 10 rfl rfl)
theorem dX4_expression_178 : decode cX4_expression 178 = .ok (.aload_n 0, 1) := dk_42 (dk_at dksX4_expression_7 13 rfl rfl)
theorem dX4_expression_179 : decode cX4_expression 179 = .ok (.iconst 0, 1) := dk_3 (dk_at dksX4_expression_7 14 rfl rfl)
theorem dX4_expression_180 : decode cX4_expression 180 = .ok (.invokevirtual 277, 3) := dk_182 1 21 (dk_at dksX4_expression_7 15 rfl rfl)
theorem dX4_expression_183 : decode cX4_expression 183 = .ok (.goto 139, 3) := dk_167 0 139 (dk_at dksX4_expression_7 18 rfl rfl)
theorem dX4_expression_186 : decode cX4_expression 186 = .ok (.aload_n 0, 1) := dk_42 (dk_at dksX4_expression_7 21 rfl rfl)
theorem dX4_expression_187 : decode cX4_expression 187 = .ok (.bipush 43, 2) := dk_16 43 (dk_at dksX4_expression_7 22 rfl rfl)
theorem dX4_expression_189 : decode cX4_expression 189 = .ok (.invokevirtual 262, 3) := dk_182 1 6 (dk_at dksX4_expression_8 0 rfl rfl)
theorem dX4_expression_192 : decode cX4_expression 192 = .ok (.ifCond .ne 12, 3) := dk_154 0 12 (dk_at dksX4_expression_8 3 rfl rfl)
theorem dX4_expression_195 : decode cX4_expression 195 = .ok (.aload_n 0, 1) := dk_42 (dk_at dksX4_expression_8 6 rfl rfl)
theorem dX4_expression_196 : decode cX4_expression 196 = .ok (.bipush 45, 2) := dk_16 45 (dk_at dksX4_expression_8 7 rfl rfl)
theorem dX4_expression_198 : decode cX4_expression 198 = .ok (.invokevirtual 262, 3) := dk_182 1 6 (dk_at dksX4_expression_8 9 rfl rfl)
theorem dX4_expression_201 : decode cX4_expression 201 = .ok (.ifCond .eq 40, 3) := dk_153 0 40 (dk_at dksX4_expression_8 12 rfl rfl)
theorem dX4_expression_204 : decode cX4_expression 204 = .ok (.aload_n 0, 1) := dk_42 (dk_at dksX4_expression_8 15 rfl rfl)
theorem dX4_expression_205 : decode cX4_expression 205 = .ok (.iconst 5, 1) := dk_8 (dk_at dksX4_expression_8 16 rfl rfl)
theorem dX4_expression_206 : decode cX4_expression 206 = .ok (.invokevirtual 274, 3) := dk_182 1 18 (dk_at dksX4_expression_8 17 rfl rfl)
theorem dX4_expression_209 : decode cX4_expression 209 = .ok (.aload_n 0, 1) := dk_42 (dk_at dksX4_expression_8 20 rfl rfl)
theorem dX4_expression_210 : decode cX4_expression 210 = .ok (.aload_n 0, 1) := dk_42 (dk_at dksX4_expression_8 21 rfl rfl)
theorem dX4_expression_211 : decode cX4_expression 211 = .ok (.bipush 43, 2) := dk_16 43 (dk_at dksX4_expression_8 22 rfl rfl)
theorem dX4_expression_213 : decode cX4_expression 213 = .ok (.invokevirtual 262, 3) := dk_182 1 6 (dk_at dksX4_expression_9 0 rfl rfl)
theorem dX4_expression_216 : decode cX4_expression 216 = .ok (.ifCond .eq 8, 3) := dk_153 0 8 (dk_at dksX4_expression_9 3 rfl rfl)
theorem dX4_expression_219 : decode cX4_expression 219 = .ok (.bipush 8, 2) := dk_16 8 (dk_at dksX4_expression_9 6 rfl rfl)
theorem dX4_expression_221 : decode cX4_expression 221 = .ok (.goto 5, 3) := dk_167 0 5 (dk_at dksX4_expression_9 8 rfl rfl)
theorem dX4_expression_224 : decode cX4_expression 224 = .ok (.bipush 9, 2) := dk_16 9 (dk_at dksX4_expression_9 11 rfl rfl)
theorem dX4_expression_226 : decode cX4_expression 226 = .ok (.invokevirtual 265, 3) := dk_182 1 9 (dk_at dksX4_expression_9 13 rfl rfl)
theorem dX4_expression_229 : decode cX4_expression 229 = .ok (.aload_n 0, 1) := dk_42 (dk_at dksX4_expression_9 16 rfl rfl)
theorem dX4_expression_230 : decode cX4_expression 230 = .ok (.invokevirtual 231, 3) := dk_182 0 231 (dk_at dksX4_expression_9 17 rfl rfl)
theorem dX4_expression_233 : decode cX4_expression 233 = .ok (.aload_n 0, 1) := dk_42 (dk_at dksX4_expression_9 20 rfl rfl)
theorem dX4_expression_234 : decode cX4_expression 234 = .ok (.iconst 0, 1) := dk_3 (dk_at dksX4_expression_9 21 rfl rfl)
theorem dX4_expression_235 : decode cX4_expression 235 = .ok (.invokevirtual 277, 3) := dk_182 1 21 (dk_at dksX4_expression_10 0 rfl rfl)
theorem dX4_expression_238 : decode cX4_expression 238 = .ok (.goto 84, 3) := dk_167 0 84 (dk_at dksX4_expression_10 3 rfl rfl)
theorem dX4_expression_241 : decode cX4_expression 241 = .ok (.aload_n 0, 1) := dk_42 (dk_at dksX4_expression_10 6 rfl rfl)
theorem dX4_expression_242 : decode cX4_expression 242 = .ok (.bipush 42, 2) := dk_16 42 (dk_at dksX4_expression_10 7 rfl rfl)
theorem dX4_expression_244 : decode cX4_expression 244 = .ok (.invokevirtual 262, 3) := dk_182 1 6 (dk_at dksX4_expression_10 9 rfl rfl)
theorem dX4_expression_247 : decode cX4_expression 247 = .ok (.ifCond .ne 12, 3) := dk_154 0 12 (dk_at dksX4_expression_10 12 rfl rfl)
theorem dX4_expression_250 : decode cX4_expression 250 = .ok (.aload_n 0, 1) := dk_42 (dk_at dksX4_expression_10 15 rfl rfl)
theorem dX4_expression_251 : decode cX4_expression 251 = .ok (.bipush 47, 2) := dk_16 47 (dk_at dksX4_expression_10 16 rfl rfl)
theorem dX4_expression_253 : decode cX4_expression 253 = .ok (.invokevirtual 262, 3) := dk_182 1 6 (dk_at dksX4_expression_10 18 rfl rfl)
theorem dX4_expression_256 : decode cX4_expression 256 = .ok (.ifCond .eq 41, 3) := dk_153 0 41 (dk_at dksX4_expression_10 21 rfl rfl)
theorem dX4_expression_259 : decode cX4_expression 259 = .ok (.aload_n 0, 1) := dk_42 (dk_at dksX4_expression_11 0 rfl rfl)
theorem dX4_expression_260 : decode cX4_expression 260 = .ok (.bipush 6, 2) := dk_16 6 (dk_at dksX4_expression_11 1 rfl rfl)
theorem dX4_expression_262 : decode cX4_expression 262 = .ok (.invokevirtual 274, 3) := dk_182 1 18 (dk_at dksX4_expression_11 3 rfl rfl)
theorem dX4_expression_265 : decode cX4_expression 265 = .ok (.aload_n 0, 1) := dk_42 (dk_at dksX4_expression_11 6 rfl rfl)
theorem dX4_expression_266 : decode cX4_expression 266 = .ok (.aload_n 0, 1) := dk_42 (dk_at dksX4_expression_11 7 rfl rfl)
theorem dX4_expression_267 : decode cX4_expression 267 = .ok (.bipush 42, 2) := dk_16 42 (dk_at dksX4_expression_11 8 rfl rfl)
theorem dX4_expression_269 : decode cX4_expression 269 = .ok (.invokevirtual 262, 3) := dk_182 1 6 (dk_at dksX4_expression_11 10 rfl rfl)
theorem dX4_expression_272 : decode cX4_expression 272 = .ok (.ifCond .eq 8, 3) := dk_153 0 8 (dk_at dksX4_expression_11 13 rfl rfl)
theorem dX4_expression_275 : decode cX4_expression 275 = .ok (.bipush 10, 2) := dk_16 10 (dk_at dksX4_expression_11 16 rfl rfl)
theorem dX4_expression_277 : decode cX4_expression 277 = .ok (.goto 5, 3) := dk_167 0 5 (dk_at dksX4_expression_11 18 rfl rfl)
theorem dX4_expression_280 : decode cX4_expression 280 = .ok (.bipush 11, 2) := dk_16 11 (dk_at dksX4_expression_11 21 rfl rfl)
theorem dX4_expression_282 : decode cX4_expression 282 = .ok (.invokevirtual 265, 3) := dk_182 1 9 (dk_at dksX4_expression_12 0 rfl rfl)
theorem dX4_expression_285 : decode cX4_expression 285 = .ok (.aload_n 0, 1) := dk_42 (dk_at dksX4_expression_12 3 rfl rfl)
theorem dX4_expression_286 : decode cX4_expression 286 = .ok (.invokevirtual 231, 3) := dk_182 0 231 (dk_at dksX4_expression_12 4 rfl rfl)
theorem dX4_expression_289 : decode cX4_expression 289 = .ok (.aload_n 0, 1) := dk_42 (dk_at dksX4_expression_12 7 rfl rfl)
theorem dX4_expression_290 : decode cX4_expression 290 = .ok (.iconst 0, 1) := dk_3 (dk_at dksX4_expression_12 8 rfl rfl)
theorem dX4_expression_291 : decode cX4_expression 291 = .ok (.invokevirtual 277, 3) := dk_182 1 21 (dk_at dksX4_expression_12 9 rfl rfl)
theorem dX4_expression_294 : decode cX4_expression 294 = .ok (.goto 28, 3) := dk_167 0 28 (dk_at dksX4_expression_12 12 rfl rfl)
theorem dX4_expression_297 : decode cX4_expression 297 = .ok (.aload_n 0, 1) := dk_42 (dk_at dksX4_expression_12 15 rfl rfl)
theorem dX4_expression_298 : decode cX4_expression 298 = .ok (.bipush 41, 2) := dk_16 41 (dk_at dksX4_expression_12 16 rfl rfl)
theorem dX4_expression_300 : decode cX4_expression 300 = .ok (.invokevirtual 262, 3) := dk_182 1 6 (dk_at dksX4_expression_12 18 rfl rfl)
theorem dX4_expression_303 : decode cX4_expression 303 = .ok (.ifCond .eq 17, 3) := dk_153 0 17 (dk_at dksX4_expression_12 21 rfl rfl)
theorem dX4_expression_306 : decode cX4_expression 306 = .ok (.aload_n 0, 1) := dk_42 (dk_at dksX4_expression_13 0 rfl rfl)
theorem dX4_expression_307 : decode cX4_expression 307 = .ok (.invokevirtual 281, 3) := dk_182 1 25 (dk_at dksX4_expression_13 1 rfl rfl)
theorem dX4_expression_310 : decode cX4_expression 310 = .ok (.ifCond .eq 10, 3) := dk_153 0 10 (dk_at dksX4_expression_13 4 rfl rfl)
theorem dX4_expression_313 : decode cX4_expression 313 = .ok (.aload_n 0, 1) := dk_42 (dk_at dksX4_expression_13 7 rfl rfl)
theorem dX4_expression_314 : decode cX4_expression 314 = .ok (.invokevirtual 284, 3) := dk_182 1 28 (dk_at dksX4_expression_13 8 rfl rfl)
theorem dX4_expression_317 : decode cX4_expression 317 = .ok (.goto 5, 3) := dk_167 0 5 (dk_at dksX4_expression_13 11 rfl rfl)
theorem dX4_expression_320 : decode cX4_expression 320 = .ok (.iconst 0, 1) := dk_3 (dk_at dksX4_expression_13 14 rfl rfl)
theorem dX4_expression_321 : decode cX4_expression 321 = .ok (.istore_n 1, 1) := dk_60 (dk_at dksX4_expression_13 15 rfl rfl)
theorem dX4_expression_322 : decode cX4_expression 322 = .ok (.goto (-293), 3) := dk_167 254 219 (dk_at dksX4_expression_13 16 rfl rfl)
theorem dX4_expression_325 : decode cX4_expression 325 = .ok (.aload_n 0, 1) := dk_42 (dk_at dksX4_expression_13 19 rfl rfl)
theorem dX4_expression_326 : decode cX4_expression 326 = .ok (.invokevirtual 227, 3) := dk_182 0 227 (dk_at dksX4_expression_13 20 rfl rfl)
theorem dX4_expression_329 : decode cX4_expression 329 = .ok (.ifCond .eq 16, 3) := dk_153 0 16 (dk_at dksX4_expression_14 0 rfl rfl)
theorem dX4_expression_332 : decode cX4_expression 332 = .ok (.aload_n 0, 1) := dk_42 (dk_at dksX4_expression_14 3 rfl rfl)
theorem dX4_expression_333 : decode cX4_expression 333 = .ok (.getfield 259, 3) := dk_180 1 3 (dk_at dksX4_expression_14 4 rfl rfl)
theorem dX4_expression_336 : decode cX4_expression 336 = .ok (.iconst 1, 1) := dk_4 (dk_at dksX4_expression_14 7 rfl rfl)
theorem dX4_expression_337 : decode cX4_expression 337 = .ok (.if_icmp .le 8, 3) := dk_164 0 8 (dk_at dksX4_expression_14 8 rfl rfl)
theorem dX4_expression_340 : decode cX4_expression 340 = .ok (.aload_n 0, 1) := dk_42 (dk_at dksX4_expression_14 11 rfl rfl)
theorem dX4_expression_341 : decode cX4_expression 341 = .ok (.iconst 1, 1) := dk_4 (dk_at dksX4_expression_14 12 rfl rfl)
theorem dX4_expression_342 : decode cX4_expression 342 = .ok (.invokevirtual 234, 3) := dk_182 0 234 (dk_at dksX4_expression_14 13 rfl rfl)
theorem dX4_expression_345 : decode cX4_expression 345 = .ok (.aload_n 0, 1) := dk_42 (dk_at dksX4_expression_14 16 rfl rfl)
theorem dX4_expression_346 : decode cX4_expression 346 = .ok (.iconst 0, 1) := dk_3 (dk_at dksX4_expression_14 17 rfl rfl)
theorem dX4_expression_347 : decode cX4_expression 347 = .ok (.invokevirtual 274, 3) := dk_182 1 18 (dk_at dksX4_expression_14 18 rfl rfl)
theorem dX4_expression_350 : decode cX4_expression 350 = .ok (.aload_n 0, 1) := dk_42 (dk_at dksX4_expression_14 21 rfl rfl)
theorem dX4_expression_351 : decode cX4_expression 351 = .ok (.iconst 0, 1) := dk_3 (dk_at dksX4_expression_14 22 rfl rfl)
theorem dX4_expression_352 : decode cX4_expression 352 = .ok (.invokevirtual 252, 3) := dk_182 0 252 (dk_at dksX4_expression_15 0 rfl rfl)
theorem dX4_expression_355 : decode cX4_expression 355 = .ok (.return_, 1) := dk_177 (dk_at dksX4_expression_15 3 rfl rfl)
abbrev cX4_deeper : ByteArray := prog_13_method_30_code
def yX4_deeper : MethodName := ⟨RX4, "deeper", "()V"⟩
def dkwX4_deeper_2 : List UInt8 := [16, 40, 182, 1, 6, 153, 0, 7, 5, 167, 0, 4, 4, 182, 0, 234, 177]
abbrev dktX4_deeper_2 : List UInt8 := dkwX4_deeper_2 ++ []
def dkwX4_deeper_1 : List UInt8 := [180, 1, 3, 3, 84, 177, 42, 42, 180, 0, 201, 5, 159, 0, 20, 42, 180, 0, 201, 4, 159, 0, 12, 42]
abbrev dktX4_deeper_1 : List UInt8 := dkwX4_deeper_1 ++ dktX4_deeper_2
def dkwX4_deeper_0 : List UInt8 := [42, 180, 1, 3, 16, 6, 162, 0, 24, 42, 89, 180, 1, 3, 4, 96, 181, 1, 3, 42, 180, 0, 89, 42]
abbrev dktX4_deeper_0 : List UInt8 := dkwX4_deeper_0 ++ dktX4_deeper_1
theorem dksX4_deeper_0 : cX4_deeper.data.toList.drop 0 = dktX4_deeper_0 := by decide +kernel
theorem dksX4_deeper_1 : cX4_deeper.data.toList.drop 24 = dktX4_deeper_1 := dk_seg dksX4_deeper_0 24 rfl rfl
theorem dksX4_deeper_2 : cX4_deeper.data.toList.drop 48 = dktX4_deeper_2 := dk_seg dksX4_deeper_1 24 rfl rfl
theorem dX4_deeper_0 : decode cX4_deeper 0 = .ok (.aload_n 0, 1) := dk_42 (dk_at dksX4_deeper_0 0 rfl rfl)
theorem dX4_deeper_1 : decode cX4_deeper 1 = .ok (.getfield 259, 3) := dk_180 1 3 (dk_at dksX4_deeper_0 1 rfl rfl)
theorem dX4_deeper_4 : decode cX4_deeper 4 = .ok (.bipush 6, 2) := dk_16 6 (dk_at dksX4_deeper_0 4 rfl rfl)
theorem dX4_deeper_6 : decode cX4_deeper 6 = .ok (.if_icmp .ge 24, 3) := dk_162 0 24 (dk_at dksX4_deeper_0 6 rfl rfl)
theorem dX4_deeper_9 : decode cX4_deeper 9 = .ok (.aload_n 0, 1) := dk_42 (dk_at dksX4_deeper_0 9 rfl rfl)
theorem dX4_deeper_10 : decode cX4_deeper 10 = .ok (.dup, 1) := dk_89 (dk_at dksX4_deeper_0 10 rfl rfl)
theorem dX4_deeper_11 : decode cX4_deeper 11 = .ok (.getfield 259, 3) := dk_180 1 3 (dk_at dksX4_deeper_0 11 rfl rfl)
theorem dX4_deeper_14 : decode cX4_deeper 14 = .ok (.iconst 1, 1) := dk_4 (dk_at dksX4_deeper_0 14 rfl rfl)
theorem dX4_deeper_15 : decode cX4_deeper 15 = .ok (.iadd, 1) := dk_96 (dk_at dksX4_deeper_0 15 rfl rfl)
theorem dX4_deeper_16 : decode cX4_deeper 16 = .ok (.putfield 259, 3) := dk_181 1 3 (dk_at dksX4_deeper_0 16 rfl rfl)
theorem dX4_deeper_19 : decode cX4_deeper 19 = .ok (.aload_n 0, 1) := dk_42 (dk_at dksX4_deeper_0 19 rfl rfl)
theorem dX4_deeper_20 : decode cX4_deeper 20 = .ok (.getfield 89, 3) := dk_180 0 89 (dk_at dksX4_deeper_0 20 rfl rfl)
theorem dX4_deeper_23 : decode cX4_deeper 23 = .ok (.aload_n 0, 1) := dk_42 (dk_at dksX4_deeper_0 23 rfl rfl)
theorem dX4_deeper_24 : decode cX4_deeper 24 = .ok (.getfield 259, 3) := dk_180 1 3 (dk_at dksX4_deeper_1 0 rfl rfl)
theorem dX4_deeper_27 : decode cX4_deeper 27 = .ok (.iconst 0, 1) := dk_3 (dk_at dksX4_deeper_1 3 rfl rfl)
theorem dX4_deeper_28 : decode cX4_deeper 28 = .ok (.bastore, 1) := dk_84 (dk_at dksX4_deeper_1 4 rfl rfl)
theorem dX4_deeper_29 : decode cX4_deeper 29 = .ok (.return_, 1) := dk_177 (dk_at dksX4_deeper_1 5 rfl rfl)
theorem dX4_deeper_30 : decode cX4_deeper 30 = .ok (.aload_n 0, 1) := dk_42 (dk_at dksX4_deeper_1 6 rfl rfl)
theorem dX4_deeper_31 : decode cX4_deeper 31 = .ok (.aload_n 0, 1) := dk_42 (dk_at dksX4_deeper_1 7 rfl rfl)
theorem dX4_deeper_32 : decode cX4_deeper 32 = .ok (.getfield 201, 3) := dk_180 0 201 (dk_at dksX4_deeper_1 8 rfl rfl)
theorem dX4_deeper_35 : decode cX4_deeper 35 = .ok (.iconst 2, 1) := dk_5 (dk_at dksX4_deeper_1 11 rfl rfl)
theorem dX4_deeper_36 : decode cX4_deeper 36 = .ok (.if_icmp .eq 20, 3) := dk_159 0 20 (dk_at dksX4_deeper_1 12 rfl rfl)
theorem dX4_deeper_39 : decode cX4_deeper 39 = .ok (.aload_n 0, 1) := dk_42 (dk_at dksX4_deeper_1 15 rfl rfl)
theorem dX4_deeper_40 : decode cX4_deeper 40 = .ok (.getfield 201, 3) := dk_180 0 201 (dk_at dksX4_deeper_1 16 rfl rfl)
theorem dX4_deeper_43 : decode cX4_deeper 43 = .ok (.iconst 1, 1) := dk_4 (dk_at dksX4_deeper_1 19 rfl rfl)
theorem dX4_deeper_44 : decode cX4_deeper 44 = .ok (.if_icmp .eq 12, 3) := dk_159 0 12 (dk_at dksX4_deeper_1 20 rfl rfl)
theorem dX4_deeper_47 : decode cX4_deeper 47 = .ok (.aload_n 0, 1) := dk_42 (dk_at dksX4_deeper_1 23 rfl rfl)
theorem dX4_deeper_48 : decode cX4_deeper 48 = .ok (.bipush 40, 2) := dk_16 40 (dk_at dksX4_deeper_2 0 rfl rfl)
theorem dX4_deeper_50 : decode cX4_deeper 50 = .ok (.invokevirtual 262, 3) := dk_182 1 6 (dk_at dksX4_deeper_2 2 rfl rfl)
theorem dX4_deeper_53 : decode cX4_deeper 53 = .ok (.ifCond .eq 7, 3) := dk_153 0 7 (dk_at dksX4_deeper_2 5 rfl rfl)
theorem dX4_deeper_56 : decode cX4_deeper 56 = .ok (.iconst 2, 1) := dk_5 (dk_at dksX4_deeper_2 8 rfl rfl)
theorem dX4_deeper_57 : decode cX4_deeper 57 = .ok (.goto 4, 3) := dk_167 0 4 (dk_at dksX4_deeper_2 9 rfl rfl)
theorem dX4_deeper_60 : decode cX4_deeper 60 = .ok (.iconst 1, 1) := dk_4 (dk_at dksX4_deeper_2 12 rfl rfl)
theorem dX4_deeper_61 : decode cX4_deeper 61 = .ok (.invokevirtual 234, 3) := dk_182 0 234 (dk_at dksX4_deeper_2 13 rfl rfl)
theorem dX4_deeper_64 : decode cX4_deeper 64 = .ok (.return_, 1) := dk_177 (dk_at dksX4_deeper_2 16 rfl rfl)
abbrev cX4_isSign : ByteArray := prog_13_method_19_code
def yX4_isSign : MethodName := ⟨RX4, "isSign", "(I)Z"⟩
def dkwX4_isSign_0 : List UInt8 := [42, 180, 0, 201, 6, 160, 0, 15, 42, 180, 0, 198, 27, 160, 0, 7, 4, 167, 0, 4, 3, 172]
abbrev dktX4_isSign_0 : List UInt8 := dkwX4_isSign_0 ++ []
theorem dksX4_isSign_0 : cX4_isSign.data.toList.drop 0 = dktX4_isSign_0 := by decide +kernel
theorem dX4_isSign_0 : decode cX4_isSign 0 = .ok (.aload_n 0, 1) := dk_42 (dk_at dksX4_isSign_0 0 rfl rfl)
theorem dX4_isSign_1 : decode cX4_isSign 1 = .ok (.getfield 201, 3) := dk_180 0 201 (dk_at dksX4_isSign_0 1 rfl rfl)
theorem dX4_isSign_4 : decode cX4_isSign 4 = .ok (.iconst 3, 1) := dk_6 (dk_at dksX4_isSign_0 4 rfl rfl)
theorem dX4_isSign_5 : decode cX4_isSign 5 = .ok (.if_icmp .ne 15, 3) := dk_160 0 15 (dk_at dksX4_isSign_0 5 rfl rfl)
theorem dX4_isSign_8 : decode cX4_isSign 8 = .ok (.aload_n 0, 1) := dk_42 (dk_at dksX4_isSign_0 8 rfl rfl)
theorem dX4_isSign_9 : decode cX4_isSign 9 = .ok (.getfield 198, 3) := dk_180 0 198 (dk_at dksX4_isSign_0 9 rfl rfl)
theorem dX4_isSign_12 : decode cX4_isSign 12 = .ok (.iload_n 1, 1) := dk_27 (dk_at dksX4_isSign_0 12 rfl rfl)
theorem dX4_isSign_13 : decode cX4_isSign 13 = .ok (.if_icmp .ne 7, 3) := dk_160 0 7 (dk_at dksX4_isSign_0 13 rfl rfl)
theorem dX4_isSign_16 : decode cX4_isSign 16 = .ok (.iconst 1, 1) := dk_4 (dk_at dksX4_isSign_0 16 rfl rfl)
theorem dX4_isSign_17 : decode cX4_isSign 17 = .ok (.goto 4, 3) := dk_167 0 4 (dk_at dksX4_isSign_0 17 rfl rfl)
theorem dX4_isSign_20 : decode cX4_isSign 20 = .ok (.iconst 0, 1) := dk_3 (dk_at dksX4_isSign_0 20 rfl rfl)
theorem dX4_isSign_21 : decode cX4_isSign 21 = .ok (.ireturn, 1) := dk_172 (dk_at dksX4_isSign_0 21 rfl rfl)
abbrev cX4_operand : ByteArray := prog_13_method_31_code
def yX4_operand : MethodName := ⟨RX4, "operand", "(Z)V"⟩
def dkwX4_operand_5 : List UInt8 := [61, 167, 255, 143, 42, 182, 1, 15, 177]
abbrev dktX4_operand_5 : List UInt8 := dkwX4_operand_5 ++ []
def dkwX4_operand_4 : List UInt8 := [167, 0, 4, 3, 62, 29, 153, 0, 19, 42, 16, 14, 182, 1, 9, 42, 182, 0, 231, 42, 182, 1, 12, 4]
abbrev dktX4_operand_4 : List UInt8 := dkwX4_operand_4 ++ dktX4_operand_5
def dkwX4_operand_3 : List UInt8 := [182, 0, 231, 167, 255, 202, 42, 182, 0, 227, 153, 0, 16, 42, 16, 40, 182, 1, 6, 153, 0, 7, 4]
abbrev dktX4_operand_3 : List UInt8 := dkwX4_operand_3 ++ dktX4_operand_4
def dkwX4_operand_2 : List UInt8 := [5, 182, 0, 234, 132, 4, 1, 42, 182, 0, 227, 154, 0, 6, 167, 255, 214, 42, 6, 182, 1, 9, 42]
abbrev dktX4_operand_2 : List UInt8 := dkwX4_operand_2 ++ dktX4_operand_3
def dkwX4_operand_1 : List UInt8 := [153, 0, 53, 28, 153, 0, 49, 42, 182, 0, 255, 16, 16, 160, 0, 40, 21, 4, 16, 6, 160, 0, 8, 42]
abbrev dktX4_operand_1 : List UInt8 := dkwX4_operand_1 ++ dktX4_operand_2
def dkwX4_operand_0 : List UInt8 := [27, 61, 4, 62, 29, 153, 0, 115, 42, 182, 0, 227, 153, 0, 108, 3, 54, 4, 42, 182, 0, 227]
abbrev dktX4_operand_0 : List UInt8 := dkwX4_operand_0 ++ dktX4_operand_1
theorem dksX4_operand_0 : cX4_operand.data.toList.drop 0 = dktX4_operand_0 := by decide +kernel
theorem dksX4_operand_1 : cX4_operand.data.toList.drop 22 = dktX4_operand_1 := dk_seg dksX4_operand_0 22 rfl rfl
theorem dksX4_operand_2 : cX4_operand.data.toList.drop 46 = dktX4_operand_2 := dk_seg dksX4_operand_1 24 rfl rfl
theorem dksX4_operand_3 : cX4_operand.data.toList.drop 69 = dktX4_operand_3 := dk_seg dksX4_operand_2 23 rfl rfl
theorem dksX4_operand_4 : cX4_operand.data.toList.drop 92 = dktX4_operand_4 := dk_seg dksX4_operand_3 23 rfl rfl
theorem dksX4_operand_5 : cX4_operand.data.toList.drop 116 = dktX4_operand_5 := dk_seg dksX4_operand_4 24 rfl rfl
theorem dX4_operand_0 : decode cX4_operand 0 = .ok (.iload_n 1, 1) := dk_27 (dk_at dksX4_operand_0 0 rfl rfl)
theorem dX4_operand_1 : decode cX4_operand 1 = .ok (.istore_n 2, 1) := dk_61 (dk_at dksX4_operand_0 1 rfl rfl)
theorem dX4_operand_2 : decode cX4_operand 2 = .ok (.iconst 1, 1) := dk_4 (dk_at dksX4_operand_0 2 rfl rfl)
theorem dX4_operand_3 : decode cX4_operand 3 = .ok (.istore_n 3, 1) := dk_62 (dk_at dksX4_operand_0 3 rfl rfl)
theorem dX4_operand_4 : decode cX4_operand 4 = .ok (.iload_n 3, 1) := dk_29 (dk_at dksX4_operand_0 4 rfl rfl)
theorem dX4_operand_5 : decode cX4_operand 5 = .ok (.ifCond .eq 115, 3) := dk_153 0 115 (dk_at dksX4_operand_0 5 rfl rfl)
theorem dX4_operand_8 : decode cX4_operand 8 = .ok (.aload_n 0, 1) := dk_42 (dk_at dksX4_operand_0 8 rfl rfl)
theorem dX4_operand_9 : decode cX4_operand 9 = .ok (.invokevirtual 227, 3) := dk_182 0 227 (dk_at dksX4_operand_0 9 rfl rfl)
theorem dX4_operand_12 : decode cX4_operand 12 = .ok (.ifCond .eq 108, 3) := dk_153 0 108 (dk_at dksX4_operand_0 12 rfl rfl)
theorem dX4_operand_15 : decode cX4_operand 15 = .ok (.iconst 0, 1) := dk_3 (dk_at dksX4_operand_0 15 rfl rfl)
theorem dX4_operand_16 : decode cX4_operand 16 = .ok (.istore 4, 2) := dk_54 4 (dk_at dksX4_operand_0 16 rfl rfl)
theorem dX4_operand_18 : decode cX4_operand 18 = .ok (.aload_n 0, 1) := dk_42 (dk_at dksX4_operand_0 18 rfl rfl)
theorem dX4_operand_19 : decode cX4_operand 19 = .ok (.invokevirtual 227, 3) := dk_182 0 227 (dk_at dksX4_operand_0 19 rfl rfl)
theorem dX4_operand_22 : decode cX4_operand 22 = .ok (.ifCond .eq 53, 3) := dk_153 0 53 (dk_at dksX4_operand_1 0 rfl rfl)
theorem dX4_operand_25 : decode cX4_operand 25 = .ok (.iload_n 2, 1) := dk_28 (dk_at dksX4_operand_1 3 rfl rfl)
theorem dX4_operand_26 : decode cX4_operand 26 = .ok (.ifCond .eq 49, 3) := dk_153 0 49 (dk_at dksX4_operand_1 4 rfl rfl)
theorem dX4_operand_29 : decode cX4_operand 29 = .ok (.aload_n 0, 1) := dk_42 (dk_at dksX4_operand_1 7 rfl rfl)
theorem dX4_operand_30 : decode cX4_operand 30 = .ok (.invokevirtual 255, 3) := dk_182 0 255 (dk_at dksX4_operand_1 8 rfl rfl)
theorem dX4_operand_33 : decode cX4_operand 33 = .ok (.bipush 16, 2) := dk_16 16 (dk_at dksX4_operand_1 11 rfl rfl)
theorem dX4_operand_35 : decode cX4_operand 35 = .ok (.if_icmp .ne 40, 3) := dk_160 0 40 (dk_at dksX4_operand_1 13 rfl rfl)
theorem dX4_operand_38 : decode cX4_operand 38 = .ok (.iload 4, 2) := dk_21 4 (dk_at dksX4_operand_1 16 rfl rfl)
theorem dX4_operand_40 : decode cX4_operand 40 = .ok (.bipush 6, 2) := dk_16 6 (dk_at dksX4_operand_1 18 rfl rfl)
theorem dX4_operand_42 : decode cX4_operand 42 = .ok (.if_icmp .ne 8, 3) := dk_160 0 8 (dk_at dksX4_operand_1 20 rfl rfl)
theorem dX4_operand_45 : decode cX4_operand 45 = .ok (.aload_n 0, 1) := dk_42 (dk_at dksX4_operand_1 23 rfl rfl)
theorem dX4_operand_46 : decode cX4_operand 46 = .ok (.iconst 2, 1) := dk_5 (dk_at dksX4_operand_2 0 rfl rfl)
theorem dX4_operand_47 : decode cX4_operand 47 = .ok (.invokevirtual 234, 3) := dk_182 0 234 (dk_at dksX4_operand_2 1 rfl rfl)
theorem dX4_operand_50 : decode cX4_operand 50 = .ok (.iinc 4 1, 3) := dk_132 4 1 (dk_at dksX4_operand_2 4 rfl rfl)
theorem dX4_operand_53 : decode cX4_operand 53 = .ok (.aload_n 0, 1) := dk_42 (dk_at dksX4_operand_2 7 rfl rfl)
theorem dX4_operand_54 : decode cX4_operand 54 = .ok (.invokevirtual 227, 3) := dk_182 0 227 (dk_at dksX4_operand_2 8 rfl rfl)
theorem dX4_operand_57 : decode cX4_operand 57 = .ok (.ifCond .ne 6, 3) := dk_154 0 6 (dk_at dksX4_operand_2 11 rfl rfl)
theorem dX4_operand_60 : decode cX4_operand 60 = .ok (.goto (-42), 3) := dk_167 255 214 (dk_at dksX4_operand_2 14 rfl rfl)
theorem dX4_operand_63 : decode cX4_operand 63 = .ok (.aload_n 0, 1) := dk_42 (dk_at dksX4_operand_2 17 rfl rfl)
theorem dX4_operand_64 : decode cX4_operand 64 = .ok (.iconst 3, 1) := dk_6 (dk_at dksX4_operand_2 18 rfl rfl)
theorem dX4_operand_65 : decode cX4_operand 65 = .ok (.invokevirtual 265, 3) := dk_182 1 9 (dk_at dksX4_operand_2 19 rfl rfl)
theorem dX4_operand_68 : decode cX4_operand 68 = .ok (.aload_n 0, 1) := dk_42 (dk_at dksX4_operand_2 22 rfl rfl)
theorem dX4_operand_69 : decode cX4_operand 69 = .ok (.invokevirtual 231, 3) := dk_182 0 231 (dk_at dksX4_operand_3 0 rfl rfl)
theorem dX4_operand_72 : decode cX4_operand 72 = .ok (.goto (-54), 3) := dk_167 255 202 (dk_at dksX4_operand_3 3 rfl rfl)
theorem dX4_operand_75 : decode cX4_operand 75 = .ok (.aload_n 0, 1) := dk_42 (dk_at dksX4_operand_3 6 rfl rfl)
theorem dX4_operand_76 : decode cX4_operand 76 = .ok (.invokevirtual 227, 3) := dk_182 0 227 (dk_at dksX4_operand_3 7 rfl rfl)
theorem dX4_operand_79 : decode cX4_operand 79 = .ok (.ifCond .eq 16, 3) := dk_153 0 16 (dk_at dksX4_operand_3 10 rfl rfl)
theorem dX4_operand_82 : decode cX4_operand 82 = .ok (.aload_n 0, 1) := dk_42 (dk_at dksX4_operand_3 13 rfl rfl)
theorem dX4_operand_83 : decode cX4_operand 83 = .ok (.bipush 40, 2) := dk_16 40 (dk_at dksX4_operand_3 14 rfl rfl)
theorem dX4_operand_85 : decode cX4_operand 85 = .ok (.invokevirtual 262, 3) := dk_182 1 6 (dk_at dksX4_operand_3 16 rfl rfl)
theorem dX4_operand_88 : decode cX4_operand 88 = .ok (.ifCond .eq 7, 3) := dk_153 0 7 (dk_at dksX4_operand_3 19 rfl rfl)
theorem dX4_operand_91 : decode cX4_operand 91 = .ok (.iconst 1, 1) := dk_4 (dk_at dksX4_operand_3 22 rfl rfl)
theorem dX4_operand_92 : decode cX4_operand 92 = .ok (.goto 4, 3) := dk_167 0 4 (dk_at dksX4_operand_4 0 rfl rfl)
theorem dX4_operand_95 : decode cX4_operand 95 = .ok (.iconst 0, 1) := dk_3 (dk_at dksX4_operand_4 3 rfl rfl)
theorem dX4_operand_96 : decode cX4_operand 96 = .ok (.istore_n 3, 1) := dk_62 (dk_at dksX4_operand_4 4 rfl rfl)
theorem dX4_operand_97 : decode cX4_operand 97 = .ok (.iload_n 3, 1) := dk_29 (dk_at dksX4_operand_4 5 rfl rfl)
theorem dX4_operand_98 : decode cX4_operand 98 = .ok (.ifCond .eq 19, 3) := dk_153 0 19 (dk_at dksX4_operand_4 6 rfl rfl)
theorem dX4_operand_101 : decode cX4_operand 101 = .ok (.aload_n 0, 1) := dk_42 (dk_at dksX4_operand_4 9 rfl rfl)
theorem dX4_operand_102 : decode cX4_operand 102 = .ok (.bipush 14, 2) := dk_16 14 (dk_at dksX4_operand_4 10 rfl rfl)
theorem dX4_operand_104 : decode cX4_operand 104 = .ok (.invokevirtual 265, 3) := dk_182 1 9 (dk_at dksX4_operand_4 12 rfl rfl)
theorem dX4_operand_107 : decode cX4_operand 107 = .ok (.aload_n 0, 1) := dk_42 (dk_at dksX4_operand_4 15 rfl rfl)
theorem dX4_operand_108 : decode cX4_operand 108 = .ok (.invokevirtual 231, 3) := dk_182 0 231 (dk_at dksX4_operand_4 16 rfl rfl)
theorem dX4_operand_111 : decode cX4_operand 111 = .ok (.aload_n 0, 1) := dk_42 (dk_at dksX4_operand_4 19 rfl rfl)
theorem dX4_operand_112 : decode cX4_operand 112 = .ok (.invokevirtual 268, 3) := dk_182 1 12 (dk_at dksX4_operand_4 20 rfl rfl)
theorem dX4_operand_115 : decode cX4_operand 115 = .ok (.iconst 1, 1) := dk_4 (dk_at dksX4_operand_4 23 rfl rfl)
theorem dX4_operand_116 : decode cX4_operand 116 = .ok (.istore_n 2, 1) := dk_61 (dk_at dksX4_operand_5 0 rfl rfl)
theorem dX4_operand_117 : decode cX4_operand 117 = .ok (.goto (-113), 3) := dk_167 255 143 (dk_at dksX4_operand_5 1 rfl rfl)
theorem dX4_operand_120 : decode cX4_operand 120 = .ok (.aload_n 0, 1) := dk_42 (dk_at dksX4_operand_5 4 rfl rfl)
theorem dX4_operand_121 : decode cX4_operand 121 = .ok (.invokevirtual 271, 3) := dk_182 1 15 (dk_at dksX4_operand_5 5 rfl rfl)
theorem dX4_operand_124 : decode cX4_operand 124 = .ok (.return_, 1) := dk_177 (dk_at dksX4_operand_5 8 rfl rfl)
abbrev cX4_waitsFor : ByteArray := prog_13_method_28_code
def yX4_waitsFor : MethodName := ⟨RX4, "waitsFor", "(I)V"⟩
def dkwX4_waitsFor_0 : List UInt8 := [42, 180, 0, 86, 42, 180, 0, 243, 27, 79, 42, 89, 180, 0, 243, 4, 96, 181, 0, 243, 177]
abbrev dktX4_waitsFor_0 : List UInt8 := dkwX4_waitsFor_0 ++ []
theorem dksX4_waitsFor_0 : cX4_waitsFor.data.toList.drop 0 = dktX4_waitsFor_0 := by decide +kernel
theorem dX4_waitsFor_0 : decode cX4_waitsFor 0 = .ok (.aload_n 0, 1) := dk_42 (dk_at dksX4_waitsFor_0 0 rfl rfl)
theorem dX4_waitsFor_1 : decode cX4_waitsFor 1 = .ok (.getfield 86, 3) := dk_180 0 86 (dk_at dksX4_waitsFor_0 1 rfl rfl)
theorem dX4_waitsFor_4 : decode cX4_waitsFor 4 = .ok (.aload_n 0, 1) := dk_42 (dk_at dksX4_waitsFor_0 4 rfl rfl)
theorem dX4_waitsFor_5 : decode cX4_waitsFor 5 = .ok (.getfield 243, 3) := dk_180 0 243 (dk_at dksX4_waitsFor_0 5 rfl rfl)
theorem dX4_waitsFor_8 : decode cX4_waitsFor 8 = .ok (.iload_n 1, 1) := dk_27 (dk_at dksX4_waitsFor_0 8 rfl rfl)
theorem dX4_waitsFor_9 : decode cX4_waitsFor 9 = .ok (.iastore, 1) := dk_79 (dk_at dksX4_waitsFor_0 9 rfl rfl)
theorem dX4_waitsFor_10 : decode cX4_waitsFor 10 = .ok (.aload_n 0, 1) := dk_42 (dk_at dksX4_waitsFor_0 10 rfl rfl)
theorem dX4_waitsFor_11 : decode cX4_waitsFor 11 = .ok (.dup, 1) := dk_89 (dk_at dksX4_waitsFor_0 11 rfl rfl)
theorem dX4_waitsFor_12 : decode cX4_waitsFor 12 = .ok (.getfield 243, 3) := dk_180 0 243 (dk_at dksX4_waitsFor_0 12 rfl rfl)
theorem dX4_waitsFor_15 : decode cX4_waitsFor 15 = .ok (.iconst 1, 1) := dk_4 (dk_at dksX4_waitsFor_0 15 rfl rfl)
theorem dX4_waitsFor_16 : decode cX4_waitsFor 16 = .ok (.iadd, 1) := dk_96 (dk_at dksX4_waitsFor_0 16 rfl rfl)
theorem dX4_waitsFor_17 : decode cX4_waitsFor 17 = .ok (.putfield 243, 3) := dk_181 0 243 (dk_at dksX4_waitsFor_0 17 rfl rfl)
theorem dX4_waitsFor_20 : decode cX4_waitsFor 20 = .ok (.return_, 1) := dk_177 (dk_at dksX4_waitsFor_0 20 rfl rfl)
abbrev cX4_part : ByteArray := prog_13_method_29_code
def yX4_part : MethodName := ⟨RX4, "part", "()V"⟩
def dkwX4_part_4 : List UInt8 := [182, 0, 227, 153, 0, 7, 42, 182, 0, 231, 177]
abbrev dktX4_part_4 : List UInt8 := dkwX4_part_4 ++ []
def dkwX4_part_3 : List UInt8 := [182, 0, 234, 42, 5, 182, 0, 252, 42, 27, 182, 0, 252, 167, 0, 8, 42, 4, 182, 0, 234, 42]
abbrev dktX4_part_3 : List UInt8 := dkwX4_part_3 ++ dktX4_part_4
def dkwX4_part_2 : List UInt8 := [180, 0, 201, 4, 160, 0, 36, 42, 182, 0, 255, 60, 27, 155, 0, 9, 27, 16, 7, 164, 0, 8, 42, 6]
abbrev dktX4_part_2 : List UInt8 := dkwX4_part_2 ++ dktX4_part_3
def dkwX4_part_1 : List UInt8 := [42, 5, 182, 0, 234, 42, 4, 182, 0, 252, 42, 42, 180, 0, 195, 182, 0, 252, 167, 0, 49, 42]
abbrev dktX4_part_1 : List UInt8 := dkwX4_part_1 ++ dktX4_part_2
def dkwX4_part_0 : List UInt8 := [42, 182, 0, 227, 154, 0, 4, 177, 42, 180, 0, 201, 5, 160, 0, 32, 42, 180, 0, 211, 7, 164, 0, 8]
abbrev dktX4_part_0 : List UInt8 := dkwX4_part_0 ++ dktX4_part_1
theorem dksX4_part_0 : cX4_part.data.toList.drop 0 = dktX4_part_0 := by decide +kernel
theorem dksX4_part_1 : cX4_part.data.toList.drop 24 = dktX4_part_1 := dk_seg dksX4_part_0 24 rfl rfl
theorem dksX4_part_2 : cX4_part.data.toList.drop 46 = dktX4_part_2 := dk_seg dksX4_part_1 22 rfl rfl
theorem dksX4_part_3 : cX4_part.data.toList.drop 70 = dktX4_part_3 := dk_seg dksX4_part_2 24 rfl rfl
theorem dksX4_part_4 : cX4_part.data.toList.drop 92 = dktX4_part_4 := dk_seg dksX4_part_3 22 rfl rfl
theorem dX4_part_0 : decode cX4_part 0 = .ok (.aload_n 0, 1) := dk_42 (dk_at dksX4_part_0 0 rfl rfl)
theorem dX4_part_1 : decode cX4_part 1 = .ok (.invokevirtual 227, 3) := dk_182 0 227 (dk_at dksX4_part_0 1 rfl rfl)
theorem dX4_part_4 : decode cX4_part 4 = .ok (.ifCond .ne 4, 3) := dk_154 0 4 (dk_at dksX4_part_0 4 rfl rfl)
theorem dX4_part_7 : decode cX4_part 7 = .ok (.return_, 1) := dk_177 (dk_at dksX4_part_0 7 rfl rfl)
theorem dX4_part_8 : decode cX4_part 8 = .ok (.aload_n 0, 1) := dk_42 (dk_at dksX4_part_0 8 rfl rfl)
theorem dX4_part_9 : decode cX4_part 9 = .ok (.getfield 201, 3) := dk_180 0 201 (dk_at dksX4_part_0 9 rfl rfl)
theorem dX4_part_12 : decode cX4_part 12 = .ok (.iconst 2, 1) := dk_5 (dk_at dksX4_part_0 12 rfl rfl)
theorem dX4_part_13 : decode cX4_part 13 = .ok (.if_icmp .ne 32, 3) := dk_160 0 32 (dk_at dksX4_part_0 13 rfl rfl)
theorem dX4_part_16 : decode cX4_part 16 = .ok (.aload_n 0, 1) := dk_42 (dk_at dksX4_part_0 16 rfl rfl)
theorem dX4_part_17 : decode cX4_part 17 = .ok (.getfield 211, 3) := dk_180 0 211 (dk_at dksX4_part_0 17 rfl rfl)
theorem dX4_part_20 : decode cX4_part 20 = .ok (.iconst 4, 1) := dk_7 (dk_at dksX4_part_0 20 rfl rfl)
theorem dX4_part_21 : decode cX4_part 21 = .ok (.if_icmp .le 8, 3) := dk_164 0 8 (dk_at dksX4_part_0 21 rfl rfl)
theorem dX4_part_24 : decode cX4_part 24 = .ok (.aload_n 0, 1) := dk_42 (dk_at dksX4_part_1 0 rfl rfl)
theorem dX4_part_25 : decode cX4_part 25 = .ok (.iconst 2, 1) := dk_5 (dk_at dksX4_part_1 1 rfl rfl)
theorem dX4_part_26 : decode cX4_part 26 = .ok (.invokevirtual 234, 3) := dk_182 0 234 (dk_at dksX4_part_1 2 rfl rfl)
theorem dX4_part_29 : decode cX4_part 29 = .ok (.aload_n 0, 1) := dk_42 (dk_at dksX4_part_1 5 rfl rfl)
theorem dX4_part_30 : decode cX4_part 30 = .ok (.iconst 1, 1) := dk_4 (dk_at dksX4_part_1 6 rfl rfl)
theorem dX4_part_31 : decode cX4_part 31 = .ok (.invokevirtual 252, 3) := dk_182 0 252 (dk_at dksX4_part_1 7 rfl rfl)
theorem dX4_part_34 : decode cX4_part 34 = .ok (.aload_n 0, 1) := dk_42 (dk_at dksX4_part_1 10 rfl rfl)
theorem dX4_part_35 : decode cX4_part 35 = .ok (.aload_n 0, 1) := dk_42 (dk_at dksX4_part_1 11 rfl rfl)
theorem dX4_part_36 : decode cX4_part 36 = .ok (.getfield 195, 3) := dk_180 0 195 (dk_at dksX4_part_1 12 rfl rfl)
theorem dX4_part_39 : decode cX4_part 39 = .ok (.invokevirtual 252, 3) := dk_182 0 252 (dk_at dksX4_part_1 15 rfl rfl)
theorem dX4_part_42 : decode cX4_part 42 = .ok (.goto 49, 3) := dk_167 0 49 (dk_at dksX4_part_1 18 rfl rfl)
theorem dX4_part_45 : decode cX4_part 45 = .ok (.aload_n 0, 1) := dk_42 (dk_at dksX4_part_1 21 rfl rfl)
theorem dX4_part_46 : decode cX4_part 46 = .ok (.getfield 201, 3) := dk_180 0 201 (dk_at dksX4_part_2 0 rfl rfl)
theorem dX4_part_49 : decode cX4_part 49 = .ok (.iconst 1, 1) := dk_4 (dk_at dksX4_part_2 3 rfl rfl)
theorem dX4_part_50 : decode cX4_part 50 = .ok (.if_icmp .ne 36, 3) := dk_160 0 36 (dk_at dksX4_part_2 4 rfl rfl)
theorem dX4_part_53 : decode cX4_part 53 = .ok (.aload_n 0, 1) := dk_42 (dk_at dksX4_part_2 7 rfl rfl)
theorem dX4_part_54 : decode cX4_part 54 = .ok (.invokevirtual 255, 3) := dk_182 0 255 (dk_at dksX4_part_2 8 rfl rfl)
theorem dX4_part_57 : decode cX4_part 57 = .ok (.istore_n 1, 1) := dk_60 (dk_at dksX4_part_2 11 rfl rfl)
theorem dX4_part_58 : decode cX4_part 58 = .ok (.iload_n 1, 1) := dk_27 (dk_at dksX4_part_2 12 rfl rfl)
theorem dX4_part_59 : decode cX4_part 59 = .ok (.ifCond .lt 9, 3) := dk_155 0 9 (dk_at dksX4_part_2 13 rfl rfl)
theorem dX4_part_62 : decode cX4_part 62 = .ok (.iload_n 1, 1) := dk_27 (dk_at dksX4_part_2 16 rfl rfl)
theorem dX4_part_63 : decode cX4_part 63 = .ok (.bipush 7, 2) := dk_16 7 (dk_at dksX4_part_2 17 rfl rfl)
theorem dX4_part_65 : decode cX4_part 65 = .ok (.if_icmp .le 8, 3) := dk_164 0 8 (dk_at dksX4_part_2 19 rfl rfl)
theorem dX4_part_68 : decode cX4_part 68 = .ok (.aload_n 0, 1) := dk_42 (dk_at dksX4_part_2 22 rfl rfl)
theorem dX4_part_69 : decode cX4_part 69 = .ok (.iconst 3, 1) := dk_6 (dk_at dksX4_part_2 23 rfl rfl)
theorem dX4_part_70 : decode cX4_part 70 = .ok (.invokevirtual 234, 3) := dk_182 0 234 (dk_at dksX4_part_3 0 rfl rfl)
theorem dX4_part_73 : decode cX4_part 73 = .ok (.aload_n 0, 1) := dk_42 (dk_at dksX4_part_3 3 rfl rfl)
theorem dX4_part_74 : decode cX4_part 74 = .ok (.iconst 2, 1) := dk_5 (dk_at dksX4_part_3 4 rfl rfl)
theorem dX4_part_75 : decode cX4_part 75 = .ok (.invokevirtual 252, 3) := dk_182 0 252 (dk_at dksX4_part_3 5 rfl rfl)
theorem dX4_part_78 : decode cX4_part 78 = .ok (.aload_n 0, 1) := dk_42 (dk_at dksX4_part_3 8 rfl rfl)
theorem dX4_part_79 : decode cX4_part 79 = .ok (.iload_n 1, 1) := dk_27 (dk_at dksX4_part_3 9 rfl rfl)
theorem dX4_part_80 : decode cX4_part 80 = .ok (.invokevirtual 252, 3) := dk_182 0 252 (dk_at dksX4_part_3 10 rfl rfl)
theorem dX4_part_83 : decode cX4_part 83 = .ok (.goto 8, 3) := dk_167 0 8 (dk_at dksX4_part_3 13 rfl rfl)
theorem dX4_part_86 : decode cX4_part 86 = .ok (.aload_n 0, 1) := dk_42 (dk_at dksX4_part_3 16 rfl rfl)
theorem dX4_part_87 : decode cX4_part 87 = .ok (.iconst 1, 1) := dk_4 (dk_at dksX4_part_3 17 rfl rfl)
theorem dX4_part_88 : decode cX4_part 88 = .ok (.invokevirtual 234, 3) := dk_182 0 234 (dk_at dksX4_part_3 18 rfl rfl)
theorem dX4_part_91 : decode cX4_part 91 = .ok (.aload_n 0, 1) := dk_42 (dk_at dksX4_part_3 21 rfl rfl)
theorem dX4_part_92 : decode cX4_part 92 = .ok (.invokevirtual 227, 3) := dk_182 0 227 (dk_at dksX4_part_4 0 rfl rfl)
theorem dX4_part_95 : decode cX4_part 95 = .ok (.ifCond .eq 7, 3) := dk_153 0 7 (dk_at dksX4_part_4 3 rfl rfl)
theorem dX4_part_98 : decode cX4_part 98 = .ok (.aload_n 0, 1) := dk_42 (dk_at dksX4_part_4 6 rfl rfl)
theorem dX4_part_99 : decode cX4_part 99 = .ok (.invokevirtual 231, 3) := dk_182 0 231 (dk_at dksX4_part_4 7 rfl rfl)
theorem dX4_part_102 : decode cX4_part 102 = .ok (.return_, 1) := dk_177 (dk_at dksX4_part_4 10 rfl rfl)
abbrev cX4_puts : ByteArray := prog_13_method_24_code
def yX4_puts : MethodName := ⟨RX4, "puts", "(I)V"⟩
def dkwX4_puts_0 : List UInt8 := [42, 180, 0, 83, 42, 180, 0, 240, 27, 79, 42, 89, 180, 0, 240, 4, 96, 181, 0, 240, 177]
abbrev dktX4_puts_0 : List UInt8 := dkwX4_puts_0 ++ []
theorem dksX4_puts_0 : cX4_puts.data.toList.drop 0 = dktX4_puts_0 := by decide +kernel
theorem dX4_puts_0 : decode cX4_puts 0 = .ok (.aload_n 0, 1) := dk_42 (dk_at dksX4_puts_0 0 rfl rfl)
theorem dX4_puts_1 : decode cX4_puts 1 = .ok (.getfield 83, 3) := dk_180 0 83 (dk_at dksX4_puts_0 1 rfl rfl)
theorem dX4_puts_4 : decode cX4_puts 4 = .ok (.aload_n 0, 1) := dk_42 (dk_at dksX4_puts_0 4 rfl rfl)
theorem dX4_puts_5 : decode cX4_puts 5 = .ok (.getfield 240, 3) := dk_180 0 240 (dk_at dksX4_puts_0 5 rfl rfl)
theorem dX4_puts_8 : decode cX4_puts 8 = .ok (.iload_n 1, 1) := dk_27 (dk_at dksX4_puts_0 8 rfl rfl)
theorem dX4_puts_9 : decode cX4_puts 9 = .ok (.iastore, 1) := dk_79 (dk_at dksX4_puts_0 9 rfl rfl)
theorem dX4_puts_10 : decode cX4_puts 10 = .ok (.aload_n 0, 1) := dk_42 (dk_at dksX4_puts_0 10 rfl rfl)
theorem dX4_puts_11 : decode cX4_puts 11 = .ok (.dup, 1) := dk_89 (dk_at dksX4_puts_0 11 rfl rfl)
theorem dX4_puts_12 : decode cX4_puts 12 = .ok (.getfield 240, 3) := dk_180 0 240 (dk_at dksX4_puts_0 12 rfl rfl)
theorem dX4_puts_15 : decode cX4_puts 15 = .ok (.iconst 1, 1) := dk_4 (dk_at dksX4_puts_0 15 rfl rfl)
theorem dX4_puts_16 : decode cX4_puts 16 = .ok (.iadd, 1) := dk_96 (dk_at dksX4_puts_0 16 rfl rfl)
theorem dX4_puts_17 : decode cX4_puts 17 = .ok (.putfield 240, 3) := dk_181 0 240 (dk_at dksX4_puts_0 17 rfl rfl)
theorem dX4_puts_20 : decode cX4_puts 20 = .ok (.return_, 1) := dk_177 (dk_at dksX4_puts_0 20 rfl rfl)
abbrev cX4_drops : ByteArray := prog_13_method_27_code
def yX4_drops : MethodName := ⟨RX4, "drops", "(I)V"⟩
def dkwX4_drops_2 : List UInt8 := [100, 181, 0, 243, 42, 42, 180, 0, 86, 42, 180, 0, 243, 46, 182, 0, 252, 167, 255, 191, 177]
abbrev dktX4_drops_2 : List UInt8 := dkwX4_drops_2 ++ []
def dkwX4_drops_1 : List UInt8 := [42, 180, 0, 86, 42, 180, 0, 243, 4, 100, 46, 184, 0, 249, 27, 161, 0, 29, 42, 89, 180, 0, 243, 4]
abbrev dktX4_drops_1 : List UInt8 := dkwX4_drops_1 ++ dktX4_drops_2
def dkwX4_drops_0 : List UInt8 := [42, 180, 0, 243, 158, 0, 64, 42, 180, 0, 86, 42, 180, 0, 243, 4, 100, 46, 184, 0, 246, 154, 0, 47]
abbrev dktX4_drops_0 : List UInt8 := dkwX4_drops_0 ++ dktX4_drops_1
theorem dksX4_drops_0 : cX4_drops.data.toList.drop 0 = dktX4_drops_0 := by decide +kernel
theorem dksX4_drops_1 : cX4_drops.data.toList.drop 24 = dktX4_drops_1 := dk_seg dksX4_drops_0 24 rfl rfl
theorem dksX4_drops_2 : cX4_drops.data.toList.drop 48 = dktX4_drops_2 := dk_seg dksX4_drops_1 24 rfl rfl
theorem dX4_drops_0 : decode cX4_drops 0 = .ok (.aload_n 0, 1) := dk_42 (dk_at dksX4_drops_0 0 rfl rfl)
theorem dX4_drops_1 : decode cX4_drops 1 = .ok (.getfield 243, 3) := dk_180 0 243 (dk_at dksX4_drops_0 1 rfl rfl)
theorem dX4_drops_4 : decode cX4_drops 4 = .ok (.ifCond .le 64, 3) := dk_158 0 64 (dk_at dksX4_drops_0 4 rfl rfl)
theorem dX4_drops_7 : decode cX4_drops 7 = .ok (.aload_n 0, 1) := dk_42 (dk_at dksX4_drops_0 7 rfl rfl)
theorem dX4_drops_8 : decode cX4_drops 8 = .ok (.getfield 86, 3) := dk_180 0 86 (dk_at dksX4_drops_0 8 rfl rfl)
theorem dX4_drops_11 : decode cX4_drops 11 = .ok (.aload_n 0, 1) := dk_42 (dk_at dksX4_drops_0 11 rfl rfl)
theorem dX4_drops_12 : decode cX4_drops 12 = .ok (.getfield 243, 3) := dk_180 0 243 (dk_at dksX4_drops_0 12 rfl rfl)
theorem dX4_drops_15 : decode cX4_drops 15 = .ok (.iconst 1, 1) := dk_4 (dk_at dksX4_drops_0 15 rfl rfl)
theorem dX4_drops_16 : decode cX4_drops 16 = .ok (.isub, 1) := dk_100 (dk_at dksX4_drops_0 16 rfl rfl)
theorem dX4_drops_17 : decode cX4_drops 17 = .ok (.iaload, 1) := dk_46 (dk_at dksX4_drops_0 17 rfl rfl)
theorem dX4_drops_18 : decode cX4_drops 18 = .ok (.invokestatic 246, 3) := dk_184 0 246 (dk_at dksX4_drops_0 18 rfl rfl)
theorem dX4_drops_21 : decode cX4_drops 21 = .ok (.ifCond .ne 47, 3) := dk_154 0 47 (dk_at dksX4_drops_0 21 rfl rfl)
theorem dX4_drops_24 : decode cX4_drops 24 = .ok (.aload_n 0, 1) := dk_42 (dk_at dksX4_drops_1 0 rfl rfl)
theorem dX4_drops_25 : decode cX4_drops 25 = .ok (.getfield 86, 3) := dk_180 0 86 (dk_at dksX4_drops_1 1 rfl rfl)
theorem dX4_drops_28 : decode cX4_drops 28 = .ok (.aload_n 0, 1) := dk_42 (dk_at dksX4_drops_1 4 rfl rfl)
theorem dX4_drops_29 : decode cX4_drops 29 = .ok (.getfield 243, 3) := dk_180 0 243 (dk_at dksX4_drops_1 5 rfl rfl)
theorem dX4_drops_32 : decode cX4_drops 32 = .ok (.iconst 1, 1) := dk_4 (dk_at dksX4_drops_1 8 rfl rfl)
theorem dX4_drops_33 : decode cX4_drops 33 = .ok (.isub, 1) := dk_100 (dk_at dksX4_drops_1 9 rfl rfl)
theorem dX4_drops_34 : decode cX4_drops 34 = .ok (.iaload, 1) := dk_46 (dk_at dksX4_drops_1 10 rfl rfl)
theorem dX4_drops_35 : decode cX4_drops 35 = .ok (.invokestatic 249, 3) := dk_184 0 249 (dk_at dksX4_drops_1 11 rfl rfl)
theorem dX4_drops_38 : decode cX4_drops 38 = .ok (.iload_n 1, 1) := dk_27 (dk_at dksX4_drops_1 14 rfl rfl)
theorem dX4_drops_39 : decode cX4_drops 39 = .ok (.if_icmp .lt 29, 3) := dk_161 0 29 (dk_at dksX4_drops_1 15 rfl rfl)
theorem dX4_drops_42 : decode cX4_drops 42 = .ok (.aload_n 0, 1) := dk_42 (dk_at dksX4_drops_1 18 rfl rfl)
theorem dX4_drops_43 : decode cX4_drops 43 = .ok (.dup, 1) := dk_89 (dk_at dksX4_drops_1 19 rfl rfl)
theorem dX4_drops_44 : decode cX4_drops 44 = .ok (.getfield 243, 3) := dk_180 0 243 (dk_at dksX4_drops_1 20 rfl rfl)
theorem dX4_drops_47 : decode cX4_drops 47 = .ok (.iconst 1, 1) := dk_4 (dk_at dksX4_drops_1 23 rfl rfl)
theorem dX4_drops_48 : decode cX4_drops 48 = .ok (.isub, 1) := dk_100 (dk_at dksX4_drops_2 0 rfl rfl)
theorem dX4_drops_49 : decode cX4_drops 49 = .ok (.putfield 243, 3) := dk_181 0 243 (dk_at dksX4_drops_2 1 rfl rfl)
theorem dX4_drops_52 : decode cX4_drops 52 = .ok (.aload_n 0, 1) := dk_42 (dk_at dksX4_drops_2 4 rfl rfl)
theorem dX4_drops_53 : decode cX4_drops 53 = .ok (.aload_n 0, 1) := dk_42 (dk_at dksX4_drops_2 5 rfl rfl)
theorem dX4_drops_54 : decode cX4_drops 54 = .ok (.getfield 86, 3) := dk_180 0 86 (dk_at dksX4_drops_2 6 rfl rfl)
theorem dX4_drops_57 : decode cX4_drops 57 = .ok (.aload_n 0, 1) := dk_42 (dk_at dksX4_drops_2 9 rfl rfl)
theorem dX4_drops_58 : decode cX4_drops 58 = .ok (.getfield 243, 3) := dk_180 0 243 (dk_at dksX4_drops_2 10 rfl rfl)
theorem dX4_drops_61 : decode cX4_drops 61 = .ok (.iaload, 1) := dk_46 (dk_at dksX4_drops_2 13 rfl rfl)
theorem dX4_drops_62 : decode cX4_drops 62 = .ok (.invokevirtual 252, 3) := dk_182 0 252 (dk_at dksX4_drops_2 14 rfl rfl)
theorem dX4_drops_65 : decode cX4_drops 65 = .ok (.goto (-65), 3) := dk_167 255 191 (dk_at dksX4_drops_2 17 rfl rfl)
theorem dX4_drops_68 : decode cX4_drops 68 = .ok (.return_, 1) := dk_177 (dk_at dksX4_drops_2 20 rfl rfl)
abbrev cX4_isOpen : ByteArray := prog_13_method_25_code
def yX4_isOpen : MethodName := ⟨RX4, "isOpen", "(I)Z"⟩
def dkwX4_isOpen_0 : List UInt8 := [26, 16, 14, 161, 0, 7, 4, 167, 0, 4, 3, 172]
abbrev dktX4_isOpen_0 : List UInt8 := dkwX4_isOpen_0 ++ []
theorem dksX4_isOpen_0 : cX4_isOpen.data.toList.drop 0 = dktX4_isOpen_0 := by decide +kernel
theorem dX4_isOpen_0 : decode cX4_isOpen 0 = .ok (.iload_n 0, 1) := dk_26 (dk_at dksX4_isOpen_0 0 rfl rfl)
theorem dX4_isOpen_1 : decode cX4_isOpen 1 = .ok (.bipush 14, 2) := dk_16 14 (dk_at dksX4_isOpen_0 1 rfl rfl)
theorem dX4_isOpen_3 : decode cX4_isOpen 3 = .ok (.if_icmp .lt 7, 3) := dk_161 0 7 (dk_at dksX4_isOpen_0 3 rfl rfl)
theorem dX4_isOpen_6 : decode cX4_isOpen 6 = .ok (.iconst 1, 1) := dk_4 (dk_at dksX4_isOpen_0 6 rfl rfl)
theorem dX4_isOpen_7 : decode cX4_isOpen 7 = .ok (.goto 4, 3) := dk_167 0 4 (dk_at dksX4_isOpen_0 7 rfl rfl)
theorem dX4_isOpen_10 : decode cX4_isOpen 10 = .ok (.iconst 0, 1) := dk_3 (dk_at dksX4_isOpen_0 10 rfl rfl)
theorem dX4_isOpen_11 : decode cX4_isOpen 11 = .ok (.ireturn, 1) := dk_172 (dk_at dksX4_isOpen_0 11 rfl rfl)
abbrev cX4_strength : ByteArray := prog_13_method_26_code
def yX4_strength : MethodName := ⟨RX4, "strength", "(I)I"⟩
def dkwX4_strength_2 : List UInt8 := [159, 0, 9, 26, 16, 9, 160, 0, 7, 8, 167, 0, 5, 16, 6, 172]
abbrev dktX4_strength_2 : List UInt8 := dkwX4_strength_2 ++ []
def dkwX4_strength_1 : List UInt8 := [167, 0, 37, 26, 16, 6, 159, 0, 9, 26, 16, 7, 160, 0, 7, 7, 167, 0, 21, 26, 16, 8]
abbrev dktX4_strength_1 : List UInt8 := dkwX4_strength_1 ++ dktX4_strength_2
def dkwX4_strength_0 : List UInt8 := [26, 8, 160, 0, 7, 4, 167, 0, 55, 26, 7, 160, 0, 7, 5, 167, 0, 46, 26, 6, 160, 0, 7, 6]
abbrev dktX4_strength_0 : List UInt8 := dkwX4_strength_0 ++ dktX4_strength_1
theorem dksX4_strength_0 : cX4_strength.data.toList.drop 0 = dktX4_strength_0 := by decide +kernel
theorem dksX4_strength_1 : cX4_strength.data.toList.drop 24 = dktX4_strength_1 := dk_seg dksX4_strength_0 24 rfl rfl
theorem dksX4_strength_2 : cX4_strength.data.toList.drop 46 = dktX4_strength_2 := dk_seg dksX4_strength_1 22 rfl rfl
theorem dX4_strength_0 : decode cX4_strength 0 = .ok (.iload_n 0, 1) := dk_26 (dk_at dksX4_strength_0 0 rfl rfl)
theorem dX4_strength_1 : decode cX4_strength 1 = .ok (.iconst 5, 1) := dk_8 (dk_at dksX4_strength_0 1 rfl rfl)
theorem dX4_strength_2 : decode cX4_strength 2 = .ok (.if_icmp .ne 7, 3) := dk_160 0 7 (dk_at dksX4_strength_0 2 rfl rfl)
theorem dX4_strength_5 : decode cX4_strength 5 = .ok (.iconst 1, 1) := dk_4 (dk_at dksX4_strength_0 5 rfl rfl)
theorem dX4_strength_6 : decode cX4_strength 6 = .ok (.goto 55, 3) := dk_167 0 55 (dk_at dksX4_strength_0 6 rfl rfl)
theorem dX4_strength_9 : decode cX4_strength 9 = .ok (.iload_n 0, 1) := dk_26 (dk_at dksX4_strength_0 9 rfl rfl)
theorem dX4_strength_10 : decode cX4_strength 10 = .ok (.iconst 4, 1) := dk_7 (dk_at dksX4_strength_0 10 rfl rfl)
theorem dX4_strength_11 : decode cX4_strength 11 = .ok (.if_icmp .ne 7, 3) := dk_160 0 7 (dk_at dksX4_strength_0 11 rfl rfl)
theorem dX4_strength_14 : decode cX4_strength 14 = .ok (.iconst 2, 1) := dk_5 (dk_at dksX4_strength_0 14 rfl rfl)
theorem dX4_strength_15 : decode cX4_strength 15 = .ok (.goto 46, 3) := dk_167 0 46 (dk_at dksX4_strength_0 15 rfl rfl)
theorem dX4_strength_18 : decode cX4_strength 18 = .ok (.iload_n 0, 1) := dk_26 (dk_at dksX4_strength_0 18 rfl rfl)
theorem dX4_strength_19 : decode cX4_strength 19 = .ok (.iconst 3, 1) := dk_6 (dk_at dksX4_strength_0 19 rfl rfl)
theorem dX4_strength_20 : decode cX4_strength 20 = .ok (.if_icmp .ne 7, 3) := dk_160 0 7 (dk_at dksX4_strength_0 20 rfl rfl)
theorem dX4_strength_23 : decode cX4_strength 23 = .ok (.iconst 3, 1) := dk_6 (dk_at dksX4_strength_0 23 rfl rfl)
theorem dX4_strength_24 : decode cX4_strength 24 = .ok (.goto 37, 3) := dk_167 0 37 (dk_at dksX4_strength_1 0 rfl rfl)
theorem dX4_strength_27 : decode cX4_strength 27 = .ok (.iload_n 0, 1) := dk_26 (dk_at dksX4_strength_1 3 rfl rfl)
theorem dX4_strength_28 : decode cX4_strength 28 = .ok (.bipush 6, 2) := dk_16 6 (dk_at dksX4_strength_1 4 rfl rfl)
theorem dX4_strength_30 : decode cX4_strength 30 = .ok (.if_icmp .eq 9, 3) := dk_159 0 9 (dk_at dksX4_strength_1 6 rfl rfl)
theorem dX4_strength_33 : decode cX4_strength 33 = .ok (.iload_n 0, 1) := dk_26 (dk_at dksX4_strength_1 9 rfl rfl)
theorem dX4_strength_34 : decode cX4_strength 34 = .ok (.bipush 7, 2) := dk_16 7 (dk_at dksX4_strength_1 10 rfl rfl)
theorem dX4_strength_36 : decode cX4_strength 36 = .ok (.if_icmp .ne 7, 3) := dk_160 0 7 (dk_at dksX4_strength_1 12 rfl rfl)
theorem dX4_strength_39 : decode cX4_strength 39 = .ok (.iconst 4, 1) := dk_7 (dk_at dksX4_strength_1 15 rfl rfl)
theorem dX4_strength_40 : decode cX4_strength 40 = .ok (.goto 21, 3) := dk_167 0 21 (dk_at dksX4_strength_1 16 rfl rfl)
theorem dX4_strength_43 : decode cX4_strength 43 = .ok (.iload_n 0, 1) := dk_26 (dk_at dksX4_strength_1 19 rfl rfl)
theorem dX4_strength_44 : decode cX4_strength 44 = .ok (.bipush 8, 2) := dk_16 8 (dk_at dksX4_strength_1 20 rfl rfl)
theorem dX4_strength_46 : decode cX4_strength 46 = .ok (.if_icmp .eq 9, 3) := dk_159 0 9 (dk_at dksX4_strength_2 0 rfl rfl)
theorem dX4_strength_49 : decode cX4_strength 49 = .ok (.iload_n 0, 1) := dk_26 (dk_at dksX4_strength_2 3 rfl rfl)
theorem dX4_strength_50 : decode cX4_strength 50 = .ok (.bipush 9, 2) := dk_16 9 (dk_at dksX4_strength_2 4 rfl rfl)
theorem dX4_strength_52 : decode cX4_strength 52 = .ok (.if_icmp .ne 7, 3) := dk_160 0 7 (dk_at dksX4_strength_2 6 rfl rfl)
theorem dX4_strength_55 : decode cX4_strength 55 = .ok (.iconst 5, 1) := dk_8 (dk_at dksX4_strength_2 9 rfl rfl)
theorem dX4_strength_56 : decode cX4_strength 56 = .ok (.goto 5, 3) := dk_167 0 5 (dk_at dksX4_strength_2 10 rfl rfl)
theorem dX4_strength_59 : decode cX4_strength 59 = .ok (.bipush 6, 2) := dk_16 6 (dk_at dksX4_strength_2 13 rfl rfl)
theorem dX4_strength_61 : decode cX4_strength 61 = .ok (.ireturn, 1) := dk_172 (dk_at dksX4_strength_2 15 rfl rfl)
abbrev cX4_isOpened : ByteArray := prog_13_method_32_code
def yX4_isOpened : MethodName := ⟨RX4, "isOpened", "()Z"⟩
def dkwX4_isOpened_1 : List UInt8 := [132, 1, 255, 167, 255, 237, 27, 155, 0, 7, 4, 167, 0, 4, 3, 172]
abbrev dktX4_isOpened_1 : List UInt8 := dkwX4_isOpened_1 ++ []
def dkwX4_isOpened_0 : List UInt8 := [42, 180, 0, 243, 4, 100, 60, 27, 155, 0, 21, 42, 180, 0, 86, 27, 46, 184, 0, 246, 154, 0, 9]
abbrev dktX4_isOpened_0 : List UInt8 := dkwX4_isOpened_0 ++ dktX4_isOpened_1
theorem dksX4_isOpened_0 : cX4_isOpened.data.toList.drop 0 = dktX4_isOpened_0 := by decide +kernel
theorem dksX4_isOpened_1 : cX4_isOpened.data.toList.drop 23 = dktX4_isOpened_1 := dk_seg dksX4_isOpened_0 23 rfl rfl
theorem dX4_isOpened_0 : decode cX4_isOpened 0 = .ok (.aload_n 0, 1) := dk_42 (dk_at dksX4_isOpened_0 0 rfl rfl)
theorem dX4_isOpened_1 : decode cX4_isOpened 1 = .ok (.getfield 243, 3) := dk_180 0 243 (dk_at dksX4_isOpened_0 1 rfl rfl)
theorem dX4_isOpened_4 : decode cX4_isOpened 4 = .ok (.iconst 1, 1) := dk_4 (dk_at dksX4_isOpened_0 4 rfl rfl)
theorem dX4_isOpened_5 : decode cX4_isOpened 5 = .ok (.isub, 1) := dk_100 (dk_at dksX4_isOpened_0 5 rfl rfl)
theorem dX4_isOpened_6 : decode cX4_isOpened 6 = .ok (.istore_n 1, 1) := dk_60 (dk_at dksX4_isOpened_0 6 rfl rfl)
theorem dX4_isOpened_7 : decode cX4_isOpened 7 = .ok (.iload_n 1, 1) := dk_27 (dk_at dksX4_isOpened_0 7 rfl rfl)
theorem dX4_isOpened_8 : decode cX4_isOpened 8 = .ok (.ifCond .lt 21, 3) := dk_155 0 21 (dk_at dksX4_isOpened_0 8 rfl rfl)
theorem dX4_isOpened_11 : decode cX4_isOpened 11 = .ok (.aload_n 0, 1) := dk_42 (dk_at dksX4_isOpened_0 11 rfl rfl)
theorem dX4_isOpened_12 : decode cX4_isOpened 12 = .ok (.getfield 86, 3) := dk_180 0 86 (dk_at dksX4_isOpened_0 12 rfl rfl)
theorem dX4_isOpened_15 : decode cX4_isOpened 15 = .ok (.iload_n 1, 1) := dk_27 (dk_at dksX4_isOpened_0 15 rfl rfl)
theorem dX4_isOpened_16 : decode cX4_isOpened 16 = .ok (.iaload, 1) := dk_46 (dk_at dksX4_isOpened_0 16 rfl rfl)
theorem dX4_isOpened_17 : decode cX4_isOpened 17 = .ok (.invokestatic 246, 3) := dk_184 0 246 (dk_at dksX4_isOpened_0 17 rfl rfl)
theorem dX4_isOpened_20 : decode cX4_isOpened 20 = .ok (.ifCond .ne 9, 3) := dk_154 0 9 (dk_at dksX4_isOpened_0 20 rfl rfl)
theorem dX4_isOpened_23 : decode cX4_isOpened 23 = .ok (.iinc 1 (-1), 3) := dk_132 1 255 (dk_at dksX4_isOpened_1 0 rfl rfl)
theorem dX4_isOpened_26 : decode cX4_isOpened 26 = .ok (.goto (-19), 3) := dk_167 255 237 (dk_at dksX4_isOpened_1 3 rfl rfl)
theorem dX4_isOpened_29 : decode cX4_isOpened 29 = .ok (.iload_n 1, 1) := dk_27 (dk_at dksX4_isOpened_1 6 rfl rfl)
theorem dX4_isOpened_30 : decode cX4_isOpened 30 = .ok (.ifCond .lt 7, 3) := dk_155 0 7 (dk_at dksX4_isOpened_1 7 rfl rfl)
theorem dX4_isOpened_33 : decode cX4_isOpened 33 = .ok (.iconst 1, 1) := dk_4 (dk_at dksX4_isOpened_1 10 rfl rfl)
theorem dX4_isOpened_34 : decode cX4_isOpened 34 = .ok (.goto 4, 3) := dk_167 0 4 (dk_at dksX4_isOpened_1 11 rfl rfl)
theorem dX4_isOpened_37 : decode cX4_isOpened 37 = .ok (.iconst 0, 1) := dk_3 (dk_at dksX4_isOpened_1 14 rfl rfl)
theorem dX4_isOpened_38 : decode cX4_isOpened 38 = .ok (.ireturn, 1) := dk_172 (dk_at dksX4_isOpened_1 15 rfl rfl)
abbrev cX4_closes : ByteArray := prog_13_method_33_code
def yX4_closes : MethodName := ⟨RX4, "closes", "()V"⟩
def dkwX4_closes_1 : List UInt8 := [181, 1, 3, 42, 182, 0, 231, 177]
abbrev dktX4_closes_1 : List UInt8 := dkwX4_closes_1 ++ []
def dkwX4_closes_0 : List UInt8 := [42, 3, 182, 1, 18, 42, 89, 180, 0, 243, 4, 100, 181, 0, 243, 42, 89, 180, 1, 3, 4, 100]
abbrev dktX4_closes_0 : List UInt8 := dkwX4_closes_0 ++ dktX4_closes_1
theorem dksX4_closes_0 : cX4_closes.data.toList.drop 0 = dktX4_closes_0 := by decide +kernel
theorem dksX4_closes_1 : cX4_closes.data.toList.drop 22 = dktX4_closes_1 := dk_seg dksX4_closes_0 22 rfl rfl
theorem dX4_closes_0 : decode cX4_closes 0 = .ok (.aload_n 0, 1) := dk_42 (dk_at dksX4_closes_0 0 rfl rfl)
theorem dX4_closes_1 : decode cX4_closes 1 = .ok (.iconst 0, 1) := dk_3 (dk_at dksX4_closes_0 1 rfl rfl)
theorem dX4_closes_2 : decode cX4_closes 2 = .ok (.invokevirtual 274, 3) := dk_182 1 18 (dk_at dksX4_closes_0 2 rfl rfl)
theorem dX4_closes_5 : decode cX4_closes 5 = .ok (.aload_n 0, 1) := dk_42 (dk_at dksX4_closes_0 5 rfl rfl)
theorem dX4_closes_6 : decode cX4_closes 6 = .ok (.dup, 1) := dk_89 (dk_at dksX4_closes_0 6 rfl rfl)
theorem dX4_closes_7 : decode cX4_closes 7 = .ok (.getfield 243, 3) := dk_180 0 243 (dk_at dksX4_closes_0 7 rfl rfl)
theorem dX4_closes_10 : decode cX4_closes 10 = .ok (.iconst 1, 1) := dk_4 (dk_at dksX4_closes_0 10 rfl rfl)
theorem dX4_closes_11 : decode cX4_closes 11 = .ok (.isub, 1) := dk_100 (dk_at dksX4_closes_0 11 rfl rfl)
theorem dX4_closes_12 : decode cX4_closes 12 = .ok (.putfield 243, 3) := dk_181 0 243 (dk_at dksX4_closes_0 12 rfl rfl)
theorem dX4_closes_15 : decode cX4_closes 15 = .ok (.aload_n 0, 1) := dk_42 (dk_at dksX4_closes_0 15 rfl rfl)
theorem dX4_closes_16 : decode cX4_closes 16 = .ok (.dup, 1) := dk_89 (dk_at dksX4_closes_0 16 rfl rfl)
theorem dX4_closes_17 : decode cX4_closes 17 = .ok (.getfield 259, 3) := dk_180 1 3 (dk_at dksX4_closes_0 17 rfl rfl)
theorem dX4_closes_20 : decode cX4_closes 20 = .ok (.iconst 1, 1) := dk_4 (dk_at dksX4_closes_0 20 rfl rfl)
theorem dX4_closes_21 : decode cX4_closes 21 = .ok (.isub, 1) := dk_100 (dk_at dksX4_closes_0 21 rfl rfl)
theorem dX4_closes_22 : decode cX4_closes 22 = .ok (.putfield 259, 3) := dk_181 1 3 (dk_at dksX4_closes_1 0 rfl rfl)
theorem dX4_closes_25 : decode cX4_closes 25 = .ok (.aload_n 0, 1) := dk_42 (dk_at dksX4_closes_1 3 rfl rfl)
theorem dX4_closes_26 : decode cX4_closes 26 = .ok (.invokevirtual 231, 3) := dk_182 0 231 (dk_at dksX4_closes_1 4 rfl rfl)
theorem dX4_closes_29 : decode cX4_closes 29 = .ok (.return_, 1) := dk_177 (dk_at dksX4_closes_1 7 rfl rfl)
abbrev cX4_need : ByteArray := prog_13_method_20_code
def yX4_need : MethodName := ⟨RX4, "need", "(Z)V"⟩
def dkwX4_need_1 : List UInt8 := [177]
abbrev dktX4_need_1 : List UInt8 := dkwX4_need_1 ++ []
def dkwX4_need_0 : List UInt8 := [42, 182, 0, 227, 154, 0, 4, 177, 27, 153, 0, 10, 42, 182, 0, 231, 167, 0, 8, 42, 4, 182, 0, 234]
abbrev dktX4_need_0 : List UInt8 := dkwX4_need_0 ++ dktX4_need_1
theorem dksX4_need_0 : cX4_need.data.toList.drop 0 = dktX4_need_0 := by decide +kernel
theorem dksX4_need_1 : cX4_need.data.toList.drop 24 = dktX4_need_1 := dk_seg dksX4_need_0 24 rfl rfl
theorem dX4_need_0 : decode cX4_need 0 = .ok (.aload_n 0, 1) := dk_42 (dk_at dksX4_need_0 0 rfl rfl)
theorem dX4_need_1 : decode cX4_need 1 = .ok (.invokevirtual 227, 3) := dk_182 0 227 (dk_at dksX4_need_0 1 rfl rfl)
theorem dX4_need_4 : decode cX4_need 4 = .ok (.ifCond .ne 4, 3) := dk_154 0 4 (dk_at dksX4_need_0 4 rfl rfl)
theorem dX4_need_7 : decode cX4_need 7 = .ok (.return_, 1) := dk_177 (dk_at dksX4_need_0 7 rfl rfl)
theorem dX4_need_8 : decode cX4_need 8 = .ok (.iload_n 1, 1) := dk_27 (dk_at dksX4_need_0 8 rfl rfl)
theorem dX4_need_9 : decode cX4_need 9 = .ok (.ifCond .eq 10, 3) := dk_153 0 10 (dk_at dksX4_need_0 9 rfl rfl)
theorem dX4_need_12 : decode cX4_need 12 = .ok (.aload_n 0, 1) := dk_42 (dk_at dksX4_need_0 12 rfl rfl)
theorem dX4_need_13 : decode cX4_need 13 = .ok (.invokevirtual 231, 3) := dk_182 0 231 (dk_at dksX4_need_0 13 rfl rfl)
theorem dX4_need_16 : decode cX4_need 16 = .ok (.goto 8, 3) := dk_167 0 8 (dk_at dksX4_need_0 16 rfl rfl)
theorem dX4_need_19 : decode cX4_need 19 = .ok (.aload_n 0, 1) := dk_42 (dk_at dksX4_need_0 19 rfl rfl)
theorem dX4_need_20 : decode cX4_need 20 = .ok (.iconst 1, 1) := dk_4 (dk_at dksX4_need_0 20 rfl rfl)
theorem dX4_need_21 : decode cX4_need 21 = .ok (.invokevirtual 234, 3) := dk_182 0 234 (dk_at dksX4_need_0 21 rfl rfl)
theorem dX4_need_24 : decode cX4_need 24 = .ok (.return_, 1) := dk_177 (dk_at dksX4_need_1 0 rfl rfl)
abbrev cX4_copies : ByteArray := prog_13_method_6_code
def yX4_copies : MethodName := ⟨RX4, "copies", "([I[I)V"⟩
def dkwX4_copies_0 : List UInt8 := [3, 62, 29, 43, 190, 162, 0, 15, 44, 29, 43, 29, 46, 79, 132, 3, 1, 167, 255, 241, 177]
abbrev dktX4_copies_0 : List UInt8 := dkwX4_copies_0 ++ []
theorem dksX4_copies_0 : cX4_copies.data.toList.drop 0 = dktX4_copies_0 := by decide +kernel
theorem dX4_copies_0 : decode cX4_copies 0 = .ok (.iconst 0, 1) := dk_3 (dk_at dksX4_copies_0 0 rfl rfl)
theorem dX4_copies_1 : decode cX4_copies 1 = .ok (.istore_n 3, 1) := dk_62 (dk_at dksX4_copies_0 1 rfl rfl)
theorem dX4_copies_2 : decode cX4_copies 2 = .ok (.iload_n 3, 1) := dk_29 (dk_at dksX4_copies_0 2 rfl rfl)
theorem dX4_copies_3 : decode cX4_copies 3 = .ok (.aload_n 1, 1) := dk_43 (dk_at dksX4_copies_0 3 rfl rfl)
theorem dX4_copies_4 : decode cX4_copies 4 = .ok (.arraylength, 1) := dk_190 (dk_at dksX4_copies_0 4 rfl rfl)
theorem dX4_copies_5 : decode cX4_copies 5 = .ok (.if_icmp .ge 15, 3) := dk_162 0 15 (dk_at dksX4_copies_0 5 rfl rfl)
theorem dX4_copies_8 : decode cX4_copies 8 = .ok (.aload_n 2, 1) := dk_44 (dk_at dksX4_copies_0 8 rfl rfl)
theorem dX4_copies_9 : decode cX4_copies 9 = .ok (.iload_n 3, 1) := dk_29 (dk_at dksX4_copies_0 9 rfl rfl)
theorem dX4_copies_10 : decode cX4_copies 10 = .ok (.aload_n 1, 1) := dk_43 (dk_at dksX4_copies_0 10 rfl rfl)
theorem dX4_copies_11 : decode cX4_copies 11 = .ok (.iload_n 3, 1) := dk_29 (dk_at dksX4_copies_0 11 rfl rfl)
theorem dX4_copies_12 : decode cX4_copies 12 = .ok (.iaload, 1) := dk_46 (dk_at dksX4_copies_0 12 rfl rfl)
theorem dX4_copies_13 : decode cX4_copies 13 = .ok (.iastore, 1) := dk_79 (dk_at dksX4_copies_0 13 rfl rfl)
theorem dX4_copies_14 : decode cX4_copies 14 = .ok (.iinc 3 1, 3) := dk_132 3 1 (dk_at dksX4_copies_0 14 rfl rfl)
theorem dX4_copies_17 : decode cX4_copies 17 = .ok (.goto (-15), 3) := dk_167 255 241 (dk_at dksX4_copies_0 17 rfl rfl)
theorem dX4_copies_20 : decode cX4_copies 20 = .ok (.return_, 1) := dk_177 (dk_at dksX4_copies_0 20 rfl rfl)
abbrev cX4_fault : ByteArray := prog_13_method_43_code
def yX4_fault : MethodName := ⟨RX4, "fault", "()I"⟩
def dkwX4_fault_0 : List UInt8 := [42, 3, 181, 0, 168, 42, 180, 0, 47, 172]
abbrev dktX4_fault_0 : List UInt8 := dkwX4_fault_0 ++ []
theorem dksX4_fault_0 : cX4_fault.data.toList.drop 0 = dktX4_fault_0 := by decide +kernel
theorem dX4_fault_0 : decode cX4_fault 0 = .ok (.aload_n 0, 1) := dk_42 (dk_at dksX4_fault_0 0 rfl rfl)
theorem dX4_fault_1 : decode cX4_fault 1 = .ok (.iconst 0, 1) := dk_3 (dk_at dksX4_fault_0 1 rfl rfl)
theorem dX4_fault_2 : decode cX4_fault 2 = .ok (.putfield 168, 3) := dk_181 0 168 (dk_at dksX4_fault_0 2 rfl rfl)
theorem dX4_fault_5 : decode cX4_fault 5 = .ok (.aload_n 0, 1) := dk_42 (dk_at dksX4_fault_0 5 rfl rfl)
theorem dX4_fault_6 : decode cX4_fault 6 = .ok (.getfield 47, 3) := dk_180 0 47 (dk_at dksX4_fault_0 6 rfl rfl)
theorem dX4_fault_9 : decode cX4_fault 9 = .ok (.ireturn, 1) := dk_172 (dk_at dksX4_fault_0 9 rfl rfl)
abbrev cX4_undo : ByteArray := prog_13_method_46_code
def yX4_undo : MethodName := ⟨RX4, "undo", "()I"⟩
def dkwX4_undo_2 : List UInt8 := [27, 96, 46, 79, 132, 1, 1, 167, 255, 227, 42, 180, 1, 113, 172]
abbrev dktX4_undo_2 : List UInt8 := dkwX4_undo_2 ++ []
def dkwX4_undo_1 : List UInt8 := [3, 60, 27, 16, 34, 162, 0, 29, 42, 180, 0, 93, 27, 42, 180, 0, 96, 16, 34, 42, 180, 1, 113, 104]
abbrev dktX4_undo_1 : List UInt8 := dkwX4_undo_1 ++ dktX4_undo_2
def dkwX4_undo_0 : List UInt8 := [42, 3, 181, 0, 168, 42, 180, 1, 113, 154, 0, 5, 2, 172, 42, 89, 180, 1, 113, 4, 100, 181, 1, 113]
abbrev dktX4_undo_0 : List UInt8 := dkwX4_undo_0 ++ dktX4_undo_1
theorem dksX4_undo_0 : cX4_undo.data.toList.drop 0 = dktX4_undo_0 := by decide +kernel
theorem dksX4_undo_1 : cX4_undo.data.toList.drop 24 = dktX4_undo_1 := dk_seg dksX4_undo_0 24 rfl rfl
theorem dksX4_undo_2 : cX4_undo.data.toList.drop 48 = dktX4_undo_2 := dk_seg dksX4_undo_1 24 rfl rfl
theorem dX4_undo_0 : decode cX4_undo 0 = .ok (.aload_n 0, 1) := dk_42 (dk_at dksX4_undo_0 0 rfl rfl)
theorem dX4_undo_1 : decode cX4_undo 1 = .ok (.iconst 0, 1) := dk_3 (dk_at dksX4_undo_0 1 rfl rfl)
theorem dX4_undo_2 : decode cX4_undo 2 = .ok (.putfield 168, 3) := dk_181 0 168 (dk_at dksX4_undo_0 2 rfl rfl)
theorem dX4_undo_5 : decode cX4_undo 5 = .ok (.aload_n 0, 1) := dk_42 (dk_at dksX4_undo_0 5 rfl rfl)
theorem dX4_undo_6 : decode cX4_undo 6 = .ok (.getfield 369, 3) := dk_180 1 113 (dk_at dksX4_undo_0 6 rfl rfl)
theorem dX4_undo_9 : decode cX4_undo 9 = .ok (.ifCond .ne 5, 3) := dk_154 0 5 (dk_at dksX4_undo_0 9 rfl rfl)
theorem dX4_undo_12 : decode cX4_undo 12 = .ok (.iconst (-1), 1) := dk_2 (dk_at dksX4_undo_0 12 rfl rfl)
theorem dX4_undo_13 : decode cX4_undo 13 = .ok (.ireturn, 1) := dk_172 (dk_at dksX4_undo_0 13 rfl rfl)
theorem dX4_undo_14 : decode cX4_undo 14 = .ok (.aload_n 0, 1) := dk_42 (dk_at dksX4_undo_0 14 rfl rfl)
theorem dX4_undo_15 : decode cX4_undo 15 = .ok (.dup, 1) := dk_89 (dk_at dksX4_undo_0 15 rfl rfl)
theorem dX4_undo_16 : decode cX4_undo 16 = .ok (.getfield 369, 3) := dk_180 1 113 (dk_at dksX4_undo_0 16 rfl rfl)
theorem dX4_undo_19 : decode cX4_undo 19 = .ok (.iconst 1, 1) := dk_4 (dk_at dksX4_undo_0 19 rfl rfl)
theorem dX4_undo_20 : decode cX4_undo 20 = .ok (.isub, 1) := dk_100 (dk_at dksX4_undo_0 20 rfl rfl)
theorem dX4_undo_21 : decode cX4_undo 21 = .ok (.putfield 369, 3) := dk_181 1 113 (dk_at dksX4_undo_0 21 rfl rfl)
theorem dX4_undo_24 : decode cX4_undo 24 = .ok (.iconst 0, 1) := dk_3 (dk_at dksX4_undo_1 0 rfl rfl)
theorem dX4_undo_25 : decode cX4_undo 25 = .ok (.istore_n 1, 1) := dk_60 (dk_at dksX4_undo_1 1 rfl rfl)
theorem dX4_undo_26 : decode cX4_undo 26 = .ok (.iload_n 1, 1) := dk_27 (dk_at dksX4_undo_1 2 rfl rfl)
theorem dX4_undo_27 : decode cX4_undo 27 = .ok (.bipush 34, 2) := dk_16 34 (dk_at dksX4_undo_1 3 rfl rfl)
theorem dX4_undo_29 : decode cX4_undo 29 = .ok (.if_icmp .ge 29, 3) := dk_162 0 29 (dk_at dksX4_undo_1 5 rfl rfl)
theorem dX4_undo_32 : decode cX4_undo 32 = .ok (.aload_n 0, 1) := dk_42 (dk_at dksX4_undo_1 8 rfl rfl)
theorem dX4_undo_33 : decode cX4_undo 33 = .ok (.getfield 93, 3) := dk_180 0 93 (dk_at dksX4_undo_1 9 rfl rfl)
theorem dX4_undo_36 : decode cX4_undo 36 = .ok (.iload_n 1, 1) := dk_27 (dk_at dksX4_undo_1 12 rfl rfl)
theorem dX4_undo_37 : decode cX4_undo 37 = .ok (.aload_n 0, 1) := dk_42 (dk_at dksX4_undo_1 13 rfl rfl)
theorem dX4_undo_38 : decode cX4_undo 38 = .ok (.getfield 96, 3) := dk_180 0 96 (dk_at dksX4_undo_1 14 rfl rfl)
theorem dX4_undo_41 : decode cX4_undo 41 = .ok (.bipush 34, 2) := dk_16 34 (dk_at dksX4_undo_1 17 rfl rfl)
theorem dX4_undo_43 : decode cX4_undo 43 = .ok (.aload_n 0, 1) := dk_42 (dk_at dksX4_undo_1 19 rfl rfl)
theorem dX4_undo_44 : decode cX4_undo 44 = .ok (.getfield 369, 3) := dk_180 1 113 (dk_at dksX4_undo_1 20 rfl rfl)
theorem dX4_undo_47 : decode cX4_undo 47 = .ok (.imul, 1) := dk_104 (dk_at dksX4_undo_1 23 rfl rfl)
theorem dX4_undo_48 : decode cX4_undo 48 = .ok (.iload_n 1, 1) := dk_27 (dk_at dksX4_undo_2 0 rfl rfl)
theorem dX4_undo_49 : decode cX4_undo 49 = .ok (.iadd, 1) := dk_96 (dk_at dksX4_undo_2 1 rfl rfl)
theorem dX4_undo_50 : decode cX4_undo 50 = .ok (.iaload, 1) := dk_46 (dk_at dksX4_undo_2 2 rfl rfl)
theorem dX4_undo_51 : decode cX4_undo 51 = .ok (.iastore, 1) := dk_79 (dk_at dksX4_undo_2 3 rfl rfl)
theorem dX4_undo_52 : decode cX4_undo 52 = .ok (.iinc 1 1, 3) := dk_132 1 1 (dk_at dksX4_undo_2 4 rfl rfl)
theorem dX4_undo_55 : decode cX4_undo 55 = .ok (.goto (-29), 3) := dk_167 255 227 (dk_at dksX4_undo_2 7 rfl rfl)
theorem dX4_undo_58 : decode cX4_undo 58 = .ok (.aload_n 0, 1) := dk_42 (dk_at dksX4_undo_2 10 rfl rfl)
theorem dX4_undo_59 : decode cX4_undo 59 = .ok (.getfield 369, 3) := dk_180 1 113 (dk_at dksX4_undo_2 11 rfl rfl)
theorem dX4_undo_62 : decode cX4_undo 62 = .ok (.ireturn, 1) := dk_172 (dk_at dksX4_undo_2 14 rfl rfl)
abbrev cX4_count : ByteArray := prog_13_method_68_code
def yX4_count : MethodName := ⟨RX4, "count", "(I)I"⟩
def dkwX4_count_5 : List UInt8 := [180, 1, 113, 172, 42, 180, 1, 116, 172, 42, 180, 0, 171, 172, 42, 180, 0, 50, 27, 16, 14, 100, 46, 172]
abbrev dktX4_count_5 : List UInt8 := dkwX4_count_5 ++ []
def dkwX4_count_4 : List UInt8 := [182, 1, 197, 172, 42, 180, 0, 93, 5, 46, 172, 42, 180, 0, 93, 6, 46, 172, 42, 182, 1, 200, 172, 42]
abbrev dktX4_count_4 : List UInt8 := dkwX4_count_4 ++ dktX4_count_5
def dkwX4_count_3 : List UInt8 := [3, 46, 172, 42, 42, 180, 0, 93, 182, 1, 127, 172, 42, 180, 0, 93, 4, 46, 172, 42, 42, 180, 0, 93]
abbrev dktX4_count_3 : List UInt8 := dkwX4_count_3 ++ dktX4_count_4
def dkwX4_count_2 : List UInt8 := [42, 180, 1, 91, 172, 42, 180, 1, 94, 172, 42, 180, 1, 97, 172, 42, 180, 1, 100, 172, 42, 180, 0, 93]
abbrev dktX4_count_2 : List UInt8 := dkwX4_count_2 ++ dktX4_count_3
def dkwX4_count_1 : List UInt8 := [170, 0, 0, 0, 155, 0, 0, 0, 0, 0, 0, 0, 13, 0, 0, 0, 69, 0, 0, 0, 74, 0, 0, 0, 79, 0, 0, 0, 84, 0, 0, 0, 89, 0, 0, 0, 96, 0, 0, 0, 105, 0, 0, 0, 112, 0, 0, 0, 121, 0, 0, 0, 128, 0, 0, 0, 135, 0, 0, 0, 140, 0, 0, 0, 145, 0, 0, 0, 150]
abbrev dktX4_count_1 : List UInt8 := dkwX4_count_1 ++ dktX4_count_2
def dkwX4_count_0 : List UInt8 := [42, 3, 181, 0, 168, 42, 27, 3, 16, 16, 184, 1, 193, 4, 182, 1, 84, 154, 0, 5, 3, 172, 27]
abbrev dktX4_count_0 : List UInt8 := dkwX4_count_0 ++ dktX4_count_1
theorem dksX4_count_0 : cX4_count.data.toList.drop 0 = dktX4_count_0 := by decide +kernel
theorem dksX4_count_1 : cX4_count.data.toList.drop 23 = dktX4_count_1 := dk_seg dksX4_count_0 23 rfl rfl
theorem dksX4_count_2 : cX4_count.data.toList.drop 92 = dktX4_count_2 := dk_seg dksX4_count_1 69 rfl rfl
theorem dksX4_count_3 : cX4_count.data.toList.drop 116 = dktX4_count_3 := dk_seg dksX4_count_2 24 rfl rfl
theorem dksX4_count_4 : cX4_count.data.toList.drop 140 = dktX4_count_4 := dk_seg dksX4_count_3 24 rfl rfl
theorem dksX4_count_5 : cX4_count.data.toList.drop 164 = dktX4_count_5 := dk_seg dksX4_count_4 24 rfl rfl
theorem dX4_count_0 : decode cX4_count 0 = .ok (.aload_n 0, 1) := dk_42 (dk_at dksX4_count_0 0 rfl rfl)
theorem dX4_count_1 : decode cX4_count 1 = .ok (.iconst 0, 1) := dk_3 (dk_at dksX4_count_0 1 rfl rfl)
theorem dX4_count_2 : decode cX4_count 2 = .ok (.putfield 168, 3) := dk_181 0 168 (dk_at dksX4_count_0 2 rfl rfl)
theorem dX4_count_5 : decode cX4_count 5 = .ok (.aload_n 0, 1) := dk_42 (dk_at dksX4_count_0 5 rfl rfl)
theorem dX4_count_6 : decode cX4_count 6 = .ok (.iload_n 1, 1) := dk_27 (dk_at dksX4_count_0 6 rfl rfl)
theorem dX4_count_7 : decode cX4_count 7 = .ok (.iconst 0, 1) := dk_3 (dk_at dksX4_count_0 7 rfl rfl)
theorem dX4_count_8 : decode cX4_count 8 = .ok (.bipush 16, 2) := dk_16 16 (dk_at dksX4_count_0 8 rfl rfl)
theorem dX4_count_10 : decode cX4_count 10 = .ok (.invokestatic 449, 3) := dk_184 1 193 (dk_at dksX4_count_0 10 rfl rfl)
theorem dX4_count_13 : decode cX4_count 13 = .ok (.iconst 1, 1) := dk_4 (dk_at dksX4_count_0 13 rfl rfl)
theorem dX4_count_14 : decode cX4_count 14 = .ok (.invokevirtual 340, 3) := dk_182 1 84 (dk_at dksX4_count_0 14 rfl rfl)
theorem dX4_count_17 : decode cX4_count 17 = .ok (.ifCond .ne 5, 3) := dk_154 0 5 (dk_at dksX4_count_0 17 rfl rfl)
theorem dX4_count_20 : decode cX4_count 20 = .ok (.iconst 0, 1) := dk_3 (dk_at dksX4_count_0 20 rfl rfl)
theorem dX4_count_21 : decode cX4_count 21 = .ok (.ireturn, 1) := dk_172 (dk_at dksX4_count_0 21 rfl rfl)
theorem dX4_count_22 : decode cX4_count 22 = .ok (.iload_n 1, 1) := dk_27 (dk_at dksX4_count_0 22 rfl rfl)
theorem dX4_count_23 : decode cX4_count 23 = .ok (.tableswitch 155 0 13 #[69, 74, 79, 84, 89, 96, 105, 112, 121, 128, 135, 140, 145, 150], 69) := by decide +kernel
theorem dX4_count_92 : decode cX4_count 92 = .ok (.aload_n 0, 1) := dk_42 (dk_at dksX4_count_2 0 rfl rfl)
theorem dX4_count_93 : decode cX4_count 93 = .ok (.getfield 347, 3) := dk_180 1 91 (dk_at dksX4_count_2 1 rfl rfl)
theorem dX4_count_96 : decode cX4_count 96 = .ok (.ireturn, 1) := dk_172 (dk_at dksX4_count_2 4 rfl rfl)
theorem dX4_count_97 : decode cX4_count 97 = .ok (.aload_n 0, 1) := dk_42 (dk_at dksX4_count_2 5 rfl rfl)
theorem dX4_count_98 : decode cX4_count 98 = .ok (.getfield 350, 3) := dk_180 1 94 (dk_at dksX4_count_2 6 rfl rfl)
theorem dX4_count_101 : decode cX4_count 101 = .ok (.ireturn, 1) := dk_172 (dk_at dksX4_count_2 9 rfl rfl)
theorem dX4_count_102 : decode cX4_count 102 = .ok (.aload_n 0, 1) := dk_42 (dk_at dksX4_count_2 10 rfl rfl)
theorem dX4_count_103 : decode cX4_count 103 = .ok (.getfield 353, 3) := dk_180 1 97 (dk_at dksX4_count_2 11 rfl rfl)
theorem dX4_count_106 : decode cX4_count 106 = .ok (.ireturn, 1) := dk_172 (dk_at dksX4_count_2 14 rfl rfl)
theorem dX4_count_107 : decode cX4_count 107 = .ok (.aload_n 0, 1) := dk_42 (dk_at dksX4_count_2 15 rfl rfl)
theorem dX4_count_108 : decode cX4_count 108 = .ok (.getfield 356, 3) := dk_180 1 100 (dk_at dksX4_count_2 16 rfl rfl)
theorem dX4_count_111 : decode cX4_count 111 = .ok (.ireturn, 1) := dk_172 (dk_at dksX4_count_2 19 rfl rfl)
theorem dX4_count_112 : decode cX4_count 112 = .ok (.aload_n 0, 1) := dk_42 (dk_at dksX4_count_2 20 rfl rfl)
theorem dX4_count_113 : decode cX4_count 113 = .ok (.getfield 93, 3) := dk_180 0 93 (dk_at dksX4_count_2 21 rfl rfl)
theorem dX4_count_116 : decode cX4_count 116 = .ok (.iconst 0, 1) := dk_3 (dk_at dksX4_count_3 0 rfl rfl)
theorem dX4_count_117 : decode cX4_count 117 = .ok (.iaload, 1) := dk_46 (dk_at dksX4_count_3 1 rfl rfl)
theorem dX4_count_118 : decode cX4_count 118 = .ok (.ireturn, 1) := dk_172 (dk_at dksX4_count_3 2 rfl rfl)
theorem dX4_count_119 : decode cX4_count 119 = .ok (.aload_n 0, 1) := dk_42 (dk_at dksX4_count_3 3 rfl rfl)
theorem dX4_count_120 : decode cX4_count 120 = .ok (.aload_n 0, 1) := dk_42 (dk_at dksX4_count_3 4 rfl rfl)
theorem dX4_count_121 : decode cX4_count 121 = .ok (.getfield 93, 3) := dk_180 0 93 (dk_at dksX4_count_3 5 rfl rfl)
theorem dX4_count_124 : decode cX4_count 124 = .ok (.invokevirtual 383, 3) := dk_182 1 127 (dk_at dksX4_count_3 8 rfl rfl)
theorem dX4_count_127 : decode cX4_count 127 = .ok (.ireturn, 1) := dk_172 (dk_at dksX4_count_3 11 rfl rfl)
theorem dX4_count_128 : decode cX4_count 128 = .ok (.aload_n 0, 1) := dk_42 (dk_at dksX4_count_3 12 rfl rfl)
theorem dX4_count_129 : decode cX4_count 129 = .ok (.getfield 93, 3) := dk_180 0 93 (dk_at dksX4_count_3 13 rfl rfl)
theorem dX4_count_132 : decode cX4_count 132 = .ok (.iconst 1, 1) := dk_4 (dk_at dksX4_count_3 16 rfl rfl)
theorem dX4_count_133 : decode cX4_count 133 = .ok (.iaload, 1) := dk_46 (dk_at dksX4_count_3 17 rfl rfl)
theorem dX4_count_134 : decode cX4_count 134 = .ok (.ireturn, 1) := dk_172 (dk_at dksX4_count_3 18 rfl rfl)
theorem dX4_count_135 : decode cX4_count 135 = .ok (.aload_n 0, 1) := dk_42 (dk_at dksX4_count_3 19 rfl rfl)
theorem dX4_count_136 : decode cX4_count 136 = .ok (.aload_n 0, 1) := dk_42 (dk_at dksX4_count_3 20 rfl rfl)
theorem dX4_count_137 : decode cX4_count 137 = .ok (.getfield 93, 3) := dk_180 0 93 (dk_at dksX4_count_3 21 rfl rfl)
theorem dX4_count_140 : decode cX4_count 140 = .ok (.invokevirtual 453, 3) := dk_182 1 197 (dk_at dksX4_count_4 0 rfl rfl)
theorem dX4_count_143 : decode cX4_count 143 = .ok (.ireturn, 1) := dk_172 (dk_at dksX4_count_4 3 rfl rfl)
theorem dX4_count_144 : decode cX4_count 144 = .ok (.aload_n 0, 1) := dk_42 (dk_at dksX4_count_4 4 rfl rfl)
theorem dX4_count_145 : decode cX4_count 145 = .ok (.getfield 93, 3) := dk_180 0 93 (dk_at dksX4_count_4 5 rfl rfl)
theorem dX4_count_148 : decode cX4_count 148 = .ok (.iconst 2, 1) := dk_5 (dk_at dksX4_count_4 8 rfl rfl)
theorem dX4_count_149 : decode cX4_count 149 = .ok (.iaload, 1) := dk_46 (dk_at dksX4_count_4 9 rfl rfl)
theorem dX4_count_150 : decode cX4_count 150 = .ok (.ireturn, 1) := dk_172 (dk_at dksX4_count_4 10 rfl rfl)
theorem dX4_count_151 : decode cX4_count 151 = .ok (.aload_n 0, 1) := dk_42 (dk_at dksX4_count_4 11 rfl rfl)
theorem dX4_count_152 : decode cX4_count 152 = .ok (.getfield 93, 3) := dk_180 0 93 (dk_at dksX4_count_4 12 rfl rfl)
theorem dX4_count_155 : decode cX4_count 155 = .ok (.iconst 3, 1) := dk_6 (dk_at dksX4_count_4 15 rfl rfl)
theorem dX4_count_156 : decode cX4_count 156 = .ok (.iaload, 1) := dk_46 (dk_at dksX4_count_4 16 rfl rfl)
theorem dX4_count_157 : decode cX4_count 157 = .ok (.ireturn, 1) := dk_172 (dk_at dksX4_count_4 17 rfl rfl)
theorem dX4_count_158 : decode cX4_count 158 = .ok (.aload_n 0, 1) := dk_42 (dk_at dksX4_count_4 18 rfl rfl)
theorem dX4_count_159 : decode cX4_count 159 = .ok (.invokevirtual 456, 3) := dk_182 1 200 (dk_at dksX4_count_4 19 rfl rfl)
theorem dX4_count_162 : decode cX4_count 162 = .ok (.ireturn, 1) := dk_172 (dk_at dksX4_count_4 22 rfl rfl)
theorem dX4_count_163 : decode cX4_count 163 = .ok (.aload_n 0, 1) := dk_42 (dk_at dksX4_count_4 23 rfl rfl)
theorem dX4_count_164 : decode cX4_count 164 = .ok (.getfield 369, 3) := dk_180 1 113 (dk_at dksX4_count_5 0 rfl rfl)
theorem dX4_count_167 : decode cX4_count 167 = .ok (.ireturn, 1) := dk_172 (dk_at dksX4_count_5 3 rfl rfl)
theorem dX4_count_168 : decode cX4_count 168 = .ok (.aload_n 0, 1) := dk_42 (dk_at dksX4_count_5 4 rfl rfl)
theorem dX4_count_169 : decode cX4_count 169 = .ok (.getfield 372, 3) := dk_180 1 116 (dk_at dksX4_count_5 5 rfl rfl)
theorem dX4_count_172 : decode cX4_count 172 = .ok (.ireturn, 1) := dk_172 (dk_at dksX4_count_5 8 rfl rfl)
theorem dX4_count_173 : decode cX4_count 173 = .ok (.aload_n 0, 1) := dk_42 (dk_at dksX4_count_5 9 rfl rfl)
theorem dX4_count_174 : decode cX4_count 174 = .ok (.getfield 171, 3) := dk_180 0 171 (dk_at dksX4_count_5 10 rfl rfl)
theorem dX4_count_177 : decode cX4_count 177 = .ok (.ireturn, 1) := dk_172 (dk_at dksX4_count_5 13 rfl rfl)
theorem dX4_count_178 : decode cX4_count 178 = .ok (.aload_n 0, 1) := dk_42 (dk_at dksX4_count_5 14 rfl rfl)
theorem dX4_count_179 : decode cX4_count 179 = .ok (.getfield 50, 3) := dk_180 0 50 (dk_at dksX4_count_5 15 rfl rfl)
theorem dX4_count_182 : decode cX4_count 182 = .ok (.iload_n 1, 1) := dk_27 (dk_at dksX4_count_5 18 rfl rfl)
theorem dX4_count_183 : decode cX4_count 183 = .ok (.bipush 14, 2) := dk_16 14 (dk_at dksX4_count_5 19 rfl rfl)
theorem dX4_count_185 : decode cX4_count 185 = .ok (.isub, 1) := dk_100 (dk_at dksX4_count_5 21 rfl rfl)
theorem dX4_count_186 : decode cX4_count 186 = .ok (.iaload, 1) := dk_46 (dk_at dksX4_count_5 22 rfl rfl)
theorem dX4_count_187 : decode cX4_count 187 = .ok (.ireturn, 1) := dk_172 (dk_at dksX4_count_5 23 rfl rfl)
abbrev cX4_within : ByteArray := prog_13_method_4_code
def yX4_within : MethodName := ⟨RX4, "within", "(III)Z"⟩
def dkwX4_within_0 : List UInt8 := [26, 27, 161, 0, 12, 26, 28, 163, 0, 7, 4, 167, 0, 4, 3, 172]
abbrev dktX4_within_0 : List UInt8 := dkwX4_within_0 ++ []
theorem dksX4_within_0 : cX4_within.data.toList.drop 0 = dktX4_within_0 := by decide +kernel
theorem dX4_within_0 : decode cX4_within 0 = .ok (.iload_n 0, 1) := dk_26 (dk_at dksX4_within_0 0 rfl rfl)
theorem dX4_within_1 : decode cX4_within 1 = .ok (.iload_n 1, 1) := dk_27 (dk_at dksX4_within_0 1 rfl rfl)
theorem dX4_within_2 : decode cX4_within 2 = .ok (.if_icmp .lt 12, 3) := dk_161 0 12 (dk_at dksX4_within_0 2 rfl rfl)
theorem dX4_within_5 : decode cX4_within 5 = .ok (.iload_n 0, 1) := dk_26 (dk_at dksX4_within_0 5 rfl rfl)
theorem dX4_within_6 : decode cX4_within 6 = .ok (.iload_n 2, 1) := dk_28 (dk_at dksX4_within_0 6 rfl rfl)
theorem dX4_within_7 : decode cX4_within 7 = .ok (.if_icmp .gt 7, 3) := dk_163 0 7 (dk_at dksX4_within_0 7 rfl rfl)
theorem dX4_within_10 : decode cX4_within 10 = .ok (.iconst 1, 1) := dk_4 (dk_at dksX4_within_0 10 rfl rfl)
theorem dX4_within_11 : decode cX4_within 11 = .ok (.goto 4, 3) := dk_167 0 4 (dk_at dksX4_within_0 11 rfl rfl)
theorem dX4_within_14 : decode cX4_within 14 = .ok (.iconst 0, 1) := dk_3 (dk_at dksX4_within_0 14 rfl rfl)
theorem dX4_within_15 : decode cX4_within 15 = .ok (.ireturn, 1) := dk_172 (dk_at dksX4_within_0 15 rfl rfl)
abbrev cX4_listOf : ByteArray := prog_13_method_49_code
def yX4_listOf : MethodName := ⟨RX4, "listOf", "([I)I"⟩
def dkwX4_listOf_1 : List UInt8 := [120, 167, 0, 4, 3, 128, 61, 132, 3, 1, 167, 255, 226, 28, 172]
abbrev dktX4_listOf_1 : List UInt8 := dkwX4_listOf_1 ++ []
def dkwX4_listOf_0 : List UInt8 := [3, 61, 3, 62, 29, 42, 180, 1, 100, 162, 0, 28, 28, 43, 7, 29, 96, 46, 2, 159, 0, 9, 4, 29]
abbrev dktX4_listOf_0 : List UInt8 := dkwX4_listOf_0 ++ dktX4_listOf_1
theorem dksX4_listOf_0 : cX4_listOf.data.toList.drop 0 = dktX4_listOf_0 := by decide +kernel
theorem dksX4_listOf_1 : cX4_listOf.data.toList.drop 24 = dktX4_listOf_1 := dk_seg dksX4_listOf_0 24 rfl rfl
theorem dX4_listOf_0 : decode cX4_listOf 0 = .ok (.iconst 0, 1) := dk_3 (dk_at dksX4_listOf_0 0 rfl rfl)
theorem dX4_listOf_1 : decode cX4_listOf 1 = .ok (.istore_n 2, 1) := dk_61 (dk_at dksX4_listOf_0 1 rfl rfl)
theorem dX4_listOf_2 : decode cX4_listOf 2 = .ok (.iconst 0, 1) := dk_3 (dk_at dksX4_listOf_0 2 rfl rfl)
theorem dX4_listOf_3 : decode cX4_listOf 3 = .ok (.istore_n 3, 1) := dk_62 (dk_at dksX4_listOf_0 3 rfl rfl)
theorem dX4_listOf_4 : decode cX4_listOf 4 = .ok (.iload_n 3, 1) := dk_29 (dk_at dksX4_listOf_0 4 rfl rfl)
theorem dX4_listOf_5 : decode cX4_listOf 5 = .ok (.aload_n 0, 1) := dk_42 (dk_at dksX4_listOf_0 5 rfl rfl)
theorem dX4_listOf_6 : decode cX4_listOf 6 = .ok (.getfield 356, 3) := dk_180 1 100 (dk_at dksX4_listOf_0 6 rfl rfl)
theorem dX4_listOf_9 : decode cX4_listOf 9 = .ok (.if_icmp .ge 28, 3) := dk_162 0 28 (dk_at dksX4_listOf_0 9 rfl rfl)
theorem dX4_listOf_12 : decode cX4_listOf 12 = .ok (.iload_n 2, 1) := dk_28 (dk_at dksX4_listOf_0 12 rfl rfl)
theorem dX4_listOf_13 : decode cX4_listOf 13 = .ok (.aload_n 1, 1) := dk_43 (dk_at dksX4_listOf_0 13 rfl rfl)
theorem dX4_listOf_14 : decode cX4_listOf 14 = .ok (.iconst 4, 1) := dk_7 (dk_at dksX4_listOf_0 14 rfl rfl)
theorem dX4_listOf_15 : decode cX4_listOf 15 = .ok (.iload_n 3, 1) := dk_29 (dk_at dksX4_listOf_0 15 rfl rfl)
theorem dX4_listOf_16 : decode cX4_listOf 16 = .ok (.iadd, 1) := dk_96 (dk_at dksX4_listOf_0 16 rfl rfl)
theorem dX4_listOf_17 : decode cX4_listOf 17 = .ok (.iaload, 1) := dk_46 (dk_at dksX4_listOf_0 17 rfl rfl)
theorem dX4_listOf_18 : decode cX4_listOf 18 = .ok (.iconst (-1), 1) := dk_2 (dk_at dksX4_listOf_0 18 rfl rfl)
theorem dX4_listOf_19 : decode cX4_listOf 19 = .ok (.if_icmp .eq 9, 3) := dk_159 0 9 (dk_at dksX4_listOf_0 19 rfl rfl)
theorem dX4_listOf_22 : decode cX4_listOf 22 = .ok (.iconst 1, 1) := dk_4 (dk_at dksX4_listOf_0 22 rfl rfl)
theorem dX4_listOf_23 : decode cX4_listOf 23 = .ok (.iload_n 3, 1) := dk_29 (dk_at dksX4_listOf_0 23 rfl rfl)
theorem dX4_listOf_24 : decode cX4_listOf 24 = .ok (.ishl, 1) := dk_120 (dk_at dksX4_listOf_1 0 rfl rfl)
theorem dX4_listOf_25 : decode cX4_listOf 25 = .ok (.goto 4, 3) := dk_167 0 4 (dk_at dksX4_listOf_1 1 rfl rfl)
theorem dX4_listOf_28 : decode cX4_listOf 28 = .ok (.iconst 0, 1) := dk_3 (dk_at dksX4_listOf_1 4 rfl rfl)
theorem dX4_listOf_29 : decode cX4_listOf 29 = .ok (.ior, 1) := dk_128 (dk_at dksX4_listOf_1 5 rfl rfl)
theorem dX4_listOf_30 : decode cX4_listOf 30 = .ok (.istore_n 2, 1) := dk_61 (dk_at dksX4_listOf_1 6 rfl rfl)
theorem dX4_listOf_31 : decode cX4_listOf 31 = .ok (.iinc 3 1, 3) := dk_132 3 1 (dk_at dksX4_listOf_1 7 rfl rfl)
theorem dX4_listOf_34 : decode cX4_listOf 34 = .ok (.goto (-30), 3) := dk_167 255 226 (dk_at dksX4_listOf_1 10 rfl rfl)
theorem dX4_listOf_37 : decode cX4_listOf 37 = .ok (.iload_n 2, 1) := dk_28 (dk_at dksX4_listOf_1 13 rfl rfl)
theorem dX4_listOf_38 : decode cX4_listOf 38 = .ok (.ireturn, 1) := dk_172 (dk_at dksX4_listOf_1 14 rfl rfl)
abbrev cX4_awayOf : ByteArray := prog_13_method_66_code
def yX4_awayOf : MethodName := ⟨RX4, "awayOf", "([I)I"⟩
def dkwX4_awayOf_1 : List UInt8 := [120, 167, 0, 4, 3, 128, 61, 132, 3, 1, 167, 255, 226, 28, 172]
abbrev dktX4_awayOf_1 : List UInt8 := dkwX4_awayOf_1 ++ []
def dkwX4_awayOf_0 : List UInt8 := [3, 61, 3, 62, 29, 42, 180, 1, 100, 162, 0, 28, 28, 42, 43, 29, 182, 1, 154, 153, 0, 9, 4, 29]
abbrev dktX4_awayOf_0 : List UInt8 := dkwX4_awayOf_0 ++ dktX4_awayOf_1
theorem dksX4_awayOf_0 : cX4_awayOf.data.toList.drop 0 = dktX4_awayOf_0 := by decide +kernel
theorem dksX4_awayOf_1 : cX4_awayOf.data.toList.drop 24 = dktX4_awayOf_1 := dk_seg dksX4_awayOf_0 24 rfl rfl
theorem dX4_awayOf_0 : decode cX4_awayOf 0 = .ok (.iconst 0, 1) := dk_3 (dk_at dksX4_awayOf_0 0 rfl rfl)
theorem dX4_awayOf_1 : decode cX4_awayOf 1 = .ok (.istore_n 2, 1) := dk_61 (dk_at dksX4_awayOf_0 1 rfl rfl)
theorem dX4_awayOf_2 : decode cX4_awayOf 2 = .ok (.iconst 0, 1) := dk_3 (dk_at dksX4_awayOf_0 2 rfl rfl)
theorem dX4_awayOf_3 : decode cX4_awayOf 3 = .ok (.istore_n 3, 1) := dk_62 (dk_at dksX4_awayOf_0 3 rfl rfl)
theorem dX4_awayOf_4 : decode cX4_awayOf 4 = .ok (.iload_n 3, 1) := dk_29 (dk_at dksX4_awayOf_0 4 rfl rfl)
theorem dX4_awayOf_5 : decode cX4_awayOf 5 = .ok (.aload_n 0, 1) := dk_42 (dk_at dksX4_awayOf_0 5 rfl rfl)
theorem dX4_awayOf_6 : decode cX4_awayOf 6 = .ok (.getfield 356, 3) := dk_180 1 100 (dk_at dksX4_awayOf_0 6 rfl rfl)
theorem dX4_awayOf_9 : decode cX4_awayOf 9 = .ok (.if_icmp .ge 28, 3) := dk_162 0 28 (dk_at dksX4_awayOf_0 9 rfl rfl)
theorem dX4_awayOf_12 : decode cX4_awayOf 12 = .ok (.iload_n 2, 1) := dk_28 (dk_at dksX4_awayOf_0 12 rfl rfl)
theorem dX4_awayOf_13 : decode cX4_awayOf 13 = .ok (.aload_n 0, 1) := dk_42 (dk_at dksX4_awayOf_0 13 rfl rfl)
theorem dX4_awayOf_14 : decode cX4_awayOf 14 = .ok (.aload_n 1, 1) := dk_43 (dk_at dksX4_awayOf_0 14 rfl rfl)
theorem dX4_awayOf_15 : decode cX4_awayOf 15 = .ok (.iload_n 3, 1) := dk_29 (dk_at dksX4_awayOf_0 15 rfl rfl)
theorem dX4_awayOf_16 : decode cX4_awayOf 16 = .ok (.invokevirtual 410, 3) := dk_182 1 154 (dk_at dksX4_awayOf_0 16 rfl rfl)
theorem dX4_awayOf_19 : decode cX4_awayOf 19 = .ok (.ifCond .eq 9, 3) := dk_153 0 9 (dk_at dksX4_awayOf_0 19 rfl rfl)
theorem dX4_awayOf_22 : decode cX4_awayOf 22 = .ok (.iconst 1, 1) := dk_4 (dk_at dksX4_awayOf_0 22 rfl rfl)
theorem dX4_awayOf_23 : decode cX4_awayOf 23 = .ok (.iload_n 3, 1) := dk_29 (dk_at dksX4_awayOf_0 23 rfl rfl)
theorem dX4_awayOf_24 : decode cX4_awayOf 24 = .ok (.ishl, 1) := dk_120 (dk_at dksX4_awayOf_1 0 rfl rfl)
theorem dX4_awayOf_25 : decode cX4_awayOf 25 = .ok (.goto 4, 3) := dk_167 0 4 (dk_at dksX4_awayOf_1 1 rfl rfl)
theorem dX4_awayOf_28 : decode cX4_awayOf 28 = .ok (.iconst 0, 1) := dk_3 (dk_at dksX4_awayOf_1 4 rfl rfl)
theorem dX4_awayOf_29 : decode cX4_awayOf 29 = .ok (.ior, 1) := dk_128 (dk_at dksX4_awayOf_1 5 rfl rfl)
theorem dX4_awayOf_30 : decode cX4_awayOf 30 = .ok (.istore_n 2, 1) := dk_61 (dk_at dksX4_awayOf_1 6 rfl rfl)
theorem dX4_awayOf_31 : decode cX4_awayOf 31 = .ok (.iinc 3 1, 3) := dk_132 3 1 (dk_at dksX4_awayOf_1 7 rfl rfl)
theorem dX4_awayOf_34 : decode cX4_awayOf 34 = .ok (.goto (-30), 3) := dk_167 255 226 (dk_at dksX4_awayOf_1 10 rfl rfl)
theorem dX4_awayOf_37 : decode cX4_awayOf 37 = .ok (.iload_n 2, 1) := dk_28 (dk_at dksX4_awayOf_1 13 rfl rfl)
theorem dX4_awayOf_38 : decode cX4_awayOf 38 = .ok (.ireturn, 1) := dk_172 (dk_at dksX4_awayOf_1 14 rfl rfl)
abbrev cX4_isAway : ByteArray := prog_13_method_51_code
def yX4_isAway : MethodName := ⟨RX4, "isAway", "([II)Z"⟩
def dkwX4_isAway_0 : List UInt8 := [42, 180, 0, 13, 43, 16, 22, 28, 96, 46, 46, 2, 160, 0, 7, 4, 167, 0, 4, 3, 172]
abbrev dktX4_isAway_0 : List UInt8 := dkwX4_isAway_0 ++ []
theorem dksX4_isAway_0 : cX4_isAway.data.toList.drop 0 = dktX4_isAway_0 := by decide +kernel
theorem dX4_isAway_0 : decode cX4_isAway 0 = .ok (.aload_n 0, 1) := dk_42 (dk_at dksX4_isAway_0 0 rfl rfl)
theorem dX4_isAway_1 : decode cX4_isAway 1 = .ok (.getfield 13, 3) := dk_180 0 13 (dk_at dksX4_isAway_0 1 rfl rfl)
theorem dX4_isAway_4 : decode cX4_isAway 4 = .ok (.aload_n 1, 1) := dk_43 (dk_at dksX4_isAway_0 4 rfl rfl)
theorem dX4_isAway_5 : decode cX4_isAway 5 = .ok (.bipush 22, 2) := dk_16 22 (dk_at dksX4_isAway_0 5 rfl rfl)
theorem dX4_isAway_7 : decode cX4_isAway 7 = .ok (.iload_n 2, 1) := dk_28 (dk_at dksX4_isAway_0 7 rfl rfl)
theorem dX4_isAway_8 : decode cX4_isAway 8 = .ok (.iadd, 1) := dk_96 (dk_at dksX4_isAway_0 8 rfl rfl)
theorem dX4_isAway_9 : decode cX4_isAway 9 = .ok (.iaload, 1) := dk_46 (dk_at dksX4_isAway_0 9 rfl rfl)
theorem dX4_isAway_10 : decode cX4_isAway 10 = .ok (.iaload, 1) := dk_46 (dk_at dksX4_isAway_0 10 rfl rfl)
theorem dX4_isAway_11 : decode cX4_isAway 11 = .ok (.iconst (-1), 1) := dk_2 (dk_at dksX4_isAway_0 11 rfl rfl)
theorem dX4_isAway_12 : decode cX4_isAway 12 = .ok (.if_icmp .ne 7, 3) := dk_160 0 7 (dk_at dksX4_isAway_0 12 rfl rfl)
theorem dX4_isAway_15 : decode cX4_isAway 15 = .ok (.iconst 1, 1) := dk_4 (dk_at dksX4_isAway_0 15 rfl rfl)
theorem dX4_isAway_16 : decode cX4_isAway 16 = .ok (.goto 4, 3) := dk_167 0 4 (dk_at dksX4_isAway_0 16 rfl rfl)
theorem dX4_isAway_19 : decode cX4_isAway 19 = .ok (.iconst 0, 1) := dk_3 (dk_at dksX4_isAway_0 19 rfl rfl)
theorem dX4_isAway_20 : decode cX4_isAway 20 = .ok (.ireturn, 1) := dk_172 (dk_at dksX4_isAway_0 20 rfl rfl)
abbrev cX4_barred : ByteArray := prog_13_method_67_code
def yX4_barred : MethodName := ⟨RX4, "barred", "()I"⟩
def dkwX4_barred_3 : List UInt8 := [130, 126, 172]
abbrev dktX4_barred_3 : List UInt8 := dkwX4_barred_3 ++ []
def dkwX4_barred_2 : List UInt8 := [21, 4, 120, 167, 0, 4, 3, 128, 61, 132, 4, 1, 167, 255, 221, 132, 3, 1, 167, 255, 204, 28, 27, 2]
abbrev dktX4_barred_2 : List UInt8 := dkwX4_barred_2 ++ dktX4_barred_3
def dkwX4_barred_1 : List UInt8 := [21, 4, 42, 180, 1, 100, 162, 0, 32, 28, 42, 180, 0, 29, 21, 4, 46, 28, 126, 153, 0, 10, 4]
abbrev dktX4_barred_1 : List UInt8 := dkwX4_barred_1 ++ dktX4_barred_2
def dkwX4_barred_0 : List UInt8 := [42, 42, 180, 0, 93, 182, 1, 127, 60, 27, 61, 3, 62, 29, 42, 180, 1, 100, 162, 0, 50, 3, 54, 4]
abbrev dktX4_barred_0 : List UInt8 := dkwX4_barred_0 ++ dktX4_barred_1
theorem dksX4_barred_0 : cX4_barred.data.toList.drop 0 = dktX4_barred_0 := by decide +kernel
theorem dksX4_barred_1 : cX4_barred.data.toList.drop 24 = dktX4_barred_1 := dk_seg dksX4_barred_0 24 rfl rfl
theorem dksX4_barred_2 : cX4_barred.data.toList.drop 47 = dktX4_barred_2 := dk_seg dksX4_barred_1 23 rfl rfl
theorem dksX4_barred_3 : cX4_barred.data.toList.drop 71 = dktX4_barred_3 := dk_seg dksX4_barred_2 24 rfl rfl
theorem dX4_barred_0 : decode cX4_barred 0 = .ok (.aload_n 0, 1) := dk_42 (dk_at dksX4_barred_0 0 rfl rfl)
theorem dX4_barred_1 : decode cX4_barred 1 = .ok (.aload_n 0, 1) := dk_42 (dk_at dksX4_barred_0 1 rfl rfl)
theorem dX4_barred_2 : decode cX4_barred 2 = .ok (.getfield 93, 3) := dk_180 0 93 (dk_at dksX4_barred_0 2 rfl rfl)
theorem dX4_barred_5 : decode cX4_barred 5 = .ok (.invokevirtual 383, 3) := dk_182 1 127 (dk_at dksX4_barred_0 5 rfl rfl)
theorem dX4_barred_8 : decode cX4_barred 8 = .ok (.istore_n 1, 1) := dk_60 (dk_at dksX4_barred_0 8 rfl rfl)
theorem dX4_barred_9 : decode cX4_barred 9 = .ok (.iload_n 1, 1) := dk_27 (dk_at dksX4_barred_0 9 rfl rfl)
theorem dX4_barred_10 : decode cX4_barred 10 = .ok (.istore_n 2, 1) := dk_61 (dk_at dksX4_barred_0 10 rfl rfl)
theorem dX4_barred_11 : decode cX4_barred 11 = .ok (.iconst 0, 1) := dk_3 (dk_at dksX4_barred_0 11 rfl rfl)
theorem dX4_barred_12 : decode cX4_barred 12 = .ok (.istore_n 3, 1) := dk_62 (dk_at dksX4_barred_0 12 rfl rfl)
theorem dX4_barred_13 : decode cX4_barred 13 = .ok (.iload_n 3, 1) := dk_29 (dk_at dksX4_barred_0 13 rfl rfl)
theorem dX4_barred_14 : decode cX4_barred 14 = .ok (.aload_n 0, 1) := dk_42 (dk_at dksX4_barred_0 14 rfl rfl)
theorem dX4_barred_15 : decode cX4_barred 15 = .ok (.getfield 356, 3) := dk_180 1 100 (dk_at dksX4_barred_0 15 rfl rfl)
theorem dX4_barred_18 : decode cX4_barred 18 = .ok (.if_icmp .ge 50, 3) := dk_162 0 50 (dk_at dksX4_barred_0 18 rfl rfl)
theorem dX4_barred_21 : decode cX4_barred 21 = .ok (.iconst 0, 1) := dk_3 (dk_at dksX4_barred_0 21 rfl rfl)
theorem dX4_barred_22 : decode cX4_barred 22 = .ok (.istore 4, 2) := dk_54 4 (dk_at dksX4_barred_0 22 rfl rfl)
theorem dX4_barred_24 : decode cX4_barred 24 = .ok (.iload 4, 2) := dk_21 4 (dk_at dksX4_barred_1 0 rfl rfl)
theorem dX4_barred_26 : decode cX4_barred 26 = .ok (.aload_n 0, 1) := dk_42 (dk_at dksX4_barred_1 2 rfl rfl)
theorem dX4_barred_27 : decode cX4_barred 27 = .ok (.getfield 356, 3) := dk_180 1 100 (dk_at dksX4_barred_1 3 rfl rfl)
theorem dX4_barred_30 : decode cX4_barred 30 = .ok (.if_icmp .ge 32, 3) := dk_162 0 32 (dk_at dksX4_barred_1 6 rfl rfl)
theorem dX4_barred_33 : decode cX4_barred 33 = .ok (.iload_n 2, 1) := dk_28 (dk_at dksX4_barred_1 9 rfl rfl)
theorem dX4_barred_34 : decode cX4_barred 34 = .ok (.aload_n 0, 1) := dk_42 (dk_at dksX4_barred_1 10 rfl rfl)
theorem dX4_barred_35 : decode cX4_barred 35 = .ok (.getfield 29, 3) := dk_180 0 29 (dk_at dksX4_barred_1 11 rfl rfl)
theorem dX4_barred_38 : decode cX4_barred 38 = .ok (.iload 4, 2) := dk_21 4 (dk_at dksX4_barred_1 14 rfl rfl)
theorem dX4_barred_40 : decode cX4_barred 40 = .ok (.iaload, 1) := dk_46 (dk_at dksX4_barred_1 16 rfl rfl)
theorem dX4_barred_41 : decode cX4_barred 41 = .ok (.iload_n 2, 1) := dk_28 (dk_at dksX4_barred_1 17 rfl rfl)
theorem dX4_barred_42 : decode cX4_barred 42 = .ok (.iand, 1) := dk_126 (dk_at dksX4_barred_1 18 rfl rfl)
theorem dX4_barred_43 : decode cX4_barred 43 = .ok (.ifCond .eq 10, 3) := dk_153 0 10 (dk_at dksX4_barred_1 19 rfl rfl)
theorem dX4_barred_46 : decode cX4_barred 46 = .ok (.iconst 1, 1) := dk_4 (dk_at dksX4_barred_1 22 rfl rfl)
theorem dX4_barred_47 : decode cX4_barred 47 = .ok (.iload 4, 2) := dk_21 4 (dk_at dksX4_barred_2 0 rfl rfl)
theorem dX4_barred_49 : decode cX4_barred 49 = .ok (.ishl, 1) := dk_120 (dk_at dksX4_barred_2 2 rfl rfl)
theorem dX4_barred_50 : decode cX4_barred 50 = .ok (.goto 4, 3) := dk_167 0 4 (dk_at dksX4_barred_2 3 rfl rfl)
theorem dX4_barred_53 : decode cX4_barred 53 = .ok (.iconst 0, 1) := dk_3 (dk_at dksX4_barred_2 6 rfl rfl)
theorem dX4_barred_54 : decode cX4_barred 54 = .ok (.ior, 1) := dk_128 (dk_at dksX4_barred_2 7 rfl rfl)
theorem dX4_barred_55 : decode cX4_barred 55 = .ok (.istore_n 2, 1) := dk_61 (dk_at dksX4_barred_2 8 rfl rfl)
theorem dX4_barred_56 : decode cX4_barred 56 = .ok (.iinc 4 1, 3) := dk_132 4 1 (dk_at dksX4_barred_2 9 rfl rfl)
theorem dX4_barred_59 : decode cX4_barred 59 = .ok (.goto (-35), 3) := dk_167 255 221 (dk_at dksX4_barred_2 12 rfl rfl)
theorem dX4_barred_62 : decode cX4_barred 62 = .ok (.iinc 3 1, 3) := dk_132 3 1 (dk_at dksX4_barred_2 15 rfl rfl)
theorem dX4_barred_65 : decode cX4_barred 65 = .ok (.goto (-52), 3) := dk_167 255 204 (dk_at dksX4_barred_2 18 rfl rfl)
theorem dX4_barred_68 : decode cX4_barred 68 = .ok (.iload_n 2, 1) := dk_28 (dk_at dksX4_barred_2 21 rfl rfl)
theorem dX4_barred_69 : decode cX4_barred 69 = .ok (.iload_n 1, 1) := dk_27 (dk_at dksX4_barred_2 22 rfl rfl)
theorem dX4_barred_70 : decode cX4_barred 70 = .ok (.iconst (-1), 1) := dk_2 (dk_at dksX4_barred_2 23 rfl rfl)
theorem dX4_barred_71 : decode cX4_barred 71 = .ok (.ixor, 1) := dk_130 (dk_at dksX4_barred_3 0 rfl rfl)
theorem dX4_barred_72 : decode cX4_barred 72 = .ok (.iand, 1) := dk_126 (dk_at dksX4_barred_3 1 rfl rfl)
theorem dX4_barred_73 : decode cX4_barred 73 = .ok (.ireturn, 1) := dk_172 (dk_at dksX4_barred_3 2 rfl rfl)
abbrev cX4_master : ByteArray := prog_13_method_73_code
def yX4_master : MethodName := ⟨RX4, "master", "(II)I"⟩
def dkwX4_master_4 : List UInt8 := [167, 0, 4, 3, 128, 62, 132, 4, 1, 167, 255, 219, 29, 172]
abbrev dktX4_master_4 : List UInt8 := dkwX4_master_4 ++ []
def dkwX4_master_3 : List UInt8 := [162, 0, 34, 29, 42, 180, 0, 93, 16, 13, 21, 4, 96, 46, 27, 160, 0, 10, 4, 21, 4, 120]
abbrev dktX4_master_3 : List UInt8 := dkwX4_master_3 ++ dktX4_master_4
def dkwX4_master_2 : List UInt8 := [4, 160, 0, 7, 4, 167, 0, 4, 3, 182, 1, 131, 172, 3, 62, 3, 54, 4, 21, 4, 42, 180, 1, 100]
abbrev dktX4_master_2 : List UInt8 := dkwX4_master_2 ++ dktX4_master_3
def dkwX4_master_1 : List UInt8 := [28, 6, 162, 0, 35, 28, 154, 0, 15, 42, 180, 0, 93, 16, 31, 27, 96, 46, 167, 0, 18, 42, 27, 28]
abbrev dktX4_master_1 : List UInt8 := dkwX4_master_1 ++ dktX4_master_2
def dkwX4_master_0 : List UInt8 := [42, 3, 181, 0, 168, 42, 27, 182, 1, 203, 153, 0, 12, 42, 28, 6, 182, 1, 206, 154, 0, 5, 3, 172]
abbrev dktX4_master_0 : List UInt8 := dkwX4_master_0 ++ dktX4_master_1
theorem dksX4_master_0 : cX4_master.data.toList.drop 0 = dktX4_master_0 := by decide +kernel
theorem dksX4_master_1 : cX4_master.data.toList.drop 24 = dktX4_master_1 := dk_seg dksX4_master_0 24 rfl rfl
theorem dksX4_master_2 : cX4_master.data.toList.drop 48 = dktX4_master_2 := dk_seg dksX4_master_1 24 rfl rfl
theorem dksX4_master_3 : cX4_master.data.toList.drop 72 = dktX4_master_3 := dk_seg dksX4_master_2 24 rfl rfl
theorem dksX4_master_4 : cX4_master.data.toList.drop 94 = dktX4_master_4 := dk_seg dksX4_master_3 22 rfl rfl
theorem dX4_master_0 : decode cX4_master 0 = .ok (.aload_n 0, 1) := dk_42 (dk_at dksX4_master_0 0 rfl rfl)
theorem dX4_master_1 : decode cX4_master 1 = .ok (.iconst 0, 1) := dk_3 (dk_at dksX4_master_0 1 rfl rfl)
theorem dX4_master_2 : decode cX4_master 2 = .ok (.putfield 168, 3) := dk_181 0 168 (dk_at dksX4_master_0 2 rfl rfl)
theorem dX4_master_5 : decode cX4_master 5 = .ok (.aload_n 0, 1) := dk_42 (dk_at dksX4_master_0 5 rfl rfl)
theorem dX4_master_6 : decode cX4_master 6 = .ok (.iload_n 1, 1) := dk_27 (dk_at dksX4_master_0 6 rfl rfl)
theorem dX4_master_7 : decode cX4_master 7 = .ok (.invokevirtual 459, 3) := dk_182 1 203 (dk_at dksX4_master_0 7 rfl rfl)
theorem dX4_master_10 : decode cX4_master 10 = .ok (.ifCond .eq 12, 3) := dk_153 0 12 (dk_at dksX4_master_0 10 rfl rfl)
theorem dX4_master_13 : decode cX4_master 13 = .ok (.aload_n 0, 1) := dk_42 (dk_at dksX4_master_0 13 rfl rfl)
theorem dX4_master_14 : decode cX4_master 14 = .ok (.iload_n 2, 1) := dk_28 (dk_at dksX4_master_0 14 rfl rfl)
theorem dX4_master_15 : decode cX4_master 15 = .ok (.iconst 3, 1) := dk_6 (dk_at dksX4_master_0 15 rfl rfl)
theorem dX4_master_16 : decode cX4_master 16 = .ok (.invokevirtual 462, 3) := dk_182 1 206 (dk_at dksX4_master_0 16 rfl rfl)
theorem dX4_master_19 : decode cX4_master 19 = .ok (.ifCond .ne 5, 3) := dk_154 0 5 (dk_at dksX4_master_0 19 rfl rfl)
theorem dX4_master_22 : decode cX4_master 22 = .ok (.iconst 0, 1) := dk_3 (dk_at dksX4_master_0 22 rfl rfl)
theorem dX4_master_23 : decode cX4_master 23 = .ok (.ireturn, 1) := dk_172 (dk_at dksX4_master_0 23 rfl rfl)
theorem dX4_master_24 : decode cX4_master 24 = .ok (.iload_n 2, 1) := dk_28 (dk_at dksX4_master_1 0 rfl rfl)
theorem dX4_master_25 : decode cX4_master 25 = .ok (.iconst 3, 1) := dk_6 (dk_at dksX4_master_1 1 rfl rfl)
theorem dX4_master_26 : decode cX4_master 26 = .ok (.if_icmp .ge 35, 3) := dk_162 0 35 (dk_at dksX4_master_1 2 rfl rfl)
theorem dX4_master_29 : decode cX4_master 29 = .ok (.iload_n 2, 1) := dk_28 (dk_at dksX4_master_1 5 rfl rfl)
theorem dX4_master_30 : decode cX4_master 30 = .ok (.ifCond .ne 15, 3) := dk_154 0 15 (dk_at dksX4_master_1 6 rfl rfl)
theorem dX4_master_33 : decode cX4_master 33 = .ok (.aload_n 0, 1) := dk_42 (dk_at dksX4_master_1 9 rfl rfl)
theorem dX4_master_34 : decode cX4_master 34 = .ok (.getfield 93, 3) := dk_180 0 93 (dk_at dksX4_master_1 10 rfl rfl)
theorem dX4_master_37 : decode cX4_master 37 = .ok (.bipush 31, 2) := dk_16 31 (dk_at dksX4_master_1 13 rfl rfl)
theorem dX4_master_39 : decode cX4_master 39 = .ok (.iload_n 1, 1) := dk_27 (dk_at dksX4_master_1 15 rfl rfl)
theorem dX4_master_40 : decode cX4_master 40 = .ok (.iadd, 1) := dk_96 (dk_at dksX4_master_1 16 rfl rfl)
theorem dX4_master_41 : decode cX4_master 41 = .ok (.iaload, 1) := dk_46 (dk_at dksX4_master_1 17 rfl rfl)
theorem dX4_master_42 : decode cX4_master 42 = .ok (.goto 18, 3) := dk_167 0 18 (dk_at dksX4_master_1 18 rfl rfl)
theorem dX4_master_45 : decode cX4_master 45 = .ok (.aload_n 0, 1) := dk_42 (dk_at dksX4_master_1 21 rfl rfl)
theorem dX4_master_46 : decode cX4_master 46 = .ok (.iload_n 1, 1) := dk_27 (dk_at dksX4_master_1 22 rfl rfl)
theorem dX4_master_47 : decode cX4_master 47 = .ok (.iload_n 2, 1) := dk_28 (dk_at dksX4_master_1 23 rfl rfl)
theorem dX4_master_48 : decode cX4_master 48 = .ok (.iconst 1, 1) := dk_4 (dk_at dksX4_master_2 0 rfl rfl)
theorem dX4_master_49 : decode cX4_master 49 = .ok (.if_icmp .ne 7, 3) := dk_160 0 7 (dk_at dksX4_master_2 1 rfl rfl)
theorem dX4_master_52 : decode cX4_master 52 = .ok (.iconst 1, 1) := dk_4 (dk_at dksX4_master_2 4 rfl rfl)
theorem dX4_master_53 : decode cX4_master 53 = .ok (.goto 4, 3) := dk_167 0 4 (dk_at dksX4_master_2 5 rfl rfl)
theorem dX4_master_56 : decode cX4_master 56 = .ok (.iconst 0, 1) := dk_3 (dk_at dksX4_master_2 8 rfl rfl)
theorem dX4_master_57 : decode cX4_master 57 = .ok (.invokevirtual 387, 3) := dk_182 1 131 (dk_at dksX4_master_2 9 rfl rfl)
theorem dX4_master_60 : decode cX4_master 60 = .ok (.ireturn, 1) := dk_172 (dk_at dksX4_master_2 12 rfl rfl)
theorem dX4_master_61 : decode cX4_master 61 = .ok (.iconst 0, 1) := dk_3 (dk_at dksX4_master_2 13 rfl rfl)
theorem dX4_master_62 : decode cX4_master 62 = .ok (.istore_n 3, 1) := dk_62 (dk_at dksX4_master_2 14 rfl rfl)
theorem dX4_master_63 : decode cX4_master 63 = .ok (.iconst 0, 1) := dk_3 (dk_at dksX4_master_2 15 rfl rfl)
theorem dX4_master_64 : decode cX4_master 64 = .ok (.istore 4, 2) := dk_54 4 (dk_at dksX4_master_2 16 rfl rfl)
theorem dX4_master_66 : decode cX4_master 66 = .ok (.iload 4, 2) := dk_21 4 (dk_at dksX4_master_2 18 rfl rfl)
theorem dX4_master_68 : decode cX4_master 68 = .ok (.aload_n 0, 1) := dk_42 (dk_at dksX4_master_2 20 rfl rfl)
theorem dX4_master_69 : decode cX4_master 69 = .ok (.getfield 356, 3) := dk_180 1 100 (dk_at dksX4_master_2 21 rfl rfl)
theorem dX4_master_72 : decode cX4_master 72 = .ok (.if_icmp .ge 34, 3) := dk_162 0 34 (dk_at dksX4_master_3 0 rfl rfl)
theorem dX4_master_75 : decode cX4_master 75 = .ok (.iload_n 3, 1) := dk_29 (dk_at dksX4_master_3 3 rfl rfl)
theorem dX4_master_76 : decode cX4_master 76 = .ok (.aload_n 0, 1) := dk_42 (dk_at dksX4_master_3 4 rfl rfl)
theorem dX4_master_77 : decode cX4_master 77 = .ok (.getfield 93, 3) := dk_180 0 93 (dk_at dksX4_master_3 5 rfl rfl)
theorem dX4_master_80 : decode cX4_master 80 = .ok (.bipush 13, 2) := dk_16 13 (dk_at dksX4_master_3 8 rfl rfl)
theorem dX4_master_82 : decode cX4_master 82 = .ok (.iload 4, 2) := dk_21 4 (dk_at dksX4_master_3 10 rfl rfl)
theorem dX4_master_84 : decode cX4_master 84 = .ok (.iadd, 1) := dk_96 (dk_at dksX4_master_3 12 rfl rfl)
theorem dX4_master_85 : decode cX4_master 85 = .ok (.iaload, 1) := dk_46 (dk_at dksX4_master_3 13 rfl rfl)
theorem dX4_master_86 : decode cX4_master 86 = .ok (.iload_n 1, 1) := dk_27 (dk_at dksX4_master_3 14 rfl rfl)
theorem dX4_master_87 : decode cX4_master 87 = .ok (.if_icmp .ne 10, 3) := dk_160 0 10 (dk_at dksX4_master_3 15 rfl rfl)
theorem dX4_master_90 : decode cX4_master 90 = .ok (.iconst 1, 1) := dk_4 (dk_at dksX4_master_3 18 rfl rfl)
theorem dX4_master_91 : decode cX4_master 91 = .ok (.iload 4, 2) := dk_21 4 (dk_at dksX4_master_3 19 rfl rfl)
theorem dX4_master_93 : decode cX4_master 93 = .ok (.ishl, 1) := dk_120 (dk_at dksX4_master_3 21 rfl rfl)
theorem dX4_master_94 : decode cX4_master 94 = .ok (.goto 4, 3) := dk_167 0 4 (dk_at dksX4_master_4 0 rfl rfl)
theorem dX4_master_97 : decode cX4_master 97 = .ok (.iconst 0, 1) := dk_3 (dk_at dksX4_master_4 3 rfl rfl)
theorem dX4_master_98 : decode cX4_master 98 = .ok (.ior, 1) := dk_128 (dk_at dksX4_master_4 4 rfl rfl)
theorem dX4_master_99 : decode cX4_master 99 = .ok (.istore_n 3, 1) := dk_62 (dk_at dksX4_master_4 5 rfl rfl)
theorem dX4_master_100 : decode cX4_master 100 = .ok (.iinc 4 1, 3) := dk_132 4 1 (dk_at dksX4_master_4 6 rfl rfl)
theorem dX4_master_103 : decode cX4_master 103 = .ok (.goto (-37), 3) := dk_167 255 219 (dk_at dksX4_master_4 9 rfl rfl)
theorem dX4_master_106 : decode cX4_master 106 = .ok (.iload_n 3, 1) := dk_29 (dk_at dksX4_master_4 12 rfl rfl)
theorem dX4_master_107 : decode cX4_master 107 = .ok (.ireturn, 1) := dk_172 (dk_at dksX4_master_4 13 rfl rfl)
abbrev cX4_isMaster : ByteArray := prog_13_method_69_code
def yX4_isMaster : MethodName := ⟨RX4, "isMaster", "(I)Z"⟩
def dkwX4_isMaster_0 : List UInt8 := [42, 27, 155, 0, 15, 27, 42, 180, 1, 91, 162, 0, 7, 4, 167, 0, 4, 3, 4, 182, 1, 84, 172]
abbrev dktX4_isMaster_0 : List UInt8 := dkwX4_isMaster_0 ++ []
theorem dksX4_isMaster_0 : cX4_isMaster.data.toList.drop 0 = dktX4_isMaster_0 := by decide +kernel
theorem dX4_isMaster_0 : decode cX4_isMaster 0 = .ok (.aload_n 0, 1) := dk_42 (dk_at dksX4_isMaster_0 0 rfl rfl)
theorem dX4_isMaster_1 : decode cX4_isMaster 1 = .ok (.iload_n 1, 1) := dk_27 (dk_at dksX4_isMaster_0 1 rfl rfl)
theorem dX4_isMaster_2 : decode cX4_isMaster 2 = .ok (.ifCond .lt 15, 3) := dk_155 0 15 (dk_at dksX4_isMaster_0 2 rfl rfl)
theorem dX4_isMaster_5 : decode cX4_isMaster 5 = .ok (.iload_n 1, 1) := dk_27 (dk_at dksX4_isMaster_0 5 rfl rfl)
theorem dX4_isMaster_6 : decode cX4_isMaster 6 = .ok (.aload_n 0, 1) := dk_42 (dk_at dksX4_isMaster_0 6 rfl rfl)
theorem dX4_isMaster_7 : decode cX4_isMaster 7 = .ok (.getfield 347, 3) := dk_180 1 91 (dk_at dksX4_isMaster_0 7 rfl rfl)
theorem dX4_isMaster_10 : decode cX4_isMaster 10 = .ok (.if_icmp .ge 7, 3) := dk_162 0 7 (dk_at dksX4_isMaster_0 10 rfl rfl)
theorem dX4_isMaster_13 : decode cX4_isMaster 13 = .ok (.iconst 1, 1) := dk_4 (dk_at dksX4_isMaster_0 13 rfl rfl)
theorem dX4_isMaster_14 : decode cX4_isMaster 14 = .ok (.goto 4, 3) := dk_167 0 4 (dk_at dksX4_isMaster_0 14 rfl rfl)
theorem dX4_isMaster_17 : decode cX4_isMaster 17 = .ok (.iconst 0, 1) := dk_3 (dk_at dksX4_isMaster_0 17 rfl rfl)
theorem dX4_isMaster_18 : decode cX4_isMaster 18 = .ok (.iconst 1, 1) := dk_4 (dk_at dksX4_isMaster_0 18 rfl rfl)
theorem dX4_isMaster_19 : decode cX4_isMaster 19 = .ok (.invokevirtual 340, 3) := dk_182 1 84 (dk_at dksX4_isMaster_0 19 rfl rfl)
theorem dX4_isMaster_22 : decode cX4_isMaster 22 = .ok (.ireturn, 1) := dk_172 (dk_at dksX4_isMaster_0 22 rfl rfl)
abbrev cX4_isWhat : ByteArray := prog_13_method_72_code
def yX4_isWhat : MethodName := ⟨RX4, "isWhat", "(II)Z"⟩
def dkwX4_isWhat_0 : List UInt8 := [42, 27, 3, 28, 184, 1, 193, 4, 182, 1, 84, 172]
abbrev dktX4_isWhat_0 : List UInt8 := dkwX4_isWhat_0 ++ []
theorem dksX4_isWhat_0 : cX4_isWhat.data.toList.drop 0 = dktX4_isWhat_0 := by decide +kernel
theorem dX4_isWhat_0 : decode cX4_isWhat 0 = .ok (.aload_n 0, 1) := dk_42 (dk_at dksX4_isWhat_0 0 rfl rfl)
theorem dX4_isWhat_1 : decode cX4_isWhat 1 = .ok (.iload_n 1, 1) := dk_27 (dk_at dksX4_isWhat_0 1 rfl rfl)
theorem dX4_isWhat_2 : decode cX4_isWhat 2 = .ok (.iconst 0, 1) := dk_3 (dk_at dksX4_isWhat_0 2 rfl rfl)
theorem dX4_isWhat_3 : decode cX4_isWhat 3 = .ok (.iload_n 2, 1) := dk_28 (dk_at dksX4_isWhat_0 3 rfl rfl)
theorem dX4_isWhat_4 : decode cX4_isWhat 4 = .ok (.invokestatic 449, 3) := dk_184 1 193 (dk_at dksX4_isWhat_0 4 rfl rfl)
theorem dX4_isWhat_7 : decode cX4_isWhat 7 = .ok (.iconst 1, 1) := dk_4 (dk_at dksX4_isWhat_0 7 rfl rfl)
theorem dX4_isWhat_8 : decode cX4_isWhat 8 = .ok (.invokevirtual 340, 3) := dk_182 1 84 (dk_at dksX4_isWhat_0 8 rfl rfl)
theorem dX4_isWhat_11 : decode cX4_isWhat 11 = .ok (.ireturn, 1) := dk_172 (dk_at dksX4_isWhat_0 11 rfl rfl)
abbrev cX4_those : ByteArray := prog_13_method_52_code
def yX4_those : MethodName := ⟨RX4, "those", "(II)I"⟩
def dkwX4_those_2 : List UInt8 := [167, 0, 4, 3, 128, 62, 132, 4, 1, 167, 255, 206, 29, 172]
abbrev dktX4_those_2 : List UInt8 := dkwX4_those_2 ++ []
def dkwX4_those_1 : List UInt8 := [160, 0, 26, 42, 180, 0, 38, 21, 4, 46, 28, 160, 0, 15, 4, 42, 180, 0, 35, 21, 4, 46, 120]
abbrev dktX4_those_1 : List UInt8 := dkwX4_those_1 ++ dktX4_those_2
def dkwX4_those_0 : List UInt8 := [3, 62, 3, 54, 4, 21, 4, 42, 180, 1, 106, 162, 0, 47, 29, 42, 180, 0, 32, 21, 4, 46, 27]
abbrev dktX4_those_0 : List UInt8 := dkwX4_those_0 ++ dktX4_those_1
theorem dksX4_those_0 : cX4_those.data.toList.drop 0 = dktX4_those_0 := by decide +kernel
theorem dksX4_those_1 : cX4_those.data.toList.drop 23 = dktX4_those_1 := dk_seg dksX4_those_0 23 rfl rfl
theorem dksX4_those_2 : cX4_those.data.toList.drop 46 = dktX4_those_2 := dk_seg dksX4_those_1 23 rfl rfl
theorem dX4_those_0 : decode cX4_those 0 = .ok (.iconst 0, 1) := dk_3 (dk_at dksX4_those_0 0 rfl rfl)
theorem dX4_those_1 : decode cX4_those 1 = .ok (.istore_n 3, 1) := dk_62 (dk_at dksX4_those_0 1 rfl rfl)
theorem dX4_those_2 : decode cX4_those 2 = .ok (.iconst 0, 1) := dk_3 (dk_at dksX4_those_0 2 rfl rfl)
theorem dX4_those_3 : decode cX4_those 3 = .ok (.istore 4, 2) := dk_54 4 (dk_at dksX4_those_0 3 rfl rfl)
theorem dX4_those_5 : decode cX4_those 5 = .ok (.iload 4, 2) := dk_21 4 (dk_at dksX4_those_0 5 rfl rfl)
theorem dX4_those_7 : decode cX4_those 7 = .ok (.aload_n 0, 1) := dk_42 (dk_at dksX4_those_0 7 rfl rfl)
theorem dX4_those_8 : decode cX4_those 8 = .ok (.getfield 362, 3) := dk_180 1 106 (dk_at dksX4_those_0 8 rfl rfl)
theorem dX4_those_11 : decode cX4_those 11 = .ok (.if_icmp .ge 47, 3) := dk_162 0 47 (dk_at dksX4_those_0 11 rfl rfl)
theorem dX4_those_14 : decode cX4_those 14 = .ok (.iload_n 3, 1) := dk_29 (dk_at dksX4_those_0 14 rfl rfl)
theorem dX4_those_15 : decode cX4_those 15 = .ok (.aload_n 0, 1) := dk_42 (dk_at dksX4_those_0 15 rfl rfl)
theorem dX4_those_16 : decode cX4_those 16 = .ok (.getfield 32, 3) := dk_180 0 32 (dk_at dksX4_those_0 16 rfl rfl)
theorem dX4_those_19 : decode cX4_those 19 = .ok (.iload 4, 2) := dk_21 4 (dk_at dksX4_those_0 19 rfl rfl)
theorem dX4_those_21 : decode cX4_those 21 = .ok (.iaload, 1) := dk_46 (dk_at dksX4_those_0 21 rfl rfl)
theorem dX4_those_22 : decode cX4_those 22 = .ok (.iload_n 1, 1) := dk_27 (dk_at dksX4_those_0 22 rfl rfl)
theorem dX4_those_23 : decode cX4_those 23 = .ok (.if_icmp .ne 26, 3) := dk_160 0 26 (dk_at dksX4_those_1 0 rfl rfl)
theorem dX4_those_26 : decode cX4_those 26 = .ok (.aload_n 0, 1) := dk_42 (dk_at dksX4_those_1 3 rfl rfl)
theorem dX4_those_27 : decode cX4_those 27 = .ok (.getfield 38, 3) := dk_180 0 38 (dk_at dksX4_those_1 4 rfl rfl)
theorem dX4_those_30 : decode cX4_those 30 = .ok (.iload 4, 2) := dk_21 4 (dk_at dksX4_those_1 7 rfl rfl)
theorem dX4_those_32 : decode cX4_those 32 = .ok (.iaload, 1) := dk_46 (dk_at dksX4_those_1 9 rfl rfl)
theorem dX4_those_33 : decode cX4_those 33 = .ok (.iload_n 2, 1) := dk_28 (dk_at dksX4_those_1 10 rfl rfl)
theorem dX4_those_34 : decode cX4_those 34 = .ok (.if_icmp .ne 15, 3) := dk_160 0 15 (dk_at dksX4_those_1 11 rfl rfl)
theorem dX4_those_37 : decode cX4_those 37 = .ok (.iconst 1, 1) := dk_4 (dk_at dksX4_those_1 14 rfl rfl)
theorem dX4_those_38 : decode cX4_those 38 = .ok (.aload_n 0, 1) := dk_42 (dk_at dksX4_those_1 15 rfl rfl)
theorem dX4_those_39 : decode cX4_those 39 = .ok (.getfield 35, 3) := dk_180 0 35 (dk_at dksX4_those_1 16 rfl rfl)
theorem dX4_those_42 : decode cX4_those 42 = .ok (.iload 4, 2) := dk_21 4 (dk_at dksX4_those_1 19 rfl rfl)
theorem dX4_those_44 : decode cX4_those 44 = .ok (.iaload, 1) := dk_46 (dk_at dksX4_those_1 21 rfl rfl)
theorem dX4_those_45 : decode cX4_those 45 = .ok (.ishl, 1) := dk_120 (dk_at dksX4_those_1 22 rfl rfl)
theorem dX4_those_46 : decode cX4_those 46 = .ok (.goto 4, 3) := dk_167 0 4 (dk_at dksX4_those_2 0 rfl rfl)
theorem dX4_those_49 : decode cX4_those 49 = .ok (.iconst 0, 1) := dk_3 (dk_at dksX4_those_2 3 rfl rfl)
theorem dX4_those_50 : decode cX4_those 50 = .ok (.ior, 1) := dk_128 (dk_at dksX4_those_2 4 rfl rfl)
theorem dX4_those_51 : decode cX4_those 51 = .ok (.istore_n 3, 1) := dk_62 (dk_at dksX4_those_2 5 rfl rfl)
theorem dX4_those_52 : decode cX4_those 52 = .ok (.iinc 4 1, 3) := dk_132 4 1 (dk_at dksX4_those_2 6 rfl rfl)
theorem dX4_those_55 : decode cX4_those 55 = .ok (.goto (-50), 3) := dk_167 255 206 (dk_at dksX4_those_2 9 rfl rfl)
theorem dX4_those_58 : decode cX4_those 58 = .ok (.iload_n 3, 1) := dk_29 (dk_at dksX4_those_2 12 rfl rfl)
theorem dX4_those_59 : decode cX4_those 59 = .ok (.ireturn, 1) := dk_172 (dk_at dksX4_those_2 13 rfl rfl)
abbrev cX4_place : ByteArray := prog_13_method_74_code
def yX4_place : MethodName := ⟨RX4, "place", "(II)I"⟩
def dkwX4_place_5 : List UInt8 := [21, 4, 46, 27, 160, 0, 7, 4, 167, 0, 4, 3, 96, 62, 132, 4, 1, 167, 255, 209, 29, 172]
abbrev dktX4_place_5 : List UInt8 := dkwX4_place_5 ++ []
def dkwX4_place_4 : List UInt8 := [162, 0, 44, 28, 5, 160, 0, 39, 29, 42, 180, 0, 17, 21, 4, 46, 27, 159, 0, 14, 42, 180, 0, 20]
abbrev dktX4_place_4 : List UInt8 := dkwX4_place_4 ++ dktX4_place_5
def dkwX4_place_3 : List UInt8 := [21, 4, 120, 167, 0, 4, 3, 128, 62, 132, 4, 1, 167, 255, 214, 3, 54, 4, 21, 4, 42, 180, 1, 97]
abbrev dktX4_place_3 : List UInt8 := dkwX4_place_3 ++ dktX4_place_4
def dkwX4_place_2 : List UInt8 := [162, 0, 39, 28, 4, 160, 0, 34, 29, 42, 180, 0, 93, 16, 22, 21, 4, 96, 46, 27, 160, 0, 10, 4]
abbrev dktX4_place_2 : List UInt8 := dkwX4_place_2 ++ dktX4_place_3
def dkwX4_place_1 : List UInt8 := [28, 154, 0, 10, 42, 180, 0, 13, 27, 46, 172, 3, 62, 3, 54, 4, 21, 4, 42, 180, 1, 100]
abbrev dktX4_place_1 : List UInt8 := dkwX4_place_1 ++ dktX4_place_2
def dkwX4_place_0 : List UInt8 := [42, 3, 181, 0, 168, 42, 27, 182, 1, 209, 153, 0, 12, 42, 28, 5, 182, 1, 206, 154, 0, 5, 3, 172]
abbrev dktX4_place_0 : List UInt8 := dkwX4_place_0 ++ dktX4_place_1
theorem dksX4_place_0 : cX4_place.data.toList.drop 0 = dktX4_place_0 := by decide +kernel
theorem dksX4_place_1 : cX4_place.data.toList.drop 24 = dktX4_place_1 := dk_seg dksX4_place_0 24 rfl rfl
theorem dksX4_place_2 : cX4_place.data.toList.drop 46 = dktX4_place_2 := dk_seg dksX4_place_1 22 rfl rfl
theorem dksX4_place_3 : cX4_place.data.toList.drop 70 = dktX4_place_3 := dk_seg dksX4_place_2 24 rfl rfl
theorem dksX4_place_4 : cX4_place.data.toList.drop 94 = dktX4_place_4 := dk_seg dksX4_place_3 24 rfl rfl
theorem dksX4_place_5 : cX4_place.data.toList.drop 118 = dktX4_place_5 := dk_seg dksX4_place_4 24 rfl rfl
theorem dX4_place_0 : decode cX4_place 0 = .ok (.aload_n 0, 1) := dk_42 (dk_at dksX4_place_0 0 rfl rfl)
theorem dX4_place_1 : decode cX4_place 1 = .ok (.iconst 0, 1) := dk_3 (dk_at dksX4_place_0 1 rfl rfl)
theorem dX4_place_2 : decode cX4_place 2 = .ok (.putfield 168, 3) := dk_181 0 168 (dk_at dksX4_place_0 2 rfl rfl)
theorem dX4_place_5 : decode cX4_place 5 = .ok (.aload_n 0, 1) := dk_42 (dk_at dksX4_place_0 5 rfl rfl)
theorem dX4_place_6 : decode cX4_place 6 = .ok (.iload_n 1, 1) := dk_27 (dk_at dksX4_place_0 6 rfl rfl)
theorem dX4_place_7 : decode cX4_place 7 = .ok (.invokevirtual 465, 3) := dk_182 1 209 (dk_at dksX4_place_0 7 rfl rfl)
theorem dX4_place_10 : decode cX4_place 10 = .ok (.ifCond .eq 12, 3) := dk_153 0 12 (dk_at dksX4_place_0 10 rfl rfl)
theorem dX4_place_13 : decode cX4_place 13 = .ok (.aload_n 0, 1) := dk_42 (dk_at dksX4_place_0 13 rfl rfl)
theorem dX4_place_14 : decode cX4_place 14 = .ok (.iload_n 2, 1) := dk_28 (dk_at dksX4_place_0 14 rfl rfl)
theorem dX4_place_15 : decode cX4_place 15 = .ok (.iconst 2, 1) := dk_5 (dk_at dksX4_place_0 15 rfl rfl)
theorem dX4_place_16 : decode cX4_place 16 = .ok (.invokevirtual 462, 3) := dk_182 1 206 (dk_at dksX4_place_0 16 rfl rfl)
theorem dX4_place_19 : decode cX4_place 19 = .ok (.ifCond .ne 5, 3) := dk_154 0 5 (dk_at dksX4_place_0 19 rfl rfl)
theorem dX4_place_22 : decode cX4_place 22 = .ok (.iconst 0, 1) := dk_3 (dk_at dksX4_place_0 22 rfl rfl)
theorem dX4_place_23 : decode cX4_place 23 = .ok (.ireturn, 1) := dk_172 (dk_at dksX4_place_0 23 rfl rfl)
theorem dX4_place_24 : decode cX4_place 24 = .ok (.iload_n 2, 1) := dk_28 (dk_at dksX4_place_1 0 rfl rfl)
theorem dX4_place_25 : decode cX4_place 25 = .ok (.ifCond .ne 10, 3) := dk_154 0 10 (dk_at dksX4_place_1 1 rfl rfl)
theorem dX4_place_28 : decode cX4_place 28 = .ok (.aload_n 0, 1) := dk_42 (dk_at dksX4_place_1 4 rfl rfl)
theorem dX4_place_29 : decode cX4_place 29 = .ok (.getfield 13, 3) := dk_180 0 13 (dk_at dksX4_place_1 5 rfl rfl)
theorem dX4_place_32 : decode cX4_place 32 = .ok (.iload_n 1, 1) := dk_27 (dk_at dksX4_place_1 8 rfl rfl)
theorem dX4_place_33 : decode cX4_place 33 = .ok (.iaload, 1) := dk_46 (dk_at dksX4_place_1 9 rfl rfl)
theorem dX4_place_34 : decode cX4_place 34 = .ok (.ireturn, 1) := dk_172 (dk_at dksX4_place_1 10 rfl rfl)
theorem dX4_place_35 : decode cX4_place 35 = .ok (.iconst 0, 1) := dk_3 (dk_at dksX4_place_1 11 rfl rfl)
theorem dX4_place_36 : decode cX4_place 36 = .ok (.istore_n 3, 1) := dk_62 (dk_at dksX4_place_1 12 rfl rfl)
theorem dX4_place_37 : decode cX4_place 37 = .ok (.iconst 0, 1) := dk_3 (dk_at dksX4_place_1 13 rfl rfl)
theorem dX4_place_38 : decode cX4_place 38 = .ok (.istore 4, 2) := dk_54 4 (dk_at dksX4_place_1 14 rfl rfl)
theorem dX4_place_40 : decode cX4_place 40 = .ok (.iload 4, 2) := dk_21 4 (dk_at dksX4_place_1 16 rfl rfl)
theorem dX4_place_42 : decode cX4_place 42 = .ok (.aload_n 0, 1) := dk_42 (dk_at dksX4_place_1 18 rfl rfl)
theorem dX4_place_43 : decode cX4_place 43 = .ok (.getfield 356, 3) := dk_180 1 100 (dk_at dksX4_place_1 19 rfl rfl)
theorem dX4_place_46 : decode cX4_place 46 = .ok (.if_icmp .ge 39, 3) := dk_162 0 39 (dk_at dksX4_place_2 0 rfl rfl)
theorem dX4_place_49 : decode cX4_place 49 = .ok (.iload_n 2, 1) := dk_28 (dk_at dksX4_place_2 3 rfl rfl)
theorem dX4_place_50 : decode cX4_place 50 = .ok (.iconst 1, 1) := dk_4 (dk_at dksX4_place_2 4 rfl rfl)
theorem dX4_place_51 : decode cX4_place 51 = .ok (.if_icmp .ne 34, 3) := dk_160 0 34 (dk_at dksX4_place_2 5 rfl rfl)
theorem dX4_place_54 : decode cX4_place 54 = .ok (.iload_n 3, 1) := dk_29 (dk_at dksX4_place_2 8 rfl rfl)
theorem dX4_place_55 : decode cX4_place 55 = .ok (.aload_n 0, 1) := dk_42 (dk_at dksX4_place_2 9 rfl rfl)
theorem dX4_place_56 : decode cX4_place 56 = .ok (.getfield 93, 3) := dk_180 0 93 (dk_at dksX4_place_2 10 rfl rfl)
theorem dX4_place_59 : decode cX4_place 59 = .ok (.bipush 22, 2) := dk_16 22 (dk_at dksX4_place_2 13 rfl rfl)
theorem dX4_place_61 : decode cX4_place 61 = .ok (.iload 4, 2) := dk_21 4 (dk_at dksX4_place_2 15 rfl rfl)
theorem dX4_place_63 : decode cX4_place 63 = .ok (.iadd, 1) := dk_96 (dk_at dksX4_place_2 17 rfl rfl)
theorem dX4_place_64 : decode cX4_place 64 = .ok (.iaload, 1) := dk_46 (dk_at dksX4_place_2 18 rfl rfl)
theorem dX4_place_65 : decode cX4_place 65 = .ok (.iload_n 1, 1) := dk_27 (dk_at dksX4_place_2 19 rfl rfl)
theorem dX4_place_66 : decode cX4_place 66 = .ok (.if_icmp .ne 10, 3) := dk_160 0 10 (dk_at dksX4_place_2 20 rfl rfl)
theorem dX4_place_69 : decode cX4_place 69 = .ok (.iconst 1, 1) := dk_4 (dk_at dksX4_place_2 23 rfl rfl)
theorem dX4_place_70 : decode cX4_place 70 = .ok (.iload 4, 2) := dk_21 4 (dk_at dksX4_place_3 0 rfl rfl)
theorem dX4_place_72 : decode cX4_place 72 = .ok (.ishl, 1) := dk_120 (dk_at dksX4_place_3 2 rfl rfl)
theorem dX4_place_73 : decode cX4_place 73 = .ok (.goto 4, 3) := dk_167 0 4 (dk_at dksX4_place_3 3 rfl rfl)
theorem dX4_place_76 : decode cX4_place 76 = .ok (.iconst 0, 1) := dk_3 (dk_at dksX4_place_3 6 rfl rfl)
theorem dX4_place_77 : decode cX4_place 77 = .ok (.ior, 1) := dk_128 (dk_at dksX4_place_3 7 rfl rfl)
theorem dX4_place_78 : decode cX4_place 78 = .ok (.istore_n 3, 1) := dk_62 (dk_at dksX4_place_3 8 rfl rfl)
theorem dX4_place_79 : decode cX4_place 79 = .ok (.iinc 4 1, 3) := dk_132 4 1 (dk_at dksX4_place_3 9 rfl rfl)
theorem dX4_place_82 : decode cX4_place 82 = .ok (.goto (-42), 3) := dk_167 255 214 (dk_at dksX4_place_3 12 rfl rfl)
theorem dX4_place_85 : decode cX4_place 85 = .ok (.iconst 0, 1) := dk_3 (dk_at dksX4_place_3 15 rfl rfl)
theorem dX4_place_86 : decode cX4_place 86 = .ok (.istore 4, 2) := dk_54 4 (dk_at dksX4_place_3 16 rfl rfl)
theorem dX4_place_88 : decode cX4_place 88 = .ok (.iload 4, 2) := dk_21 4 (dk_at dksX4_place_3 18 rfl rfl)
theorem dX4_place_90 : decode cX4_place 90 = .ok (.aload_n 0, 1) := dk_42 (dk_at dksX4_place_3 20 rfl rfl)
theorem dX4_place_91 : decode cX4_place 91 = .ok (.getfield 353, 3) := dk_180 1 97 (dk_at dksX4_place_3 21 rfl rfl)
theorem dX4_place_94 : decode cX4_place 94 = .ok (.if_icmp .ge 44, 3) := dk_162 0 44 (dk_at dksX4_place_4 0 rfl rfl)
theorem dX4_place_97 : decode cX4_place 97 = .ok (.iload_n 2, 1) := dk_28 (dk_at dksX4_place_4 3 rfl rfl)
theorem dX4_place_98 : decode cX4_place 98 = .ok (.iconst 2, 1) := dk_5 (dk_at dksX4_place_4 4 rfl rfl)
theorem dX4_place_99 : decode cX4_place 99 = .ok (.if_icmp .ne 39, 3) := dk_160 0 39 (dk_at dksX4_place_4 5 rfl rfl)
theorem dX4_place_102 : decode cX4_place 102 = .ok (.iload_n 3, 1) := dk_29 (dk_at dksX4_place_4 8 rfl rfl)
theorem dX4_place_103 : decode cX4_place 103 = .ok (.aload_n 0, 1) := dk_42 (dk_at dksX4_place_4 9 rfl rfl)
theorem dX4_place_104 : decode cX4_place 104 = .ok (.getfield 17, 3) := dk_180 0 17 (dk_at dksX4_place_4 10 rfl rfl)
theorem dX4_place_107 : decode cX4_place 107 = .ok (.iload 4, 2) := dk_21 4 (dk_at dksX4_place_4 13 rfl rfl)
theorem dX4_place_109 : decode cX4_place 109 = .ok (.iaload, 1) := dk_46 (dk_at dksX4_place_4 15 rfl rfl)
theorem dX4_place_110 : decode cX4_place 110 = .ok (.iload_n 1, 1) := dk_27 (dk_at dksX4_place_4 16 rfl rfl)
theorem dX4_place_111 : decode cX4_place 111 = .ok (.if_icmp .eq 14, 3) := dk_159 0 14 (dk_at dksX4_place_4 17 rfl rfl)
theorem dX4_place_114 : decode cX4_place 114 = .ok (.aload_n 0, 1) := dk_42 (dk_at dksX4_place_4 20 rfl rfl)
theorem dX4_place_115 : decode cX4_place 115 = .ok (.getfield 20, 3) := dk_180 0 20 (dk_at dksX4_place_4 21 rfl rfl)
theorem dX4_place_118 : decode cX4_place 118 = .ok (.iload 4, 2) := dk_21 4 (dk_at dksX4_place_5 0 rfl rfl)
theorem dX4_place_120 : decode cX4_place 120 = .ok (.iaload, 1) := dk_46 (dk_at dksX4_place_5 2 rfl rfl)
theorem dX4_place_121 : decode cX4_place 121 = .ok (.iload_n 1, 1) := dk_27 (dk_at dksX4_place_5 3 rfl rfl)
theorem dX4_place_122 : decode cX4_place 122 = .ok (.if_icmp .ne 7, 3) := dk_160 0 7 (dk_at dksX4_place_5 4 rfl rfl)
theorem dX4_place_125 : decode cX4_place 125 = .ok (.iconst 1, 1) := dk_4 (dk_at dksX4_place_5 7 rfl rfl)
theorem dX4_place_126 : decode cX4_place 126 = .ok (.goto 4, 3) := dk_167 0 4 (dk_at dksX4_place_5 8 rfl rfl)
theorem dX4_place_129 : decode cX4_place 129 = .ok (.iconst 0, 1) := dk_3 (dk_at dksX4_place_5 11 rfl rfl)
theorem dX4_place_130 : decode cX4_place 130 = .ok (.iadd, 1) := dk_96 (dk_at dksX4_place_5 12 rfl rfl)
theorem dX4_place_131 : decode cX4_place 131 = .ok (.istore_n 3, 1) := dk_62 (dk_at dksX4_place_5 13 rfl rfl)
theorem dX4_place_132 : decode cX4_place 132 = .ok (.iinc 4 1, 3) := dk_132 4 1 (dk_at dksX4_place_5 14 rfl rfl)
theorem dX4_place_135 : decode cX4_place 135 = .ok (.goto (-47), 3) := dk_167 255 209 (dk_at dksX4_place_5 17 rfl rfl)
theorem dX4_place_138 : decode cX4_place 138 = .ok (.iload_n 3, 1) := dk_29 (dk_at dksX4_place_5 20 rfl rfl)
theorem dX4_place_139 : decode cX4_place 139 = .ok (.ireturn, 1) := dk_172 (dk_at dksX4_place_5 21 rfl rfl)
abbrev cX4_isPlace : ByteArray := prog_13_method_70_code
def yX4_isPlace : MethodName := ⟨RX4, "isPlace", "(I)Z"⟩
def dkwX4_isPlace_0 : List UInt8 := [42, 27, 155, 0, 15, 27, 42, 180, 1, 94, 162, 0, 7, 4, 167, 0, 4, 3, 4, 182, 1, 84, 172]
abbrev dktX4_isPlace_0 : List UInt8 := dkwX4_isPlace_0 ++ []
theorem dksX4_isPlace_0 : cX4_isPlace.data.toList.drop 0 = dktX4_isPlace_0 := by decide +kernel
theorem dX4_isPlace_0 : decode cX4_isPlace 0 = .ok (.aload_n 0, 1) := dk_42 (dk_at dksX4_isPlace_0 0 rfl rfl)
theorem dX4_isPlace_1 : decode cX4_isPlace 1 = .ok (.iload_n 1, 1) := dk_27 (dk_at dksX4_isPlace_0 1 rfl rfl)
theorem dX4_isPlace_2 : decode cX4_isPlace 2 = .ok (.ifCond .lt 15, 3) := dk_155 0 15 (dk_at dksX4_isPlace_0 2 rfl rfl)
theorem dX4_isPlace_5 : decode cX4_isPlace 5 = .ok (.iload_n 1, 1) := dk_27 (dk_at dksX4_isPlace_0 5 rfl rfl)
theorem dX4_isPlace_6 : decode cX4_isPlace 6 = .ok (.aload_n 0, 1) := dk_42 (dk_at dksX4_isPlace_0 6 rfl rfl)
theorem dX4_isPlace_7 : decode cX4_isPlace 7 = .ok (.getfield 350, 3) := dk_180 1 94 (dk_at dksX4_isPlace_0 7 rfl rfl)
theorem dX4_isPlace_10 : decode cX4_isPlace 10 = .ok (.if_icmp .ge 7, 3) := dk_162 0 7 (dk_at dksX4_isPlace_0 10 rfl rfl)
theorem dX4_isPlace_13 : decode cX4_isPlace 13 = .ok (.iconst 1, 1) := dk_4 (dk_at dksX4_isPlace_0 13 rfl rfl)
theorem dX4_isPlace_14 : decode cX4_isPlace 14 = .ok (.goto 4, 3) := dk_167 0 4 (dk_at dksX4_isPlace_0 14 rfl rfl)
theorem dX4_isPlace_17 : decode cX4_isPlace 17 = .ok (.iconst 0, 1) := dk_3 (dk_at dksX4_isPlace_0 17 rfl rfl)
theorem dX4_isPlace_18 : decode cX4_isPlace 18 = .ok (.iconst 1, 1) := dk_4 (dk_at dksX4_isPlace_0 18 rfl rfl)
theorem dX4_isPlace_19 : decode cX4_isPlace 19 = .ok (.invokevirtual 340, 3) := dk_182 1 84 (dk_at dksX4_isPlace_0 19 rfl rfl)
theorem dX4_isPlace_22 : decode cX4_isPlace 22 = .ok (.ireturn, 1) := dk_172 (dk_at dksX4_isPlace_0 22 rfl rfl)
abbrev cX4_person : ByteArray := prog_13_method_75_code
def yX4_person : MethodName := ⟨RX4, "person", "(II)I"⟩
def dkwX4_person_5 : List UInt8 := [27, 182, 1, 143, 172]
abbrev dktX4_person_5 : List UInt8 := dkwX4_person_5 ++ []
def dkwX4_person_4 : List UInt8 := [42, 180, 0, 93, 7, 27, 96, 46, 172, 42, 180, 0, 93, 16, 13, 27, 96, 46, 172, 42, 42, 180, 0, 93]
abbrev dktX4_person_4 : List UInt8 := dkwX4_person_4 ++ dktX4_person_5
def dkwX4_person_3 : List UInt8 := [42, 180, 0, 26, 27, 46, 172, 42, 180, 0, 93, 16, 22, 27, 96, 46, 172, 42, 180, 0, 29, 27, 46, 172]
abbrev dktX4_person_3 : List UInt8 := dkwX4_person_3 ++ dktX4_person_4
def dkwX4_person_2 : List UInt8 := [170, 0, 0, 0, 0, 0, 78, 0, 0, 0, 0, 0, 0, 0, 4, 0, 0, 0, 35, 0, 0, 0, 42, 0, 0, 0, 52, 0, 0, 0, 59, 0, 0, 0, 68]
abbrev dktX4_person_2 : List UInt8 := dkwX4_person_2 ++ dktX4_person_3
def dkwX4_person_1 : List UInt8 := [28]
abbrev dktX4_person_1 : List UInt8 := dkwX4_person_1 ++ dktX4_person_2
def dkwX4_person_0 : List UInt8 := [42, 3, 181, 0, 168, 42, 27, 182, 1, 212, 153, 0, 12, 42, 28, 8, 182, 1, 206, 154, 0, 5, 3, 172]
abbrev dktX4_person_0 : List UInt8 := dkwX4_person_0 ++ dktX4_person_1
theorem dksX4_person_0 : cX4_person.data.toList.drop 0 = dktX4_person_0 := by decide +kernel
theorem dksX4_person_1 : cX4_person.data.toList.drop 24 = dktX4_person_1 := dk_seg dksX4_person_0 24 rfl rfl
theorem dksX4_person_2 : cX4_person.data.toList.drop 25 = dktX4_person_2 := dk_seg dksX4_person_1 1 rfl rfl
theorem dksX4_person_3 : cX4_person.data.toList.drop 60 = dktX4_person_3 := dk_seg dksX4_person_2 35 rfl rfl
theorem dksX4_person_4 : cX4_person.data.toList.drop 84 = dktX4_person_4 := dk_seg dksX4_person_3 24 rfl rfl
theorem dksX4_person_5 : cX4_person.data.toList.drop 108 = dktX4_person_5 := dk_seg dksX4_person_4 24 rfl rfl
theorem dX4_person_0 : decode cX4_person 0 = .ok (.aload_n 0, 1) := dk_42 (dk_at dksX4_person_0 0 rfl rfl)
theorem dX4_person_1 : decode cX4_person 1 = .ok (.iconst 0, 1) := dk_3 (dk_at dksX4_person_0 1 rfl rfl)
theorem dX4_person_2 : decode cX4_person 2 = .ok (.putfield 168, 3) := dk_181 0 168 (dk_at dksX4_person_0 2 rfl rfl)
theorem dX4_person_5 : decode cX4_person 5 = .ok (.aload_n 0, 1) := dk_42 (dk_at dksX4_person_0 5 rfl rfl)
theorem dX4_person_6 : decode cX4_person 6 = .ok (.iload_n 1, 1) := dk_27 (dk_at dksX4_person_0 6 rfl rfl)
theorem dX4_person_7 : decode cX4_person 7 = .ok (.invokevirtual 468, 3) := dk_182 1 212 (dk_at dksX4_person_0 7 rfl rfl)
theorem dX4_person_10 : decode cX4_person 10 = .ok (.ifCond .eq 12, 3) := dk_153 0 12 (dk_at dksX4_person_0 10 rfl rfl)
theorem dX4_person_13 : decode cX4_person 13 = .ok (.aload_n 0, 1) := dk_42 (dk_at dksX4_person_0 13 rfl rfl)
theorem dX4_person_14 : decode cX4_person 14 = .ok (.iload_n 2, 1) := dk_28 (dk_at dksX4_person_0 14 rfl rfl)
theorem dX4_person_15 : decode cX4_person 15 = .ok (.iconst 5, 1) := dk_8 (dk_at dksX4_person_0 15 rfl rfl)
theorem dX4_person_16 : decode cX4_person 16 = .ok (.invokevirtual 462, 3) := dk_182 1 206 (dk_at dksX4_person_0 16 rfl rfl)
theorem dX4_person_19 : decode cX4_person 19 = .ok (.ifCond .ne 5, 3) := dk_154 0 5 (dk_at dksX4_person_0 19 rfl rfl)
theorem dX4_person_22 : decode cX4_person 22 = .ok (.iconst 0, 1) := dk_3 (dk_at dksX4_person_0 22 rfl rfl)
theorem dX4_person_23 : decode cX4_person 23 = .ok (.ireturn, 1) := dk_172 (dk_at dksX4_person_0 23 rfl rfl)
theorem dX4_person_24 : decode cX4_person 24 = .ok (.iload_n 2, 1) := dk_28 (dk_at dksX4_person_1 0 rfl rfl)
theorem dX4_person_25 : decode cX4_person 25 = .ok (.tableswitch 78 0 4 #[35, 42, 52, 59, 68], 35) := by decide +kernel
theorem dX4_person_60 : decode cX4_person 60 = .ok (.aload_n 0, 1) := dk_42 (dk_at dksX4_person_3 0 rfl rfl)
theorem dX4_person_61 : decode cX4_person 61 = .ok (.getfield 26, 3) := dk_180 0 26 (dk_at dksX4_person_3 1 rfl rfl)
theorem dX4_person_64 : decode cX4_person 64 = .ok (.iload_n 1, 1) := dk_27 (dk_at dksX4_person_3 4 rfl rfl)
theorem dX4_person_65 : decode cX4_person 65 = .ok (.iaload, 1) := dk_46 (dk_at dksX4_person_3 5 rfl rfl)
theorem dX4_person_66 : decode cX4_person 66 = .ok (.ireturn, 1) := dk_172 (dk_at dksX4_person_3 6 rfl rfl)
theorem dX4_person_67 : decode cX4_person 67 = .ok (.aload_n 0, 1) := dk_42 (dk_at dksX4_person_3 7 rfl rfl)
theorem dX4_person_68 : decode cX4_person 68 = .ok (.getfield 93, 3) := dk_180 0 93 (dk_at dksX4_person_3 8 rfl rfl)
theorem dX4_person_71 : decode cX4_person 71 = .ok (.bipush 22, 2) := dk_16 22 (dk_at dksX4_person_3 11 rfl rfl)
theorem dX4_person_73 : decode cX4_person 73 = .ok (.iload_n 1, 1) := dk_27 (dk_at dksX4_person_3 13 rfl rfl)
theorem dX4_person_74 : decode cX4_person 74 = .ok (.iadd, 1) := dk_96 (dk_at dksX4_person_3 14 rfl rfl)
theorem dX4_person_75 : decode cX4_person 75 = .ok (.iaload, 1) := dk_46 (dk_at dksX4_person_3 15 rfl rfl)
theorem dX4_person_76 : decode cX4_person 76 = .ok (.ireturn, 1) := dk_172 (dk_at dksX4_person_3 16 rfl rfl)
theorem dX4_person_77 : decode cX4_person 77 = .ok (.aload_n 0, 1) := dk_42 (dk_at dksX4_person_3 17 rfl rfl)
theorem dX4_person_78 : decode cX4_person 78 = .ok (.getfield 29, 3) := dk_180 0 29 (dk_at dksX4_person_3 18 rfl rfl)
theorem dX4_person_81 : decode cX4_person 81 = .ok (.iload_n 1, 1) := dk_27 (dk_at dksX4_person_3 21 rfl rfl)
theorem dX4_person_82 : decode cX4_person 82 = .ok (.iaload, 1) := dk_46 (dk_at dksX4_person_3 22 rfl rfl)
theorem dX4_person_83 : decode cX4_person 83 = .ok (.ireturn, 1) := dk_172 (dk_at dksX4_person_3 23 rfl rfl)
theorem dX4_person_84 : decode cX4_person 84 = .ok (.aload_n 0, 1) := dk_42 (dk_at dksX4_person_4 0 rfl rfl)
theorem dX4_person_85 : decode cX4_person 85 = .ok (.getfield 93, 3) := dk_180 0 93 (dk_at dksX4_person_4 1 rfl rfl)
theorem dX4_person_88 : decode cX4_person 88 = .ok (.iconst 4, 1) := dk_7 (dk_at dksX4_person_4 4 rfl rfl)
theorem dX4_person_89 : decode cX4_person 89 = .ok (.iload_n 1, 1) := dk_27 (dk_at dksX4_person_4 5 rfl rfl)
theorem dX4_person_90 : decode cX4_person 90 = .ok (.iadd, 1) := dk_96 (dk_at dksX4_person_4 6 rfl rfl)
theorem dX4_person_91 : decode cX4_person 91 = .ok (.iaload, 1) := dk_46 (dk_at dksX4_person_4 7 rfl rfl)
theorem dX4_person_92 : decode cX4_person 92 = .ok (.ireturn, 1) := dk_172 (dk_at dksX4_person_4 8 rfl rfl)
theorem dX4_person_93 : decode cX4_person 93 = .ok (.aload_n 0, 1) := dk_42 (dk_at dksX4_person_4 9 rfl rfl)
theorem dX4_person_94 : decode cX4_person 94 = .ok (.getfield 93, 3) := dk_180 0 93 (dk_at dksX4_person_4 10 rfl rfl)
theorem dX4_person_97 : decode cX4_person 97 = .ok (.bipush 13, 2) := dk_16 13 (dk_at dksX4_person_4 13 rfl rfl)
theorem dX4_person_99 : decode cX4_person 99 = .ok (.iload_n 1, 1) := dk_27 (dk_at dksX4_person_4 15 rfl rfl)
theorem dX4_person_100 : decode cX4_person 100 = .ok (.iadd, 1) := dk_96 (dk_at dksX4_person_4 16 rfl rfl)
theorem dX4_person_101 : decode cX4_person 101 = .ok (.iaload, 1) := dk_46 (dk_at dksX4_person_4 17 rfl rfl)
theorem dX4_person_102 : decode cX4_person 102 = .ok (.ireturn, 1) := dk_172 (dk_at dksX4_person_4 18 rfl rfl)
theorem dX4_person_103 : decode cX4_person 103 = .ok (.aload_n 0, 1) := dk_42 (dk_at dksX4_person_4 19 rfl rfl)
theorem dX4_person_104 : decode cX4_person 104 = .ok (.aload_n 0, 1) := dk_42 (dk_at dksX4_person_4 20 rfl rfl)
theorem dX4_person_105 : decode cX4_person 105 = .ok (.getfield 93, 3) := dk_180 0 93 (dk_at dksX4_person_4 21 rfl rfl)
theorem dX4_person_108 : decode cX4_person 108 = .ok (.iload_n 1, 1) := dk_27 (dk_at dksX4_person_5 0 rfl rfl)
theorem dX4_person_109 : decode cX4_person 109 = .ok (.invokevirtual 399, 3) := dk_182 1 143 (dk_at dksX4_person_5 1 rfl rfl)
theorem dX4_person_112 : decode cX4_person 112 = .ok (.ireturn, 1) := dk_172 (dk_at dksX4_person_5 4 rfl rfl)
abbrev cX4_isPerson : ByteArray := prog_13_method_71_code
def yX4_isPerson : MethodName := ⟨RX4, "isPerson", "(I)Z"⟩
def dkwX4_isPerson_0 : List UInt8 := [42, 27, 155, 0, 15, 27, 42, 180, 1, 100, 162, 0, 7, 4, 167, 0, 4, 3, 4, 182, 1, 84, 172]
abbrev dktX4_isPerson_0 : List UInt8 := dkwX4_isPerson_0 ++ []
theorem dksX4_isPerson_0 : cX4_isPerson.data.toList.drop 0 = dktX4_isPerson_0 := by decide +kernel
theorem dX4_isPerson_0 : decode cX4_isPerson 0 = .ok (.aload_n 0, 1) := dk_42 (dk_at dksX4_isPerson_0 0 rfl rfl)
theorem dX4_isPerson_1 : decode cX4_isPerson 1 = .ok (.iload_n 1, 1) := dk_27 (dk_at dksX4_isPerson_0 1 rfl rfl)
theorem dX4_isPerson_2 : decode cX4_isPerson 2 = .ok (.ifCond .lt 15, 3) := dk_155 0 15 (dk_at dksX4_isPerson_0 2 rfl rfl)
theorem dX4_isPerson_5 : decode cX4_isPerson 5 = .ok (.iload_n 1, 1) := dk_27 (dk_at dksX4_isPerson_0 5 rfl rfl)
theorem dX4_isPerson_6 : decode cX4_isPerson 6 = .ok (.aload_n 0, 1) := dk_42 (dk_at dksX4_isPerson_0 6 rfl rfl)
theorem dX4_isPerson_7 : decode cX4_isPerson 7 = .ok (.getfield 356, 3) := dk_180 1 100 (dk_at dksX4_isPerson_0 7 rfl rfl)
theorem dX4_isPerson_10 : decode cX4_isPerson 10 = .ok (.if_icmp .ge 7, 3) := dk_162 0 7 (dk_at dksX4_isPerson_0 10 rfl rfl)
theorem dX4_isPerson_13 : decode cX4_isPerson 13 = .ok (.iconst 1, 1) := dk_4 (dk_at dksX4_isPerson_0 13 rfl rfl)
theorem dX4_isPerson_14 : decode cX4_isPerson 14 = .ok (.goto 4, 3) := dk_167 0 4 (dk_at dksX4_isPerson_0 14 rfl rfl)
theorem dX4_isPerson_17 : decode cX4_isPerson 17 = .ok (.iconst 0, 1) := dk_3 (dk_at dksX4_isPerson_0 17 rfl rfl)
theorem dX4_isPerson_18 : decode cX4_isPerson 18 = .ok (.iconst 1, 1) := dk_4 (dk_at dksX4_isPerson_0 18 rfl rfl)
theorem dX4_isPerson_19 : decode cX4_isPerson 19 = .ok (.invokevirtual 340, 3) := dk_182 1 84 (dk_at dksX4_isPerson_0 19 rfl rfl)
theorem dX4_isPerson_22 : decode cX4_isPerson 22 = .ok (.ireturn, 1) := dk_172 (dk_at dksX4_isPerson_0 22 rfl rfl)
abbrev cX4_saleOf : ByteArray := prog_13_method_55_code
def yX4_saleOf : MethodName := ⟨RX4, "saleOf", "([II)I"⟩
def dkwX4_saleOf_0 : List UInt8 := [42, 180, 0, 26, 28, 46, 16, 10, 16, 9, 43, 5, 46, 184, 1, 140, 100, 104, 16, 10, 108, 172]
abbrev dktX4_saleOf_0 : List UInt8 := dkwX4_saleOf_0 ++ []
theorem dksX4_saleOf_0 : cX4_saleOf.data.toList.drop 0 = dktX4_saleOf_0 := by decide +kernel
theorem dX4_saleOf_0 : decode cX4_saleOf 0 = .ok (.aload_n 0, 1) := dk_42 (dk_at dksX4_saleOf_0 0 rfl rfl)
theorem dX4_saleOf_1 : decode cX4_saleOf 1 = .ok (.getfield 26, 3) := dk_180 0 26 (dk_at dksX4_saleOf_0 1 rfl rfl)
theorem dX4_saleOf_4 : decode cX4_saleOf 4 = .ok (.iload_n 2, 1) := dk_28 (dk_at dksX4_saleOf_0 4 rfl rfl)
theorem dX4_saleOf_5 : decode cX4_saleOf 5 = .ok (.iaload, 1) := dk_46 (dk_at dksX4_saleOf_0 5 rfl rfl)
theorem dX4_saleOf_6 : decode cX4_saleOf 6 = .ok (.bipush 10, 2) := dk_16 10 (dk_at dksX4_saleOf_0 6 rfl rfl)
theorem dX4_saleOf_8 : decode cX4_saleOf 8 = .ok (.bipush 9, 2) := dk_16 9 (dk_at dksX4_saleOf_0 8 rfl rfl)
theorem dX4_saleOf_10 : decode cX4_saleOf 10 = .ok (.aload_n 1, 1) := dk_43 (dk_at dksX4_saleOf_0 10 rfl rfl)
theorem dX4_saleOf_11 : decode cX4_saleOf 11 = .ok (.iconst 2, 1) := dk_5 (dk_at dksX4_saleOf_0 11 rfl rfl)
theorem dX4_saleOf_12 : decode cX4_saleOf 12 = .ok (.iaload, 1) := dk_46 (dk_at dksX4_saleOf_0 12 rfl rfl)
theorem dX4_saleOf_13 : decode cX4_saleOf 13 = .ok (.invokestatic 396, 3) := dk_184 1 140 (dk_at dksX4_saleOf_0 13 rfl rfl)
theorem dX4_saleOf_16 : decode cX4_saleOf 16 = .ok (.isub, 1) := dk_100 (dk_at dksX4_saleOf_0 16 rfl rfl)
theorem dX4_saleOf_17 : decode cX4_saleOf 17 = .ok (.imul, 1) := dk_104 (dk_at dksX4_saleOf_0 17 rfl rfl)
theorem dX4_saleOf_18 : decode cX4_saleOf 18 = .ok (.bipush 10, 2) := dk_16 10 (dk_at dksX4_saleOf_0 18 rfl rfl)
theorem dX4_saleOf_20 : decode cX4_saleOf 20 = .ok (.idiv, 1) := dk_108 (dk_at dksX4_saleOf_0 20 rfl rfl)
theorem dX4_saleOf_21 : decode cX4_saleOf 21 = .ok (.ireturn, 1) := dk_172 (dk_at dksX4_saleOf_0 21 rfl rfl)
abbrev cX4_lesser : ByteArray := prog_13_method_5_code
def yX4_lesser : MethodName := ⟨RX4, "lesser", "(II)I"⟩
def dkwX4_lesser_0 : List UInt8 := [26, 27, 162, 0, 7, 26, 167, 0, 4, 27, 172]
abbrev dktX4_lesser_0 : List UInt8 := dkwX4_lesser_0 ++ []
theorem dksX4_lesser_0 : cX4_lesser.data.toList.drop 0 = dktX4_lesser_0 := by decide +kernel
theorem dX4_lesser_0 : decode cX4_lesser 0 = .ok (.iload_n 0, 1) := dk_26 (dk_at dksX4_lesser_0 0 rfl rfl)
theorem dX4_lesser_1 : decode cX4_lesser 1 = .ok (.iload_n 1, 1) := dk_27 (dk_at dksX4_lesser_0 1 rfl rfl)
theorem dX4_lesser_2 : decode cX4_lesser 2 = .ok (.if_icmp .ge 7, 3) := dk_162 0 7 (dk_at dksX4_lesser_0 2 rfl rfl)
theorem dX4_lesser_5 : decode cX4_lesser 5 = .ok (.iload_n 0, 1) := dk_26 (dk_at dksX4_lesser_0 5 rfl rfl)
theorem dX4_lesser_6 : decode cX4_lesser 6 = .ok (.goto 4, 3) := dk_167 0 4 (dk_at dksX4_lesser_0 6 rfl rfl)
theorem dX4_lesser_9 : decode cX4_lesser 9 = .ok (.iload_n 1, 1) := dk_27 (dk_at dksX4_lesser_0 9 rfl rfl)
theorem dX4_lesser_10 : decode cX4_lesser 10 = .ok (.ireturn, 1) := dk_172 (dk_at dksX4_lesser_0 10 rfl rfl)
abbrev cX4_grudge : ByteArray := prog_13_method_76_code
def yX4_grudge : MethodName := ⟨RX4, "grudge", "(II)I"⟩
def dkwX4_grudge_1 : List UInt8 := [180, 0, 93, 27, 28, 182, 1, 157, 167, 0, 4, 3, 172]
abbrev dktX4_grudge_1 : List UInt8 := dkwX4_grudge_1 ++ []
def dkwX4_grudge_0 : List UInt8 := [42, 3, 181, 0, 168, 42, 27, 182, 1, 203, 153, 0, 24, 42, 28, 182, 1, 212, 153, 0, 16, 42, 42]
abbrev dktX4_grudge_0 : List UInt8 := dkwX4_grudge_0 ++ dktX4_grudge_1
theorem dksX4_grudge_0 : cX4_grudge.data.toList.drop 0 = dktX4_grudge_0 := by decide +kernel
theorem dksX4_grudge_1 : cX4_grudge.data.toList.drop 23 = dktX4_grudge_1 := dk_seg dksX4_grudge_0 23 rfl rfl
theorem dX4_grudge_0 : decode cX4_grudge 0 = .ok (.aload_n 0, 1) := dk_42 (dk_at dksX4_grudge_0 0 rfl rfl)
theorem dX4_grudge_1 : decode cX4_grudge 1 = .ok (.iconst 0, 1) := dk_3 (dk_at dksX4_grudge_0 1 rfl rfl)
theorem dX4_grudge_2 : decode cX4_grudge 2 = .ok (.putfield 168, 3) := dk_181 0 168 (dk_at dksX4_grudge_0 2 rfl rfl)
theorem dX4_grudge_5 : decode cX4_grudge 5 = .ok (.aload_n 0, 1) := dk_42 (dk_at dksX4_grudge_0 5 rfl rfl)
theorem dX4_grudge_6 : decode cX4_grudge 6 = .ok (.iload_n 1, 1) := dk_27 (dk_at dksX4_grudge_0 6 rfl rfl)
theorem dX4_grudge_7 : decode cX4_grudge 7 = .ok (.invokevirtual 459, 3) := dk_182 1 203 (dk_at dksX4_grudge_0 7 rfl rfl)
theorem dX4_grudge_10 : decode cX4_grudge 10 = .ok (.ifCond .eq 24, 3) := dk_153 0 24 (dk_at dksX4_grudge_0 10 rfl rfl)
theorem dX4_grudge_13 : decode cX4_grudge 13 = .ok (.aload_n 0, 1) := dk_42 (dk_at dksX4_grudge_0 13 rfl rfl)
theorem dX4_grudge_14 : decode cX4_grudge 14 = .ok (.iload_n 2, 1) := dk_28 (dk_at dksX4_grudge_0 14 rfl rfl)
theorem dX4_grudge_15 : decode cX4_grudge 15 = .ok (.invokevirtual 468, 3) := dk_182 1 212 (dk_at dksX4_grudge_0 15 rfl rfl)
theorem dX4_grudge_18 : decode cX4_grudge 18 = .ok (.ifCond .eq 16, 3) := dk_153 0 16 (dk_at dksX4_grudge_0 18 rfl rfl)
theorem dX4_grudge_21 : decode cX4_grudge 21 = .ok (.aload_n 0, 1) := dk_42 (dk_at dksX4_grudge_0 21 rfl rfl)
theorem dX4_grudge_22 : decode cX4_grudge 22 = .ok (.aload_n 0, 1) := dk_42 (dk_at dksX4_grudge_0 22 rfl rfl)
theorem dX4_grudge_23 : decode cX4_grudge 23 = .ok (.getfield 93, 3) := dk_180 0 93 (dk_at dksX4_grudge_1 0 rfl rfl)
theorem dX4_grudge_26 : decode cX4_grudge 26 = .ok (.iload_n 1, 1) := dk_27 (dk_at dksX4_grudge_1 3 rfl rfl)
theorem dX4_grudge_27 : decode cX4_grudge 27 = .ok (.iload_n 2, 1) := dk_28 (dk_at dksX4_grudge_1 4 rfl rfl)
theorem dX4_grudge_28 : decode cX4_grudge 28 = .ok (.invokevirtual 413, 3) := dk_182 1 157 (dk_at dksX4_grudge_1 5 rfl rfl)
theorem dX4_grudge_31 : decode cX4_grudge 31 = .ok (.goto 4, 3) := dk_167 0 4 (dk_at dksX4_grudge_1 8 rfl rfl)
theorem dX4_grudge_34 : decode cX4_grudge 34 = .ok (.iconst 0, 1) := dk_3 (dk_at dksX4_grudge_1 11 rfl rfl)
theorem dX4_grudge_35 : decode cX4_grudge 35 = .ok (.ireturn, 1) := dk_172 (dk_at dksX4_grudge_1 12 rfl rfl)
abbrev cX4_grudgeOf : ByteArray := prog_13_method_53_code
def yX4_grudgeOf : MethodName := ⟨RX4, "grudgeOf", "([III)I"⟩
def dkwX4_grudgeOf_5 : List UInt8 := [79, 42, 180, 0, 99, 16, 7, 43, 5, 46, 79, 42, 42, 180, 0, 9, 182, 1, 137, 172]
abbrev dktX4_grudgeOf_5 : List UInt8 := dkwX4_grudgeOf_5 ++ []
def dkwX4_grudgeOf_4 : List UInt8 := [184, 1, 134, 79, 42, 180, 0, 99, 8, 21, 4, 184, 1, 134, 79, 42, 180, 0, 99, 16, 6, 43, 3, 46]
abbrev dktX4_grudgeOf_4 : List UInt8 := dkwX4_grudgeOf_4 ++ dktX4_grudgeOf_5
def dkwX4_grudgeOf_3 : List UInt8 := [182, 1, 131, 29, 122, 4, 126, 79, 42, 180, 0, 99, 7, 42, 180, 0, 29, 29, 46, 21, 4, 126]
abbrev dktX4_grudgeOf_3 : List UInt8 := dkwX4_grudgeOf_3 ++ dktX4_grudgeOf_4
def dkwX4_grudgeOf_2 : List UInt8 := [180, 0, 99, 5, 42, 28, 3, 182, 1, 131, 29, 122, 4, 126, 79, 42, 180, 0, 99, 6, 42, 28, 4]
abbrev dktX4_grudgeOf_2 : List UInt8 := dkwX4_grudgeOf_2 ++ dktX4_grudgeOf_3
def dkwX4_grudgeOf_1 : List UInt8 := [180, 0, 99, 3, 42, 180, 0, 26, 29, 46, 79, 42, 180, 0, 99, 4, 43, 16, 31, 28, 96, 46, 79, 42]
abbrev dktX4_grudgeOf_1 : List UInt8 := dkwX4_grudgeOf_1 ++ dktX4_grudgeOf_2
def dkwX4_grudgeOf_0 : List UInt8 := [42, 180, 0, 9, 2, 160, 0, 10, 42, 180, 0, 26, 29, 46, 172, 42, 43, 182, 1, 127, 54, 4, 42]
abbrev dktX4_grudgeOf_0 : List UInt8 := dkwX4_grudgeOf_0 ++ dktX4_grudgeOf_1
theorem dksX4_grudgeOf_0 : cX4_grudgeOf.data.toList.drop 0 = dktX4_grudgeOf_0 := by decide +kernel
theorem dksX4_grudgeOf_1 : cX4_grudgeOf.data.toList.drop 23 = dktX4_grudgeOf_1 := dk_seg dksX4_grudgeOf_0 23 rfl rfl
theorem dksX4_grudgeOf_2 : cX4_grudgeOf.data.toList.drop 47 = dktX4_grudgeOf_2 := dk_seg dksX4_grudgeOf_1 24 rfl rfl
theorem dksX4_grudgeOf_3 : cX4_grudgeOf.data.toList.drop 70 = dktX4_grudgeOf_3 := dk_seg dksX4_grudgeOf_2 23 rfl rfl
theorem dksX4_grudgeOf_4 : cX4_grudgeOf.data.toList.drop 92 = dktX4_grudgeOf_4 := dk_seg dksX4_grudgeOf_3 22 rfl rfl
theorem dksX4_grudgeOf_5 : cX4_grudgeOf.data.toList.drop 116 = dktX4_grudgeOf_5 := dk_seg dksX4_grudgeOf_4 24 rfl rfl
theorem dX4_grudgeOf_0 : decode cX4_grudgeOf 0 = .ok (.aload_n 0, 1) := dk_42 (dk_at dksX4_grudgeOf_0 0 rfl rfl)
theorem dX4_grudgeOf_1 : decode cX4_grudgeOf 1 = .ok (.getfield 9, 3) := dk_180 0 9 (dk_at dksX4_grudgeOf_0 1 rfl rfl)
theorem dX4_grudgeOf_4 : decode cX4_grudgeOf 4 = .ok (.iconst (-1), 1) := dk_2 (dk_at dksX4_grudgeOf_0 4 rfl rfl)
theorem dX4_grudgeOf_5 : decode cX4_grudgeOf 5 = .ok (.if_icmp .ne 10, 3) := dk_160 0 10 (dk_at dksX4_grudgeOf_0 5 rfl rfl)
theorem dX4_grudgeOf_8 : decode cX4_grudgeOf 8 = .ok (.aload_n 0, 1) := dk_42 (dk_at dksX4_grudgeOf_0 8 rfl rfl)
theorem dX4_grudgeOf_9 : decode cX4_grudgeOf 9 = .ok (.getfield 26, 3) := dk_180 0 26 (dk_at dksX4_grudgeOf_0 9 rfl rfl)
theorem dX4_grudgeOf_12 : decode cX4_grudgeOf 12 = .ok (.iload_n 3, 1) := dk_29 (dk_at dksX4_grudgeOf_0 12 rfl rfl)
theorem dX4_grudgeOf_13 : decode cX4_grudgeOf 13 = .ok (.iaload, 1) := dk_46 (dk_at dksX4_grudgeOf_0 13 rfl rfl)
theorem dX4_grudgeOf_14 : decode cX4_grudgeOf 14 = .ok (.ireturn, 1) := dk_172 (dk_at dksX4_grudgeOf_0 14 rfl rfl)
theorem dX4_grudgeOf_15 : decode cX4_grudgeOf 15 = .ok (.aload_n 0, 1) := dk_42 (dk_at dksX4_grudgeOf_0 15 rfl rfl)
theorem dX4_grudgeOf_16 : decode cX4_grudgeOf 16 = .ok (.aload_n 1, 1) := dk_43 (dk_at dksX4_grudgeOf_0 16 rfl rfl)
theorem dX4_grudgeOf_17 : decode cX4_grudgeOf 17 = .ok (.invokevirtual 383, 3) := dk_182 1 127 (dk_at dksX4_grudgeOf_0 17 rfl rfl)
theorem dX4_grudgeOf_20 : decode cX4_grudgeOf 20 = .ok (.istore 4, 2) := dk_54 4 (dk_at dksX4_grudgeOf_0 20 rfl rfl)
theorem dX4_grudgeOf_22 : decode cX4_grudgeOf 22 = .ok (.aload_n 0, 1) := dk_42 (dk_at dksX4_grudgeOf_0 22 rfl rfl)
theorem dX4_grudgeOf_23 : decode cX4_grudgeOf 23 = .ok (.getfield 99, 3) := dk_180 0 99 (dk_at dksX4_grudgeOf_1 0 rfl rfl)
theorem dX4_grudgeOf_26 : decode cX4_grudgeOf 26 = .ok (.iconst 0, 1) := dk_3 (dk_at dksX4_grudgeOf_1 3 rfl rfl)
theorem dX4_grudgeOf_27 : decode cX4_grudgeOf 27 = .ok (.aload_n 0, 1) := dk_42 (dk_at dksX4_grudgeOf_1 4 rfl rfl)
theorem dX4_grudgeOf_28 : decode cX4_grudgeOf 28 = .ok (.getfield 26, 3) := dk_180 0 26 (dk_at dksX4_grudgeOf_1 5 rfl rfl)
theorem dX4_grudgeOf_31 : decode cX4_grudgeOf 31 = .ok (.iload_n 3, 1) := dk_29 (dk_at dksX4_grudgeOf_1 8 rfl rfl)
theorem dX4_grudgeOf_32 : decode cX4_grudgeOf 32 = .ok (.iaload, 1) := dk_46 (dk_at dksX4_grudgeOf_1 9 rfl rfl)
theorem dX4_grudgeOf_33 : decode cX4_grudgeOf 33 = .ok (.iastore, 1) := dk_79 (dk_at dksX4_grudgeOf_1 10 rfl rfl)
theorem dX4_grudgeOf_34 : decode cX4_grudgeOf 34 = .ok (.aload_n 0, 1) := dk_42 (dk_at dksX4_grudgeOf_1 11 rfl rfl)
theorem dX4_grudgeOf_35 : decode cX4_grudgeOf 35 = .ok (.getfield 99, 3) := dk_180 0 99 (dk_at dksX4_grudgeOf_1 12 rfl rfl)
theorem dX4_grudgeOf_38 : decode cX4_grudgeOf 38 = .ok (.iconst 1, 1) := dk_4 (dk_at dksX4_grudgeOf_1 15 rfl rfl)
theorem dX4_grudgeOf_39 : decode cX4_grudgeOf 39 = .ok (.aload_n 1, 1) := dk_43 (dk_at dksX4_grudgeOf_1 16 rfl rfl)
theorem dX4_grudgeOf_40 : decode cX4_grudgeOf 40 = .ok (.bipush 31, 2) := dk_16 31 (dk_at dksX4_grudgeOf_1 17 rfl rfl)
theorem dX4_grudgeOf_42 : decode cX4_grudgeOf 42 = .ok (.iload_n 2, 1) := dk_28 (dk_at dksX4_grudgeOf_1 19 rfl rfl)
theorem dX4_grudgeOf_43 : decode cX4_grudgeOf 43 = .ok (.iadd, 1) := dk_96 (dk_at dksX4_grudgeOf_1 20 rfl rfl)
theorem dX4_grudgeOf_44 : decode cX4_grudgeOf 44 = .ok (.iaload, 1) := dk_46 (dk_at dksX4_grudgeOf_1 21 rfl rfl)
theorem dX4_grudgeOf_45 : decode cX4_grudgeOf 45 = .ok (.iastore, 1) := dk_79 (dk_at dksX4_grudgeOf_1 22 rfl rfl)
theorem dX4_grudgeOf_46 : decode cX4_grudgeOf 46 = .ok (.aload_n 0, 1) := dk_42 (dk_at dksX4_grudgeOf_1 23 rfl rfl)
theorem dX4_grudgeOf_47 : decode cX4_grudgeOf 47 = .ok (.getfield 99, 3) := dk_180 0 99 (dk_at dksX4_grudgeOf_2 0 rfl rfl)
theorem dX4_grudgeOf_50 : decode cX4_grudgeOf 50 = .ok (.iconst 2, 1) := dk_5 (dk_at dksX4_grudgeOf_2 3 rfl rfl)
theorem dX4_grudgeOf_51 : decode cX4_grudgeOf 51 = .ok (.aload_n 0, 1) := dk_42 (dk_at dksX4_grudgeOf_2 4 rfl rfl)
theorem dX4_grudgeOf_52 : decode cX4_grudgeOf 52 = .ok (.iload_n 2, 1) := dk_28 (dk_at dksX4_grudgeOf_2 5 rfl rfl)
theorem dX4_grudgeOf_53 : decode cX4_grudgeOf 53 = .ok (.iconst 0, 1) := dk_3 (dk_at dksX4_grudgeOf_2 6 rfl rfl)
theorem dX4_grudgeOf_54 : decode cX4_grudgeOf 54 = .ok (.invokevirtual 387, 3) := dk_182 1 131 (dk_at dksX4_grudgeOf_2 7 rfl rfl)
theorem dX4_grudgeOf_57 : decode cX4_grudgeOf 57 = .ok (.iload_n 3, 1) := dk_29 (dk_at dksX4_grudgeOf_2 10 rfl rfl)
theorem dX4_grudgeOf_58 : decode cX4_grudgeOf 58 = .ok (.ishr, 1) := dk_122 (dk_at dksX4_grudgeOf_2 11 rfl rfl)
theorem dX4_grudgeOf_59 : decode cX4_grudgeOf 59 = .ok (.iconst 1, 1) := dk_4 (dk_at dksX4_grudgeOf_2 12 rfl rfl)
theorem dX4_grudgeOf_60 : decode cX4_grudgeOf 60 = .ok (.iand, 1) := dk_126 (dk_at dksX4_grudgeOf_2 13 rfl rfl)
theorem dX4_grudgeOf_61 : decode cX4_grudgeOf 61 = .ok (.iastore, 1) := dk_79 (dk_at dksX4_grudgeOf_2 14 rfl rfl)
theorem dX4_grudgeOf_62 : decode cX4_grudgeOf 62 = .ok (.aload_n 0, 1) := dk_42 (dk_at dksX4_grudgeOf_2 15 rfl rfl)
theorem dX4_grudgeOf_63 : decode cX4_grudgeOf 63 = .ok (.getfield 99, 3) := dk_180 0 99 (dk_at dksX4_grudgeOf_2 16 rfl rfl)
theorem dX4_grudgeOf_66 : decode cX4_grudgeOf 66 = .ok (.iconst 3, 1) := dk_6 (dk_at dksX4_grudgeOf_2 19 rfl rfl)
theorem dX4_grudgeOf_67 : decode cX4_grudgeOf 67 = .ok (.aload_n 0, 1) := dk_42 (dk_at dksX4_grudgeOf_2 20 rfl rfl)
theorem dX4_grudgeOf_68 : decode cX4_grudgeOf 68 = .ok (.iload_n 2, 1) := dk_28 (dk_at dksX4_grudgeOf_2 21 rfl rfl)
theorem dX4_grudgeOf_69 : decode cX4_grudgeOf 69 = .ok (.iconst 1, 1) := dk_4 (dk_at dksX4_grudgeOf_2 22 rfl rfl)
theorem dX4_grudgeOf_70 : decode cX4_grudgeOf 70 = .ok (.invokevirtual 387, 3) := dk_182 1 131 (dk_at dksX4_grudgeOf_3 0 rfl rfl)
theorem dX4_grudgeOf_73 : decode cX4_grudgeOf 73 = .ok (.iload_n 3, 1) := dk_29 (dk_at dksX4_grudgeOf_3 3 rfl rfl)
theorem dX4_grudgeOf_74 : decode cX4_grudgeOf 74 = .ok (.ishr, 1) := dk_122 (dk_at dksX4_grudgeOf_3 4 rfl rfl)
theorem dX4_grudgeOf_75 : decode cX4_grudgeOf 75 = .ok (.iconst 1, 1) := dk_4 (dk_at dksX4_grudgeOf_3 5 rfl rfl)
theorem dX4_grudgeOf_76 : decode cX4_grudgeOf 76 = .ok (.iand, 1) := dk_126 (dk_at dksX4_grudgeOf_3 6 rfl rfl)
theorem dX4_grudgeOf_77 : decode cX4_grudgeOf 77 = .ok (.iastore, 1) := dk_79 (dk_at dksX4_grudgeOf_3 7 rfl rfl)
theorem dX4_grudgeOf_78 : decode cX4_grudgeOf 78 = .ok (.aload_n 0, 1) := dk_42 (dk_at dksX4_grudgeOf_3 8 rfl rfl)
theorem dX4_grudgeOf_79 : decode cX4_grudgeOf 79 = .ok (.getfield 99, 3) := dk_180 0 99 (dk_at dksX4_grudgeOf_3 9 rfl rfl)
theorem dX4_grudgeOf_82 : decode cX4_grudgeOf 82 = .ok (.iconst 4, 1) := dk_7 (dk_at dksX4_grudgeOf_3 12 rfl rfl)
theorem dX4_grudgeOf_83 : decode cX4_grudgeOf 83 = .ok (.aload_n 0, 1) := dk_42 (dk_at dksX4_grudgeOf_3 13 rfl rfl)
theorem dX4_grudgeOf_84 : decode cX4_grudgeOf 84 = .ok (.getfield 29, 3) := dk_180 0 29 (dk_at dksX4_grudgeOf_3 14 rfl rfl)
theorem dX4_grudgeOf_87 : decode cX4_grudgeOf 87 = .ok (.iload_n 3, 1) := dk_29 (dk_at dksX4_grudgeOf_3 17 rfl rfl)
theorem dX4_grudgeOf_88 : decode cX4_grudgeOf 88 = .ok (.iaload, 1) := dk_46 (dk_at dksX4_grudgeOf_3 18 rfl rfl)
theorem dX4_grudgeOf_89 : decode cX4_grudgeOf 89 = .ok (.iload 4, 2) := dk_21 4 (dk_at dksX4_grudgeOf_3 19 rfl rfl)
theorem dX4_grudgeOf_91 : decode cX4_grudgeOf 91 = .ok (.iand, 1) := dk_126 (dk_at dksX4_grudgeOf_3 21 rfl rfl)
theorem dX4_grudgeOf_92 : decode cX4_grudgeOf 92 = .ok (.invokestatic 390, 3) := dk_184 1 134 (dk_at dksX4_grudgeOf_4 0 rfl rfl)
theorem dX4_grudgeOf_95 : decode cX4_grudgeOf 95 = .ok (.iastore, 1) := dk_79 (dk_at dksX4_grudgeOf_4 3 rfl rfl)
theorem dX4_grudgeOf_96 : decode cX4_grudgeOf 96 = .ok (.aload_n 0, 1) := dk_42 (dk_at dksX4_grudgeOf_4 4 rfl rfl)
theorem dX4_grudgeOf_97 : decode cX4_grudgeOf 97 = .ok (.getfield 99, 3) := dk_180 0 99 (dk_at dksX4_grudgeOf_4 5 rfl rfl)
theorem dX4_grudgeOf_100 : decode cX4_grudgeOf 100 = .ok (.iconst 5, 1) := dk_8 (dk_at dksX4_grudgeOf_4 8 rfl rfl)
theorem dX4_grudgeOf_101 : decode cX4_grudgeOf 101 = .ok (.iload 4, 2) := dk_21 4 (dk_at dksX4_grudgeOf_4 9 rfl rfl)
theorem dX4_grudgeOf_103 : decode cX4_grudgeOf 103 = .ok (.invokestatic 390, 3) := dk_184 1 134 (dk_at dksX4_grudgeOf_4 11 rfl rfl)
theorem dX4_grudgeOf_106 : decode cX4_grudgeOf 106 = .ok (.iastore, 1) := dk_79 (dk_at dksX4_grudgeOf_4 14 rfl rfl)
theorem dX4_grudgeOf_107 : decode cX4_grudgeOf 107 = .ok (.aload_n 0, 1) := dk_42 (dk_at dksX4_grudgeOf_4 15 rfl rfl)
theorem dX4_grudgeOf_108 : decode cX4_grudgeOf 108 = .ok (.getfield 99, 3) := dk_180 0 99 (dk_at dksX4_grudgeOf_4 16 rfl rfl)
theorem dX4_grudgeOf_111 : decode cX4_grudgeOf 111 = .ok (.bipush 6, 2) := dk_16 6 (dk_at dksX4_grudgeOf_4 19 rfl rfl)
theorem dX4_grudgeOf_113 : decode cX4_grudgeOf 113 = .ok (.aload_n 1, 1) := dk_43 (dk_at dksX4_grudgeOf_4 21 rfl rfl)
theorem dX4_grudgeOf_114 : decode cX4_grudgeOf 114 = .ok (.iconst 0, 1) := dk_3 (dk_at dksX4_grudgeOf_4 22 rfl rfl)
theorem dX4_grudgeOf_115 : decode cX4_grudgeOf 115 = .ok (.iaload, 1) := dk_46 (dk_at dksX4_grudgeOf_4 23 rfl rfl)
theorem dX4_grudgeOf_116 : decode cX4_grudgeOf 116 = .ok (.iastore, 1) := dk_79 (dk_at dksX4_grudgeOf_5 0 rfl rfl)
theorem dX4_grudgeOf_117 : decode cX4_grudgeOf 117 = .ok (.aload_n 0, 1) := dk_42 (dk_at dksX4_grudgeOf_5 1 rfl rfl)
theorem dX4_grudgeOf_118 : decode cX4_grudgeOf 118 = .ok (.getfield 99, 3) := dk_180 0 99 (dk_at dksX4_grudgeOf_5 2 rfl rfl)
theorem dX4_grudgeOf_121 : decode cX4_grudgeOf 121 = .ok (.bipush 7, 2) := dk_16 7 (dk_at dksX4_grudgeOf_5 5 rfl rfl)
theorem dX4_grudgeOf_123 : decode cX4_grudgeOf 123 = .ok (.aload_n 1, 1) := dk_43 (dk_at dksX4_grudgeOf_5 7 rfl rfl)
theorem dX4_grudgeOf_124 : decode cX4_grudgeOf 124 = .ok (.iconst 2, 1) := dk_5 (dk_at dksX4_grudgeOf_5 8 rfl rfl)
theorem dX4_grudgeOf_125 : decode cX4_grudgeOf 125 = .ok (.iaload, 1) := dk_46 (dk_at dksX4_grudgeOf_5 9 rfl rfl)
theorem dX4_grudgeOf_126 : decode cX4_grudgeOf 126 = .ok (.iastore, 1) := dk_79 (dk_at dksX4_grudgeOf_5 10 rfl rfl)
theorem dX4_grudgeOf_127 : decode cX4_grudgeOf 127 = .ok (.aload_n 0, 1) := dk_42 (dk_at dksX4_grudgeOf_5 11 rfl rfl)
theorem dX4_grudgeOf_128 : decode cX4_grudgeOf 128 = .ok (.aload_n 0, 1) := dk_42 (dk_at dksX4_grudgeOf_5 12 rfl rfl)
theorem dX4_grudgeOf_129 : decode cX4_grudgeOf 129 = .ok (.getfield 9, 3) := dk_180 0 9 (dk_at dksX4_grudgeOf_5 13 rfl rfl)
theorem dX4_grudgeOf_132 : decode cX4_grudgeOf 132 = .ok (.invokevirtual 393, 3) := dk_182 1 137 (dk_at dksX4_grudgeOf_5 16 rfl rfl)
theorem dX4_grudgeOf_135 : decode cX4_grudgeOf 135 = .ok (.ireturn, 1) := dk_172 (dk_at dksX4_grudgeOf_5 19 rfl rfl)
abbrev cX4_bits : ByteArray := prog_13_method_7_code
def yX4_bits : MethodName := ⟨RX4, "bits", "(I)I"⟩
def dkwX4_bits_1 : List UInt8 := [27, 172]
abbrev dktX4_bits_1 : List UInt8 := dkwX4_bits_1 ++ []
def dkwX4_bits_0 : List UInt8 := [3, 60, 3, 61, 28, 16, 9, 162, 0, 17, 27, 26, 28, 122, 4, 126, 96, 60, 132, 2, 1, 167, 255, 239]
abbrev dktX4_bits_0 : List UInt8 := dkwX4_bits_0 ++ dktX4_bits_1
theorem dksX4_bits_0 : cX4_bits.data.toList.drop 0 = dktX4_bits_0 := by decide +kernel
theorem dksX4_bits_1 : cX4_bits.data.toList.drop 24 = dktX4_bits_1 := dk_seg dksX4_bits_0 24 rfl rfl
theorem dX4_bits_0 : decode cX4_bits 0 = .ok (.iconst 0, 1) := dk_3 (dk_at dksX4_bits_0 0 rfl rfl)
theorem dX4_bits_1 : decode cX4_bits 1 = .ok (.istore_n 1, 1) := dk_60 (dk_at dksX4_bits_0 1 rfl rfl)
theorem dX4_bits_2 : decode cX4_bits 2 = .ok (.iconst 0, 1) := dk_3 (dk_at dksX4_bits_0 2 rfl rfl)
theorem dX4_bits_3 : decode cX4_bits 3 = .ok (.istore_n 2, 1) := dk_61 (dk_at dksX4_bits_0 3 rfl rfl)
theorem dX4_bits_4 : decode cX4_bits 4 = .ok (.iload_n 2, 1) := dk_28 (dk_at dksX4_bits_0 4 rfl rfl)
theorem dX4_bits_5 : decode cX4_bits 5 = .ok (.bipush 9, 2) := dk_16 9 (dk_at dksX4_bits_0 5 rfl rfl)
theorem dX4_bits_7 : decode cX4_bits 7 = .ok (.if_icmp .ge 17, 3) := dk_162 0 17 (dk_at dksX4_bits_0 7 rfl rfl)
theorem dX4_bits_10 : decode cX4_bits 10 = .ok (.iload_n 1, 1) := dk_27 (dk_at dksX4_bits_0 10 rfl rfl)
theorem dX4_bits_11 : decode cX4_bits 11 = .ok (.iload_n 0, 1) := dk_26 (dk_at dksX4_bits_0 11 rfl rfl)
theorem dX4_bits_12 : decode cX4_bits 12 = .ok (.iload_n 2, 1) := dk_28 (dk_at dksX4_bits_0 12 rfl rfl)
theorem dX4_bits_13 : decode cX4_bits 13 = .ok (.ishr, 1) := dk_122 (dk_at dksX4_bits_0 13 rfl rfl)
theorem dX4_bits_14 : decode cX4_bits 14 = .ok (.iconst 1, 1) := dk_4 (dk_at dksX4_bits_0 14 rfl rfl)
theorem dX4_bits_15 : decode cX4_bits 15 = .ok (.iand, 1) := dk_126 (dk_at dksX4_bits_0 15 rfl rfl)
theorem dX4_bits_16 : decode cX4_bits 16 = .ok (.iadd, 1) := dk_96 (dk_at dksX4_bits_0 16 rfl rfl)
theorem dX4_bits_17 : decode cX4_bits 17 = .ok (.istore_n 1, 1) := dk_60 (dk_at dksX4_bits_0 17 rfl rfl)
theorem dX4_bits_18 : decode cX4_bits 18 = .ok (.iinc 2 1, 3) := dk_132 2 1 (dk_at dksX4_bits_0 18 rfl rfl)
theorem dX4_bits_21 : decode cX4_bits 21 = .ok (.goto (-17), 3) := dk_167 255 239 (dk_at dksX4_bits_0 21 rfl rfl)
theorem dX4_bits_24 : decode cX4_bits 24 = .ok (.iload_n 1, 1) := dk_27 (dk_at dksX4_bits_1 0 rfl rfl)
theorem dX4_bits_25 : decode cX4_bits 25 = .ok (.ireturn, 1) := dk_172 (dk_at dksX4_bits_1 1 rfl rfl)
abbrev cX4_reckons : ByteArray := prog_13_method_48_code
def yX4_reckons : MethodName := ⟨RX4, "reckons", "(I)I"⟩
def dkwX4_reckons_6 : List UInt8 := [42, 180, 0, 102, 3, 46, 172]
abbrev dktX4_reckons_6 : List UInt8 := dkwX4_reckons_6 ++ []
def dkwX4_reckons_5 : List UInt8 := [100, 21, 4, 42, 180, 0, 102, 28, 4, 100, 46, 42, 180, 0, 102, 28, 46, 184, 1, 123, 79, 167, 255, 120]
abbrev dktX4_reckons_5 : List UInt8 := dkwX4_reckons_5 ++ dktX4_reckons_6
def dkwX4_reckons_4 : List UInt8 := [4, 100, 46, 154, 0, 7, 4, 167, 0, 4, 3, 79, 167, 0, 33, 132, 2, 255, 42, 180, 0, 102, 28, 4]
abbrev dktX4_reckons_4 : List UInt8 := dkwX4_reckons_4 ++ dktX4_reckons_5
def dkwX4_reckons_3 : List UInt8 := [132, 2, 1, 167, 0, 66, 21, 4, 6, 160, 0, 30, 42, 180, 0, 102, 28, 4, 100, 42, 180, 0, 102, 28]
abbrev dktX4_reckons_3 : List UInt8 := dkwX4_reckons_3 ++ dktX4_reckons_4
def dkwX4_reckons_2 : List UInt8 := [180, 0, 41, 29, 46, 167, 0, 14, 42, 180, 0, 99, 42, 180, 0, 41, 29, 46, 46, 79, 132, 3, 1]
abbrev dktX4_reckons_2 : List UInt8 := dkwX4_reckons_2 ++ dktX4_reckons_3
def dkwX4_reckons_1 : List UInt8 := [21, 4, 4, 159, 0, 9, 21, 4, 5, 160, 0, 44, 42, 180, 0, 102, 28, 21, 4, 4, 160, 0, 12, 42]
abbrev dktX4_reckons_1 : List UInt8 := dkwX4_reckons_1 ++ dktX4_reckons_2
def dkwX4_reckons_0 : List UInt8 := [3, 61, 27, 62, 42, 180, 0, 41, 29, 46, 153, 0, 133, 42, 180, 0, 41, 29, 46, 54, 4, 132, 3, 1]
abbrev dktX4_reckons_0 : List UInt8 := dkwX4_reckons_0 ++ dktX4_reckons_1
theorem dksX4_reckons_0 : cX4_reckons.data.toList.drop 0 = dktX4_reckons_0 := by decide +kernel
theorem dksX4_reckons_1 : cX4_reckons.data.toList.drop 24 = dktX4_reckons_1 := dk_seg dksX4_reckons_0 24 rfl rfl
theorem dksX4_reckons_2 : cX4_reckons.data.toList.drop 48 = dktX4_reckons_2 := dk_seg dksX4_reckons_1 24 rfl rfl
theorem dksX4_reckons_3 : cX4_reckons.data.toList.drop 71 = dktX4_reckons_3 := dk_seg dksX4_reckons_2 23 rfl rfl
theorem dksX4_reckons_4 : cX4_reckons.data.toList.drop 95 = dktX4_reckons_4 := dk_seg dksX4_reckons_3 24 rfl rfl
theorem dksX4_reckons_5 : cX4_reckons.data.toList.drop 119 = dktX4_reckons_5 := dk_seg dksX4_reckons_4 24 rfl rfl
theorem dksX4_reckons_6 : cX4_reckons.data.toList.drop 143 = dktX4_reckons_6 := dk_seg dksX4_reckons_5 24 rfl rfl
theorem dX4_reckons_0 : decode cX4_reckons 0 = .ok (.iconst 0, 1) := dk_3 (dk_at dksX4_reckons_0 0 rfl rfl)
theorem dX4_reckons_1 : decode cX4_reckons 1 = .ok (.istore_n 2, 1) := dk_61 (dk_at dksX4_reckons_0 1 rfl rfl)
theorem dX4_reckons_2 : decode cX4_reckons 2 = .ok (.iload_n 1, 1) := dk_27 (dk_at dksX4_reckons_0 2 rfl rfl)
theorem dX4_reckons_3 : decode cX4_reckons 3 = .ok (.istore_n 3, 1) := dk_62 (dk_at dksX4_reckons_0 3 rfl rfl)
theorem dX4_reckons_4 : decode cX4_reckons 4 = .ok (.aload_n 0, 1) := dk_42 (dk_at dksX4_reckons_0 4 rfl rfl)
theorem dX4_reckons_5 : decode cX4_reckons 5 = .ok (.getfield 41, 3) := dk_180 0 41 (dk_at dksX4_reckons_0 5 rfl rfl)
theorem dX4_reckons_8 : decode cX4_reckons 8 = .ok (.iload_n 3, 1) := dk_29 (dk_at dksX4_reckons_0 8 rfl rfl)
theorem dX4_reckons_9 : decode cX4_reckons 9 = .ok (.iaload, 1) := dk_46 (dk_at dksX4_reckons_0 9 rfl rfl)
theorem dX4_reckons_10 : decode cX4_reckons 10 = .ok (.ifCond .eq 133, 3) := dk_153 0 133 (dk_at dksX4_reckons_0 10 rfl rfl)
theorem dX4_reckons_13 : decode cX4_reckons 13 = .ok (.aload_n 0, 1) := dk_42 (dk_at dksX4_reckons_0 13 rfl rfl)
theorem dX4_reckons_14 : decode cX4_reckons 14 = .ok (.getfield 41, 3) := dk_180 0 41 (dk_at dksX4_reckons_0 14 rfl rfl)
theorem dX4_reckons_17 : decode cX4_reckons 17 = .ok (.iload_n 3, 1) := dk_29 (dk_at dksX4_reckons_0 17 rfl rfl)
theorem dX4_reckons_18 : decode cX4_reckons 18 = .ok (.iaload, 1) := dk_46 (dk_at dksX4_reckons_0 18 rfl rfl)
theorem dX4_reckons_19 : decode cX4_reckons 19 = .ok (.istore 4, 2) := dk_54 4 (dk_at dksX4_reckons_0 19 rfl rfl)
theorem dX4_reckons_21 : decode cX4_reckons 21 = .ok (.iinc 3 1, 3) := dk_132 3 1 (dk_at dksX4_reckons_0 21 rfl rfl)
theorem dX4_reckons_24 : decode cX4_reckons 24 = .ok (.iload 4, 2) := dk_21 4 (dk_at dksX4_reckons_1 0 rfl rfl)
theorem dX4_reckons_26 : decode cX4_reckons 26 = .ok (.iconst 1, 1) := dk_4 (dk_at dksX4_reckons_1 2 rfl rfl)
theorem dX4_reckons_27 : decode cX4_reckons 27 = .ok (.if_icmp .eq 9, 3) := dk_159 0 9 (dk_at dksX4_reckons_1 3 rfl rfl)
theorem dX4_reckons_30 : decode cX4_reckons 30 = .ok (.iload 4, 2) := dk_21 4 (dk_at dksX4_reckons_1 6 rfl rfl)
theorem dX4_reckons_32 : decode cX4_reckons 32 = .ok (.iconst 2, 1) := dk_5 (dk_at dksX4_reckons_1 8 rfl rfl)
theorem dX4_reckons_33 : decode cX4_reckons 33 = .ok (.if_icmp .ne 44, 3) := dk_160 0 44 (dk_at dksX4_reckons_1 9 rfl rfl)
theorem dX4_reckons_36 : decode cX4_reckons 36 = .ok (.aload_n 0, 1) := dk_42 (dk_at dksX4_reckons_1 12 rfl rfl)
theorem dX4_reckons_37 : decode cX4_reckons 37 = .ok (.getfield 102, 3) := dk_180 0 102 (dk_at dksX4_reckons_1 13 rfl rfl)
theorem dX4_reckons_40 : decode cX4_reckons 40 = .ok (.iload_n 2, 1) := dk_28 (dk_at dksX4_reckons_1 16 rfl rfl)
theorem dX4_reckons_41 : decode cX4_reckons 41 = .ok (.iload 4, 2) := dk_21 4 (dk_at dksX4_reckons_1 17 rfl rfl)
theorem dX4_reckons_43 : decode cX4_reckons 43 = .ok (.iconst 1, 1) := dk_4 (dk_at dksX4_reckons_1 19 rfl rfl)
theorem dX4_reckons_44 : decode cX4_reckons 44 = .ok (.if_icmp .ne 12, 3) := dk_160 0 12 (dk_at dksX4_reckons_1 20 rfl rfl)
theorem dX4_reckons_47 : decode cX4_reckons 47 = .ok (.aload_n 0, 1) := dk_42 (dk_at dksX4_reckons_1 23 rfl rfl)
theorem dX4_reckons_48 : decode cX4_reckons 48 = .ok (.getfield 41, 3) := dk_180 0 41 (dk_at dksX4_reckons_2 0 rfl rfl)
theorem dX4_reckons_51 : decode cX4_reckons 51 = .ok (.iload_n 3, 1) := dk_29 (dk_at dksX4_reckons_2 3 rfl rfl)
theorem dX4_reckons_52 : decode cX4_reckons 52 = .ok (.iaload, 1) := dk_46 (dk_at dksX4_reckons_2 4 rfl rfl)
theorem dX4_reckons_53 : decode cX4_reckons 53 = .ok (.goto 14, 3) := dk_167 0 14 (dk_at dksX4_reckons_2 5 rfl rfl)
theorem dX4_reckons_56 : decode cX4_reckons 56 = .ok (.aload_n 0, 1) := dk_42 (dk_at dksX4_reckons_2 8 rfl rfl)
theorem dX4_reckons_57 : decode cX4_reckons 57 = .ok (.getfield 99, 3) := dk_180 0 99 (dk_at dksX4_reckons_2 9 rfl rfl)
theorem dX4_reckons_60 : decode cX4_reckons 60 = .ok (.aload_n 0, 1) := dk_42 (dk_at dksX4_reckons_2 12 rfl rfl)
theorem dX4_reckons_61 : decode cX4_reckons 61 = .ok (.getfield 41, 3) := dk_180 0 41 (dk_at dksX4_reckons_2 13 rfl rfl)
theorem dX4_reckons_64 : decode cX4_reckons 64 = .ok (.iload_n 3, 1) := dk_29 (dk_at dksX4_reckons_2 16 rfl rfl)
theorem dX4_reckons_65 : decode cX4_reckons 65 = .ok (.iaload, 1) := dk_46 (dk_at dksX4_reckons_2 17 rfl rfl)
theorem dX4_reckons_66 : decode cX4_reckons 66 = .ok (.iaload, 1) := dk_46 (dk_at dksX4_reckons_2 18 rfl rfl)
theorem dX4_reckons_67 : decode cX4_reckons 67 = .ok (.iastore, 1) := dk_79 (dk_at dksX4_reckons_2 19 rfl rfl)
theorem dX4_reckons_68 : decode cX4_reckons 68 = .ok (.iinc 3 1, 3) := dk_132 3 1 (dk_at dksX4_reckons_2 20 rfl rfl)
theorem dX4_reckons_71 : decode cX4_reckons 71 = .ok (.iinc 2 1, 3) := dk_132 2 1 (dk_at dksX4_reckons_3 0 rfl rfl)
theorem dX4_reckons_74 : decode cX4_reckons 74 = .ok (.goto 66, 3) := dk_167 0 66 (dk_at dksX4_reckons_3 3 rfl rfl)
theorem dX4_reckons_77 : decode cX4_reckons 77 = .ok (.iload 4, 2) := dk_21 4 (dk_at dksX4_reckons_3 6 rfl rfl)
theorem dX4_reckons_79 : decode cX4_reckons 79 = .ok (.iconst 3, 1) := dk_6 (dk_at dksX4_reckons_3 8 rfl rfl)
theorem dX4_reckons_80 : decode cX4_reckons 80 = .ok (.if_icmp .ne 30, 3) := dk_160 0 30 (dk_at dksX4_reckons_3 9 rfl rfl)
theorem dX4_reckons_83 : decode cX4_reckons 83 = .ok (.aload_n 0, 1) := dk_42 (dk_at dksX4_reckons_3 12 rfl rfl)
theorem dX4_reckons_84 : decode cX4_reckons 84 = .ok (.getfield 102, 3) := dk_180 0 102 (dk_at dksX4_reckons_3 13 rfl rfl)
theorem dX4_reckons_87 : decode cX4_reckons 87 = .ok (.iload_n 2, 1) := dk_28 (dk_at dksX4_reckons_3 16 rfl rfl)
theorem dX4_reckons_88 : decode cX4_reckons 88 = .ok (.iconst 1, 1) := dk_4 (dk_at dksX4_reckons_3 17 rfl rfl)
theorem dX4_reckons_89 : decode cX4_reckons 89 = .ok (.isub, 1) := dk_100 (dk_at dksX4_reckons_3 18 rfl rfl)
theorem dX4_reckons_90 : decode cX4_reckons 90 = .ok (.aload_n 0, 1) := dk_42 (dk_at dksX4_reckons_3 19 rfl rfl)
theorem dX4_reckons_91 : decode cX4_reckons 91 = .ok (.getfield 102, 3) := dk_180 0 102 (dk_at dksX4_reckons_3 20 rfl rfl)
theorem dX4_reckons_94 : decode cX4_reckons 94 = .ok (.iload_n 2, 1) := dk_28 (dk_at dksX4_reckons_3 23 rfl rfl)
theorem dX4_reckons_95 : decode cX4_reckons 95 = .ok (.iconst 1, 1) := dk_4 (dk_at dksX4_reckons_4 0 rfl rfl)
theorem dX4_reckons_96 : decode cX4_reckons 96 = .ok (.isub, 1) := dk_100 (dk_at dksX4_reckons_4 1 rfl rfl)
theorem dX4_reckons_97 : decode cX4_reckons 97 = .ok (.iaload, 1) := dk_46 (dk_at dksX4_reckons_4 2 rfl rfl)
theorem dX4_reckons_98 : decode cX4_reckons 98 = .ok (.ifCond .ne 7, 3) := dk_154 0 7 (dk_at dksX4_reckons_4 3 rfl rfl)
theorem dX4_reckons_101 : decode cX4_reckons 101 = .ok (.iconst 1, 1) := dk_4 (dk_at dksX4_reckons_4 6 rfl rfl)
theorem dX4_reckons_102 : decode cX4_reckons 102 = .ok (.goto 4, 3) := dk_167 0 4 (dk_at dksX4_reckons_4 7 rfl rfl)
theorem dX4_reckons_105 : decode cX4_reckons 105 = .ok (.iconst 0, 1) := dk_3 (dk_at dksX4_reckons_4 10 rfl rfl)
theorem dX4_reckons_106 : decode cX4_reckons 106 = .ok (.iastore, 1) := dk_79 (dk_at dksX4_reckons_4 11 rfl rfl)
theorem dX4_reckons_107 : decode cX4_reckons 107 = .ok (.goto 33, 3) := dk_167 0 33 (dk_at dksX4_reckons_4 12 rfl rfl)
theorem dX4_reckons_110 : decode cX4_reckons 110 = .ok (.iinc 2 (-1), 3) := dk_132 2 255 (dk_at dksX4_reckons_4 15 rfl rfl)
theorem dX4_reckons_113 : decode cX4_reckons 113 = .ok (.aload_n 0, 1) := dk_42 (dk_at dksX4_reckons_4 18 rfl rfl)
theorem dX4_reckons_114 : decode cX4_reckons 114 = .ok (.getfield 102, 3) := dk_180 0 102 (dk_at dksX4_reckons_4 19 rfl rfl)
theorem dX4_reckons_117 : decode cX4_reckons 117 = .ok (.iload_n 2, 1) := dk_28 (dk_at dksX4_reckons_4 22 rfl rfl)
theorem dX4_reckons_118 : decode cX4_reckons 118 = .ok (.iconst 1, 1) := dk_4 (dk_at dksX4_reckons_4 23 rfl rfl)
theorem dX4_reckons_119 : decode cX4_reckons 119 = .ok (.isub, 1) := dk_100 (dk_at dksX4_reckons_5 0 rfl rfl)
theorem dX4_reckons_120 : decode cX4_reckons 120 = .ok (.iload 4, 2) := dk_21 4 (dk_at dksX4_reckons_5 1 rfl rfl)
theorem dX4_reckons_122 : decode cX4_reckons 122 = .ok (.aload_n 0, 1) := dk_42 (dk_at dksX4_reckons_5 3 rfl rfl)
theorem dX4_reckons_123 : decode cX4_reckons 123 = .ok (.getfield 102, 3) := dk_180 0 102 (dk_at dksX4_reckons_5 4 rfl rfl)
theorem dX4_reckons_126 : decode cX4_reckons 126 = .ok (.iload_n 2, 1) := dk_28 (dk_at dksX4_reckons_5 7 rfl rfl)
theorem dX4_reckons_127 : decode cX4_reckons 127 = .ok (.iconst 1, 1) := dk_4 (dk_at dksX4_reckons_5 8 rfl rfl)
theorem dX4_reckons_128 : decode cX4_reckons 128 = .ok (.isub, 1) := dk_100 (dk_at dksX4_reckons_5 9 rfl rfl)
theorem dX4_reckons_129 : decode cX4_reckons 129 = .ok (.iaload, 1) := dk_46 (dk_at dksX4_reckons_5 10 rfl rfl)
theorem dX4_reckons_130 : decode cX4_reckons 130 = .ok (.aload_n 0, 1) := dk_42 (dk_at dksX4_reckons_5 11 rfl rfl)
theorem dX4_reckons_131 : decode cX4_reckons 131 = .ok (.getfield 102, 3) := dk_180 0 102 (dk_at dksX4_reckons_5 12 rfl rfl)
theorem dX4_reckons_134 : decode cX4_reckons 134 = .ok (.iload_n 2, 1) := dk_28 (dk_at dksX4_reckons_5 15 rfl rfl)
theorem dX4_reckons_135 : decode cX4_reckons 135 = .ok (.iaload, 1) := dk_46 (dk_at dksX4_reckons_5 16 rfl rfl)
theorem dX4_reckons_136 : decode cX4_reckons 136 = .ok (.invokestatic 379, 3) := dk_184 1 123 (dk_at dksX4_reckons_5 17 rfl rfl)
theorem dX4_reckons_139 : decode cX4_reckons 139 = .ok (.iastore, 1) := dk_79 (dk_at dksX4_reckons_5 20 rfl rfl)
theorem dX4_reckons_140 : decode cX4_reckons 140 = .ok (.goto (-136), 3) := dk_167 255 120 (dk_at dksX4_reckons_5 21 rfl rfl)
theorem dX4_reckons_143 : decode cX4_reckons 143 = .ok (.aload_n 0, 1) := dk_42 (dk_at dksX4_reckons_6 0 rfl rfl)
theorem dX4_reckons_144 : decode cX4_reckons 144 = .ok (.getfield 102, 3) := dk_180 0 102 (dk_at dksX4_reckons_6 1 rfl rfl)
theorem dX4_reckons_147 : decode cX4_reckons 147 = .ok (.iconst 0, 1) := dk_3 (dk_at dksX4_reckons_6 4 rfl rfl)
theorem dX4_reckons_148 : decode cX4_reckons 148 = .ok (.iaload, 1) := dk_46 (dk_at dksX4_reckons_6 5 rfl rfl)
theorem dX4_reckons_149 : decode cX4_reckons 149 = .ok (.ireturn, 1) := dk_172 (dk_at dksX4_reckons_6 6 rfl rfl)
abbrev cX4_works : ByteArray := prog_13_method_47_code
def yX4_works : MethodName := ⟨RX4, "works", "(III)I"⟩
def dkwX4_works_5 : List UInt8 := [167, 0, 6, 27, 28, 108, 172]
abbrev dktX4_works_5 : List UInt8 := dkwX4_works_5 ++ []
def dkwX4_works_4 : List UInt8 := [167, 0, 4, 3, 172, 27, 28, 96, 172, 27, 28, 100, 172, 27, 28, 104, 172, 28, 154, 0, 7, 3]
abbrev dktX4_works_4 : List UInt8 := dkwX4_works_4 ++ dktX4_works_5
def dkwX4_works_3 : List UInt8 := [167, 0, 4, 3, 172, 27, 28, 162, 0, 7, 4, 167, 0, 4, 3, 172, 27, 28, 160, 0, 7, 4]
abbrev dktX4_works_3 : List UInt8 := dkwX4_works_3 ++ dktX4_works_4
def dkwX4_works_2 : List UInt8 := [27, 153, 0, 11, 28, 153, 0, 7, 4, 167, 0, 4, 3, 172, 27, 154, 0, 7, 28, 153, 0, 7, 4]
abbrev dktX4_works_2 : List UInt8 := dkwX4_works_2 ++ dktX4_works_3
def dkwX4_works_1 : List UInt8 := [170, 0, 0, 0, 0, 0, 105, 0, 0, 0, 4, 0, 0, 0, 10, 0, 0, 0, 43, 0, 0, 0, 57, 0, 0, 0, 71, 0, 0, 0, 82, 0, 0, 0, 93, 0, 0, 0, 97, 0, 0, 0, 101]
abbrev dktX4_works_1 : List UInt8 := dkwX4_works_1 ++ dktX4_works_2
def dkwX4_works_0 : List UInt8 := [26]
abbrev dktX4_works_0 : List UInt8 := dkwX4_works_0 ++ dktX4_works_1
theorem dksX4_works_0 : cX4_works.data.toList.drop 0 = dktX4_works_0 := by decide +kernel
theorem dksX4_works_1 : cX4_works.data.toList.drop 1 = dktX4_works_1 := dk_seg dksX4_works_0 1 rfl rfl
theorem dksX4_works_2 : cX4_works.data.toList.drop 44 = dktX4_works_2 := dk_seg dksX4_works_1 43 rfl rfl
theorem dksX4_works_3 : cX4_works.data.toList.drop 67 = dktX4_works_3 := dk_seg dksX4_works_2 23 rfl rfl
theorem dksX4_works_4 : cX4_works.data.toList.drop 89 = dktX4_works_4 := dk_seg dksX4_works_3 22 rfl rfl
theorem dksX4_works_5 : cX4_works.data.toList.drop 111 = dktX4_works_5 := dk_seg dksX4_works_4 22 rfl rfl
theorem dX4_works_0 : decode cX4_works 0 = .ok (.iload_n 0, 1) := dk_26 (dk_at dksX4_works_0 0 rfl rfl)
theorem dX4_works_1 : decode cX4_works 1 = .ok (.tableswitch 105 4 10 #[43, 57, 71, 82, 93, 97, 101], 43) := by decide +kernel
theorem dX4_works_44 : decode cX4_works 44 = .ok (.iload_n 1, 1) := dk_27 (dk_at dksX4_works_2 0 rfl rfl)
theorem dX4_works_45 : decode cX4_works 45 = .ok (.ifCond .eq 11, 3) := dk_153 0 11 (dk_at dksX4_works_2 1 rfl rfl)
theorem dX4_works_48 : decode cX4_works 48 = .ok (.iload_n 2, 1) := dk_28 (dk_at dksX4_works_2 4 rfl rfl)
theorem dX4_works_49 : decode cX4_works 49 = .ok (.ifCond .eq 7, 3) := dk_153 0 7 (dk_at dksX4_works_2 5 rfl rfl)
theorem dX4_works_52 : decode cX4_works 52 = .ok (.iconst 1, 1) := dk_4 (dk_at dksX4_works_2 8 rfl rfl)
theorem dX4_works_53 : decode cX4_works 53 = .ok (.goto 4, 3) := dk_167 0 4 (dk_at dksX4_works_2 9 rfl rfl)
theorem dX4_works_56 : decode cX4_works 56 = .ok (.iconst 0, 1) := dk_3 (dk_at dksX4_works_2 12 rfl rfl)
theorem dX4_works_57 : decode cX4_works 57 = .ok (.ireturn, 1) := dk_172 (dk_at dksX4_works_2 13 rfl rfl)
theorem dX4_works_58 : decode cX4_works 58 = .ok (.iload_n 1, 1) := dk_27 (dk_at dksX4_works_2 14 rfl rfl)
theorem dX4_works_59 : decode cX4_works 59 = .ok (.ifCond .ne 7, 3) := dk_154 0 7 (dk_at dksX4_works_2 15 rfl rfl)
theorem dX4_works_62 : decode cX4_works 62 = .ok (.iload_n 2, 1) := dk_28 (dk_at dksX4_works_2 18 rfl rfl)
theorem dX4_works_63 : decode cX4_works 63 = .ok (.ifCond .eq 7, 3) := dk_153 0 7 (dk_at dksX4_works_2 19 rfl rfl)
theorem dX4_works_66 : decode cX4_works 66 = .ok (.iconst 1, 1) := dk_4 (dk_at dksX4_works_2 22 rfl rfl)
theorem dX4_works_67 : decode cX4_works 67 = .ok (.goto 4, 3) := dk_167 0 4 (dk_at dksX4_works_3 0 rfl rfl)
theorem dX4_works_70 : decode cX4_works 70 = .ok (.iconst 0, 1) := dk_3 (dk_at dksX4_works_3 3 rfl rfl)
theorem dX4_works_71 : decode cX4_works 71 = .ok (.ireturn, 1) := dk_172 (dk_at dksX4_works_3 4 rfl rfl)
theorem dX4_works_72 : decode cX4_works 72 = .ok (.iload_n 1, 1) := dk_27 (dk_at dksX4_works_3 5 rfl rfl)
theorem dX4_works_73 : decode cX4_works 73 = .ok (.iload_n 2, 1) := dk_28 (dk_at dksX4_works_3 6 rfl rfl)
theorem dX4_works_74 : decode cX4_works 74 = .ok (.if_icmp .ge 7, 3) := dk_162 0 7 (dk_at dksX4_works_3 7 rfl rfl)
theorem dX4_works_77 : decode cX4_works 77 = .ok (.iconst 1, 1) := dk_4 (dk_at dksX4_works_3 10 rfl rfl)
theorem dX4_works_78 : decode cX4_works 78 = .ok (.goto 4, 3) := dk_167 0 4 (dk_at dksX4_works_3 11 rfl rfl)
theorem dX4_works_81 : decode cX4_works 81 = .ok (.iconst 0, 1) := dk_3 (dk_at dksX4_works_3 14 rfl rfl)
theorem dX4_works_82 : decode cX4_works 82 = .ok (.ireturn, 1) := dk_172 (dk_at dksX4_works_3 15 rfl rfl)
theorem dX4_works_83 : decode cX4_works 83 = .ok (.iload_n 1, 1) := dk_27 (dk_at dksX4_works_3 16 rfl rfl)
theorem dX4_works_84 : decode cX4_works 84 = .ok (.iload_n 2, 1) := dk_28 (dk_at dksX4_works_3 17 rfl rfl)
theorem dX4_works_85 : decode cX4_works 85 = .ok (.if_icmp .ne 7, 3) := dk_160 0 7 (dk_at dksX4_works_3 18 rfl rfl)
theorem dX4_works_88 : decode cX4_works 88 = .ok (.iconst 1, 1) := dk_4 (dk_at dksX4_works_3 21 rfl rfl)
theorem dX4_works_89 : decode cX4_works 89 = .ok (.goto 4, 3) := dk_167 0 4 (dk_at dksX4_works_4 0 rfl rfl)
theorem dX4_works_92 : decode cX4_works 92 = .ok (.iconst 0, 1) := dk_3 (dk_at dksX4_works_4 3 rfl rfl)
theorem dX4_works_93 : decode cX4_works 93 = .ok (.ireturn, 1) := dk_172 (dk_at dksX4_works_4 4 rfl rfl)
theorem dX4_works_94 : decode cX4_works 94 = .ok (.iload_n 1, 1) := dk_27 (dk_at dksX4_works_4 5 rfl rfl)
theorem dX4_works_95 : decode cX4_works 95 = .ok (.iload_n 2, 1) := dk_28 (dk_at dksX4_works_4 6 rfl rfl)
theorem dX4_works_96 : decode cX4_works 96 = .ok (.iadd, 1) := dk_96 (dk_at dksX4_works_4 7 rfl rfl)
theorem dX4_works_97 : decode cX4_works 97 = .ok (.ireturn, 1) := dk_172 (dk_at dksX4_works_4 8 rfl rfl)
theorem dX4_works_98 : decode cX4_works 98 = .ok (.iload_n 1, 1) := dk_27 (dk_at dksX4_works_4 9 rfl rfl)
theorem dX4_works_99 : decode cX4_works 99 = .ok (.iload_n 2, 1) := dk_28 (dk_at dksX4_works_4 10 rfl rfl)
theorem dX4_works_100 : decode cX4_works 100 = .ok (.isub, 1) := dk_100 (dk_at dksX4_works_4 11 rfl rfl)
theorem dX4_works_101 : decode cX4_works 101 = .ok (.ireturn, 1) := dk_172 (dk_at dksX4_works_4 12 rfl rfl)
theorem dX4_works_102 : decode cX4_works 102 = .ok (.iload_n 1, 1) := dk_27 (dk_at dksX4_works_4 13 rfl rfl)
theorem dX4_works_103 : decode cX4_works 103 = .ok (.iload_n 2, 1) := dk_28 (dk_at dksX4_works_4 14 rfl rfl)
theorem dX4_works_104 : decode cX4_works 104 = .ok (.imul, 1) := dk_104 (dk_at dksX4_works_4 15 rfl rfl)
theorem dX4_works_105 : decode cX4_works 105 = .ok (.ireturn, 1) := dk_172 (dk_at dksX4_works_4 16 rfl rfl)
theorem dX4_works_106 : decode cX4_works 106 = .ok (.iload_n 2, 1) := dk_28 (dk_at dksX4_works_4 17 rfl rfl)
theorem dX4_works_107 : decode cX4_works 107 = .ok (.ifCond .ne 7, 3) := dk_154 0 7 (dk_at dksX4_works_4 18 rfl rfl)
theorem dX4_works_110 : decode cX4_works 110 = .ok (.iconst 0, 1) := dk_3 (dk_at dksX4_works_4 21 rfl rfl)
theorem dX4_works_111 : decode cX4_works 111 = .ok (.goto 6, 3) := dk_167 0 6 (dk_at dksX4_works_5 0 rfl rfl)
theorem dX4_works_114 : decode cX4_works 114 = .ok (.iload_n 1, 1) := dk_27 (dk_at dksX4_works_5 3 rfl rfl)
theorem dX4_works_115 : decode cX4_works 115 = .ok (.iload_n 2, 1) := dk_28 (dk_at dksX4_works_5 4 rfl rfl)
theorem dX4_works_116 : decode cX4_works 116 = .ok (.idiv, 1) := dk_108 (dk_at dksX4_works_5 5 rfl rfl)
theorem dX4_works_117 : decode cX4_works 117 = .ok (.ireturn, 1) := dk_172 (dk_at dksX4_works_5 6 rfl rfl)
abbrev cX4_mornings : ByteArray := prog_13_method_77_code
def yX4_mornings : MethodName := ⟨RX4, "mornings", "(I)I"⟩
def dkwX4_mornings_2 : List UInt8 := [180, 0, 93, 16, 30, 27, 182, 1, 190, 42, 180, 0, 93, 3, 46, 172]
abbrev dktX4_mornings_2 : List UInt8 := dkwX4_mornings_2 ++ []
def dkwX4_mornings_1 : List UInt8 := [16, 60, 164, 0, 9, 42, 4, 182, 1, 215, 172, 42, 182, 1, 218, 42, 3, 181, 1, 168, 42, 42]
abbrev dktX4_mornings_1 : List UInt8 := dkwX4_mornings_1 ++ dktX4_mornings_2
def dkwX4_mornings_0 : List UInt8 := [42, 3, 181, 0, 168, 27, 4, 16, 20, 184, 1, 193, 153, 0, 16, 42, 180, 0, 93, 3, 46, 27, 96]
abbrev dktX4_mornings_0 : List UInt8 := dkwX4_mornings_0 ++ dktX4_mornings_1
theorem dksX4_mornings_0 : cX4_mornings.data.toList.drop 0 = dktX4_mornings_0 := by decide +kernel
theorem dksX4_mornings_1 : cX4_mornings.data.toList.drop 23 = dktX4_mornings_1 := dk_seg dksX4_mornings_0 23 rfl rfl
theorem dksX4_mornings_2 : cX4_mornings.data.toList.drop 45 = dktX4_mornings_2 := dk_seg dksX4_mornings_1 22 rfl rfl
theorem dX4_mornings_0 : decode cX4_mornings 0 = .ok (.aload_n 0, 1) := dk_42 (dk_at dksX4_mornings_0 0 rfl rfl)
theorem dX4_mornings_1 : decode cX4_mornings 1 = .ok (.iconst 0, 1) := dk_3 (dk_at dksX4_mornings_0 1 rfl rfl)
theorem dX4_mornings_2 : decode cX4_mornings 2 = .ok (.putfield 168, 3) := dk_181 0 168 (dk_at dksX4_mornings_0 2 rfl rfl)
theorem dX4_mornings_5 : decode cX4_mornings 5 = .ok (.iload_n 1, 1) := dk_27 (dk_at dksX4_mornings_0 5 rfl rfl)
theorem dX4_mornings_6 : decode cX4_mornings 6 = .ok (.iconst 1, 1) := dk_4 (dk_at dksX4_mornings_0 6 rfl rfl)
theorem dX4_mornings_7 : decode cX4_mornings 7 = .ok (.bipush 20, 2) := dk_16 20 (dk_at dksX4_mornings_0 7 rfl rfl)
theorem dX4_mornings_9 : decode cX4_mornings 9 = .ok (.invokestatic 449, 3) := dk_184 1 193 (dk_at dksX4_mornings_0 9 rfl rfl)
theorem dX4_mornings_12 : decode cX4_mornings 12 = .ok (.ifCond .eq 16, 3) := dk_153 0 16 (dk_at dksX4_mornings_0 12 rfl rfl)
theorem dX4_mornings_15 : decode cX4_mornings 15 = .ok (.aload_n 0, 1) := dk_42 (dk_at dksX4_mornings_0 15 rfl rfl)
theorem dX4_mornings_16 : decode cX4_mornings 16 = .ok (.getfield 93, 3) := dk_180 0 93 (dk_at dksX4_mornings_0 16 rfl rfl)
theorem dX4_mornings_19 : decode cX4_mornings 19 = .ok (.iconst 0, 1) := dk_3 (dk_at dksX4_mornings_0 19 rfl rfl)
theorem dX4_mornings_20 : decode cX4_mornings 20 = .ok (.iaload, 1) := dk_46 (dk_at dksX4_mornings_0 20 rfl rfl)
theorem dX4_mornings_21 : decode cX4_mornings 21 = .ok (.iload_n 1, 1) := dk_27 (dk_at dksX4_mornings_0 21 rfl rfl)
theorem dX4_mornings_22 : decode cX4_mornings 22 = .ok (.iadd, 1) := dk_96 (dk_at dksX4_mornings_0 22 rfl rfl)
theorem dX4_mornings_23 : decode cX4_mornings 23 = .ok (.bipush 60, 2) := dk_16 60 (dk_at dksX4_mornings_1 0 rfl rfl)
theorem dX4_mornings_25 : decode cX4_mornings 25 = .ok (.if_icmp .le 9, 3) := dk_164 0 9 (dk_at dksX4_mornings_1 2 rfl rfl)
theorem dX4_mornings_28 : decode cX4_mornings 28 = .ok (.aload_n 0, 1) := dk_42 (dk_at dksX4_mornings_1 5 rfl rfl)
theorem dX4_mornings_29 : decode cX4_mornings 29 = .ok (.iconst 1, 1) := dk_4 (dk_at dksX4_mornings_1 6 rfl rfl)
theorem dX4_mornings_30 : decode cX4_mornings 30 = .ok (.invokevirtual 471, 3) := dk_182 1 215 (dk_at dksX4_mornings_1 7 rfl rfl)
theorem dX4_mornings_33 : decode cX4_mornings 33 = .ok (.ireturn, 1) := dk_172 (dk_at dksX4_mornings_1 10 rfl rfl)
theorem dX4_mornings_34 : decode cX4_mornings 34 = .ok (.aload_n 0, 1) := dk_42 (dk_at dksX4_mornings_1 11 rfl rfl)
theorem dX4_mornings_35 : decode cX4_mornings 35 = .ok (.invokevirtual 474, 3) := dk_182 1 218 (dk_at dksX4_mornings_1 12 rfl rfl)
theorem dX4_mornings_38 : decode cX4_mornings 38 = .ok (.aload_n 0, 1) := dk_42 (dk_at dksX4_mornings_1 15 rfl rfl)
theorem dX4_mornings_39 : decode cX4_mornings 39 = .ok (.iconst 0, 1) := dk_3 (dk_at dksX4_mornings_1 16 rfl rfl)
theorem dX4_mornings_40 : decode cX4_mornings 40 = .ok (.putfield 424, 3) := dk_181 1 168 (dk_at dksX4_mornings_1 17 rfl rfl)
theorem dX4_mornings_43 : decode cX4_mornings 43 = .ok (.aload_n 0, 1) := dk_42 (dk_at dksX4_mornings_1 20 rfl rfl)
theorem dX4_mornings_44 : decode cX4_mornings 44 = .ok (.aload_n 0, 1) := dk_42 (dk_at dksX4_mornings_1 21 rfl rfl)
theorem dX4_mornings_45 : decode cX4_mornings 45 = .ok (.getfield 93, 3) := dk_180 0 93 (dk_at dksX4_mornings_2 0 rfl rfl)
theorem dX4_mornings_48 : decode cX4_mornings 48 = .ok (.bipush 30, 2) := dk_16 30 (dk_at dksX4_mornings_2 3 rfl rfl)
theorem dX4_mornings_50 : decode cX4_mornings 50 = .ok (.iload_n 1, 1) := dk_27 (dk_at dksX4_mornings_2 5 rfl rfl)
theorem dX4_mornings_51 : decode cX4_mornings 51 = .ok (.invokevirtual 446, 3) := dk_182 1 190 (dk_at dksX4_mornings_2 6 rfl rfl)
theorem dX4_mornings_54 : decode cX4_mornings 54 = .ok (.aload_n 0, 1) := dk_42 (dk_at dksX4_mornings_2 9 rfl rfl)
theorem dX4_mornings_55 : decode cX4_mornings 55 = .ok (.getfield 93, 3) := dk_180 0 93 (dk_at dksX4_mornings_2 10 rfl rfl)
theorem dX4_mornings_58 : decode cX4_mornings 58 = .ok (.iconst 0, 1) := dk_3 (dk_at dksX4_mornings_2 13 rfl rfl)
theorem dX4_mornings_59 : decode cX4_mornings 59 = .ok (.iaload, 1) := dk_46 (dk_at dksX4_mornings_2 14 rfl rfl)
theorem dX4_mornings_60 : decode cX4_mornings 60 = .ok (.ireturn, 1) := dk_172 (dk_at dksX4_mornings_2 15 rfl rfl)
abbrev cX4_refuses : ByteArray := prog_13_method_45_code
def yX4_refuses : MethodName := ⟨RX4, "refuses", "(I)I"⟩
def dkwX4_refuses_0 : List UInt8 := [42, 180, 0, 50, 27, 92, 46, 4, 96, 79, 2, 172]
abbrev dktX4_refuses_0 : List UInt8 := dkwX4_refuses_0 ++ []
theorem dksX4_refuses_0 : cX4_refuses.data.toList.drop 0 = dktX4_refuses_0 := by decide +kernel
theorem dX4_refuses_0 : decode cX4_refuses 0 = .ok (.aload_n 0, 1) := dk_42 (dk_at dksX4_refuses_0 0 rfl rfl)
theorem dX4_refuses_1 : decode cX4_refuses 1 = .ok (.getfield 50, 3) := dk_180 0 50 (dk_at dksX4_refuses_0 1 rfl rfl)
theorem dX4_refuses_4 : decode cX4_refuses 4 = .ok (.iload_n 1, 1) := dk_27 (dk_at dksX4_refuses_0 4 rfl rfl)
theorem dX4_refuses_5 : decode cX4_refuses 5 = .ok (.dup2, 1) := dk_92 (dk_at dksX4_refuses_0 5 rfl rfl)
theorem dX4_refuses_6 : decode cX4_refuses 6 = .ok (.iaload, 1) := dk_46 (dk_at dksX4_refuses_0 6 rfl rfl)
theorem dX4_refuses_7 : decode cX4_refuses 7 = .ok (.iconst 1, 1) := dk_4 (dk_at dksX4_refuses_0 7 rfl rfl)
theorem dX4_refuses_8 : decode cX4_refuses 8 = .ok (.iadd, 1) := dk_96 (dk_at dksX4_refuses_0 8 rfl rfl)
theorem dX4_refuses_9 : decode cX4_refuses 9 = .ok (.iastore, 1) := dk_79 (dk_at dksX4_refuses_0 9 rfl rfl)
theorem dX4_refuses_10 : decode cX4_refuses 10 = .ok (.iconst (-1), 1) := dk_2 (dk_at dksX4_refuses_0 10 rfl rfl)
theorem dX4_refuses_11 : decode cX4_refuses 11 = .ok (.ireturn, 1) := dk_172 (dk_at dksX4_refuses_0 11 rfl rfl)
abbrev cX4_keeps : ByteArray := prog_13_method_44_code
def yX4_keeps : MethodName := ⟨RX4, "keeps", "()V"⟩
def dkwX4_keeps_3 : List UInt8 := [42, 180, 0, 93, 27, 46, 79, 132, 1, 1, 167, 255, 227, 42, 89, 180, 1, 113, 4, 96, 181, 1, 113, 177]
abbrev dktX4_keeps_3 : List UInt8 := dkwX4_keeps_3 ++ []
def dkwX4_keeps_2 : List UInt8 := [181, 1, 113, 3, 60, 27, 16, 34, 162, 0, 29, 42, 180, 0, 96, 16, 34, 42, 180, 1, 113, 104, 27, 96]
abbrev dktX4_keeps_2 : List UInt8 := dkwX4_keeps_2 ++ dktX4_keeps_3
def dkwX4_keeps_1 : List UInt8 := [16, 34, 100, 42, 180, 0, 96, 27, 46, 79, 132, 1, 1, 167, 255, 231, 42, 89, 180, 1, 113, 4, 100]
abbrev dktX4_keeps_1 : List UInt8 := dkwX4_keeps_1 ++ dktX4_keeps_2
def dkwX4_keeps_0 : List UInt8 := [42, 180, 1, 113, 16, 40, 160, 0, 44, 16, 34, 60, 27, 17, 5, 80, 162, 0, 24, 42, 180, 0, 96, 27]
abbrev dktX4_keeps_0 : List UInt8 := dkwX4_keeps_0 ++ dktX4_keeps_1
theorem dksX4_keeps_0 : cX4_keeps.data.toList.drop 0 = dktX4_keeps_0 := by decide +kernel
theorem dksX4_keeps_1 : cX4_keeps.data.toList.drop 24 = dktX4_keeps_1 := dk_seg dksX4_keeps_0 24 rfl rfl
theorem dksX4_keeps_2 : cX4_keeps.data.toList.drop 47 = dktX4_keeps_2 := dk_seg dksX4_keeps_1 23 rfl rfl
theorem dksX4_keeps_3 : cX4_keeps.data.toList.drop 71 = dktX4_keeps_3 := dk_seg dksX4_keeps_2 24 rfl rfl
theorem dX4_keeps_0 : decode cX4_keeps 0 = .ok (.aload_n 0, 1) := dk_42 (dk_at dksX4_keeps_0 0 rfl rfl)
theorem dX4_keeps_1 : decode cX4_keeps 1 = .ok (.getfield 369, 3) := dk_180 1 113 (dk_at dksX4_keeps_0 1 rfl rfl)
theorem dX4_keeps_4 : decode cX4_keeps 4 = .ok (.bipush 40, 2) := dk_16 40 (dk_at dksX4_keeps_0 4 rfl rfl)
theorem dX4_keeps_6 : decode cX4_keeps 6 = .ok (.if_icmp .ne 44, 3) := dk_160 0 44 (dk_at dksX4_keeps_0 6 rfl rfl)
theorem dX4_keeps_9 : decode cX4_keeps 9 = .ok (.bipush 34, 2) := dk_16 34 (dk_at dksX4_keeps_0 9 rfl rfl)
theorem dX4_keeps_11 : decode cX4_keeps 11 = .ok (.istore_n 1, 1) := dk_60 (dk_at dksX4_keeps_0 11 rfl rfl)
theorem dX4_keeps_12 : decode cX4_keeps 12 = .ok (.iload_n 1, 1) := dk_27 (dk_at dksX4_keeps_0 12 rfl rfl)
theorem dX4_keeps_13 : decode cX4_keeps 13 = .ok (.sipush 1360, 3) := dk_17 5 80 (dk_at dksX4_keeps_0 13 rfl rfl)
theorem dX4_keeps_16 : decode cX4_keeps 16 = .ok (.if_icmp .ge 24, 3) := dk_162 0 24 (dk_at dksX4_keeps_0 16 rfl rfl)
theorem dX4_keeps_19 : decode cX4_keeps 19 = .ok (.aload_n 0, 1) := dk_42 (dk_at dksX4_keeps_0 19 rfl rfl)
theorem dX4_keeps_20 : decode cX4_keeps 20 = .ok (.getfield 96, 3) := dk_180 0 96 (dk_at dksX4_keeps_0 20 rfl rfl)
theorem dX4_keeps_23 : decode cX4_keeps 23 = .ok (.iload_n 1, 1) := dk_27 (dk_at dksX4_keeps_0 23 rfl rfl)
theorem dX4_keeps_24 : decode cX4_keeps 24 = .ok (.bipush 34, 2) := dk_16 34 (dk_at dksX4_keeps_1 0 rfl rfl)
theorem dX4_keeps_26 : decode cX4_keeps 26 = .ok (.isub, 1) := dk_100 (dk_at dksX4_keeps_1 2 rfl rfl)
theorem dX4_keeps_27 : decode cX4_keeps 27 = .ok (.aload_n 0, 1) := dk_42 (dk_at dksX4_keeps_1 3 rfl rfl)
theorem dX4_keeps_28 : decode cX4_keeps 28 = .ok (.getfield 96, 3) := dk_180 0 96 (dk_at dksX4_keeps_1 4 rfl rfl)
theorem dX4_keeps_31 : decode cX4_keeps 31 = .ok (.iload_n 1, 1) := dk_27 (dk_at dksX4_keeps_1 7 rfl rfl)
theorem dX4_keeps_32 : decode cX4_keeps 32 = .ok (.iaload, 1) := dk_46 (dk_at dksX4_keeps_1 8 rfl rfl)
theorem dX4_keeps_33 : decode cX4_keeps 33 = .ok (.iastore, 1) := dk_79 (dk_at dksX4_keeps_1 9 rfl rfl)
theorem dX4_keeps_34 : decode cX4_keeps 34 = .ok (.iinc 1 1, 3) := dk_132 1 1 (dk_at dksX4_keeps_1 10 rfl rfl)
theorem dX4_keeps_37 : decode cX4_keeps 37 = .ok (.goto (-25), 3) := dk_167 255 231 (dk_at dksX4_keeps_1 13 rfl rfl)
theorem dX4_keeps_40 : decode cX4_keeps 40 = .ok (.aload_n 0, 1) := dk_42 (dk_at dksX4_keeps_1 16 rfl rfl)
theorem dX4_keeps_41 : decode cX4_keeps 41 = .ok (.dup, 1) := dk_89 (dk_at dksX4_keeps_1 17 rfl rfl)
theorem dX4_keeps_42 : decode cX4_keeps 42 = .ok (.getfield 369, 3) := dk_180 1 113 (dk_at dksX4_keeps_1 18 rfl rfl)
theorem dX4_keeps_45 : decode cX4_keeps 45 = .ok (.iconst 1, 1) := dk_4 (dk_at dksX4_keeps_1 21 rfl rfl)
theorem dX4_keeps_46 : decode cX4_keeps 46 = .ok (.isub, 1) := dk_100 (dk_at dksX4_keeps_1 22 rfl rfl)
theorem dX4_keeps_47 : decode cX4_keeps 47 = .ok (.putfield 369, 3) := dk_181 1 113 (dk_at dksX4_keeps_2 0 rfl rfl)
theorem dX4_keeps_50 : decode cX4_keeps 50 = .ok (.iconst 0, 1) := dk_3 (dk_at dksX4_keeps_2 3 rfl rfl)
theorem dX4_keeps_51 : decode cX4_keeps 51 = .ok (.istore_n 1, 1) := dk_60 (dk_at dksX4_keeps_2 4 rfl rfl)
theorem dX4_keeps_52 : decode cX4_keeps 52 = .ok (.iload_n 1, 1) := dk_27 (dk_at dksX4_keeps_2 5 rfl rfl)
theorem dX4_keeps_53 : decode cX4_keeps 53 = .ok (.bipush 34, 2) := dk_16 34 (dk_at dksX4_keeps_2 6 rfl rfl)
theorem dX4_keeps_55 : decode cX4_keeps 55 = .ok (.if_icmp .ge 29, 3) := dk_162 0 29 (dk_at dksX4_keeps_2 8 rfl rfl)
theorem dX4_keeps_58 : decode cX4_keeps 58 = .ok (.aload_n 0, 1) := dk_42 (dk_at dksX4_keeps_2 11 rfl rfl)
theorem dX4_keeps_59 : decode cX4_keeps 59 = .ok (.getfield 96, 3) := dk_180 0 96 (dk_at dksX4_keeps_2 12 rfl rfl)
theorem dX4_keeps_62 : decode cX4_keeps 62 = .ok (.bipush 34, 2) := dk_16 34 (dk_at dksX4_keeps_2 15 rfl rfl)
theorem dX4_keeps_64 : decode cX4_keeps 64 = .ok (.aload_n 0, 1) := dk_42 (dk_at dksX4_keeps_2 17 rfl rfl)
theorem dX4_keeps_65 : decode cX4_keeps 65 = .ok (.getfield 369, 3) := dk_180 1 113 (dk_at dksX4_keeps_2 18 rfl rfl)
theorem dX4_keeps_68 : decode cX4_keeps 68 = .ok (.imul, 1) := dk_104 (dk_at dksX4_keeps_2 21 rfl rfl)
theorem dX4_keeps_69 : decode cX4_keeps 69 = .ok (.iload_n 1, 1) := dk_27 (dk_at dksX4_keeps_2 22 rfl rfl)
theorem dX4_keeps_70 : decode cX4_keeps 70 = .ok (.iadd, 1) := dk_96 (dk_at dksX4_keeps_2 23 rfl rfl)
theorem dX4_keeps_71 : decode cX4_keeps 71 = .ok (.aload_n 0, 1) := dk_42 (dk_at dksX4_keeps_3 0 rfl rfl)
theorem dX4_keeps_72 : decode cX4_keeps 72 = .ok (.getfield 93, 3) := dk_180 0 93 (dk_at dksX4_keeps_3 1 rfl rfl)
theorem dX4_keeps_75 : decode cX4_keeps 75 = .ok (.iload_n 1, 1) := dk_27 (dk_at dksX4_keeps_3 4 rfl rfl)
theorem dX4_keeps_76 : decode cX4_keeps 76 = .ok (.iaload, 1) := dk_46 (dk_at dksX4_keeps_3 5 rfl rfl)
theorem dX4_keeps_77 : decode cX4_keeps 77 = .ok (.iastore, 1) := dk_79 (dk_at dksX4_keeps_3 6 rfl rfl)
theorem dX4_keeps_78 : decode cX4_keeps 78 = .ok (.iinc 1 1, 3) := dk_132 1 1 (dk_at dksX4_keeps_3 7 rfl rfl)
theorem dX4_keeps_81 : decode cX4_keeps 81 = .ok (.goto (-29), 3) := dk_167 255 227 (dk_at dksX4_keeps_3 10 rfl rfl)
theorem dX4_keeps_84 : decode cX4_keeps 84 = .ok (.aload_n 0, 1) := dk_42 (dk_at dksX4_keeps_3 13 rfl rfl)
theorem dX4_keeps_85 : decode cX4_keeps 85 = .ok (.dup, 1) := dk_89 (dk_at dksX4_keeps_3 14 rfl rfl)
theorem dX4_keeps_86 : decode cX4_keeps 86 = .ok (.getfield 369, 3) := dk_180 1 113 (dk_at dksX4_keeps_3 15 rfl rfl)
theorem dX4_keeps_89 : decode cX4_keeps 89 = .ok (.iconst 1, 1) := dk_4 (dk_at dksX4_keeps_3 18 rfl rfl)
theorem dX4_keeps_90 : decode cX4_keeps 90 = .ok (.iadd, 1) := dk_96 (dk_at dksX4_keeps_3 19 rfl rfl)
theorem dX4_keeps_91 : decode cX4_keeps 91 = .ok (.putfield 369, 3) := dk_181 1 113 (dk_at dksX4_keeps_3 20 rfl rfl)
theorem dX4_keeps_94 : decode cX4_keeps 94 = .ok (.return_, 1) := dk_177 (dk_at dksX4_keeps_3 23 rfl rfl)
abbrev cX4_plays : ByteArray := prog_13_method_63_code
def yX4_plays : MethodName := ⟨RX4, "plays", "([III)V"⟩
def dkwX4_plays_3 : List UInt8 := [132, 4, 1, 167, 255, 187, 177]
abbrev dktX4_plays_3 : List UInt8 := dkwX4_plays_3 ++ []
def dkwX4_plays_2 : List UInt8 := [21, 6, 79, 42, 180, 0, 117, 21, 4, 42, 43, 182, 1, 127, 79, 43, 3, 92, 46, 4, 96, 79]
abbrev dktX4_plays_2 : List UInt8 := dkwX4_plays_2 ++ dktX4_plays_3
def dkwX4_plays_1 : List UInt8 := [54, 6, 21, 4, 16, 30, 162, 0, 33, 42, 180, 0, 123, 21, 4, 21, 5, 79, 42, 180, 0, 120, 21, 4]
abbrev dktX4_plays_1 : List UInt8 := dkwX4_plays_1 ++ dktX4_plays_2
def dkwX4_plays_0 : List UInt8 := [28, 54, 4, 21, 4, 28, 29, 96, 162, 0, 67, 42, 43, 182, 1, 178, 54, 5, 42, 43, 182, 1, 181]
abbrev dktX4_plays_0 : List UInt8 := dkwX4_plays_0 ++ dktX4_plays_1
theorem dksX4_plays_0 : cX4_plays.data.toList.drop 0 = dktX4_plays_0 := by decide +kernel
theorem dksX4_plays_1 : cX4_plays.data.toList.drop 23 = dktX4_plays_1 := dk_seg dksX4_plays_0 23 rfl rfl
theorem dksX4_plays_2 : cX4_plays.data.toList.drop 47 = dktX4_plays_2 := dk_seg dksX4_plays_1 24 rfl rfl
theorem dksX4_plays_3 : cX4_plays.data.toList.drop 69 = dktX4_plays_3 := dk_seg dksX4_plays_2 22 rfl rfl
theorem dX4_plays_0 : decode cX4_plays 0 = .ok (.iload_n 2, 1) := dk_28 (dk_at dksX4_plays_0 0 rfl rfl)
theorem dX4_plays_1 : decode cX4_plays 1 = .ok (.istore 4, 2) := dk_54 4 (dk_at dksX4_plays_0 1 rfl rfl)
theorem dX4_plays_3 : decode cX4_plays 3 = .ok (.iload 4, 2) := dk_21 4 (dk_at dksX4_plays_0 3 rfl rfl)
theorem dX4_plays_5 : decode cX4_plays 5 = .ok (.iload_n 2, 1) := dk_28 (dk_at dksX4_plays_0 5 rfl rfl)
theorem dX4_plays_6 : decode cX4_plays 6 = .ok (.iload_n 3, 1) := dk_29 (dk_at dksX4_plays_0 6 rfl rfl)
theorem dX4_plays_7 : decode cX4_plays 7 = .ok (.iadd, 1) := dk_96 (dk_at dksX4_plays_0 7 rfl rfl)
theorem dX4_plays_8 : decode cX4_plays 8 = .ok (.if_icmp .ge 67, 3) := dk_162 0 67 (dk_at dksX4_plays_0 8 rfl rfl)
theorem dX4_plays_11 : decode cX4_plays 11 = .ok (.aload_n 0, 1) := dk_42 (dk_at dksX4_plays_0 11 rfl rfl)
theorem dX4_plays_12 : decode cX4_plays 12 = .ok (.aload_n 1, 1) := dk_43 (dk_at dksX4_plays_0 12 rfl rfl)
theorem dX4_plays_13 : decode cX4_plays 13 = .ok (.invokevirtual 434, 3) := dk_182 1 178 (dk_at dksX4_plays_0 13 rfl rfl)
theorem dX4_plays_16 : decode cX4_plays 16 = .ok (.istore 5, 2) := dk_54 5 (dk_at dksX4_plays_0 16 rfl rfl)
theorem dX4_plays_18 : decode cX4_plays 18 = .ok (.aload_n 0, 1) := dk_42 (dk_at dksX4_plays_0 18 rfl rfl)
theorem dX4_plays_19 : decode cX4_plays 19 = .ok (.aload_n 1, 1) := dk_43 (dk_at dksX4_plays_0 19 rfl rfl)
theorem dX4_plays_20 : decode cX4_plays 20 = .ok (.invokevirtual 437, 3) := dk_182 1 181 (dk_at dksX4_plays_0 20 rfl rfl)
theorem dX4_plays_23 : decode cX4_plays 23 = .ok (.istore 6, 2) := dk_54 6 (dk_at dksX4_plays_1 0 rfl rfl)
theorem dX4_plays_25 : decode cX4_plays 25 = .ok (.iload 4, 2) := dk_21 4 (dk_at dksX4_plays_1 2 rfl rfl)
theorem dX4_plays_27 : decode cX4_plays 27 = .ok (.bipush 30, 2) := dk_16 30 (dk_at dksX4_plays_1 4 rfl rfl)
theorem dX4_plays_29 : decode cX4_plays 29 = .ok (.if_icmp .ge 33, 3) := dk_162 0 33 (dk_at dksX4_plays_1 6 rfl rfl)
theorem dX4_plays_32 : decode cX4_plays 32 = .ok (.aload_n 0, 1) := dk_42 (dk_at dksX4_plays_1 9 rfl rfl)
theorem dX4_plays_33 : decode cX4_plays 33 = .ok (.getfield 123, 3) := dk_180 0 123 (dk_at dksX4_plays_1 10 rfl rfl)
theorem dX4_plays_36 : decode cX4_plays 36 = .ok (.iload 4, 2) := dk_21 4 (dk_at dksX4_plays_1 13 rfl rfl)
theorem dX4_plays_38 : decode cX4_plays 38 = .ok (.iload 5, 2) := dk_21 5 (dk_at dksX4_plays_1 15 rfl rfl)
theorem dX4_plays_40 : decode cX4_plays 40 = .ok (.iastore, 1) := dk_79 (dk_at dksX4_plays_1 17 rfl rfl)
theorem dX4_plays_41 : decode cX4_plays 41 = .ok (.aload_n 0, 1) := dk_42 (dk_at dksX4_plays_1 18 rfl rfl)
theorem dX4_plays_42 : decode cX4_plays 42 = .ok (.getfield 120, 3) := dk_180 0 120 (dk_at dksX4_plays_1 19 rfl rfl)
theorem dX4_plays_45 : decode cX4_plays 45 = .ok (.iload 4, 2) := dk_21 4 (dk_at dksX4_plays_1 22 rfl rfl)
theorem dX4_plays_47 : decode cX4_plays 47 = .ok (.iload 6, 2) := dk_21 6 (dk_at dksX4_plays_2 0 rfl rfl)
theorem dX4_plays_49 : decode cX4_plays 49 = .ok (.iastore, 1) := dk_79 (dk_at dksX4_plays_2 2 rfl rfl)
theorem dX4_plays_50 : decode cX4_plays 50 = .ok (.aload_n 0, 1) := dk_42 (dk_at dksX4_plays_2 3 rfl rfl)
theorem dX4_plays_51 : decode cX4_plays 51 = .ok (.getfield 117, 3) := dk_180 0 117 (dk_at dksX4_plays_2 4 rfl rfl)
theorem dX4_plays_54 : decode cX4_plays 54 = .ok (.iload 4, 2) := dk_21 4 (dk_at dksX4_plays_2 7 rfl rfl)
theorem dX4_plays_56 : decode cX4_plays 56 = .ok (.aload_n 0, 1) := dk_42 (dk_at dksX4_plays_2 9 rfl rfl)
theorem dX4_plays_57 : decode cX4_plays 57 = .ok (.aload_n 1, 1) := dk_43 (dk_at dksX4_plays_2 10 rfl rfl)
theorem dX4_plays_58 : decode cX4_plays 58 = .ok (.invokevirtual 383, 3) := dk_182 1 127 (dk_at dksX4_plays_2 11 rfl rfl)
theorem dX4_plays_61 : decode cX4_plays 61 = .ok (.iastore, 1) := dk_79 (dk_at dksX4_plays_2 14 rfl rfl)
theorem dX4_plays_62 : decode cX4_plays 62 = .ok (.aload_n 1, 1) := dk_43 (dk_at dksX4_plays_2 15 rfl rfl)
theorem dX4_plays_63 : decode cX4_plays 63 = .ok (.iconst 0, 1) := dk_3 (dk_at dksX4_plays_2 16 rfl rfl)
theorem dX4_plays_64 : decode cX4_plays 64 = .ok (.dup2, 1) := dk_92 (dk_at dksX4_plays_2 17 rfl rfl)
theorem dX4_plays_65 : decode cX4_plays 65 = .ok (.iaload, 1) := dk_46 (dk_at dksX4_plays_2 18 rfl rfl)
theorem dX4_plays_66 : decode cX4_plays 66 = .ok (.iconst 1, 1) := dk_4 (dk_at dksX4_plays_2 19 rfl rfl)
theorem dX4_plays_67 : decode cX4_plays 67 = .ok (.iadd, 1) := dk_96 (dk_at dksX4_plays_2 20 rfl rfl)
theorem dX4_plays_68 : decode cX4_plays 68 = .ok (.iastore, 1) := dk_79 (dk_at dksX4_plays_2 21 rfl rfl)
theorem dX4_plays_69 : decode cX4_plays 69 = .ok (.iinc 4 1, 3) := dk_132 4 1 (dk_at dksX4_plays_3 0 rfl rfl)
theorem dX4_plays_72 : decode cX4_plays 72 = .ok (.goto (-69), 3) := dk_167 255 187 (dk_at dksX4_plays_3 3 rfl rfl)
theorem dX4_plays_75 : decode cX4_plays 75 = .ok (.return_, 1) := dk_177 (dk_at dksX4_plays_3 6 rfl rfl)
abbrev cX4_writing : ByteArray := prog_13_method_59_code
def yX4_writing : MethodName := ⟨RX4, "writing", "([I)I"⟩
def dkwX4_writing_3 : List UInt8 := [132, 3, 1, 167, 255, 189, 28, 172]
abbrev dktX4_writing_3 : List UInt8 := dkwX4_writing_3 ++ []
def dkwX4_writing_2 : List UInt8 := [180, 0, 111, 42, 180, 1, 168, 21, 4, 79, 42, 89, 180, 1, 168, 4, 96, 181, 1, 168, 132, 2, 1]
abbrev dktX4_writing_2 : List UInt8 := dkwX4_writing_2 ++ dktX4_writing_3
def dkwX4_writing_1 : List UInt8 := [182, 1, 161, 54, 4, 21, 4, 2, 160, 0, 6, 167, 0, 35, 42, 43, 21, 4, 29, 182, 1, 164, 42]
abbrev dktX4_writing_1 : List UInt8 := dkwX4_writing_1 ++ dktX4_writing_2
def dkwX4_writing_0 : List UInt8 := [3, 61, 3, 62, 29, 42, 180, 1, 91, 162, 0, 65, 43, 6, 46, 4, 160, 0, 58, 42, 43, 29]
abbrev dktX4_writing_0 : List UInt8 := dkwX4_writing_0 ++ dktX4_writing_1
theorem dksX4_writing_0 : cX4_writing.data.toList.drop 0 = dktX4_writing_0 := by decide +kernel
theorem dksX4_writing_1 : cX4_writing.data.toList.drop 22 = dktX4_writing_1 := dk_seg dksX4_writing_0 22 rfl rfl
theorem dksX4_writing_2 : cX4_writing.data.toList.drop 45 = dktX4_writing_2 := dk_seg dksX4_writing_1 23 rfl rfl
theorem dksX4_writing_3 : cX4_writing.data.toList.drop 68 = dktX4_writing_3 := dk_seg dksX4_writing_2 23 rfl rfl
theorem dX4_writing_0 : decode cX4_writing 0 = .ok (.iconst 0, 1) := dk_3 (dk_at dksX4_writing_0 0 rfl rfl)
theorem dX4_writing_1 : decode cX4_writing 1 = .ok (.istore_n 2, 1) := dk_61 (dk_at dksX4_writing_0 1 rfl rfl)
theorem dX4_writing_2 : decode cX4_writing 2 = .ok (.iconst 0, 1) := dk_3 (dk_at dksX4_writing_0 2 rfl rfl)
theorem dX4_writing_3 : decode cX4_writing 3 = .ok (.istore_n 3, 1) := dk_62 (dk_at dksX4_writing_0 3 rfl rfl)
theorem dX4_writing_4 : decode cX4_writing 4 = .ok (.iload_n 3, 1) := dk_29 (dk_at dksX4_writing_0 4 rfl rfl)
theorem dX4_writing_5 : decode cX4_writing 5 = .ok (.aload_n 0, 1) := dk_42 (dk_at dksX4_writing_0 5 rfl rfl)
theorem dX4_writing_6 : decode cX4_writing 6 = .ok (.getfield 347, 3) := dk_180 1 91 (dk_at dksX4_writing_0 6 rfl rfl)
theorem dX4_writing_9 : decode cX4_writing 9 = .ok (.if_icmp .ge 65, 3) := dk_162 0 65 (dk_at dksX4_writing_0 9 rfl rfl)
theorem dX4_writing_12 : decode cX4_writing 12 = .ok (.aload_n 1, 1) := dk_43 (dk_at dksX4_writing_0 12 rfl rfl)
theorem dX4_writing_13 : decode cX4_writing 13 = .ok (.iconst 3, 1) := dk_6 (dk_at dksX4_writing_0 13 rfl rfl)
theorem dX4_writing_14 : decode cX4_writing 14 = .ok (.iaload, 1) := dk_46 (dk_at dksX4_writing_0 14 rfl rfl)
theorem dX4_writing_15 : decode cX4_writing 15 = .ok (.iconst 1, 1) := dk_4 (dk_at dksX4_writing_0 15 rfl rfl)
theorem dX4_writing_16 : decode cX4_writing 16 = .ok (.if_icmp .ne 58, 3) := dk_160 0 58 (dk_at dksX4_writing_0 16 rfl rfl)
theorem dX4_writing_19 : decode cX4_writing 19 = .ok (.aload_n 0, 1) := dk_42 (dk_at dksX4_writing_0 19 rfl rfl)
theorem dX4_writing_20 : decode cX4_writing 20 = .ok (.aload_n 1, 1) := dk_43 (dk_at dksX4_writing_0 20 rfl rfl)
theorem dX4_writing_21 : decode cX4_writing 21 = .ok (.iload_n 3, 1) := dk_29 (dk_at dksX4_writing_0 21 rfl rfl)
theorem dX4_writing_22 : decode cX4_writing 22 = .ok (.invokevirtual 417, 3) := dk_182 1 161 (dk_at dksX4_writing_1 0 rfl rfl)
theorem dX4_writing_25 : decode cX4_writing 25 = .ok (.istore 4, 2) := dk_54 4 (dk_at dksX4_writing_1 3 rfl rfl)
theorem dX4_writing_27 : decode cX4_writing 27 = .ok (.iload 4, 2) := dk_21 4 (dk_at dksX4_writing_1 5 rfl rfl)
theorem dX4_writing_29 : decode cX4_writing 29 = .ok (.iconst (-1), 1) := dk_2 (dk_at dksX4_writing_1 7 rfl rfl)
theorem dX4_writing_30 : decode cX4_writing 30 = .ok (.if_icmp .ne 6, 3) := dk_160 0 6 (dk_at dksX4_writing_1 8 rfl rfl)
theorem dX4_writing_33 : decode cX4_writing 33 = .ok (.goto 35, 3) := dk_167 0 35 (dk_at dksX4_writing_1 11 rfl rfl)
theorem dX4_writing_36 : decode cX4_writing 36 = .ok (.aload_n 0, 1) := dk_42 (dk_at dksX4_writing_1 14 rfl rfl)
theorem dX4_writing_37 : decode cX4_writing 37 = .ok (.aload_n 1, 1) := dk_43 (dk_at dksX4_writing_1 15 rfl rfl)
theorem dX4_writing_38 : decode cX4_writing 38 = .ok (.iload 4, 2) := dk_21 4 (dk_at dksX4_writing_1 16 rfl rfl)
theorem dX4_writing_40 : decode cX4_writing 40 = .ok (.iload_n 3, 1) := dk_29 (dk_at dksX4_writing_1 18 rfl rfl)
theorem dX4_writing_41 : decode cX4_writing 41 = .ok (.invokevirtual 420, 3) := dk_182 1 164 (dk_at dksX4_writing_1 19 rfl rfl)
theorem dX4_writing_44 : decode cX4_writing 44 = .ok (.aload_n 0, 1) := dk_42 (dk_at dksX4_writing_1 22 rfl rfl)
theorem dX4_writing_45 : decode cX4_writing 45 = .ok (.getfield 111, 3) := dk_180 0 111 (dk_at dksX4_writing_2 0 rfl rfl)
theorem dX4_writing_48 : decode cX4_writing 48 = .ok (.aload_n 0, 1) := dk_42 (dk_at dksX4_writing_2 3 rfl rfl)
theorem dX4_writing_49 : decode cX4_writing 49 = .ok (.getfield 424, 3) := dk_180 1 168 (dk_at dksX4_writing_2 4 rfl rfl)
theorem dX4_writing_52 : decode cX4_writing 52 = .ok (.iload 4, 2) := dk_21 4 (dk_at dksX4_writing_2 7 rfl rfl)
theorem dX4_writing_54 : decode cX4_writing 54 = .ok (.iastore, 1) := dk_79 (dk_at dksX4_writing_2 9 rfl rfl)
theorem dX4_writing_55 : decode cX4_writing 55 = .ok (.aload_n 0, 1) := dk_42 (dk_at dksX4_writing_2 10 rfl rfl)
theorem dX4_writing_56 : decode cX4_writing 56 = .ok (.dup, 1) := dk_89 (dk_at dksX4_writing_2 11 rfl rfl)
theorem dX4_writing_57 : decode cX4_writing 57 = .ok (.getfield 424, 3) := dk_180 1 168 (dk_at dksX4_writing_2 12 rfl rfl)
theorem dX4_writing_60 : decode cX4_writing 60 = .ok (.iconst 1, 1) := dk_4 (dk_at dksX4_writing_2 15 rfl rfl)
theorem dX4_writing_61 : decode cX4_writing 61 = .ok (.iadd, 1) := dk_96 (dk_at dksX4_writing_2 16 rfl rfl)
theorem dX4_writing_62 : decode cX4_writing 62 = .ok (.putfield 424, 3) := dk_181 1 168 (dk_at dksX4_writing_2 17 rfl rfl)
theorem dX4_writing_65 : decode cX4_writing 65 = .ok (.iinc 2 1, 3) := dk_132 2 1 (dk_at dksX4_writing_2 20 rfl rfl)
theorem dX4_writing_68 : decode cX4_writing 68 = .ok (.iinc 3 1, 3) := dk_132 3 1 (dk_at dksX4_writing_3 0 rfl rfl)
theorem dX4_writing_71 : decode cX4_writing 71 = .ok (.goto (-67), 3) := dk_167 255 189 (dk_at dksX4_writing_3 3 rfl rfl)
theorem dX4_writing_74 : decode cX4_writing 74 = .ok (.iload_n 2, 1) := dk_28 (dk_at dksX4_writing_3 6 rfl rfl)
theorem dX4_writing_75 : decode cX4_writing 75 = .ok (.ireturn, 1) := dk_172 (dk_at dksX4_writing_3 7 rfl rfl)
abbrev cX4_choice : ByteArray := prog_13_method_58_code
def yX4_choice : MethodName := ⟨RX4, "choice", "([II)I"⟩
def dkwX4_choice_3 : List UInt8 := [167, 255, 195, 29, 172]
abbrev dktX4_choice_3 : List UInt8 := dkwX4_choice_3 ++ []
def dkwX4_choice_2 : List UInt8 := [54, 6, 21, 6, 21, 4, 163, 0, 6, 167, 0, 10, 21, 5, 62, 21, 6, 54, 4, 132, 5, 1]
abbrev dktX4_choice_2 : List UInt8 := dkwX4_choice_2 ++ dktX4_choice_3
def dkwX4_choice_1 : List UInt8 := [159, 0, 43, 43, 7, 21, 5, 96, 46, 2, 159, 0, 6, 167, 0, 30, 42, 43, 28, 21, 5, 182, 1, 157]
abbrev dktX4_choice_1 : List UInt8 := dkwX4_choice_1 ++ dktX4_choice_2
def dkwX4_choice_0 : List UInt8 := [2, 62, 3, 54, 4, 3, 54, 5, 21, 5, 42, 180, 1, 100, 162, 0, 58, 21, 5, 42, 180, 0, 108]
abbrev dktX4_choice_0 : List UInt8 := dkwX4_choice_0 ++ dktX4_choice_1
theorem dksX4_choice_0 : cX4_choice.data.toList.drop 0 = dktX4_choice_0 := by decide +kernel
theorem dksX4_choice_1 : cX4_choice.data.toList.drop 23 = dktX4_choice_1 := dk_seg dksX4_choice_0 23 rfl rfl
theorem dksX4_choice_2 : cX4_choice.data.toList.drop 47 = dktX4_choice_2 := dk_seg dksX4_choice_1 24 rfl rfl
theorem dksX4_choice_3 : cX4_choice.data.toList.drop 69 = dktX4_choice_3 := dk_seg dksX4_choice_2 22 rfl rfl
theorem dX4_choice_0 : decode cX4_choice 0 = .ok (.iconst (-1), 1) := dk_2 (dk_at dksX4_choice_0 0 rfl rfl)
theorem dX4_choice_1 : decode cX4_choice 1 = .ok (.istore_n 3, 1) := dk_62 (dk_at dksX4_choice_0 1 rfl rfl)
theorem dX4_choice_2 : decode cX4_choice 2 = .ok (.iconst 0, 1) := dk_3 (dk_at dksX4_choice_0 2 rfl rfl)
theorem dX4_choice_3 : decode cX4_choice 3 = .ok (.istore 4, 2) := dk_54 4 (dk_at dksX4_choice_0 3 rfl rfl)
theorem dX4_choice_5 : decode cX4_choice 5 = .ok (.iconst 0, 1) := dk_3 (dk_at dksX4_choice_0 5 rfl rfl)
theorem dX4_choice_6 : decode cX4_choice 6 = .ok (.istore 5, 2) := dk_54 5 (dk_at dksX4_choice_0 6 rfl rfl)
theorem dX4_choice_8 : decode cX4_choice 8 = .ok (.iload 5, 2) := dk_21 5 (dk_at dksX4_choice_0 8 rfl rfl)
theorem dX4_choice_10 : decode cX4_choice 10 = .ok (.aload_n 0, 1) := dk_42 (dk_at dksX4_choice_0 10 rfl rfl)
theorem dX4_choice_11 : decode cX4_choice 11 = .ok (.getfield 356, 3) := dk_180 1 100 (dk_at dksX4_choice_0 11 rfl rfl)
theorem dX4_choice_14 : decode cX4_choice 14 = .ok (.if_icmp .ge 58, 3) := dk_162 0 58 (dk_at dksX4_choice_0 14 rfl rfl)
theorem dX4_choice_17 : decode cX4_choice 17 = .ok (.iload 5, 2) := dk_21 5 (dk_at dksX4_choice_0 17 rfl rfl)
theorem dX4_choice_19 : decode cX4_choice 19 = .ok (.aload_n 0, 1) := dk_42 (dk_at dksX4_choice_0 19 rfl rfl)
theorem dX4_choice_20 : decode cX4_choice 20 = .ok (.getfield 108, 3) := dk_180 0 108 (dk_at dksX4_choice_0 20 rfl rfl)
theorem dX4_choice_23 : decode cX4_choice 23 = .ok (.if_icmp .eq 43, 3) := dk_159 0 43 (dk_at dksX4_choice_1 0 rfl rfl)
theorem dX4_choice_26 : decode cX4_choice 26 = .ok (.aload_n 1, 1) := dk_43 (dk_at dksX4_choice_1 3 rfl rfl)
theorem dX4_choice_27 : decode cX4_choice 27 = .ok (.iconst 4, 1) := dk_7 (dk_at dksX4_choice_1 4 rfl rfl)
theorem dX4_choice_28 : decode cX4_choice 28 = .ok (.iload 5, 2) := dk_21 5 (dk_at dksX4_choice_1 5 rfl rfl)
theorem dX4_choice_30 : decode cX4_choice 30 = .ok (.iadd, 1) := dk_96 (dk_at dksX4_choice_1 7 rfl rfl)
theorem dX4_choice_31 : decode cX4_choice 31 = .ok (.iaload, 1) := dk_46 (dk_at dksX4_choice_1 8 rfl rfl)
theorem dX4_choice_32 : decode cX4_choice 32 = .ok (.iconst (-1), 1) := dk_2 (dk_at dksX4_choice_1 9 rfl rfl)
theorem dX4_choice_33 : decode cX4_choice 33 = .ok (.if_icmp .eq 6, 3) := dk_159 0 6 (dk_at dksX4_choice_1 10 rfl rfl)
theorem dX4_choice_36 : decode cX4_choice 36 = .ok (.goto 30, 3) := dk_167 0 30 (dk_at dksX4_choice_1 13 rfl rfl)
theorem dX4_choice_39 : decode cX4_choice 39 = .ok (.aload_n 0, 1) := dk_42 (dk_at dksX4_choice_1 16 rfl rfl)
theorem dX4_choice_40 : decode cX4_choice 40 = .ok (.aload_n 1, 1) := dk_43 (dk_at dksX4_choice_1 17 rfl rfl)
theorem dX4_choice_41 : decode cX4_choice 41 = .ok (.iload_n 2, 1) := dk_28 (dk_at dksX4_choice_1 18 rfl rfl)
theorem dX4_choice_42 : decode cX4_choice 42 = .ok (.iload 5, 2) := dk_21 5 (dk_at dksX4_choice_1 19 rfl rfl)
theorem dX4_choice_44 : decode cX4_choice 44 = .ok (.invokevirtual 413, 3) := dk_182 1 157 (dk_at dksX4_choice_1 21 rfl rfl)
theorem dX4_choice_47 : decode cX4_choice 47 = .ok (.istore 6, 2) := dk_54 6 (dk_at dksX4_choice_2 0 rfl rfl)
theorem dX4_choice_49 : decode cX4_choice 49 = .ok (.iload 6, 2) := dk_21 6 (dk_at dksX4_choice_2 2 rfl rfl)
theorem dX4_choice_51 : decode cX4_choice 51 = .ok (.iload 4, 2) := dk_21 4 (dk_at dksX4_choice_2 4 rfl rfl)
theorem dX4_choice_53 : decode cX4_choice 53 = .ok (.if_icmp .gt 6, 3) := dk_163 0 6 (dk_at dksX4_choice_2 6 rfl rfl)
theorem dX4_choice_56 : decode cX4_choice 56 = .ok (.goto 10, 3) := dk_167 0 10 (dk_at dksX4_choice_2 9 rfl rfl)
theorem dX4_choice_59 : decode cX4_choice 59 = .ok (.iload 5, 2) := dk_21 5 (dk_at dksX4_choice_2 12 rfl rfl)
theorem dX4_choice_61 : decode cX4_choice 61 = .ok (.istore_n 3, 1) := dk_62 (dk_at dksX4_choice_2 14 rfl rfl)
theorem dX4_choice_62 : decode cX4_choice 62 = .ok (.iload 6, 2) := dk_21 6 (dk_at dksX4_choice_2 15 rfl rfl)
theorem dX4_choice_64 : decode cX4_choice 64 = .ok (.istore 4, 2) := dk_54 4 (dk_at dksX4_choice_2 17 rfl rfl)
theorem dX4_choice_66 : decode cX4_choice 66 = .ok (.iinc 5 1, 3) := dk_132 5 1 (dk_at dksX4_choice_2 19 rfl rfl)
theorem dX4_choice_69 : decode cX4_choice 69 = .ok (.goto (-61), 3) := dk_167 255 195 (dk_at dksX4_choice_3 0 rfl rfl)
theorem dX4_choice_72 : decode cX4_choice 72 = .ok (.iload_n 3, 1) := dk_29 (dk_at dksX4_choice_3 3 rfl rfl)
theorem dX4_choice_73 : decode cX4_choice 73 = .ok (.ireturn, 1) := dk_172 (dk_at dksX4_choice_3 4 rfl rfl)
abbrev cX4_writes0 : ByteArray := prog_13_method_54_code
def yX4_writes0 : MethodName := ⟨RX4, "writes0", "([III)V"⟩
def dkwX4_writes0_0 : List UInt8 := [43, 7, 28, 96, 43, 3, 46, 79, 43, 16, 13, 28, 96, 29, 79, 177]
abbrev dktX4_writes0_0 : List UInt8 := dkwX4_writes0_0 ++ []
theorem dksX4_writes0_0 : cX4_writes0.data.toList.drop 0 = dktX4_writes0_0 := by decide +kernel
theorem dX4_writes0_0 : decode cX4_writes0 0 = .ok (.aload_n 1, 1) := dk_43 (dk_at dksX4_writes0_0 0 rfl rfl)
theorem dX4_writes0_1 : decode cX4_writes0 1 = .ok (.iconst 4, 1) := dk_7 (dk_at dksX4_writes0_0 1 rfl rfl)
theorem dX4_writes0_2 : decode cX4_writes0 2 = .ok (.iload_n 2, 1) := dk_28 (dk_at dksX4_writes0_0 2 rfl rfl)
theorem dX4_writes0_3 : decode cX4_writes0 3 = .ok (.iadd, 1) := dk_96 (dk_at dksX4_writes0_0 3 rfl rfl)
theorem dX4_writes0_4 : decode cX4_writes0 4 = .ok (.aload_n 1, 1) := dk_43 (dk_at dksX4_writes0_0 4 rfl rfl)
theorem dX4_writes0_5 : decode cX4_writes0 5 = .ok (.iconst 0, 1) := dk_3 (dk_at dksX4_writes0_0 5 rfl rfl)
theorem dX4_writes0_6 : decode cX4_writes0 6 = .ok (.iaload, 1) := dk_46 (dk_at dksX4_writes0_0 6 rfl rfl)
theorem dX4_writes0_7 : decode cX4_writes0 7 = .ok (.iastore, 1) := dk_79 (dk_at dksX4_writes0_0 7 rfl rfl)
theorem dX4_writes0_8 : decode cX4_writes0 8 = .ok (.aload_n 1, 1) := dk_43 (dk_at dksX4_writes0_0 8 rfl rfl)
theorem dX4_writes0_9 : decode cX4_writes0 9 = .ok (.bipush 13, 2) := dk_16 13 (dk_at dksX4_writes0_0 9 rfl rfl)
theorem dX4_writes0_11 : decode cX4_writes0 11 = .ok (.iload_n 2, 1) := dk_28 (dk_at dksX4_writes0_0 11 rfl rfl)
theorem dX4_writes0_12 : decode cX4_writes0 12 = .ok (.iadd, 1) := dk_96 (dk_at dksX4_writes0_0 12 rfl rfl)
theorem dX4_writes0_13 : decode cX4_writes0 13 = .ok (.iload_n 3, 1) := dk_29 (dk_at dksX4_writes0_0 13 rfl rfl)
theorem dX4_writes0_14 : decode cX4_writes0 14 = .ok (.iastore, 1) := dk_79 (dk_at dksX4_writes0_0 14 rfl rfl)
theorem dX4_writes0_15 : decode cX4_writes0 15 = .ok (.return_, 1) := dk_177 (dk_at dksX4_writes0_0 15 rfl rfl)
abbrev cX4_finding : ByteArray := prog_13_method_60_code
def yX4_finding : MethodName := ⟨RX4, "finding", "([I)I"⟩
def dkwX4_finding_2 : List UInt8 := [28, 172]
abbrev dktX4_finding_2 : List UInt8 := dkwX4_finding_2 ++ []
def dkwX4_finding_1 : List UInt8 := [42, 43, 29, 182, 1, 174, 42, 180, 0, 114, 29, 43, 3, 46, 79, 132, 2, 1, 132, 3, 1, 167, 255, 215]
abbrev dktX4_finding_1 : List UInt8 := dkwX4_finding_1 ++ dktX4_finding_2
def dkwX4_finding_0 : List UInt8 := [3, 61, 3, 62, 29, 42, 180, 1, 100, 162, 0, 39, 42, 43, 29, 182, 1, 171, 154, 0, 6, 167, 0, 21]
abbrev dktX4_finding_0 : List UInt8 := dkwX4_finding_0 ++ dktX4_finding_1
theorem dksX4_finding_0 : cX4_finding.data.toList.drop 0 = dktX4_finding_0 := by decide +kernel
theorem dksX4_finding_1 : cX4_finding.data.toList.drop 24 = dktX4_finding_1 := dk_seg dksX4_finding_0 24 rfl rfl
theorem dksX4_finding_2 : cX4_finding.data.toList.drop 48 = dktX4_finding_2 := dk_seg dksX4_finding_1 24 rfl rfl
theorem dX4_finding_0 : decode cX4_finding 0 = .ok (.iconst 0, 1) := dk_3 (dk_at dksX4_finding_0 0 rfl rfl)
theorem dX4_finding_1 : decode cX4_finding 1 = .ok (.istore_n 2, 1) := dk_61 (dk_at dksX4_finding_0 1 rfl rfl)
theorem dX4_finding_2 : decode cX4_finding 2 = .ok (.iconst 0, 1) := dk_3 (dk_at dksX4_finding_0 2 rfl rfl)
theorem dX4_finding_3 : decode cX4_finding 3 = .ok (.istore_n 3, 1) := dk_62 (dk_at dksX4_finding_0 3 rfl rfl)
theorem dX4_finding_4 : decode cX4_finding 4 = .ok (.iload_n 3, 1) := dk_29 (dk_at dksX4_finding_0 4 rfl rfl)
theorem dX4_finding_5 : decode cX4_finding 5 = .ok (.aload_n 0, 1) := dk_42 (dk_at dksX4_finding_0 5 rfl rfl)
theorem dX4_finding_6 : decode cX4_finding 6 = .ok (.getfield 356, 3) := dk_180 1 100 (dk_at dksX4_finding_0 6 rfl rfl)
theorem dX4_finding_9 : decode cX4_finding 9 = .ok (.if_icmp .ge 39, 3) := dk_162 0 39 (dk_at dksX4_finding_0 9 rfl rfl)
theorem dX4_finding_12 : decode cX4_finding 12 = .ok (.aload_n 0, 1) := dk_42 (dk_at dksX4_finding_0 12 rfl rfl)
theorem dX4_finding_13 : decode cX4_finding 13 = .ok (.aload_n 1, 1) := dk_43 (dk_at dksX4_finding_0 13 rfl rfl)
theorem dX4_finding_14 : decode cX4_finding 14 = .ok (.iload_n 3, 1) := dk_29 (dk_at dksX4_finding_0 14 rfl rfl)
theorem dX4_finding_15 : decode cX4_finding 15 = .ok (.invokevirtual 427, 3) := dk_182 1 171 (dk_at dksX4_finding_0 15 rfl rfl)
theorem dX4_finding_18 : decode cX4_finding 18 = .ok (.ifCond .ne 6, 3) := dk_154 0 6 (dk_at dksX4_finding_0 18 rfl rfl)
theorem dX4_finding_21 : decode cX4_finding 21 = .ok (.goto 21, 3) := dk_167 0 21 (dk_at dksX4_finding_0 21 rfl rfl)
theorem dX4_finding_24 : decode cX4_finding 24 = .ok (.aload_n 0, 1) := dk_42 (dk_at dksX4_finding_1 0 rfl rfl)
theorem dX4_finding_25 : decode cX4_finding 25 = .ok (.aload_n 1, 1) := dk_43 (dk_at dksX4_finding_1 1 rfl rfl)
theorem dX4_finding_26 : decode cX4_finding 26 = .ok (.iload_n 3, 1) := dk_29 (dk_at dksX4_finding_1 2 rfl rfl)
theorem dX4_finding_27 : decode cX4_finding 27 = .ok (.invokevirtual 430, 3) := dk_182 1 174 (dk_at dksX4_finding_1 3 rfl rfl)
theorem dX4_finding_30 : decode cX4_finding 30 = .ok (.aload_n 0, 1) := dk_42 (dk_at dksX4_finding_1 6 rfl rfl)
theorem dX4_finding_31 : decode cX4_finding 31 = .ok (.getfield 114, 3) := dk_180 0 114 (dk_at dksX4_finding_1 7 rfl rfl)
theorem dX4_finding_34 : decode cX4_finding 34 = .ok (.iload_n 3, 1) := dk_29 (dk_at dksX4_finding_1 10 rfl rfl)
theorem dX4_finding_35 : decode cX4_finding 35 = .ok (.aload_n 1, 1) := dk_43 (dk_at dksX4_finding_1 11 rfl rfl)
theorem dX4_finding_36 : decode cX4_finding 36 = .ok (.iconst 0, 1) := dk_3 (dk_at dksX4_finding_1 12 rfl rfl)
theorem dX4_finding_37 : decode cX4_finding 37 = .ok (.iaload, 1) := dk_46 (dk_at dksX4_finding_1 13 rfl rfl)
theorem dX4_finding_38 : decode cX4_finding 38 = .ok (.iastore, 1) := dk_79 (dk_at dksX4_finding_1 14 rfl rfl)
theorem dX4_finding_39 : decode cX4_finding 39 = .ok (.iinc 2 1, 3) := dk_132 2 1 (dk_at dksX4_finding_1 15 rfl rfl)
theorem dX4_finding_42 : decode cX4_finding 42 = .ok (.iinc 3 1, 3) := dk_132 3 1 (dk_at dksX4_finding_1 18 rfl rfl)
theorem dX4_finding_45 : decode cX4_finding 45 = .ok (.goto (-41), 3) := dk_167 255 215 (dk_at dksX4_finding_1 21 rfl rfl)
theorem dX4_finding_48 : decode cX4_finding 48 = .ok (.iload_n 2, 1) := dk_28 (dk_at dksX4_finding_2 0 rfl rfl)
theorem dX4_finding_49 : decode cX4_finding 49 = .ok (.ireturn, 1) := dk_172 (dk_at dksX4_finding_2 1 rfl rfl)
abbrev cX4_isFound : ByteArray := prog_13_method_57_code
def yX4_isFound : MethodName := ⟨RX4, "isFound", "([II)Z"⟩
def dkwX4_isFound_2 : List UInt8 := [16, 10, 161, 0, 7, 4, 167, 0, 4, 3, 172]
abbrev dktX4_isFound_2 : List UInt8 := dkwX4_isFound_2 ++ []
def dkwX4_isFound_1 : List UInt8 := [154, 0, 33, 42, 180, 0, 13, 43, 16, 22, 28, 96, 46, 46, 43, 3, 46, 96, 43, 7, 28, 96, 46, 100]
abbrev dktX4_isFound_1 : List UInt8 := dkwX4_isFound_1 ++ dktX4_isFound_2
def dkwX4_isFound_0 : List UInt8 := [43, 7, 28, 96, 46, 2, 159, 0, 50, 43, 28, 184, 1, 150, 154, 0, 42, 42, 43, 28, 182, 1, 154]
abbrev dktX4_isFound_0 : List UInt8 := dkwX4_isFound_0 ++ dktX4_isFound_1
theorem dksX4_isFound_0 : cX4_isFound.data.toList.drop 0 = dktX4_isFound_0 := by decide +kernel
theorem dksX4_isFound_1 : cX4_isFound.data.toList.drop 23 = dktX4_isFound_1 := dk_seg dksX4_isFound_0 23 rfl rfl
theorem dksX4_isFound_2 : cX4_isFound.data.toList.drop 47 = dktX4_isFound_2 := dk_seg dksX4_isFound_1 24 rfl rfl
theorem dX4_isFound_0 : decode cX4_isFound 0 = .ok (.aload_n 1, 1) := dk_43 (dk_at dksX4_isFound_0 0 rfl rfl)
theorem dX4_isFound_1 : decode cX4_isFound 1 = .ok (.iconst 4, 1) := dk_7 (dk_at dksX4_isFound_0 1 rfl rfl)
theorem dX4_isFound_2 : decode cX4_isFound 2 = .ok (.iload_n 2, 1) := dk_28 (dk_at dksX4_isFound_0 2 rfl rfl)
theorem dX4_isFound_3 : decode cX4_isFound 3 = .ok (.iadd, 1) := dk_96 (dk_at dksX4_isFound_0 3 rfl rfl)
theorem dX4_isFound_4 : decode cX4_isFound 4 = .ok (.iaload, 1) := dk_46 (dk_at dksX4_isFound_0 4 rfl rfl)
theorem dX4_isFound_5 : decode cX4_isFound 5 = .ok (.iconst (-1), 1) := dk_2 (dk_at dksX4_isFound_0 5 rfl rfl)
theorem dX4_isFound_6 : decode cX4_isFound 6 = .ok (.if_icmp .eq 50, 3) := dk_159 0 50 (dk_at dksX4_isFound_0 6 rfl rfl)
theorem dX4_isFound_9 : decode cX4_isFound 9 = .ok (.aload_n 1, 1) := dk_43 (dk_at dksX4_isFound_0 9 rfl rfl)
theorem dX4_isFound_10 : decode cX4_isFound 10 = .ok (.iload_n 2, 1) := dk_28 (dk_at dksX4_isFound_0 10 rfl rfl)
theorem dX4_isFound_11 : decode cX4_isFound 11 = .ok (.invokestatic 406, 3) := dk_184 1 150 (dk_at dksX4_isFound_0 11 rfl rfl)
theorem dX4_isFound_14 : decode cX4_isFound 14 = .ok (.ifCond .ne 42, 3) := dk_154 0 42 (dk_at dksX4_isFound_0 14 rfl rfl)
theorem dX4_isFound_17 : decode cX4_isFound 17 = .ok (.aload_n 0, 1) := dk_42 (dk_at dksX4_isFound_0 17 rfl rfl)
theorem dX4_isFound_18 : decode cX4_isFound 18 = .ok (.aload_n 1, 1) := dk_43 (dk_at dksX4_isFound_0 18 rfl rfl)
theorem dX4_isFound_19 : decode cX4_isFound 19 = .ok (.iload_n 2, 1) := dk_28 (dk_at dksX4_isFound_0 19 rfl rfl)
theorem dX4_isFound_20 : decode cX4_isFound 20 = .ok (.invokevirtual 410, 3) := dk_182 1 154 (dk_at dksX4_isFound_0 20 rfl rfl)
theorem dX4_isFound_23 : decode cX4_isFound 23 = .ok (.ifCond .ne 33, 3) := dk_154 0 33 (dk_at dksX4_isFound_1 0 rfl rfl)
theorem dX4_isFound_26 : decode cX4_isFound 26 = .ok (.aload_n 0, 1) := dk_42 (dk_at dksX4_isFound_1 3 rfl rfl)
theorem dX4_isFound_27 : decode cX4_isFound 27 = .ok (.getfield 13, 3) := dk_180 0 13 (dk_at dksX4_isFound_1 4 rfl rfl)
theorem dX4_isFound_30 : decode cX4_isFound 30 = .ok (.aload_n 1, 1) := dk_43 (dk_at dksX4_isFound_1 7 rfl rfl)
theorem dX4_isFound_31 : decode cX4_isFound 31 = .ok (.bipush 22, 2) := dk_16 22 (dk_at dksX4_isFound_1 8 rfl rfl)
theorem dX4_isFound_33 : decode cX4_isFound 33 = .ok (.iload_n 2, 1) := dk_28 (dk_at dksX4_isFound_1 10 rfl rfl)
theorem dX4_isFound_34 : decode cX4_isFound 34 = .ok (.iadd, 1) := dk_96 (dk_at dksX4_isFound_1 11 rfl rfl)
theorem dX4_isFound_35 : decode cX4_isFound 35 = .ok (.iaload, 1) := dk_46 (dk_at dksX4_isFound_1 12 rfl rfl)
theorem dX4_isFound_36 : decode cX4_isFound 36 = .ok (.iaload, 1) := dk_46 (dk_at dksX4_isFound_1 13 rfl rfl)
theorem dX4_isFound_37 : decode cX4_isFound 37 = .ok (.aload_n 1, 1) := dk_43 (dk_at dksX4_isFound_1 14 rfl rfl)
theorem dX4_isFound_38 : decode cX4_isFound 38 = .ok (.iconst 0, 1) := dk_3 (dk_at dksX4_isFound_1 15 rfl rfl)
theorem dX4_isFound_39 : decode cX4_isFound 39 = .ok (.iaload, 1) := dk_46 (dk_at dksX4_isFound_1 16 rfl rfl)
theorem dX4_isFound_40 : decode cX4_isFound 40 = .ok (.iadd, 1) := dk_96 (dk_at dksX4_isFound_1 17 rfl rfl)
theorem dX4_isFound_41 : decode cX4_isFound 41 = .ok (.aload_n 1, 1) := dk_43 (dk_at dksX4_isFound_1 18 rfl rfl)
theorem dX4_isFound_42 : decode cX4_isFound 42 = .ok (.iconst 4, 1) := dk_7 (dk_at dksX4_isFound_1 19 rfl rfl)
theorem dX4_isFound_43 : decode cX4_isFound 43 = .ok (.iload_n 2, 1) := dk_28 (dk_at dksX4_isFound_1 20 rfl rfl)
theorem dX4_isFound_44 : decode cX4_isFound 44 = .ok (.iadd, 1) := dk_96 (dk_at dksX4_isFound_1 21 rfl rfl)
theorem dX4_isFound_45 : decode cX4_isFound 45 = .ok (.iaload, 1) := dk_46 (dk_at dksX4_isFound_1 22 rfl rfl)
theorem dX4_isFound_46 : decode cX4_isFound 46 = .ok (.isub, 1) := dk_100 (dk_at dksX4_isFound_1 23 rfl rfl)
theorem dX4_isFound_47 : decode cX4_isFound 47 = .ok (.bipush 10, 2) := dk_16 10 (dk_at dksX4_isFound_2 0 rfl rfl)
theorem dX4_isFound_49 : decode cX4_isFound 49 = .ok (.if_icmp .lt 7, 3) := dk_161 0 7 (dk_at dksX4_isFound_2 2 rfl rfl)
theorem dX4_isFound_52 : decode cX4_isFound 52 = .ok (.iconst 1, 1) := dk_4 (dk_at dksX4_isFound_2 5 rfl rfl)
theorem dX4_isFound_53 : decode cX4_isFound 53 = .ok (.goto 4, 3) := dk_167 0 4 (dk_at dksX4_isFound_2 6 rfl rfl)
theorem dX4_isFound_56 : decode cX4_isFound 56 = .ok (.iconst 0, 1) := dk_3 (dk_at dksX4_isFound_2 9 rfl rfl)
theorem dX4_isFound_57 : decode cX4_isFound 57 = .ok (.ireturn, 1) := dk_172 (dk_at dksX4_isFound_2 10 rfl rfl)
abbrev cX4_isDead : ByteArray := prog_13_method_50_code
def yX4_isDead : MethodName := ⟨RX4, "isDead", "([II)Z"⟩
def dkwX4_isDead_0 : List UInt8 := [42, 4, 46, 27, 122, 4, 126, 4, 160, 0, 7, 4, 167, 0, 4, 3, 172]
abbrev dktX4_isDead_0 : List UInt8 := dkwX4_isDead_0 ++ []
theorem dksX4_isDead_0 : cX4_isDead.data.toList.drop 0 = dktX4_isDead_0 := by decide +kernel
theorem dX4_isDead_0 : decode cX4_isDead 0 = .ok (.aload_n 0, 1) := dk_42 (dk_at dksX4_isDead_0 0 rfl rfl)
theorem dX4_isDead_1 : decode cX4_isDead 1 = .ok (.iconst 1, 1) := dk_4 (dk_at dksX4_isDead_0 1 rfl rfl)
theorem dX4_isDead_2 : decode cX4_isDead 2 = .ok (.iaload, 1) := dk_46 (dk_at dksX4_isDead_0 2 rfl rfl)
theorem dX4_isDead_3 : decode cX4_isDead 3 = .ok (.iload_n 1, 1) := dk_27 (dk_at dksX4_isDead_0 3 rfl rfl)
theorem dX4_isDead_4 : decode cX4_isDead 4 = .ok (.ishr, 1) := dk_122 (dk_at dksX4_isDead_0 4 rfl rfl)
theorem dX4_isDead_5 : decode cX4_isDead 5 = .ok (.iconst 1, 1) := dk_4 (dk_at dksX4_isDead_0 5 rfl rfl)
theorem dX4_isDead_6 : decode cX4_isDead 6 = .ok (.iand, 1) := dk_126 (dk_at dksX4_isDead_0 6 rfl rfl)
theorem dX4_isDead_7 : decode cX4_isDead 7 = .ok (.iconst 1, 1) := dk_4 (dk_at dksX4_isDead_0 7 rfl rfl)
theorem dX4_isDead_8 : decode cX4_isDead 8 = .ok (.if_icmp .ne 7, 3) := dk_160 0 7 (dk_at dksX4_isDead_0 8 rfl rfl)
theorem dX4_isDead_11 : decode cX4_isDead 11 = .ok (.iconst 1, 1) := dk_4 (dk_at dksX4_isDead_0 11 rfl rfl)
theorem dX4_isDead_12 : decode cX4_isDead 12 = .ok (.goto 4, 3) := dk_167 0 4 (dk_at dksX4_isDead_0 12 rfl rfl)
theorem dX4_isDead_15 : decode cX4_isDead 15 = .ok (.iconst 0, 1) := dk_3 (dk_at dksX4_isDead_0 15 rfl rfl)
theorem dX4_isDead_16 : decode cX4_isDead 16 = .ok (.ireturn, 1) := dk_172 (dk_at dksX4_isDead_0 16 rfl rfl)
abbrev cX4_dies : ByteArray := prog_13_method_56_code
def yX4_dies : MethodName := ⟨RX4, "dies", "([II)V"⟩
def dkwX4_dies_4 : List UInt8 := [46, 29, 100, 79, 177]
abbrev dktX4_dies_4 : List UInt8 := dkwX4_dies_4 ++ []
def dkwX4_dies_3 : List UInt8 := [21, 4, 96, 43, 16, 31, 21, 4, 96, 46, 29, 162, 0, 7, 3, 167, 0, 12, 43, 16, 31, 21, 4, 96]
abbrev dktX4_dies_3 : List UInt8 := dkwX4_dies_3 ++ dktX4_dies_4
def dkwX4_dies_2 : List UInt8 := [181, 1, 147, 21, 4, 156, 0, 4, 177, 42, 180, 0, 105, 21, 4, 92, 46, 29, 96, 79, 43, 16, 31]
abbrev dktX4_dies_2 : List UInt8 := dkwX4_dies_2 ++ dktX4_dies_3
def dkwX4_dies_1 : List UInt8 := [79, 43, 5, 92, 46, 4, 96, 79, 42, 89, 180, 1, 147, 29, 154, 0, 7, 4, 167, 0, 4, 3, 96]
abbrev dktX4_dies_1 : List UInt8 := dkwX4_dies_1 ++ dktX4_dies_2
def dkwX4_dies_0 : List UInt8 := [42, 43, 28, 182, 1, 143, 62, 43, 16, 13, 28, 96, 46, 54, 4, 43, 4, 43, 4, 46, 4, 28, 120, 128]
abbrev dktX4_dies_0 : List UInt8 := dkwX4_dies_0 ++ dktX4_dies_1
theorem dksX4_dies_0 : cX4_dies.data.toList.drop 0 = dktX4_dies_0 := by decide +kernel
theorem dksX4_dies_1 : cX4_dies.data.toList.drop 24 = dktX4_dies_1 := dk_seg dksX4_dies_0 24 rfl rfl
theorem dksX4_dies_2 : cX4_dies.data.toList.drop 47 = dktX4_dies_2 := dk_seg dksX4_dies_1 23 rfl rfl
theorem dksX4_dies_3 : cX4_dies.data.toList.drop 70 = dktX4_dies_3 := dk_seg dksX4_dies_2 23 rfl rfl
theorem dksX4_dies_4 : cX4_dies.data.toList.drop 94 = dktX4_dies_4 := dk_seg dksX4_dies_3 24 rfl rfl
theorem dX4_dies_0 : decode cX4_dies 0 = .ok (.aload_n 0, 1) := dk_42 (dk_at dksX4_dies_0 0 rfl rfl)
theorem dX4_dies_1 : decode cX4_dies 1 = .ok (.aload_n 1, 1) := dk_43 (dk_at dksX4_dies_0 1 rfl rfl)
theorem dX4_dies_2 : decode cX4_dies 2 = .ok (.iload_n 2, 1) := dk_28 (dk_at dksX4_dies_0 2 rfl rfl)
theorem dX4_dies_3 : decode cX4_dies 3 = .ok (.invokevirtual 399, 3) := dk_182 1 143 (dk_at dksX4_dies_0 3 rfl rfl)
theorem dX4_dies_6 : decode cX4_dies 6 = .ok (.istore_n 3, 1) := dk_62 (dk_at dksX4_dies_0 6 rfl rfl)
theorem dX4_dies_7 : decode cX4_dies 7 = .ok (.aload_n 1, 1) := dk_43 (dk_at dksX4_dies_0 7 rfl rfl)
theorem dX4_dies_8 : decode cX4_dies 8 = .ok (.bipush 13, 2) := dk_16 13 (dk_at dksX4_dies_0 8 rfl rfl)
theorem dX4_dies_10 : decode cX4_dies 10 = .ok (.iload_n 2, 1) := dk_28 (dk_at dksX4_dies_0 10 rfl rfl)
theorem dX4_dies_11 : decode cX4_dies 11 = .ok (.iadd, 1) := dk_96 (dk_at dksX4_dies_0 11 rfl rfl)
theorem dX4_dies_12 : decode cX4_dies 12 = .ok (.iaload, 1) := dk_46 (dk_at dksX4_dies_0 12 rfl rfl)
theorem dX4_dies_13 : decode cX4_dies 13 = .ok (.istore 4, 2) := dk_54 4 (dk_at dksX4_dies_0 13 rfl rfl)
theorem dX4_dies_15 : decode cX4_dies 15 = .ok (.aload_n 1, 1) := dk_43 (dk_at dksX4_dies_0 15 rfl rfl)
theorem dX4_dies_16 : decode cX4_dies 16 = .ok (.iconst 1, 1) := dk_4 (dk_at dksX4_dies_0 16 rfl rfl)
theorem dX4_dies_17 : decode cX4_dies 17 = .ok (.aload_n 1, 1) := dk_43 (dk_at dksX4_dies_0 17 rfl rfl)
theorem dX4_dies_18 : decode cX4_dies 18 = .ok (.iconst 1, 1) := dk_4 (dk_at dksX4_dies_0 18 rfl rfl)
theorem dX4_dies_19 : decode cX4_dies 19 = .ok (.iaload, 1) := dk_46 (dk_at dksX4_dies_0 19 rfl rfl)
theorem dX4_dies_20 : decode cX4_dies 20 = .ok (.iconst 1, 1) := dk_4 (dk_at dksX4_dies_0 20 rfl rfl)
theorem dX4_dies_21 : decode cX4_dies 21 = .ok (.iload_n 2, 1) := dk_28 (dk_at dksX4_dies_0 21 rfl rfl)
theorem dX4_dies_22 : decode cX4_dies 22 = .ok (.ishl, 1) := dk_120 (dk_at dksX4_dies_0 22 rfl rfl)
theorem dX4_dies_23 : decode cX4_dies 23 = .ok (.ior, 1) := dk_128 (dk_at dksX4_dies_0 23 rfl rfl)
theorem dX4_dies_24 : decode cX4_dies 24 = .ok (.iastore, 1) := dk_79 (dk_at dksX4_dies_1 0 rfl rfl)
theorem dX4_dies_25 : decode cX4_dies 25 = .ok (.aload_n 1, 1) := dk_43 (dk_at dksX4_dies_1 1 rfl rfl)
theorem dX4_dies_26 : decode cX4_dies 26 = .ok (.iconst 2, 1) := dk_5 (dk_at dksX4_dies_1 2 rfl rfl)
theorem dX4_dies_27 : decode cX4_dies 27 = .ok (.dup2, 1) := dk_92 (dk_at dksX4_dies_1 3 rfl rfl)
theorem dX4_dies_28 : decode cX4_dies 28 = .ok (.iaload, 1) := dk_46 (dk_at dksX4_dies_1 4 rfl rfl)
theorem dX4_dies_29 : decode cX4_dies 29 = .ok (.iconst 1, 1) := dk_4 (dk_at dksX4_dies_1 5 rfl rfl)
theorem dX4_dies_30 : decode cX4_dies 30 = .ok (.iadd, 1) := dk_96 (dk_at dksX4_dies_1 6 rfl rfl)
theorem dX4_dies_31 : decode cX4_dies 31 = .ok (.iastore, 1) := dk_79 (dk_at dksX4_dies_1 7 rfl rfl)
theorem dX4_dies_32 : decode cX4_dies 32 = .ok (.aload_n 0, 1) := dk_42 (dk_at dksX4_dies_1 8 rfl rfl)
theorem dX4_dies_33 : decode cX4_dies 33 = .ok (.dup, 1) := dk_89 (dk_at dksX4_dies_1 9 rfl rfl)
theorem dX4_dies_34 : decode cX4_dies 34 = .ok (.getfield 403, 3) := dk_180 1 147 (dk_at dksX4_dies_1 10 rfl rfl)
theorem dX4_dies_37 : decode cX4_dies 37 = .ok (.iload_n 3, 1) := dk_29 (dk_at dksX4_dies_1 13 rfl rfl)
theorem dX4_dies_38 : decode cX4_dies 38 = .ok (.ifCond .ne 7, 3) := dk_154 0 7 (dk_at dksX4_dies_1 14 rfl rfl)
theorem dX4_dies_41 : decode cX4_dies 41 = .ok (.iconst 1, 1) := dk_4 (dk_at dksX4_dies_1 17 rfl rfl)
theorem dX4_dies_42 : decode cX4_dies 42 = .ok (.goto 4, 3) := dk_167 0 4 (dk_at dksX4_dies_1 18 rfl rfl)
theorem dX4_dies_45 : decode cX4_dies 45 = .ok (.iconst 0, 1) := dk_3 (dk_at dksX4_dies_1 21 rfl rfl)
theorem dX4_dies_46 : decode cX4_dies 46 = .ok (.iadd, 1) := dk_96 (dk_at dksX4_dies_1 22 rfl rfl)
theorem dX4_dies_47 : decode cX4_dies 47 = .ok (.putfield 403, 3) := dk_181 1 147 (dk_at dksX4_dies_2 0 rfl rfl)
theorem dX4_dies_50 : decode cX4_dies 50 = .ok (.iload 4, 2) := dk_21 4 (dk_at dksX4_dies_2 3 rfl rfl)
theorem dX4_dies_52 : decode cX4_dies 52 = .ok (.ifCond .ge 4, 3) := dk_156 0 4 (dk_at dksX4_dies_2 5 rfl rfl)
theorem dX4_dies_55 : decode cX4_dies 55 = .ok (.return_, 1) := dk_177 (dk_at dksX4_dies_2 8 rfl rfl)
theorem dX4_dies_56 : decode cX4_dies 56 = .ok (.aload_n 0, 1) := dk_42 (dk_at dksX4_dies_2 9 rfl rfl)
theorem dX4_dies_57 : decode cX4_dies 57 = .ok (.getfield 105, 3) := dk_180 0 105 (dk_at dksX4_dies_2 10 rfl rfl)
theorem dX4_dies_60 : decode cX4_dies 60 = .ok (.iload 4, 2) := dk_21 4 (dk_at dksX4_dies_2 13 rfl rfl)
theorem dX4_dies_62 : decode cX4_dies 62 = .ok (.dup2, 1) := dk_92 (dk_at dksX4_dies_2 15 rfl rfl)
theorem dX4_dies_63 : decode cX4_dies 63 = .ok (.iaload, 1) := dk_46 (dk_at dksX4_dies_2 16 rfl rfl)
theorem dX4_dies_64 : decode cX4_dies 64 = .ok (.iload_n 3, 1) := dk_29 (dk_at dksX4_dies_2 17 rfl rfl)
theorem dX4_dies_65 : decode cX4_dies 65 = .ok (.iadd, 1) := dk_96 (dk_at dksX4_dies_2 18 rfl rfl)
theorem dX4_dies_66 : decode cX4_dies 66 = .ok (.iastore, 1) := dk_79 (dk_at dksX4_dies_2 19 rfl rfl)
theorem dX4_dies_67 : decode cX4_dies 67 = .ok (.aload_n 1, 1) := dk_43 (dk_at dksX4_dies_2 20 rfl rfl)
theorem dX4_dies_68 : decode cX4_dies 68 = .ok (.bipush 31, 2) := dk_16 31 (dk_at dksX4_dies_2 21 rfl rfl)
theorem dX4_dies_70 : decode cX4_dies 70 = .ok (.iload 4, 2) := dk_21 4 (dk_at dksX4_dies_3 0 rfl rfl)
theorem dX4_dies_72 : decode cX4_dies 72 = .ok (.iadd, 1) := dk_96 (dk_at dksX4_dies_3 2 rfl rfl)
theorem dX4_dies_73 : decode cX4_dies 73 = .ok (.aload_n 1, 1) := dk_43 (dk_at dksX4_dies_3 3 rfl rfl)
theorem dX4_dies_74 : decode cX4_dies 74 = .ok (.bipush 31, 2) := dk_16 31 (dk_at dksX4_dies_3 4 rfl rfl)
theorem dX4_dies_76 : decode cX4_dies 76 = .ok (.iload 4, 2) := dk_21 4 (dk_at dksX4_dies_3 6 rfl rfl)
theorem dX4_dies_78 : decode cX4_dies 78 = .ok (.iadd, 1) := dk_96 (dk_at dksX4_dies_3 8 rfl rfl)
theorem dX4_dies_79 : decode cX4_dies 79 = .ok (.iaload, 1) := dk_46 (dk_at dksX4_dies_3 9 rfl rfl)
theorem dX4_dies_80 : decode cX4_dies 80 = .ok (.iload_n 3, 1) := dk_29 (dk_at dksX4_dies_3 10 rfl rfl)
theorem dX4_dies_81 : decode cX4_dies 81 = .ok (.if_icmp .ge 7, 3) := dk_162 0 7 (dk_at dksX4_dies_3 11 rfl rfl)
theorem dX4_dies_84 : decode cX4_dies 84 = .ok (.iconst 0, 1) := dk_3 (dk_at dksX4_dies_3 14 rfl rfl)
theorem dX4_dies_85 : decode cX4_dies 85 = .ok (.goto 12, 3) := dk_167 0 12 (dk_at dksX4_dies_3 15 rfl rfl)
theorem dX4_dies_88 : decode cX4_dies 88 = .ok (.aload_n 1, 1) := dk_43 (dk_at dksX4_dies_3 18 rfl rfl)
theorem dX4_dies_89 : decode cX4_dies 89 = .ok (.bipush 31, 2) := dk_16 31 (dk_at dksX4_dies_3 19 rfl rfl)
theorem dX4_dies_91 : decode cX4_dies 91 = .ok (.iload 4, 2) := dk_21 4 (dk_at dksX4_dies_3 21 rfl rfl)
theorem dX4_dies_93 : decode cX4_dies 93 = .ok (.iadd, 1) := dk_96 (dk_at dksX4_dies_3 23 rfl rfl)
theorem dX4_dies_94 : decode cX4_dies 94 = .ok (.iaload, 1) := dk_46 (dk_at dksX4_dies_4 0 rfl rfl)
theorem dX4_dies_95 : decode cX4_dies 95 = .ok (.iload_n 3, 1) := dk_29 (dk_at dksX4_dies_4 1 rfl rfl)
theorem dX4_dies_96 : decode cX4_dies 96 = .ok (.isub, 1) := dk_100 (dk_at dksX4_dies_4 2 rfl rfl)
theorem dX4_dies_97 : decode cX4_dies 97 = .ok (.iastore, 1) := dk_79 (dk_at dksX4_dies_4 3 rfl rfl)
theorem dX4_dies_98 : decode cX4_dies 98 = .ok (.return_, 1) := dk_177 (dk_at dksX4_dies_4 4 rfl rfl)
abbrev cX4_go : ByteArray := prog_13_method_80_code
def yX4_go : MethodName := ⟨RX4, "go", "(II)I"⟩
def dkwX4_go_5 : List UInt8 := [29, 79, 29, 172]
abbrev dktX4_go_5 : List UInt8 := dkwX4_go_5 ++ []
def dkwX4_go_4 : List UInt8 := [182, 1, 224, 154, 0, 9, 42, 4, 182, 1, 215, 172, 42, 182, 1, 218, 42, 180, 0, 93, 16, 22, 27, 96]
abbrev dktX4_go_4 : List UInt8 := dkwX4_go_4 ++ dktX4_go_5
def dkwX4_go_3 : List UInt8 := [180, 0, 93, 27, 182, 1, 154, 154, 0, 22, 29, 2, 159, 0, 17, 42, 28, 42, 180, 0, 93, 3, 46]
abbrev dktX4_go_3 : List UInt8 := dkwX4_go_3 ++ dktX4_go_4
def dkwX4_go_2 : List UInt8 := [16, 22, 27, 96, 46, 182, 1, 221, 62, 42, 180, 0, 93, 27, 184, 1, 150, 154, 0, 34, 42, 42]
abbrev dktX4_go_2 : List UInt8 := dkwX4_go_2 ++ dktX4_go_3
def dkwX4_go_1 : List UInt8 := [162, 0, 7, 4, 167, 0, 4, 3, 4, 182, 1, 84, 154, 0, 5, 3, 172, 42, 28, 42, 180, 0, 93]
abbrev dktX4_go_1 : List UInt8 := dkwX4_go_1 ++ dktX4_go_2
def dkwX4_go_0 : List UInt8 := [42, 3, 181, 0, 168, 42, 27, 182, 1, 212, 153, 0, 28, 42, 28, 155, 0, 15, 28, 42, 180, 1, 97]
abbrev dktX4_go_0 : List UInt8 := dkwX4_go_0 ++ dktX4_go_1
theorem dksX4_go_0 : cX4_go.data.toList.drop 0 = dktX4_go_0 := by decide +kernel
theorem dksX4_go_1 : cX4_go.data.toList.drop 23 = dktX4_go_1 := dk_seg dksX4_go_0 23 rfl rfl
theorem dksX4_go_2 : cX4_go.data.toList.drop 46 = dktX4_go_2 := dk_seg dksX4_go_1 23 rfl rfl
theorem dksX4_go_3 : cX4_go.data.toList.drop 68 = dktX4_go_3 := dk_seg dksX4_go_2 22 rfl rfl
theorem dksX4_go_4 : cX4_go.data.toList.drop 91 = dktX4_go_4 := dk_seg dksX4_go_3 23 rfl rfl
theorem dksX4_go_5 : cX4_go.data.toList.drop 115 = dktX4_go_5 := dk_seg dksX4_go_4 24 rfl rfl
theorem dX4_go_0 : decode cX4_go 0 = .ok (.aload_n 0, 1) := dk_42 (dk_at dksX4_go_0 0 rfl rfl)
theorem dX4_go_1 : decode cX4_go 1 = .ok (.iconst 0, 1) := dk_3 (dk_at dksX4_go_0 1 rfl rfl)
theorem dX4_go_2 : decode cX4_go 2 = .ok (.putfield 168, 3) := dk_181 0 168 (dk_at dksX4_go_0 2 rfl rfl)
theorem dX4_go_5 : decode cX4_go 5 = .ok (.aload_n 0, 1) := dk_42 (dk_at dksX4_go_0 5 rfl rfl)
theorem dX4_go_6 : decode cX4_go 6 = .ok (.iload_n 1, 1) := dk_27 (dk_at dksX4_go_0 6 rfl rfl)
theorem dX4_go_7 : decode cX4_go 7 = .ok (.invokevirtual 468, 3) := dk_182 1 212 (dk_at dksX4_go_0 7 rfl rfl)
theorem dX4_go_10 : decode cX4_go 10 = .ok (.ifCond .eq 28, 3) := dk_153 0 28 (dk_at dksX4_go_0 10 rfl rfl)
theorem dX4_go_13 : decode cX4_go 13 = .ok (.aload_n 0, 1) := dk_42 (dk_at dksX4_go_0 13 rfl rfl)
theorem dX4_go_14 : decode cX4_go 14 = .ok (.iload_n 2, 1) := dk_28 (dk_at dksX4_go_0 14 rfl rfl)
theorem dX4_go_15 : decode cX4_go 15 = .ok (.ifCond .lt 15, 3) := dk_155 0 15 (dk_at dksX4_go_0 15 rfl rfl)
theorem dX4_go_18 : decode cX4_go 18 = .ok (.iload_n 2, 1) := dk_28 (dk_at dksX4_go_0 18 rfl rfl)
theorem dX4_go_19 : decode cX4_go 19 = .ok (.aload_n 0, 1) := dk_42 (dk_at dksX4_go_0 19 rfl rfl)
theorem dX4_go_20 : decode cX4_go 20 = .ok (.getfield 353, 3) := dk_180 1 97 (dk_at dksX4_go_0 20 rfl rfl)
theorem dX4_go_23 : decode cX4_go 23 = .ok (.if_icmp .ge 7, 3) := dk_162 0 7 (dk_at dksX4_go_1 0 rfl rfl)
theorem dX4_go_26 : decode cX4_go 26 = .ok (.iconst 1, 1) := dk_4 (dk_at dksX4_go_1 3 rfl rfl)
theorem dX4_go_27 : decode cX4_go 27 = .ok (.goto 4, 3) := dk_167 0 4 (dk_at dksX4_go_1 4 rfl rfl)
theorem dX4_go_30 : decode cX4_go 30 = .ok (.iconst 0, 1) := dk_3 (dk_at dksX4_go_1 7 rfl rfl)
theorem dX4_go_31 : decode cX4_go 31 = .ok (.iconst 1, 1) := dk_4 (dk_at dksX4_go_1 8 rfl rfl)
theorem dX4_go_32 : decode cX4_go 32 = .ok (.invokevirtual 340, 3) := dk_182 1 84 (dk_at dksX4_go_1 9 rfl rfl)
theorem dX4_go_35 : decode cX4_go 35 = .ok (.ifCond .ne 5, 3) := dk_154 0 5 (dk_at dksX4_go_1 12 rfl rfl)
theorem dX4_go_38 : decode cX4_go 38 = .ok (.iconst 0, 1) := dk_3 (dk_at dksX4_go_1 15 rfl rfl)
theorem dX4_go_39 : decode cX4_go 39 = .ok (.ireturn, 1) := dk_172 (dk_at dksX4_go_1 16 rfl rfl)
theorem dX4_go_40 : decode cX4_go 40 = .ok (.aload_n 0, 1) := dk_42 (dk_at dksX4_go_1 17 rfl rfl)
theorem dX4_go_41 : decode cX4_go 41 = .ok (.iload_n 2, 1) := dk_28 (dk_at dksX4_go_1 18 rfl rfl)
theorem dX4_go_42 : decode cX4_go 42 = .ok (.aload_n 0, 1) := dk_42 (dk_at dksX4_go_1 19 rfl rfl)
theorem dX4_go_43 : decode cX4_go 43 = .ok (.getfield 93, 3) := dk_180 0 93 (dk_at dksX4_go_1 20 rfl rfl)
theorem dX4_go_46 : decode cX4_go 46 = .ok (.bipush 22, 2) := dk_16 22 (dk_at dksX4_go_2 0 rfl rfl)
theorem dX4_go_48 : decode cX4_go 48 = .ok (.iload_n 1, 1) := dk_27 (dk_at dksX4_go_2 2 rfl rfl)
theorem dX4_go_49 : decode cX4_go 49 = .ok (.iadd, 1) := dk_96 (dk_at dksX4_go_2 3 rfl rfl)
theorem dX4_go_50 : decode cX4_go 50 = .ok (.iaload, 1) := dk_46 (dk_at dksX4_go_2 4 rfl rfl)
theorem dX4_go_51 : decode cX4_go 51 = .ok (.invokevirtual 477, 3) := dk_182 1 221 (dk_at dksX4_go_2 5 rfl rfl)
theorem dX4_go_54 : decode cX4_go 54 = .ok (.istore_n 3, 1) := dk_62 (dk_at dksX4_go_2 8 rfl rfl)
theorem dX4_go_55 : decode cX4_go 55 = .ok (.aload_n 0, 1) := dk_42 (dk_at dksX4_go_2 9 rfl rfl)
theorem dX4_go_56 : decode cX4_go 56 = .ok (.getfield 93, 3) := dk_180 0 93 (dk_at dksX4_go_2 10 rfl rfl)
theorem dX4_go_59 : decode cX4_go 59 = .ok (.iload_n 1, 1) := dk_27 (dk_at dksX4_go_2 13 rfl rfl)
theorem dX4_go_60 : decode cX4_go 60 = .ok (.invokestatic 406, 3) := dk_184 1 150 (dk_at dksX4_go_2 14 rfl rfl)
theorem dX4_go_63 : decode cX4_go 63 = .ok (.ifCond .ne 34, 3) := dk_154 0 34 (dk_at dksX4_go_2 17 rfl rfl)
theorem dX4_go_66 : decode cX4_go 66 = .ok (.aload_n 0, 1) := dk_42 (dk_at dksX4_go_2 20 rfl rfl)
theorem dX4_go_67 : decode cX4_go 67 = .ok (.aload_n 0, 1) := dk_42 (dk_at dksX4_go_2 21 rfl rfl)
theorem dX4_go_68 : decode cX4_go 68 = .ok (.getfield 93, 3) := dk_180 0 93 (dk_at dksX4_go_3 0 rfl rfl)
theorem dX4_go_71 : decode cX4_go 71 = .ok (.iload_n 1, 1) := dk_27 (dk_at dksX4_go_3 3 rfl rfl)
theorem dX4_go_72 : decode cX4_go 72 = .ok (.invokevirtual 410, 3) := dk_182 1 154 (dk_at dksX4_go_3 4 rfl rfl)
theorem dX4_go_75 : decode cX4_go 75 = .ok (.ifCond .ne 22, 3) := dk_154 0 22 (dk_at dksX4_go_3 7 rfl rfl)
theorem dX4_go_78 : decode cX4_go 78 = .ok (.iload_n 3, 1) := dk_29 (dk_at dksX4_go_3 10 rfl rfl)
theorem dX4_go_79 : decode cX4_go 79 = .ok (.iconst (-1), 1) := dk_2 (dk_at dksX4_go_3 11 rfl rfl)
theorem dX4_go_80 : decode cX4_go 80 = .ok (.if_icmp .eq 17, 3) := dk_159 0 17 (dk_at dksX4_go_3 12 rfl rfl)
theorem dX4_go_83 : decode cX4_go 83 = .ok (.aload_n 0, 1) := dk_42 (dk_at dksX4_go_3 15 rfl rfl)
theorem dX4_go_84 : decode cX4_go 84 = .ok (.iload_n 2, 1) := dk_28 (dk_at dksX4_go_3 16 rfl rfl)
theorem dX4_go_85 : decode cX4_go 85 = .ok (.aload_n 0, 1) := dk_42 (dk_at dksX4_go_3 17 rfl rfl)
theorem dX4_go_86 : decode cX4_go 86 = .ok (.getfield 93, 3) := dk_180 0 93 (dk_at dksX4_go_3 18 rfl rfl)
theorem dX4_go_89 : decode cX4_go 89 = .ok (.iconst 0, 1) := dk_3 (dk_at dksX4_go_3 21 rfl rfl)
theorem dX4_go_90 : decode cX4_go 90 = .ok (.iaload, 1) := dk_46 (dk_at dksX4_go_3 22 rfl rfl)
theorem dX4_go_91 : decode cX4_go 91 = .ok (.invokevirtual 480, 3) := dk_182 1 224 (dk_at dksX4_go_4 0 rfl rfl)
theorem dX4_go_94 : decode cX4_go 94 = .ok (.ifCond .ne 9, 3) := dk_154 0 9 (dk_at dksX4_go_4 3 rfl rfl)
theorem dX4_go_97 : decode cX4_go 97 = .ok (.aload_n 0, 1) := dk_42 (dk_at dksX4_go_4 6 rfl rfl)
theorem dX4_go_98 : decode cX4_go 98 = .ok (.iconst 1, 1) := dk_4 (dk_at dksX4_go_4 7 rfl rfl)
theorem dX4_go_99 : decode cX4_go 99 = .ok (.invokevirtual 471, 3) := dk_182 1 215 (dk_at dksX4_go_4 8 rfl rfl)
theorem dX4_go_102 : decode cX4_go 102 = .ok (.ireturn, 1) := dk_172 (dk_at dksX4_go_4 11 rfl rfl)
theorem dX4_go_103 : decode cX4_go 103 = .ok (.aload_n 0, 1) := dk_42 (dk_at dksX4_go_4 12 rfl rfl)
theorem dX4_go_104 : decode cX4_go 104 = .ok (.invokevirtual 474, 3) := dk_182 1 218 (dk_at dksX4_go_4 13 rfl rfl)
theorem dX4_go_107 : decode cX4_go 107 = .ok (.aload_n 0, 1) := dk_42 (dk_at dksX4_go_4 16 rfl rfl)
theorem dX4_go_108 : decode cX4_go 108 = .ok (.getfield 93, 3) := dk_180 0 93 (dk_at dksX4_go_4 17 rfl rfl)
theorem dX4_go_111 : decode cX4_go 111 = .ok (.bipush 22, 2) := dk_16 22 (dk_at dksX4_go_4 20 rfl rfl)
theorem dX4_go_113 : decode cX4_go 113 = .ok (.iload_n 1, 1) := dk_27 (dk_at dksX4_go_4 22 rfl rfl)
theorem dX4_go_114 : decode cX4_go 114 = .ok (.iadd, 1) := dk_96 (dk_at dksX4_go_4 23 rfl rfl)
theorem dX4_go_115 : decode cX4_go 115 = .ok (.iload_n 3, 1) := dk_29 (dk_at dksX4_go_5 0 rfl rfl)
theorem dX4_go_116 : decode cX4_go 116 = .ok (.iastore, 1) := dk_79 (dk_at dksX4_go_5 1 rfl rfl)
theorem dX4_go_117 : decode cX4_go 117 = .ok (.iload_n 3, 1) := dk_29 (dk_at dksX4_go_5 2 rfl rfl)
theorem dX4_go_118 : decode cX4_go 118 = .ok (.ireturn, 1) := dk_172 (dk_at dksX4_go_5 3 rfl rfl)
abbrev cX4_leads : ByteArray := prog_13_method_78_code
def yX4_leads : MethodName := ⟨RX4, "leads", "(II)I"⟩
def dkwX4_leads_1 : List UInt8 := [46, 28, 160, 0, 12, 42, 180, 0, 17, 27, 46, 167, 0, 4, 2, 172]
abbrev dktX4_leads_1 : List UInt8 := dkwX4_leads_1 ++ []
def dkwX4_leads_0 : List UInt8 := [42, 180, 0, 17, 27, 46, 28, 160, 0, 12, 42, 180, 0, 20, 27, 46, 167, 0, 23, 42, 180, 0, 20, 27]
abbrev dktX4_leads_0 : List UInt8 := dkwX4_leads_0 ++ dktX4_leads_1
theorem dksX4_leads_0 : cX4_leads.data.toList.drop 0 = dktX4_leads_0 := by decide +kernel
theorem dksX4_leads_1 : cX4_leads.data.toList.drop 24 = dktX4_leads_1 := dk_seg dksX4_leads_0 24 rfl rfl
theorem dX4_leads_0 : decode cX4_leads 0 = .ok (.aload_n 0, 1) := dk_42 (dk_at dksX4_leads_0 0 rfl rfl)
theorem dX4_leads_1 : decode cX4_leads 1 = .ok (.getfield 17, 3) := dk_180 0 17 (dk_at dksX4_leads_0 1 rfl rfl)
theorem dX4_leads_4 : decode cX4_leads 4 = .ok (.iload_n 1, 1) := dk_27 (dk_at dksX4_leads_0 4 rfl rfl)
theorem dX4_leads_5 : decode cX4_leads 5 = .ok (.iaload, 1) := dk_46 (dk_at dksX4_leads_0 5 rfl rfl)
theorem dX4_leads_6 : decode cX4_leads 6 = .ok (.iload_n 2, 1) := dk_28 (dk_at dksX4_leads_0 6 rfl rfl)
theorem dX4_leads_7 : decode cX4_leads 7 = .ok (.if_icmp .ne 12, 3) := dk_160 0 12 (dk_at dksX4_leads_0 7 rfl rfl)
theorem dX4_leads_10 : decode cX4_leads 10 = .ok (.aload_n 0, 1) := dk_42 (dk_at dksX4_leads_0 10 rfl rfl)
theorem dX4_leads_11 : decode cX4_leads 11 = .ok (.getfield 20, 3) := dk_180 0 20 (dk_at dksX4_leads_0 11 rfl rfl)
theorem dX4_leads_14 : decode cX4_leads 14 = .ok (.iload_n 1, 1) := dk_27 (dk_at dksX4_leads_0 14 rfl rfl)
theorem dX4_leads_15 : decode cX4_leads 15 = .ok (.iaload, 1) := dk_46 (dk_at dksX4_leads_0 15 rfl rfl)
theorem dX4_leads_16 : decode cX4_leads 16 = .ok (.goto 23, 3) := dk_167 0 23 (dk_at dksX4_leads_0 16 rfl rfl)
theorem dX4_leads_19 : decode cX4_leads 19 = .ok (.aload_n 0, 1) := dk_42 (dk_at dksX4_leads_0 19 rfl rfl)
theorem dX4_leads_20 : decode cX4_leads 20 = .ok (.getfield 20, 3) := dk_180 0 20 (dk_at dksX4_leads_0 20 rfl rfl)
theorem dX4_leads_23 : decode cX4_leads 23 = .ok (.iload_n 1, 1) := dk_27 (dk_at dksX4_leads_0 23 rfl rfl)
theorem dX4_leads_24 : decode cX4_leads 24 = .ok (.iaload, 1) := dk_46 (dk_at dksX4_leads_1 0 rfl rfl)
theorem dX4_leads_25 : decode cX4_leads 25 = .ok (.iload_n 2, 1) := dk_28 (dk_at dksX4_leads_1 1 rfl rfl)
theorem dX4_leads_26 : decode cX4_leads 26 = .ok (.if_icmp .ne 12, 3) := dk_160 0 12 (dk_at dksX4_leads_1 2 rfl rfl)
theorem dX4_leads_29 : decode cX4_leads 29 = .ok (.aload_n 0, 1) := dk_42 (dk_at dksX4_leads_1 5 rfl rfl)
theorem dX4_leads_30 : decode cX4_leads 30 = .ok (.getfield 17, 3) := dk_180 0 17 (dk_at dksX4_leads_1 6 rfl rfl)
theorem dX4_leads_33 : decode cX4_leads 33 = .ok (.iload_n 1, 1) := dk_27 (dk_at dksX4_leads_1 9 rfl rfl)
theorem dX4_leads_34 : decode cX4_leads 34 = .ok (.iaload, 1) := dk_46 (dk_at dksX4_leads_1 10 rfl rfl)
theorem dX4_leads_35 : decode cX4_leads 35 = .ok (.goto 4, 3) := dk_167 0 4 (dk_at dksX4_leads_1 11 rfl rfl)
theorem dX4_leads_38 : decode cX4_leads 38 = .ok (.iconst (-1), 1) := dk_2 (dk_at dksX4_leads_1 14 rfl rfl)
theorem dX4_leads_39 : decode cX4_leads 39 = .ok (.ireturn, 1) := dk_172 (dk_at dksX4_leads_1 15 rfl rfl)
abbrev cX4_isPassable : ByteArray := prog_13_method_79_code
def yX4_isPassable : MethodName := ⟨RX4, "isPassable", "(II)Z"⟩
def dkwX4_isPassable_0 : List UInt8 := [27, 42, 180, 0, 129, 159, 0, 13, 28, 42, 180, 0, 23, 27, 46, 162, 0, 7, 4, 167, 0, 4, 3, 172]
abbrev dktX4_isPassable_0 : List UInt8 := dkwX4_isPassable_0 ++ []
theorem dksX4_isPassable_0 : cX4_isPassable.data.toList.drop 0 = dktX4_isPassable_0 := by decide +kernel
theorem dX4_isPassable_0 : decode cX4_isPassable 0 = .ok (.iload_n 1, 1) := dk_27 (dk_at dksX4_isPassable_0 0 rfl rfl)
theorem dX4_isPassable_1 : decode cX4_isPassable 1 = .ok (.aload_n 0, 1) := dk_42 (dk_at dksX4_isPassable_0 1 rfl rfl)
theorem dX4_isPassable_2 : decode cX4_isPassable 2 = .ok (.getfield 129, 3) := dk_180 0 129 (dk_at dksX4_isPassable_0 2 rfl rfl)
theorem dX4_isPassable_5 : decode cX4_isPassable 5 = .ok (.if_icmp .eq 13, 3) := dk_159 0 13 (dk_at dksX4_isPassable_0 5 rfl rfl)
theorem dX4_isPassable_8 : decode cX4_isPassable 8 = .ok (.iload_n 2, 1) := dk_28 (dk_at dksX4_isPassable_0 8 rfl rfl)
theorem dX4_isPassable_9 : decode cX4_isPassable 9 = .ok (.aload_n 0, 1) := dk_42 (dk_at dksX4_isPassable_0 9 rfl rfl)
theorem dX4_isPassable_10 : decode cX4_isPassable 10 = .ok (.getfield 23, 3) := dk_180 0 23 (dk_at dksX4_isPassable_0 10 rfl rfl)
theorem dX4_isPassable_13 : decode cX4_isPassable 13 = .ok (.iload_n 1, 1) := dk_27 (dk_at dksX4_isPassable_0 13 rfl rfl)
theorem dX4_isPassable_14 : decode cX4_isPassable 14 = .ok (.iaload, 1) := dk_46 (dk_at dksX4_isPassable_0 14 rfl rfl)
theorem dX4_isPassable_15 : decode cX4_isPassable 15 = .ok (.if_icmp .ge 7, 3) := dk_162 0 7 (dk_at dksX4_isPassable_0 15 rfl rfl)
theorem dX4_isPassable_18 : decode cX4_isPassable 18 = .ok (.iconst 1, 1) := dk_4 (dk_at dksX4_isPassable_0 18 rfl rfl)
theorem dX4_isPassable_19 : decode cX4_isPassable 19 = .ok (.goto 4, 3) := dk_167 0 4 (dk_at dksX4_isPassable_0 19 rfl rfl)
theorem dX4_isPassable_22 : decode cX4_isPassable 22 = .ok (.iconst 0, 1) := dk_3 (dk_at dksX4_isPassable_0 22 rfl rfl)
theorem dX4_isPassable_23 : decode cX4_isPassable 23 = .ok (.ireturn, 1) := dk_172 (dk_at dksX4_isPassable_0 23 rfl rfl)
abbrev cX4_write : ByteArray := prog_13_method_81_code
def yX4_write : MethodName := ⟨RX4, "write", "(I)Z"⟩
def dkwX4_write_2 : List UInt8 := [180, 0, 93, 27, 16, 254, 182, 1, 164, 4, 172]
abbrev dktX4_write_2 : List UInt8 := dkwX4_write_2 ++ []
def dkwX4_write_1 : List UInt8 := [159, 0, 17, 42, 4, 182, 1, 215, 158, 0, 7, 4, 167, 0, 4, 3, 172, 42, 182, 1, 218, 42, 42]
abbrev dktX4_write_1 : List UInt8 := dkwX4_write_1 ++ dktX4_write_2
def dkwX4_write_0 : List UInt8 := [42, 3, 181, 0, 168, 42, 27, 182, 1, 212, 154, 0, 5, 3, 172, 42, 180, 0, 93, 7, 27, 96, 46, 2]
abbrev dktX4_write_0 : List UInt8 := dkwX4_write_0 ++ dktX4_write_1
theorem dksX4_write_0 : cX4_write.data.toList.drop 0 = dktX4_write_0 := by decide +kernel
theorem dksX4_write_1 : cX4_write.data.toList.drop 24 = dktX4_write_1 := dk_seg dksX4_write_0 24 rfl rfl
theorem dksX4_write_2 : cX4_write.data.toList.drop 47 = dktX4_write_2 := dk_seg dksX4_write_1 23 rfl rfl
theorem dX4_write_0 : decode cX4_write 0 = .ok (.aload_n 0, 1) := dk_42 (dk_at dksX4_write_0 0 rfl rfl)
theorem dX4_write_1 : decode cX4_write 1 = .ok (.iconst 0, 1) := dk_3 (dk_at dksX4_write_0 1 rfl rfl)
theorem dX4_write_2 : decode cX4_write 2 = .ok (.putfield 168, 3) := dk_181 0 168 (dk_at dksX4_write_0 2 rfl rfl)
theorem dX4_write_5 : decode cX4_write 5 = .ok (.aload_n 0, 1) := dk_42 (dk_at dksX4_write_0 5 rfl rfl)
theorem dX4_write_6 : decode cX4_write 6 = .ok (.iload_n 1, 1) := dk_27 (dk_at dksX4_write_0 6 rfl rfl)
theorem dX4_write_7 : decode cX4_write 7 = .ok (.invokevirtual 468, 3) := dk_182 1 212 (dk_at dksX4_write_0 7 rfl rfl)
theorem dX4_write_10 : decode cX4_write 10 = .ok (.ifCond .ne 5, 3) := dk_154 0 5 (dk_at dksX4_write_0 10 rfl rfl)
theorem dX4_write_13 : decode cX4_write 13 = .ok (.iconst 0, 1) := dk_3 (dk_at dksX4_write_0 13 rfl rfl)
theorem dX4_write_14 : decode cX4_write 14 = .ok (.ireturn, 1) := dk_172 (dk_at dksX4_write_0 14 rfl rfl)
theorem dX4_write_15 : decode cX4_write 15 = .ok (.aload_n 0, 1) := dk_42 (dk_at dksX4_write_0 15 rfl rfl)
theorem dX4_write_16 : decode cX4_write 16 = .ok (.getfield 93, 3) := dk_180 0 93 (dk_at dksX4_write_0 16 rfl rfl)
theorem dX4_write_19 : decode cX4_write 19 = .ok (.iconst 4, 1) := dk_7 (dk_at dksX4_write_0 19 rfl rfl)
theorem dX4_write_20 : decode cX4_write 20 = .ok (.iload_n 1, 1) := dk_27 (dk_at dksX4_write_0 20 rfl rfl)
theorem dX4_write_21 : decode cX4_write 21 = .ok (.iadd, 1) := dk_96 (dk_at dksX4_write_0 21 rfl rfl)
theorem dX4_write_22 : decode cX4_write 22 = .ok (.iaload, 1) := dk_46 (dk_at dksX4_write_0 22 rfl rfl)
theorem dX4_write_23 : decode cX4_write 23 = .ok (.iconst (-1), 1) := dk_2 (dk_at dksX4_write_0 23 rfl rfl)
theorem dX4_write_24 : decode cX4_write 24 = .ok (.if_icmp .eq 17, 3) := dk_159 0 17 (dk_at dksX4_write_1 0 rfl rfl)
theorem dX4_write_27 : decode cX4_write 27 = .ok (.aload_n 0, 1) := dk_42 (dk_at dksX4_write_1 3 rfl rfl)
theorem dX4_write_28 : decode cX4_write 28 = .ok (.iconst 1, 1) := dk_4 (dk_at dksX4_write_1 4 rfl rfl)
theorem dX4_write_29 : decode cX4_write 29 = .ok (.invokevirtual 471, 3) := dk_182 1 215 (dk_at dksX4_write_1 5 rfl rfl)
theorem dX4_write_32 : decode cX4_write 32 = .ok (.ifCond .le 7, 3) := dk_158 0 7 (dk_at dksX4_write_1 8 rfl rfl)
theorem dX4_write_35 : decode cX4_write 35 = .ok (.iconst 1, 1) := dk_4 (dk_at dksX4_write_1 11 rfl rfl)
theorem dX4_write_36 : decode cX4_write 36 = .ok (.goto 4, 3) := dk_167 0 4 (dk_at dksX4_write_1 12 rfl rfl)
theorem dX4_write_39 : decode cX4_write 39 = .ok (.iconst 0, 1) := dk_3 (dk_at dksX4_write_1 15 rfl rfl)
theorem dX4_write_40 : decode cX4_write 40 = .ok (.ireturn, 1) := dk_172 (dk_at dksX4_write_1 16 rfl rfl)
theorem dX4_write_41 : decode cX4_write 41 = .ok (.aload_n 0, 1) := dk_42 (dk_at dksX4_write_1 17 rfl rfl)
theorem dX4_write_42 : decode cX4_write 42 = .ok (.invokevirtual 474, 3) := dk_182 1 218 (dk_at dksX4_write_1 18 rfl rfl)
theorem dX4_write_45 : decode cX4_write 45 = .ok (.aload_n 0, 1) := dk_42 (dk_at dksX4_write_1 21 rfl rfl)
theorem dX4_write_46 : decode cX4_write 46 = .ok (.aload_n 0, 1) := dk_42 (dk_at dksX4_write_1 22 rfl rfl)
theorem dX4_write_47 : decode cX4_write 47 = .ok (.getfield 93, 3) := dk_180 0 93 (dk_at dksX4_write_2 0 rfl rfl)
theorem dX4_write_50 : decode cX4_write 50 = .ok (.iload_n 1, 1) := dk_27 (dk_at dksX4_write_2 3 rfl rfl)
theorem dX4_write_51 : decode cX4_write 51 = .ok (.bipush (-2), 2) := dk_16 254 (dk_at dksX4_write_2 4 rfl rfl)
theorem dX4_write_53 : decode cX4_write 53 = .ok (.invokevirtual 420, 3) := dk_182 1 164 (dk_at dksX4_write_2 6 rfl rfl)
theorem dX4_write_56 : decode cX4_write 56 = .ok (.iconst 1, 1) := dk_4 (dk_at dksX4_write_2 9 rfl rfl)
theorem dX4_write_57 : decode cX4_write 57 = .ok (.ireturn, 1) := dk_172 (dk_at dksX4_write_2 10 rfl rfl)
abbrev cX4_strike : ByteArray := prog_13_method_82_code
def yX4_strike : MethodName := ⟨RX4, "strike", "(I)I"⟩
def dkwX4_strike_3 : List UInt8 := [16, 13, 27, 96, 2, 79, 28, 172]
abbrev dktX4_strike_3 : List UInt8 := dkwX4_strike_3 ++ []
def dkwX4_strike_2 : List UInt8 := [42, 180, 0, 93, 16, 13, 27, 96, 46, 61, 42, 180, 0, 93, 7, 27, 96, 2, 79, 42, 180, 0, 93]
abbrev dktX4_strike_2 : List UInt8 := dkwX4_strike_2 ++ dktX4_strike_3
def dkwX4_strike_1 : List UInt8 := [159, 0, 14, 42, 180, 0, 93, 27, 184, 1, 150, 153, 0, 9, 42, 4, 182, 1, 215, 172, 42, 182, 1, 218]
abbrev dktX4_strike_1 : List UInt8 := dkwX4_strike_1 ++ dktX4_strike_2
def dkwX4_strike_0 : List UInt8 := [42, 3, 181, 0, 168, 42, 27, 182, 1, 212, 154, 0, 5, 3, 172, 42, 180, 0, 93, 7, 27, 96, 46, 2]
abbrev dktX4_strike_0 : List UInt8 := dkwX4_strike_0 ++ dktX4_strike_1
theorem dksX4_strike_0 : cX4_strike.data.toList.drop 0 = dktX4_strike_0 := by decide +kernel
theorem dksX4_strike_1 : cX4_strike.data.toList.drop 24 = dktX4_strike_1 := dk_seg dksX4_strike_0 24 rfl rfl
theorem dksX4_strike_2 : cX4_strike.data.toList.drop 48 = dktX4_strike_2 := dk_seg dksX4_strike_1 24 rfl rfl
theorem dksX4_strike_3 : cX4_strike.data.toList.drop 71 = dktX4_strike_3 := dk_seg dksX4_strike_2 23 rfl rfl
theorem dX4_strike_0 : decode cX4_strike 0 = .ok (.aload_n 0, 1) := dk_42 (dk_at dksX4_strike_0 0 rfl rfl)
theorem dX4_strike_1 : decode cX4_strike 1 = .ok (.iconst 0, 1) := dk_3 (dk_at dksX4_strike_0 1 rfl rfl)
theorem dX4_strike_2 : decode cX4_strike 2 = .ok (.putfield 168, 3) := dk_181 0 168 (dk_at dksX4_strike_0 2 rfl rfl)
theorem dX4_strike_5 : decode cX4_strike 5 = .ok (.aload_n 0, 1) := dk_42 (dk_at dksX4_strike_0 5 rfl rfl)
theorem dX4_strike_6 : decode cX4_strike 6 = .ok (.iload_n 1, 1) := dk_27 (dk_at dksX4_strike_0 6 rfl rfl)
theorem dX4_strike_7 : decode cX4_strike 7 = .ok (.invokevirtual 468, 3) := dk_182 1 212 (dk_at dksX4_strike_0 7 rfl rfl)
theorem dX4_strike_10 : decode cX4_strike 10 = .ok (.ifCond .ne 5, 3) := dk_154 0 5 (dk_at dksX4_strike_0 10 rfl rfl)
theorem dX4_strike_13 : decode cX4_strike 13 = .ok (.iconst 0, 1) := dk_3 (dk_at dksX4_strike_0 13 rfl rfl)
theorem dX4_strike_14 : decode cX4_strike 14 = .ok (.ireturn, 1) := dk_172 (dk_at dksX4_strike_0 14 rfl rfl)
theorem dX4_strike_15 : decode cX4_strike 15 = .ok (.aload_n 0, 1) := dk_42 (dk_at dksX4_strike_0 15 rfl rfl)
theorem dX4_strike_16 : decode cX4_strike 16 = .ok (.getfield 93, 3) := dk_180 0 93 (dk_at dksX4_strike_0 16 rfl rfl)
theorem dX4_strike_19 : decode cX4_strike 19 = .ok (.iconst 4, 1) := dk_7 (dk_at dksX4_strike_0 19 rfl rfl)
theorem dX4_strike_20 : decode cX4_strike 20 = .ok (.iload_n 1, 1) := dk_27 (dk_at dksX4_strike_0 20 rfl rfl)
theorem dX4_strike_21 : decode cX4_strike 21 = .ok (.iadd, 1) := dk_96 (dk_at dksX4_strike_0 21 rfl rfl)
theorem dX4_strike_22 : decode cX4_strike 22 = .ok (.iaload, 1) := dk_46 (dk_at dksX4_strike_0 22 rfl rfl)
theorem dX4_strike_23 : decode cX4_strike 23 = .ok (.iconst (-1), 1) := dk_2 (dk_at dksX4_strike_0 23 rfl rfl)
theorem dX4_strike_24 : decode cX4_strike 24 = .ok (.if_icmp .eq 14, 3) := dk_159 0 14 (dk_at dksX4_strike_1 0 rfl rfl)
theorem dX4_strike_27 : decode cX4_strike 27 = .ok (.aload_n 0, 1) := dk_42 (dk_at dksX4_strike_1 3 rfl rfl)
theorem dX4_strike_28 : decode cX4_strike 28 = .ok (.getfield 93, 3) := dk_180 0 93 (dk_at dksX4_strike_1 4 rfl rfl)
theorem dX4_strike_31 : decode cX4_strike 31 = .ok (.iload_n 1, 1) := dk_27 (dk_at dksX4_strike_1 7 rfl rfl)
theorem dX4_strike_32 : decode cX4_strike 32 = .ok (.invokestatic 406, 3) := dk_184 1 150 (dk_at dksX4_strike_1 8 rfl rfl)
theorem dX4_strike_35 : decode cX4_strike 35 = .ok (.ifCond .eq 9, 3) := dk_153 0 9 (dk_at dksX4_strike_1 11 rfl rfl)
theorem dX4_strike_38 : decode cX4_strike 38 = .ok (.aload_n 0, 1) := dk_42 (dk_at dksX4_strike_1 14 rfl rfl)
theorem dX4_strike_39 : decode cX4_strike 39 = .ok (.iconst 1, 1) := dk_4 (dk_at dksX4_strike_1 15 rfl rfl)
theorem dX4_strike_40 : decode cX4_strike 40 = .ok (.invokevirtual 471, 3) := dk_182 1 215 (dk_at dksX4_strike_1 16 rfl rfl)
theorem dX4_strike_43 : decode cX4_strike 43 = .ok (.ireturn, 1) := dk_172 (dk_at dksX4_strike_1 19 rfl rfl)
theorem dX4_strike_44 : decode cX4_strike 44 = .ok (.aload_n 0, 1) := dk_42 (dk_at dksX4_strike_1 20 rfl rfl)
theorem dX4_strike_45 : decode cX4_strike 45 = .ok (.invokevirtual 474, 3) := dk_182 1 218 (dk_at dksX4_strike_1 21 rfl rfl)
theorem dX4_strike_48 : decode cX4_strike 48 = .ok (.aload_n 0, 1) := dk_42 (dk_at dksX4_strike_2 0 rfl rfl)
theorem dX4_strike_49 : decode cX4_strike 49 = .ok (.getfield 93, 3) := dk_180 0 93 (dk_at dksX4_strike_2 1 rfl rfl)
theorem dX4_strike_52 : decode cX4_strike 52 = .ok (.bipush 13, 2) := dk_16 13 (dk_at dksX4_strike_2 4 rfl rfl)
theorem dX4_strike_54 : decode cX4_strike 54 = .ok (.iload_n 1, 1) := dk_27 (dk_at dksX4_strike_2 6 rfl rfl)
theorem dX4_strike_55 : decode cX4_strike 55 = .ok (.iadd, 1) := dk_96 (dk_at dksX4_strike_2 7 rfl rfl)
theorem dX4_strike_56 : decode cX4_strike 56 = .ok (.iaload, 1) := dk_46 (dk_at dksX4_strike_2 8 rfl rfl)
theorem dX4_strike_57 : decode cX4_strike 57 = .ok (.istore_n 2, 1) := dk_61 (dk_at dksX4_strike_2 9 rfl rfl)
theorem dX4_strike_58 : decode cX4_strike 58 = .ok (.aload_n 0, 1) := dk_42 (dk_at dksX4_strike_2 10 rfl rfl)
theorem dX4_strike_59 : decode cX4_strike 59 = .ok (.getfield 93, 3) := dk_180 0 93 (dk_at dksX4_strike_2 11 rfl rfl)
theorem dX4_strike_62 : decode cX4_strike 62 = .ok (.iconst 4, 1) := dk_7 (dk_at dksX4_strike_2 14 rfl rfl)
theorem dX4_strike_63 : decode cX4_strike 63 = .ok (.iload_n 1, 1) := dk_27 (dk_at dksX4_strike_2 15 rfl rfl)
theorem dX4_strike_64 : decode cX4_strike 64 = .ok (.iadd, 1) := dk_96 (dk_at dksX4_strike_2 16 rfl rfl)
theorem dX4_strike_65 : decode cX4_strike 65 = .ok (.iconst (-1), 1) := dk_2 (dk_at dksX4_strike_2 17 rfl rfl)
theorem dX4_strike_66 : decode cX4_strike 66 = .ok (.iastore, 1) := dk_79 (dk_at dksX4_strike_2 18 rfl rfl)
theorem dX4_strike_67 : decode cX4_strike 67 = .ok (.aload_n 0, 1) := dk_42 (dk_at dksX4_strike_2 19 rfl rfl)
theorem dX4_strike_68 : decode cX4_strike 68 = .ok (.getfield 93, 3) := dk_180 0 93 (dk_at dksX4_strike_2 20 rfl rfl)
theorem dX4_strike_71 : decode cX4_strike 71 = .ok (.bipush 13, 2) := dk_16 13 (dk_at dksX4_strike_3 0 rfl rfl)
theorem dX4_strike_73 : decode cX4_strike 73 = .ok (.iload_n 1, 1) := dk_27 (dk_at dksX4_strike_3 2 rfl rfl)
theorem dX4_strike_74 : decode cX4_strike 74 = .ok (.iadd, 1) := dk_96 (dk_at dksX4_strike_3 3 rfl rfl)
theorem dX4_strike_75 : decode cX4_strike 75 = .ok (.iconst (-1), 1) := dk_2 (dk_at dksX4_strike_3 4 rfl rfl)
theorem dX4_strike_76 : decode cX4_strike 76 = .ok (.iastore, 1) := dk_79 (dk_at dksX4_strike_3 5 rfl rfl)
theorem dX4_strike_77 : decode cX4_strike 77 = .ok (.iload_n 2, 1) := dk_28 (dk_at dksX4_strike_3 6 rfl rfl)
theorem dX4_strike_78 : decode cX4_strike 78 = .ok (.ireturn, 1) := dk_172 (dk_at dksX4_strike_3 7 rfl rfl)
abbrev cX4_open : ByteArray := prog_13_method_83_code
def yX4_open : MethodName := ⟨RX4, "open", "(Z)Z"⟩
def dkwX4_open_2 : List UInt8 := [153, 0, 7, 4, 167, 0, 4, 3, 79, 4, 172]
abbrev dktX4_open_2 : List UInt8 := dkwX4_open_2 ++ []
def dkwX4_open_1 : List UInt8 := [42, 4, 182, 1, 215, 158, 0, 7, 4, 167, 0, 4, 3, 172, 42, 182, 1, 218, 42, 180, 0, 93, 6, 27]
abbrev dktX4_open_1 : List UInt8 := dkwX4_open_1 ++ dktX4_open_2
def dkwX4_open_0 : List UInt8 := [42, 3, 181, 0, 168, 42, 180, 0, 93, 6, 46, 4, 160, 0, 7, 4, 167, 0, 4, 3, 27, 160, 0, 17]
abbrev dktX4_open_0 : List UInt8 := dkwX4_open_0 ++ dktX4_open_1
theorem dksX4_open_0 : cX4_open.data.toList.drop 0 = dktX4_open_0 := by decide +kernel
theorem dksX4_open_1 : cX4_open.data.toList.drop 24 = dktX4_open_1 := dk_seg dksX4_open_0 24 rfl rfl
theorem dksX4_open_2 : cX4_open.data.toList.drop 48 = dktX4_open_2 := dk_seg dksX4_open_1 24 rfl rfl
theorem dX4_open_0 : decode cX4_open 0 = .ok (.aload_n 0, 1) := dk_42 (dk_at dksX4_open_0 0 rfl rfl)
theorem dX4_open_1 : decode cX4_open 1 = .ok (.iconst 0, 1) := dk_3 (dk_at dksX4_open_0 1 rfl rfl)
theorem dX4_open_2 : decode cX4_open 2 = .ok (.putfield 168, 3) := dk_181 0 168 (dk_at dksX4_open_0 2 rfl rfl)
theorem dX4_open_5 : decode cX4_open 5 = .ok (.aload_n 0, 1) := dk_42 (dk_at dksX4_open_0 5 rfl rfl)
theorem dX4_open_6 : decode cX4_open 6 = .ok (.getfield 93, 3) := dk_180 0 93 (dk_at dksX4_open_0 6 rfl rfl)
theorem dX4_open_9 : decode cX4_open 9 = .ok (.iconst 3, 1) := dk_6 (dk_at dksX4_open_0 9 rfl rfl)
theorem dX4_open_10 : decode cX4_open 10 = .ok (.iaload, 1) := dk_46 (dk_at dksX4_open_0 10 rfl rfl)
theorem dX4_open_11 : decode cX4_open 11 = .ok (.iconst 1, 1) := dk_4 (dk_at dksX4_open_0 11 rfl rfl)
theorem dX4_open_12 : decode cX4_open 12 = .ok (.if_icmp .ne 7, 3) := dk_160 0 7 (dk_at dksX4_open_0 12 rfl rfl)
theorem dX4_open_15 : decode cX4_open 15 = .ok (.iconst 1, 1) := dk_4 (dk_at dksX4_open_0 15 rfl rfl)
theorem dX4_open_16 : decode cX4_open 16 = .ok (.goto 4, 3) := dk_167 0 4 (dk_at dksX4_open_0 16 rfl rfl)
theorem dX4_open_19 : decode cX4_open 19 = .ok (.iconst 0, 1) := dk_3 (dk_at dksX4_open_0 19 rfl rfl)
theorem dX4_open_20 : decode cX4_open 20 = .ok (.iload_n 1, 1) := dk_27 (dk_at dksX4_open_0 20 rfl rfl)
theorem dX4_open_21 : decode cX4_open 21 = .ok (.if_icmp .ne 17, 3) := dk_160 0 17 (dk_at dksX4_open_0 21 rfl rfl)
theorem dX4_open_24 : decode cX4_open 24 = .ok (.aload_n 0, 1) := dk_42 (dk_at dksX4_open_1 0 rfl rfl)
theorem dX4_open_25 : decode cX4_open 25 = .ok (.iconst 1, 1) := dk_4 (dk_at dksX4_open_1 1 rfl rfl)
theorem dX4_open_26 : decode cX4_open 26 = .ok (.invokevirtual 471, 3) := dk_182 1 215 (dk_at dksX4_open_1 2 rfl rfl)
theorem dX4_open_29 : decode cX4_open 29 = .ok (.ifCond .le 7, 3) := dk_158 0 7 (dk_at dksX4_open_1 5 rfl rfl)
theorem dX4_open_32 : decode cX4_open 32 = .ok (.iconst 1, 1) := dk_4 (dk_at dksX4_open_1 8 rfl rfl)
theorem dX4_open_33 : decode cX4_open 33 = .ok (.goto 4, 3) := dk_167 0 4 (dk_at dksX4_open_1 9 rfl rfl)
theorem dX4_open_36 : decode cX4_open 36 = .ok (.iconst 0, 1) := dk_3 (dk_at dksX4_open_1 12 rfl rfl)
theorem dX4_open_37 : decode cX4_open 37 = .ok (.ireturn, 1) := dk_172 (dk_at dksX4_open_1 13 rfl rfl)
theorem dX4_open_38 : decode cX4_open 38 = .ok (.aload_n 0, 1) := dk_42 (dk_at dksX4_open_1 14 rfl rfl)
theorem dX4_open_39 : decode cX4_open 39 = .ok (.invokevirtual 474, 3) := dk_182 1 218 (dk_at dksX4_open_1 15 rfl rfl)
theorem dX4_open_42 : decode cX4_open 42 = .ok (.aload_n 0, 1) := dk_42 (dk_at dksX4_open_1 18 rfl rfl)
theorem dX4_open_43 : decode cX4_open 43 = .ok (.getfield 93, 3) := dk_180 0 93 (dk_at dksX4_open_1 19 rfl rfl)
theorem dX4_open_46 : decode cX4_open 46 = .ok (.iconst 3, 1) := dk_6 (dk_at dksX4_open_1 22 rfl rfl)
theorem dX4_open_47 : decode cX4_open 47 = .ok (.iload_n 1, 1) := dk_27 (dk_at dksX4_open_1 23 rfl rfl)
theorem dX4_open_48 : decode cX4_open 48 = .ok (.ifCond .eq 7, 3) := dk_153 0 7 (dk_at dksX4_open_2 0 rfl rfl)
theorem dX4_open_51 : decode cX4_open 51 = .ok (.iconst 1, 1) := dk_4 (dk_at dksX4_open_2 3 rfl rfl)
theorem dX4_open_52 : decode cX4_open 52 = .ok (.goto 4, 3) := dk_167 0 4 (dk_at dksX4_open_2 4 rfl rfl)
theorem dX4_open_55 : decode cX4_open 55 = .ok (.iconst 0, 1) := dk_3 (dk_at dksX4_open_2 7 rfl rfl)
theorem dX4_open_56 : decode cX4_open 56 = .ok (.iastore, 1) := dk_79 (dk_at dksX4_open_2 8 rfl rfl)
theorem dX4_open_57 : decode cX4_open 57 = .ok (.iconst 1, 1) := dk_4 (dk_at dksX4_open_2 9 rfl rfl)
theorem dX4_open_58 : decode cX4_open 58 = .ok (.ireturn, 1) := dk_172 (dk_at dksX4_open_2 10 rfl rfl)
abbrev cX4_when : ByteArray := prog_13_method_84_code
def yX4_when : MethodName := ⟨RX4, "when", "(II)I"⟩
def dkwX4_when_2 : List UInt8 := [16, 13, 27, 96, 46, 172]
abbrev dktX4_when_2 : List UInt8 := dkwX4_when_2 ++ []
def dkwX4_when_1 : List UInt8 := [42, 182, 1, 227, 28, 154, 0, 14, 42, 180, 0, 126, 7, 27, 96, 46, 167, 0, 12, 42, 180, 0, 126]
abbrev dktX4_when_1 : List UInt8 := dkwX4_when_1 ++ dktX4_when_2
def dkwX4_when_0 : List UInt8 := [42, 3, 181, 0, 168, 42, 27, 182, 1, 212, 153, 0, 12, 42, 28, 4, 182, 1, 206, 154, 0, 5, 3, 172]
abbrev dktX4_when_0 : List UInt8 := dkwX4_when_0 ++ dktX4_when_1
theorem dksX4_when_0 : cX4_when.data.toList.drop 0 = dktX4_when_0 := by decide +kernel
theorem dksX4_when_1 : cX4_when.data.toList.drop 24 = dktX4_when_1 := dk_seg dksX4_when_0 24 rfl rfl
theorem dksX4_when_2 : cX4_when.data.toList.drop 47 = dktX4_when_2 := dk_seg dksX4_when_1 23 rfl rfl
theorem dX4_when_0 : decode cX4_when 0 = .ok (.aload_n 0, 1) := dk_42 (dk_at dksX4_when_0 0 rfl rfl)
theorem dX4_when_1 : decode cX4_when 1 = .ok (.iconst 0, 1) := dk_3 (dk_at dksX4_when_0 1 rfl rfl)
theorem dX4_when_2 : decode cX4_when 2 = .ok (.putfield 168, 3) := dk_181 0 168 (dk_at dksX4_when_0 2 rfl rfl)
theorem dX4_when_5 : decode cX4_when 5 = .ok (.aload_n 0, 1) := dk_42 (dk_at dksX4_when_0 5 rfl rfl)
theorem dX4_when_6 : decode cX4_when 6 = .ok (.iload_n 1, 1) := dk_27 (dk_at dksX4_when_0 6 rfl rfl)
theorem dX4_when_7 : decode cX4_when 7 = .ok (.invokevirtual 468, 3) := dk_182 1 212 (dk_at dksX4_when_0 7 rfl rfl)
theorem dX4_when_10 : decode cX4_when 10 = .ok (.ifCond .eq 12, 3) := dk_153 0 12 (dk_at dksX4_when_0 10 rfl rfl)
theorem dX4_when_13 : decode cX4_when 13 = .ok (.aload_n 0, 1) := dk_42 (dk_at dksX4_when_0 13 rfl rfl)
theorem dX4_when_14 : decode cX4_when 14 = .ok (.iload_n 2, 1) := dk_28 (dk_at dksX4_when_0 14 rfl rfl)
theorem dX4_when_15 : decode cX4_when 15 = .ok (.iconst 1, 1) := dk_4 (dk_at dksX4_when_0 15 rfl rfl)
theorem dX4_when_16 : decode cX4_when 16 = .ok (.invokevirtual 462, 3) := dk_182 1 206 (dk_at dksX4_when_0 16 rfl rfl)
theorem dX4_when_19 : decode cX4_when 19 = .ok (.ifCond .ne 5, 3) := dk_154 0 5 (dk_at dksX4_when_0 19 rfl rfl)
theorem dX4_when_22 : decode cX4_when 22 = .ok (.iconst 0, 1) := dk_3 (dk_at dksX4_when_0 22 rfl rfl)
theorem dX4_when_23 : decode cX4_when 23 = .ok (.ireturn, 1) := dk_172 (dk_at dksX4_when_0 23 rfl rfl)
theorem dX4_when_24 : decode cX4_when 24 = .ok (.aload_n 0, 1) := dk_42 (dk_at dksX4_when_1 0 rfl rfl)
theorem dX4_when_25 : decode cX4_when 25 = .ok (.invokevirtual 483, 3) := dk_182 1 227 (dk_at dksX4_when_1 1 rfl rfl)
theorem dX4_when_28 : decode cX4_when 28 = .ok (.iload_n 2, 1) := dk_28 (dk_at dksX4_when_1 4 rfl rfl)
theorem dX4_when_29 : decode cX4_when 29 = .ok (.ifCond .ne 14, 3) := dk_154 0 14 (dk_at dksX4_when_1 5 rfl rfl)
theorem dX4_when_32 : decode cX4_when 32 = .ok (.aload_n 0, 1) := dk_42 (dk_at dksX4_when_1 8 rfl rfl)
theorem dX4_when_33 : decode cX4_when 33 = .ok (.getfield 126, 3) := dk_180 0 126 (dk_at dksX4_when_1 9 rfl rfl)
theorem dX4_when_36 : decode cX4_when 36 = .ok (.iconst 4, 1) := dk_7 (dk_at dksX4_when_1 12 rfl rfl)
theorem dX4_when_37 : decode cX4_when 37 = .ok (.iload_n 1, 1) := dk_27 (dk_at dksX4_when_1 13 rfl rfl)
theorem dX4_when_38 : decode cX4_when 38 = .ok (.iadd, 1) := dk_96 (dk_at dksX4_when_1 14 rfl rfl)
theorem dX4_when_39 : decode cX4_when 39 = .ok (.iaload, 1) := dk_46 (dk_at dksX4_when_1 15 rfl rfl)
theorem dX4_when_40 : decode cX4_when 40 = .ok (.goto 12, 3) := dk_167 0 12 (dk_at dksX4_when_1 16 rfl rfl)
theorem dX4_when_43 : decode cX4_when 43 = .ok (.aload_n 0, 1) := dk_42 (dk_at dksX4_when_1 19 rfl rfl)
theorem dX4_when_44 : decode cX4_when 44 = .ok (.getfield 126, 3) := dk_180 0 126 (dk_at dksX4_when_1 20 rfl rfl)
theorem dX4_when_47 : decode cX4_when 47 = .ok (.bipush 13, 2) := dk_16 13 (dk_at dksX4_when_2 0 rfl rfl)
theorem dX4_when_49 : decode cX4_when 49 = .ok (.iload_n 1, 1) := dk_27 (dk_at dksX4_when_2 2 rfl rfl)
theorem dX4_when_50 : decode cX4_when 50 = .ok (.iadd, 1) := dk_96 (dk_at dksX4_when_2 3 rfl rfl)
theorem dX4_when_51 : decode cX4_when 51 = .ok (.iaload, 1) := dk_46 (dk_at dksX4_when_2 4 rfl rfl)
theorem dX4_when_52 : decode cX4_when 52 = .ok (.ireturn, 1) := dk_172 (dk_at dksX4_when_2 5 rfl rfl)
abbrev cX4_playsAll : ByteArray := prog_13_method_64_code
def yX4_playsAll : MethodName := ⟨RX4, "playsAll", "()V"⟩
def dkwX4_playsAll_0 : List UInt8 := [42, 182, 1, 184, 42, 42, 180, 0, 126, 3, 42, 182, 1, 187, 182, 1, 190, 177]
abbrev dktX4_playsAll_0 : List UInt8 := dkwX4_playsAll_0 ++ []
theorem dksX4_playsAll_0 : cX4_playsAll.data.toList.drop 0 = dktX4_playsAll_0 := by decide +kernel
theorem dX4_playsAll_0 : decode cX4_playsAll 0 = .ok (.aload_n 0, 1) := dk_42 (dk_at dksX4_playsAll_0 0 rfl rfl)
theorem dX4_playsAll_1 : decode cX4_playsAll 1 = .ok (.invokevirtual 440, 3) := dk_182 1 184 (dk_at dksX4_playsAll_0 1 rfl rfl)
theorem dX4_playsAll_4 : decode cX4_playsAll 4 = .ok (.aload_n 0, 1) := dk_42 (dk_at dksX4_playsAll_0 4 rfl rfl)
theorem dX4_playsAll_5 : decode cX4_playsAll 5 = .ok (.aload_n 0, 1) := dk_42 (dk_at dksX4_playsAll_0 5 rfl rfl)
theorem dX4_playsAll_6 : decode cX4_playsAll 6 = .ok (.getfield 126, 3) := dk_180 0 126 (dk_at dksX4_playsAll_0 6 rfl rfl)
theorem dX4_playsAll_9 : decode cX4_playsAll 9 = .ok (.iconst 0, 1) := dk_3 (dk_at dksX4_playsAll_0 9 rfl rfl)
theorem dX4_playsAll_10 : decode cX4_playsAll 10 = .ok (.aload_n 0, 1) := dk_42 (dk_at dksX4_playsAll_0 10 rfl rfl)
theorem dX4_playsAll_11 : decode cX4_playsAll 11 = .ok (.invokevirtual 443, 3) := dk_182 1 187 (dk_at dksX4_playsAll_0 11 rfl rfl)
theorem dX4_playsAll_14 : decode cX4_playsAll 14 = .ok (.invokevirtual 446, 3) := dk_182 1 190 (dk_at dksX4_playsAll_0 14 rfl rfl)
theorem dX4_playsAll_17 : decode cX4_playsAll 17 = .ok (.return_, 1) := dk_177 (dk_at dksX4_playsAll_0 17 rfl rfl)
abbrev cX4_begins : ByteArray := prog_13_method_61_code
def yX4_begins : MethodName := ⟨RX4, "begins", "()V"⟩
def dkwX4_begins_2 : List UInt8 := [162, 0, 16, 42, 180, 0, 105, 27, 3, 79, 132, 1, 1, 167, 255, 241, 177]
abbrev dktX4_begins_2 : List UInt8 := dkwX4_begins_2 ++ []
def dkwX4_begins_1 : List UInt8 := [27, 16, 9, 162, 0, 16, 42, 180, 0, 114, 27, 2, 79, 132, 1, 1, 167, 255, 240, 3, 60, 27, 6]
abbrev dktX4_begins_1 : List UInt8 := dkwX4_begins_1 ++ dktX4_begins_2
def dkwX4_begins_0 : List UInt8 := [42, 42, 180, 0, 93, 42, 180, 0, 126, 182, 1, 109, 42, 3, 181, 1, 168, 42, 3, 181, 1, 147, 3, 60]
abbrev dktX4_begins_0 : List UInt8 := dkwX4_begins_0 ++ dktX4_begins_1
theorem dksX4_begins_0 : cX4_begins.data.toList.drop 0 = dktX4_begins_0 := by decide +kernel
theorem dksX4_begins_1 : cX4_begins.data.toList.drop 24 = dktX4_begins_1 := dk_seg dksX4_begins_0 24 rfl rfl
theorem dksX4_begins_2 : cX4_begins.data.toList.drop 47 = dktX4_begins_2 := dk_seg dksX4_begins_1 23 rfl rfl
theorem dX4_begins_0 : decode cX4_begins 0 = .ok (.aload_n 0, 1) := dk_42 (dk_at dksX4_begins_0 0 rfl rfl)
theorem dX4_begins_1 : decode cX4_begins 1 = .ok (.aload_n 0, 1) := dk_42 (dk_at dksX4_begins_0 1 rfl rfl)
theorem dX4_begins_2 : decode cX4_begins 2 = .ok (.getfield 93, 3) := dk_180 0 93 (dk_at dksX4_begins_0 2 rfl rfl)
theorem dX4_begins_5 : decode cX4_begins 5 = .ok (.aload_n 0, 1) := dk_42 (dk_at dksX4_begins_0 5 rfl rfl)
theorem dX4_begins_6 : decode cX4_begins 6 = .ok (.getfield 126, 3) := dk_180 0 126 (dk_at dksX4_begins_0 6 rfl rfl)
theorem dX4_begins_9 : decode cX4_begins 9 = .ok (.invokevirtual 365, 3) := dk_182 1 109 (dk_at dksX4_begins_0 9 rfl rfl)
theorem dX4_begins_12 : decode cX4_begins 12 = .ok (.aload_n 0, 1) := dk_42 (dk_at dksX4_begins_0 12 rfl rfl)
theorem dX4_begins_13 : decode cX4_begins 13 = .ok (.iconst 0, 1) := dk_3 (dk_at dksX4_begins_0 13 rfl rfl)
theorem dX4_begins_14 : decode cX4_begins 14 = .ok (.putfield 424, 3) := dk_181 1 168 (dk_at dksX4_begins_0 14 rfl rfl)
theorem dX4_begins_17 : decode cX4_begins 17 = .ok (.aload_n 0, 1) := dk_42 (dk_at dksX4_begins_0 17 rfl rfl)
theorem dX4_begins_18 : decode cX4_begins 18 = .ok (.iconst 0, 1) := dk_3 (dk_at dksX4_begins_0 18 rfl rfl)
theorem dX4_begins_19 : decode cX4_begins 19 = .ok (.putfield 403, 3) := dk_181 1 147 (dk_at dksX4_begins_0 19 rfl rfl)
theorem dX4_begins_22 : decode cX4_begins 22 = .ok (.iconst 0, 1) := dk_3 (dk_at dksX4_begins_0 22 rfl rfl)
theorem dX4_begins_23 : decode cX4_begins 23 = .ok (.istore_n 1, 1) := dk_60 (dk_at dksX4_begins_0 23 rfl rfl)
theorem dX4_begins_24 : decode cX4_begins 24 = .ok (.iload_n 1, 1) := dk_27 (dk_at dksX4_begins_1 0 rfl rfl)
theorem dX4_begins_25 : decode cX4_begins 25 = .ok (.bipush 9, 2) := dk_16 9 (dk_at dksX4_begins_1 1 rfl rfl)
theorem dX4_begins_27 : decode cX4_begins 27 = .ok (.if_icmp .ge 16, 3) := dk_162 0 16 (dk_at dksX4_begins_1 3 rfl rfl)
theorem dX4_begins_30 : decode cX4_begins 30 = .ok (.aload_n 0, 1) := dk_42 (dk_at dksX4_begins_1 6 rfl rfl)
theorem dX4_begins_31 : decode cX4_begins 31 = .ok (.getfield 114, 3) := dk_180 0 114 (dk_at dksX4_begins_1 7 rfl rfl)
theorem dX4_begins_34 : decode cX4_begins 34 = .ok (.iload_n 1, 1) := dk_27 (dk_at dksX4_begins_1 10 rfl rfl)
theorem dX4_begins_35 : decode cX4_begins 35 = .ok (.iconst (-1), 1) := dk_2 (dk_at dksX4_begins_1 11 rfl rfl)
theorem dX4_begins_36 : decode cX4_begins 36 = .ok (.iastore, 1) := dk_79 (dk_at dksX4_begins_1 12 rfl rfl)
theorem dX4_begins_37 : decode cX4_begins 37 = .ok (.iinc 1 1, 3) := dk_132 1 1 (dk_at dksX4_begins_1 13 rfl rfl)
theorem dX4_begins_40 : decode cX4_begins 40 = .ok (.goto (-16), 3) := dk_167 255 240 (dk_at dksX4_begins_1 16 rfl rfl)
theorem dX4_begins_43 : decode cX4_begins 43 = .ok (.iconst 0, 1) := dk_3 (dk_at dksX4_begins_1 19 rfl rfl)
theorem dX4_begins_44 : decode cX4_begins 44 = .ok (.istore_n 1, 1) := dk_60 (dk_at dksX4_begins_1 20 rfl rfl)
theorem dX4_begins_45 : decode cX4_begins 45 = .ok (.iload_n 1, 1) := dk_27 (dk_at dksX4_begins_1 21 rfl rfl)
theorem dX4_begins_46 : decode cX4_begins 46 = .ok (.iconst 3, 1) := dk_6 (dk_at dksX4_begins_1 22 rfl rfl)
theorem dX4_begins_47 : decode cX4_begins 47 = .ok (.if_icmp .ge 16, 3) := dk_162 0 16 (dk_at dksX4_begins_2 0 rfl rfl)
theorem dX4_begins_50 : decode cX4_begins 50 = .ok (.aload_n 0, 1) := dk_42 (dk_at dksX4_begins_2 3 rfl rfl)
theorem dX4_begins_51 : decode cX4_begins 51 = .ok (.getfield 105, 3) := dk_180 0 105 (dk_at dksX4_begins_2 4 rfl rfl)
theorem dX4_begins_54 : decode cX4_begins 54 = .ok (.iload_n 1, 1) := dk_27 (dk_at dksX4_begins_2 7 rfl rfl)
theorem dX4_begins_55 : decode cX4_begins 55 = .ok (.iconst 0, 1) := dk_3 (dk_at dksX4_begins_2 8 rfl rfl)
theorem dX4_begins_56 : decode cX4_begins 56 = .ok (.iastore, 1) := dk_79 (dk_at dksX4_begins_2 9 rfl rfl)
theorem dX4_begins_57 : decode cX4_begins 57 = .ok (.iinc 1 1, 3) := dk_132 1 1 (dk_at dksX4_begins_2 10 rfl rfl)
theorem dX4_begins_60 : decode cX4_begins 60 = .ok (.goto (-15), 3) := dk_167 255 241 (dk_at dksX4_begins_2 13 rfl rfl)
theorem dX4_begins_63 : decode cX4_begins 63 = .ok (.return_, 1) := dk_177 (dk_at dksX4_begins_2 16 rfl rfl)
abbrev cX4_mornings0 : ByteArray := prog_13_method_62_code
def yX4_mornings0 : MethodName := ⟨RX4, "mornings0", "()I"⟩
def dkwX4_mornings0_0 : List UInt8 := [16, 30, 16, 60, 42, 180, 0, 93, 3, 46, 100, 184, 1, 140, 172]
abbrev dktX4_mornings0_0 : List UInt8 := dkwX4_mornings0_0 ++ []
theorem dksX4_mornings0_0 : cX4_mornings0.data.toList.drop 0 = dktX4_mornings0_0 := by decide +kernel
theorem dX4_mornings0_0 : decode cX4_mornings0 0 = .ok (.bipush 30, 2) := dk_16 30 (dk_at dksX4_mornings0_0 0 rfl rfl)
theorem dX4_mornings0_2 : decode cX4_mornings0 2 = .ok (.bipush 60, 2) := dk_16 60 (dk_at dksX4_mornings0_0 2 rfl rfl)
theorem dX4_mornings0_4 : decode cX4_mornings0 4 = .ok (.aload_n 0, 1) := dk_42 (dk_at dksX4_mornings0_0 4 rfl rfl)
theorem dX4_mornings0_5 : decode cX4_mornings0 5 = .ok (.getfield 93, 3) := dk_180 0 93 (dk_at dksX4_mornings0_0 5 rfl rfl)
theorem dX4_mornings0_8 : decode cX4_mornings0 8 = .ok (.iconst 0, 1) := dk_3 (dk_at dksX4_mornings0_0 8 rfl rfl)
theorem dX4_mornings0_9 : decode cX4_mornings0 9 = .ok (.iaload, 1) := dk_46 (dk_at dksX4_mornings0_0 9 rfl rfl)
theorem dX4_mornings0_10 : decode cX4_mornings0 10 = .ok (.isub, 1) := dk_100 (dk_at dksX4_mornings0_0 10 rfl rfl)
theorem dX4_mornings0_11 : decode cX4_mornings0 11 = .ok (.invokestatic 396, 3) := dk_184 1 140 (dk_at dksX4_mornings0_0 11 rfl rfl)
theorem dX4_mornings0_14 : decode cX4_mornings0 14 = .ok (.ireturn, 1) := dk_172 (dk_at dksX4_mornings0_0 14 rfl rfl)
abbrev cX4_found : ByteArray := prog_13_method_85_code
def yX4_found : MethodName := ⟨RX4, "found", "(I)I"⟩
def dkwX4_found_1 : List UInt8 := [46, 172]
abbrev dktX4_found_1 : List UInt8 := dkwX4_found_1 ++ []
def dkwX4_found_0 : List UInt8 := [42, 3, 181, 0, 168, 42, 27, 182, 1, 212, 154, 0, 5, 3, 172, 42, 182, 1, 227, 42, 180, 0, 114, 27]
abbrev dktX4_found_0 : List UInt8 := dkwX4_found_0 ++ dktX4_found_1
theorem dksX4_found_0 : cX4_found.data.toList.drop 0 = dktX4_found_0 := by decide +kernel
theorem dksX4_found_1 : cX4_found.data.toList.drop 24 = dktX4_found_1 := dk_seg dksX4_found_0 24 rfl rfl
theorem dX4_found_0 : decode cX4_found 0 = .ok (.aload_n 0, 1) := dk_42 (dk_at dksX4_found_0 0 rfl rfl)
theorem dX4_found_1 : decode cX4_found 1 = .ok (.iconst 0, 1) := dk_3 (dk_at dksX4_found_0 1 rfl rfl)
theorem dX4_found_2 : decode cX4_found 2 = .ok (.putfield 168, 3) := dk_181 0 168 (dk_at dksX4_found_0 2 rfl rfl)
theorem dX4_found_5 : decode cX4_found 5 = .ok (.aload_n 0, 1) := dk_42 (dk_at dksX4_found_0 5 rfl rfl)
theorem dX4_found_6 : decode cX4_found 6 = .ok (.iload_n 1, 1) := dk_27 (dk_at dksX4_found_0 6 rfl rfl)
theorem dX4_found_7 : decode cX4_found 7 = .ok (.invokevirtual 468, 3) := dk_182 1 212 (dk_at dksX4_found_0 7 rfl rfl)
theorem dX4_found_10 : decode cX4_found 10 = .ok (.ifCond .ne 5, 3) := dk_154 0 5 (dk_at dksX4_found_0 10 rfl rfl)
theorem dX4_found_13 : decode cX4_found 13 = .ok (.iconst 0, 1) := dk_3 (dk_at dksX4_found_0 13 rfl rfl)
theorem dX4_found_14 : decode cX4_found 14 = .ok (.ireturn, 1) := dk_172 (dk_at dksX4_found_0 14 rfl rfl)
theorem dX4_found_15 : decode cX4_found 15 = .ok (.aload_n 0, 1) := dk_42 (dk_at dksX4_found_0 15 rfl rfl)
theorem dX4_found_16 : decode cX4_found 16 = .ok (.invokevirtual 483, 3) := dk_182 1 227 (dk_at dksX4_found_0 16 rfl rfl)
theorem dX4_found_19 : decode cX4_found 19 = .ok (.aload_n 0, 1) := dk_42 (dk_at dksX4_found_0 19 rfl rfl)
theorem dX4_found_20 : decode cX4_found 20 = .ok (.getfield 114, 3) := dk_180 0 114 (dk_at dksX4_found_0 20 rfl rfl)
theorem dX4_found_23 : decode cX4_found 23 = .ok (.iload_n 1, 1) := dk_27 (dk_at dksX4_found_0 23 rfl rfl)
theorem dX4_found_24 : decode cX4_found 24 = .ok (.iaload, 1) := dk_46 (dk_at dksX4_found_1 0 rfl rfl)
theorem dX4_found_25 : decode cX4_found 25 = .ok (.ireturn, 1) := dk_172 (dk_at dksX4_found_1 1 rfl rfl)
abbrev cX4_next : ByteArray := prog_13_method_86_code
def yX4_next : MethodName := ⟨RX4, "next", "(I)I"⟩
def dkwX4_next_1 : List UInt8 := [42, 182, 1, 227, 27, 42, 180, 1, 168, 162, 0, 12, 42, 180, 0, 111, 27, 46, 167, 0, 4, 2, 172]
abbrev dktX4_next_1 : List UInt8 := dkwX4_next_1 ++ []
def dkwX4_next_0 : List UInt8 := [42, 3, 181, 0, 168, 42, 27, 155, 0, 7, 4, 167, 0, 4, 3, 4, 182, 1, 84, 154, 0, 5, 3, 172]
abbrev dktX4_next_0 : List UInt8 := dkwX4_next_0 ++ dktX4_next_1
theorem dksX4_next_0 : cX4_next.data.toList.drop 0 = dktX4_next_0 := by decide +kernel
theorem dksX4_next_1 : cX4_next.data.toList.drop 24 = dktX4_next_1 := dk_seg dksX4_next_0 24 rfl rfl
theorem dX4_next_0 : decode cX4_next 0 = .ok (.aload_n 0, 1) := dk_42 (dk_at dksX4_next_0 0 rfl rfl)
theorem dX4_next_1 : decode cX4_next 1 = .ok (.iconst 0, 1) := dk_3 (dk_at dksX4_next_0 1 rfl rfl)
theorem dX4_next_2 : decode cX4_next 2 = .ok (.putfield 168, 3) := dk_181 0 168 (dk_at dksX4_next_0 2 rfl rfl)
theorem dX4_next_5 : decode cX4_next 5 = .ok (.aload_n 0, 1) := dk_42 (dk_at dksX4_next_0 5 rfl rfl)
theorem dX4_next_6 : decode cX4_next 6 = .ok (.iload_n 1, 1) := dk_27 (dk_at dksX4_next_0 6 rfl rfl)
theorem dX4_next_7 : decode cX4_next 7 = .ok (.ifCond .lt 7, 3) := dk_155 0 7 (dk_at dksX4_next_0 7 rfl rfl)
theorem dX4_next_10 : decode cX4_next 10 = .ok (.iconst 1, 1) := dk_4 (dk_at dksX4_next_0 10 rfl rfl)
theorem dX4_next_11 : decode cX4_next 11 = .ok (.goto 4, 3) := dk_167 0 4 (dk_at dksX4_next_0 11 rfl rfl)
theorem dX4_next_14 : decode cX4_next 14 = .ok (.iconst 0, 1) := dk_3 (dk_at dksX4_next_0 14 rfl rfl)
theorem dX4_next_15 : decode cX4_next 15 = .ok (.iconst 1, 1) := dk_4 (dk_at dksX4_next_0 15 rfl rfl)
theorem dX4_next_16 : decode cX4_next 16 = .ok (.invokevirtual 340, 3) := dk_182 1 84 (dk_at dksX4_next_0 16 rfl rfl)
theorem dX4_next_19 : decode cX4_next 19 = .ok (.ifCond .ne 5, 3) := dk_154 0 5 (dk_at dksX4_next_0 19 rfl rfl)
theorem dX4_next_22 : decode cX4_next 22 = .ok (.iconst 0, 1) := dk_3 (dk_at dksX4_next_0 22 rfl rfl)
theorem dX4_next_23 : decode cX4_next 23 = .ok (.ireturn, 1) := dk_172 (dk_at dksX4_next_0 23 rfl rfl)
theorem dX4_next_24 : decode cX4_next 24 = .ok (.aload_n 0, 1) := dk_42 (dk_at dksX4_next_1 0 rfl rfl)
theorem dX4_next_25 : decode cX4_next 25 = .ok (.invokevirtual 483, 3) := dk_182 1 227 (dk_at dksX4_next_1 1 rfl rfl)
theorem dX4_next_28 : decode cX4_next 28 = .ok (.iload_n 1, 1) := dk_27 (dk_at dksX4_next_1 4 rfl rfl)
theorem dX4_next_29 : decode cX4_next 29 = .ok (.aload_n 0, 1) := dk_42 (dk_at dksX4_next_1 5 rfl rfl)
theorem dX4_next_30 : decode cX4_next 30 = .ok (.getfield 424, 3) := dk_180 1 168 (dk_at dksX4_next_1 6 rfl rfl)
theorem dX4_next_33 : decode cX4_next 33 = .ok (.if_icmp .ge 12, 3) := dk_162 0 12 (dk_at dksX4_next_1 9 rfl rfl)
theorem dX4_next_36 : decode cX4_next 36 = .ok (.aload_n 0, 1) := dk_42 (dk_at dksX4_next_1 12 rfl rfl)
theorem dX4_next_37 : decode cX4_next 37 = .ok (.getfield 111, 3) := dk_180 0 111 (dk_at dksX4_next_1 13 rfl rfl)
theorem dX4_next_40 : decode cX4_next 40 = .ok (.iload_n 1, 1) := dk_27 (dk_at dksX4_next_1 16 rfl rfl)
theorem dX4_next_41 : decode cX4_next 41 = .ok (.iaload, 1) := dk_46 (dk_at dksX4_next_1 17 rfl rfl)
theorem dX4_next_42 : decode cX4_next 42 = .ok (.goto 4, 3) := dk_167 0 4 (dk_at dksX4_next_1 18 rfl rfl)
theorem dX4_next_45 : decode cX4_next 45 = .ok (.iconst (-1), 1) := dk_2 (dk_at dksX4_next_1 21 rfl rfl)
theorem dX4_next_46 : decode cX4_next 46 = .ok (.ireturn, 1) := dk_172 (dk_at dksX4_next_1 22 rfl rfl)
abbrev cX4_owes : ByteArray := prog_13_method_87_code
def yX4_owes : MethodName := ⟨RX4, "owes", "(II)I"⟩
def dkwX4_owes_2 : List UInt8 := [184, 1, 140, 182, 1, 190, 42, 180, 0, 126, 16, 31, 27, 96, 46, 172]
abbrev dktX4_owes_2 : List UInt8 := dkwX4_owes_2 ++ []
def dkwX4_owes_1 : List UInt8 := [182, 1, 84, 154, 0, 5, 3, 172, 42, 182, 1, 184, 42, 42, 180, 0, 126, 3, 28, 42, 182, 1, 187]
abbrev dktX4_owes_1 : List UInt8 := dkwX4_owes_1 ++ dktX4_owes_2
def dkwX4_owes_0 : List UInt8 := [42, 3, 181, 0, 168, 42, 27, 182, 1, 203, 153, 0, 18, 42, 28, 3, 16, 30, 184, 1, 193, 5]
abbrev dktX4_owes_0 : List UInt8 := dkwX4_owes_0 ++ dktX4_owes_1
theorem dksX4_owes_0 : cX4_owes.data.toList.drop 0 = dktX4_owes_0 := by decide +kernel
theorem dksX4_owes_1 : cX4_owes.data.toList.drop 22 = dktX4_owes_1 := dk_seg dksX4_owes_0 22 rfl rfl
theorem dksX4_owes_2 : cX4_owes.data.toList.drop 45 = dktX4_owes_2 := dk_seg dksX4_owes_1 23 rfl rfl
theorem dX4_owes_0 : decode cX4_owes 0 = .ok (.aload_n 0, 1) := dk_42 (dk_at dksX4_owes_0 0 rfl rfl)
theorem dX4_owes_1 : decode cX4_owes 1 = .ok (.iconst 0, 1) := dk_3 (dk_at dksX4_owes_0 1 rfl rfl)
theorem dX4_owes_2 : decode cX4_owes 2 = .ok (.putfield 168, 3) := dk_181 0 168 (dk_at dksX4_owes_0 2 rfl rfl)
theorem dX4_owes_5 : decode cX4_owes 5 = .ok (.aload_n 0, 1) := dk_42 (dk_at dksX4_owes_0 5 rfl rfl)
theorem dX4_owes_6 : decode cX4_owes 6 = .ok (.iload_n 1, 1) := dk_27 (dk_at dksX4_owes_0 6 rfl rfl)
theorem dX4_owes_7 : decode cX4_owes 7 = .ok (.invokevirtual 459, 3) := dk_182 1 203 (dk_at dksX4_owes_0 7 rfl rfl)
theorem dX4_owes_10 : decode cX4_owes 10 = .ok (.ifCond .eq 18, 3) := dk_153 0 18 (dk_at dksX4_owes_0 10 rfl rfl)
theorem dX4_owes_13 : decode cX4_owes 13 = .ok (.aload_n 0, 1) := dk_42 (dk_at dksX4_owes_0 13 rfl rfl)
theorem dX4_owes_14 : decode cX4_owes 14 = .ok (.iload_n 2, 1) := dk_28 (dk_at dksX4_owes_0 14 rfl rfl)
theorem dX4_owes_15 : decode cX4_owes 15 = .ok (.iconst 0, 1) := dk_3 (dk_at dksX4_owes_0 15 rfl rfl)
theorem dX4_owes_16 : decode cX4_owes 16 = .ok (.bipush 30, 2) := dk_16 30 (dk_at dksX4_owes_0 16 rfl rfl)
theorem dX4_owes_18 : decode cX4_owes 18 = .ok (.invokestatic 449, 3) := dk_184 1 193 (dk_at dksX4_owes_0 18 rfl rfl)
theorem dX4_owes_21 : decode cX4_owes 21 = .ok (.iconst 2, 1) := dk_5 (dk_at dksX4_owes_0 21 rfl rfl)
theorem dX4_owes_22 : decode cX4_owes 22 = .ok (.invokevirtual 340, 3) := dk_182 1 84 (dk_at dksX4_owes_1 0 rfl rfl)
theorem dX4_owes_25 : decode cX4_owes 25 = .ok (.ifCond .ne 5, 3) := dk_154 0 5 (dk_at dksX4_owes_1 3 rfl rfl)
theorem dX4_owes_28 : decode cX4_owes 28 = .ok (.iconst 0, 1) := dk_3 (dk_at dksX4_owes_1 6 rfl rfl)
theorem dX4_owes_29 : decode cX4_owes 29 = .ok (.ireturn, 1) := dk_172 (dk_at dksX4_owes_1 7 rfl rfl)
theorem dX4_owes_30 : decode cX4_owes 30 = .ok (.aload_n 0, 1) := dk_42 (dk_at dksX4_owes_1 8 rfl rfl)
theorem dX4_owes_31 : decode cX4_owes 31 = .ok (.invokevirtual 440, 3) := dk_182 1 184 (dk_at dksX4_owes_1 9 rfl rfl)
theorem dX4_owes_34 : decode cX4_owes 34 = .ok (.aload_n 0, 1) := dk_42 (dk_at dksX4_owes_1 12 rfl rfl)
theorem dX4_owes_35 : decode cX4_owes 35 = .ok (.aload_n 0, 1) := dk_42 (dk_at dksX4_owes_1 13 rfl rfl)
theorem dX4_owes_36 : decode cX4_owes 36 = .ok (.getfield 126, 3) := dk_180 0 126 (dk_at dksX4_owes_1 14 rfl rfl)
theorem dX4_owes_39 : decode cX4_owes 39 = .ok (.iconst 0, 1) := dk_3 (dk_at dksX4_owes_1 17 rfl rfl)
theorem dX4_owes_40 : decode cX4_owes 40 = .ok (.iload_n 2, 1) := dk_28 (dk_at dksX4_owes_1 18 rfl rfl)
theorem dX4_owes_41 : decode cX4_owes 41 = .ok (.aload_n 0, 1) := dk_42 (dk_at dksX4_owes_1 19 rfl rfl)
theorem dX4_owes_42 : decode cX4_owes 42 = .ok (.invokevirtual 443, 3) := dk_182 1 187 (dk_at dksX4_owes_1 20 rfl rfl)
theorem dX4_owes_45 : decode cX4_owes 45 = .ok (.invokestatic 396, 3) := dk_184 1 140 (dk_at dksX4_owes_2 0 rfl rfl)
theorem dX4_owes_48 : decode cX4_owes 48 = .ok (.invokevirtual 446, 3) := dk_182 1 190 (dk_at dksX4_owes_2 3 rfl rfl)
theorem dX4_owes_51 : decode cX4_owes 51 = .ok (.aload_n 0, 1) := dk_42 (dk_at dksX4_owes_2 6 rfl rfl)
theorem dX4_owes_52 : decode cX4_owes 52 = .ok (.getfield 126, 3) := dk_180 0 126 (dk_at dksX4_owes_2 7 rfl rfl)
theorem dX4_owes_55 : decode cX4_owes 55 = .ok (.bipush 31, 2) := dk_16 31 (dk_at dksX4_owes_2 10 rfl rfl)
theorem dX4_owes_57 : decode cX4_owes 57 = .ok (.iload_n 1, 1) := dk_27 (dk_at dksX4_owes_2 12 rfl rfl)
theorem dX4_owes_58 : decode cX4_owes 58 = .ok (.iadd, 1) := dk_96 (dk_at dksX4_owes_2 13 rfl rfl)
theorem dX4_owes_59 : decode cX4_owes 59 = .ok (.iaload, 1) := dk_46 (dk_at dksX4_owes_2 14 rfl rfl)
theorem dX4_owes_60 : decode cX4_owes 60 = .ok (.ireturn, 1) := dk_172 (dk_at dksX4_owes_2 15 rfl rfl)
abbrev cX4_instead : ByteArray := prog_13_method_88_code
def yX4_instead : MethodName := ⟨RX4, "instead", "(I)I"⟩
def dkwX4_instead_4 : List UInt8 := [159, 0, 10, 42, 180, 0, 111, 29, 46, 172, 132, 3, 1, 167, 255, 218, 2, 172]
abbrev dktX4_instead_4 : List UInt8 := dkwX4_instead_4 ++ []
def dkwX4_instead_3 : List UInt8 := [180, 1, 168, 162, 0, 36, 29, 28, 162, 0, 18, 42, 180, 0, 111, 29, 46, 42, 180, 0, 132, 29, 46]
abbrev dktX4_instead_3 : List UInt8 := dkwX4_instead_3 ++ dktX4_instead_4
def dkwX4_instead_2 : List UInt8 := [42, 180, 1, 168, 61, 42, 27, 181, 0, 108, 42, 182, 1, 227, 42, 2, 181, 0, 108, 3, 62, 29, 42]
abbrev dktX4_instead_2 : List UInt8 := dkwX4_instead_2 ++ dktX4_instead_3
def dkwX4_instead_1 : List UInt8 := [159, 0, 8, 42, 182, 1, 230, 172, 42, 182, 1, 227, 42, 42, 180, 0, 111, 42, 180, 0, 132, 182, 1, 109]
abbrev dktX4_instead_1 : List UInt8 := dkwX4_instead_1 ++ dktX4_instead_2
def dkwX4_instead_0 : List UInt8 := [42, 3, 181, 0, 168, 42, 27, 182, 1, 212, 153, 0, 15, 42, 180, 0, 93, 7, 27, 96, 46, 2]
abbrev dktX4_instead_0 : List UInt8 := dkwX4_instead_0 ++ dktX4_instead_1
theorem dksX4_instead_0 : cX4_instead.data.toList.drop 0 = dktX4_instead_0 := by decide +kernel
theorem dksX4_instead_1 : cX4_instead.data.toList.drop 22 = dktX4_instead_1 := dk_seg dksX4_instead_0 22 rfl rfl
theorem dksX4_instead_2 : cX4_instead.data.toList.drop 46 = dktX4_instead_2 := dk_seg dksX4_instead_1 24 rfl rfl
theorem dksX4_instead_3 : cX4_instead.data.toList.drop 69 = dktX4_instead_3 := dk_seg dksX4_instead_2 23 rfl rfl
theorem dksX4_instead_4 : cX4_instead.data.toList.drop 92 = dktX4_instead_4 := dk_seg dksX4_instead_3 23 rfl rfl
theorem dX4_instead_0 : decode cX4_instead 0 = .ok (.aload_n 0, 1) := dk_42 (dk_at dksX4_instead_0 0 rfl rfl)
theorem dX4_instead_1 : decode cX4_instead 1 = .ok (.iconst 0, 1) := dk_3 (dk_at dksX4_instead_0 1 rfl rfl)
theorem dX4_instead_2 : decode cX4_instead 2 = .ok (.putfield 168, 3) := dk_181 0 168 (dk_at dksX4_instead_0 2 rfl rfl)
theorem dX4_instead_5 : decode cX4_instead 5 = .ok (.aload_n 0, 1) := dk_42 (dk_at dksX4_instead_0 5 rfl rfl)
theorem dX4_instead_6 : decode cX4_instead 6 = .ok (.iload_n 1, 1) := dk_27 (dk_at dksX4_instead_0 6 rfl rfl)
theorem dX4_instead_7 : decode cX4_instead 7 = .ok (.invokevirtual 468, 3) := dk_182 1 212 (dk_at dksX4_instead_0 7 rfl rfl)
theorem dX4_instead_10 : decode cX4_instead 10 = .ok (.ifCond .eq 15, 3) := dk_153 0 15 (dk_at dksX4_instead_0 10 rfl rfl)
theorem dX4_instead_13 : decode cX4_instead 13 = .ok (.aload_n 0, 1) := dk_42 (dk_at dksX4_instead_0 13 rfl rfl)
theorem dX4_instead_14 : decode cX4_instead 14 = .ok (.getfield 93, 3) := dk_180 0 93 (dk_at dksX4_instead_0 14 rfl rfl)
theorem dX4_instead_17 : decode cX4_instead 17 = .ok (.iconst 4, 1) := dk_7 (dk_at dksX4_instead_0 17 rfl rfl)
theorem dX4_instead_18 : decode cX4_instead 18 = .ok (.iload_n 1, 1) := dk_27 (dk_at dksX4_instead_0 18 rfl rfl)
theorem dX4_instead_19 : decode cX4_instead 19 = .ok (.iadd, 1) := dk_96 (dk_at dksX4_instead_0 19 rfl rfl)
theorem dX4_instead_20 : decode cX4_instead 20 = .ok (.iaload, 1) := dk_46 (dk_at dksX4_instead_0 20 rfl rfl)
theorem dX4_instead_21 : decode cX4_instead 21 = .ok (.iconst (-1), 1) := dk_2 (dk_at dksX4_instead_0 21 rfl rfl)
theorem dX4_instead_22 : decode cX4_instead 22 = .ok (.if_icmp .eq 8, 3) := dk_159 0 8 (dk_at dksX4_instead_1 0 rfl rfl)
theorem dX4_instead_25 : decode cX4_instead 25 = .ok (.aload_n 0, 1) := dk_42 (dk_at dksX4_instead_1 3 rfl rfl)
theorem dX4_instead_26 : decode cX4_instead 26 = .ok (.invokevirtual 486, 3) := dk_182 1 230 (dk_at dksX4_instead_1 4 rfl rfl)
theorem dX4_instead_29 : decode cX4_instead 29 = .ok (.ireturn, 1) := dk_172 (dk_at dksX4_instead_1 7 rfl rfl)
theorem dX4_instead_30 : decode cX4_instead 30 = .ok (.aload_n 0, 1) := dk_42 (dk_at dksX4_instead_1 8 rfl rfl)
theorem dX4_instead_31 : decode cX4_instead 31 = .ok (.invokevirtual 483, 3) := dk_182 1 227 (dk_at dksX4_instead_1 9 rfl rfl)
theorem dX4_instead_34 : decode cX4_instead 34 = .ok (.aload_n 0, 1) := dk_42 (dk_at dksX4_instead_1 12 rfl rfl)
theorem dX4_instead_35 : decode cX4_instead 35 = .ok (.aload_n 0, 1) := dk_42 (dk_at dksX4_instead_1 13 rfl rfl)
theorem dX4_instead_36 : decode cX4_instead 36 = .ok (.getfield 111, 3) := dk_180 0 111 (dk_at dksX4_instead_1 14 rfl rfl)
theorem dX4_instead_39 : decode cX4_instead 39 = .ok (.aload_n 0, 1) := dk_42 (dk_at dksX4_instead_1 17 rfl rfl)
theorem dX4_instead_40 : decode cX4_instead 40 = .ok (.getfield 132, 3) := dk_180 0 132 (dk_at dksX4_instead_1 18 rfl rfl)
theorem dX4_instead_43 : decode cX4_instead 43 = .ok (.invokevirtual 365, 3) := dk_182 1 109 (dk_at dksX4_instead_1 21 rfl rfl)
theorem dX4_instead_46 : decode cX4_instead 46 = .ok (.aload_n 0, 1) := dk_42 (dk_at dksX4_instead_2 0 rfl rfl)
theorem dX4_instead_47 : decode cX4_instead 47 = .ok (.getfield 424, 3) := dk_180 1 168 (dk_at dksX4_instead_2 1 rfl rfl)
theorem dX4_instead_50 : decode cX4_instead 50 = .ok (.istore_n 2, 1) := dk_61 (dk_at dksX4_instead_2 4 rfl rfl)
theorem dX4_instead_51 : decode cX4_instead 51 = .ok (.aload_n 0, 1) := dk_42 (dk_at dksX4_instead_2 5 rfl rfl)
theorem dX4_instead_52 : decode cX4_instead 52 = .ok (.iload_n 1, 1) := dk_27 (dk_at dksX4_instead_2 6 rfl rfl)
theorem dX4_instead_53 : decode cX4_instead 53 = .ok (.putfield 108, 3) := dk_181 0 108 (dk_at dksX4_instead_2 7 rfl rfl)
theorem dX4_instead_56 : decode cX4_instead 56 = .ok (.aload_n 0, 1) := dk_42 (dk_at dksX4_instead_2 10 rfl rfl)
theorem dX4_instead_57 : decode cX4_instead 57 = .ok (.invokevirtual 483, 3) := dk_182 1 227 (dk_at dksX4_instead_2 11 rfl rfl)
theorem dX4_instead_60 : decode cX4_instead 60 = .ok (.aload_n 0, 1) := dk_42 (dk_at dksX4_instead_2 14 rfl rfl)
theorem dX4_instead_61 : decode cX4_instead 61 = .ok (.iconst (-1), 1) := dk_2 (dk_at dksX4_instead_2 15 rfl rfl)
theorem dX4_instead_62 : decode cX4_instead 62 = .ok (.putfield 108, 3) := dk_181 0 108 (dk_at dksX4_instead_2 16 rfl rfl)
theorem dX4_instead_65 : decode cX4_instead 65 = .ok (.iconst 0, 1) := dk_3 (dk_at dksX4_instead_2 19 rfl rfl)
theorem dX4_instead_66 : decode cX4_instead 66 = .ok (.istore_n 3, 1) := dk_62 (dk_at dksX4_instead_2 20 rfl rfl)
theorem dX4_instead_67 : decode cX4_instead 67 = .ok (.iload_n 3, 1) := dk_29 (dk_at dksX4_instead_2 21 rfl rfl)
theorem dX4_instead_68 : decode cX4_instead 68 = .ok (.aload_n 0, 1) := dk_42 (dk_at dksX4_instead_2 22 rfl rfl)
theorem dX4_instead_69 : decode cX4_instead 69 = .ok (.getfield 424, 3) := dk_180 1 168 (dk_at dksX4_instead_3 0 rfl rfl)
theorem dX4_instead_72 : decode cX4_instead 72 = .ok (.if_icmp .ge 36, 3) := dk_162 0 36 (dk_at dksX4_instead_3 3 rfl rfl)
theorem dX4_instead_75 : decode cX4_instead 75 = .ok (.iload_n 3, 1) := dk_29 (dk_at dksX4_instead_3 6 rfl rfl)
theorem dX4_instead_76 : decode cX4_instead 76 = .ok (.iload_n 2, 1) := dk_28 (dk_at dksX4_instead_3 7 rfl rfl)
theorem dX4_instead_77 : decode cX4_instead 77 = .ok (.if_icmp .ge 18, 3) := dk_162 0 18 (dk_at dksX4_instead_3 8 rfl rfl)
theorem dX4_instead_80 : decode cX4_instead 80 = .ok (.aload_n 0, 1) := dk_42 (dk_at dksX4_instead_3 11 rfl rfl)
theorem dX4_instead_81 : decode cX4_instead 81 = .ok (.getfield 111, 3) := dk_180 0 111 (dk_at dksX4_instead_3 12 rfl rfl)
theorem dX4_instead_84 : decode cX4_instead 84 = .ok (.iload_n 3, 1) := dk_29 (dk_at dksX4_instead_3 15 rfl rfl)
theorem dX4_instead_85 : decode cX4_instead 85 = .ok (.iaload, 1) := dk_46 (dk_at dksX4_instead_3 16 rfl rfl)
theorem dX4_instead_86 : decode cX4_instead 86 = .ok (.aload_n 0, 1) := dk_42 (dk_at dksX4_instead_3 17 rfl rfl)
theorem dX4_instead_87 : decode cX4_instead 87 = .ok (.getfield 132, 3) := dk_180 0 132 (dk_at dksX4_instead_3 18 rfl rfl)
theorem dX4_instead_90 : decode cX4_instead 90 = .ok (.iload_n 3, 1) := dk_29 (dk_at dksX4_instead_3 21 rfl rfl)
theorem dX4_instead_91 : decode cX4_instead 91 = .ok (.iaload, 1) := dk_46 (dk_at dksX4_instead_3 22 rfl rfl)
theorem dX4_instead_92 : decode cX4_instead 92 = .ok (.if_icmp .eq 10, 3) := dk_159 0 10 (dk_at dksX4_instead_4 0 rfl rfl)
theorem dX4_instead_95 : decode cX4_instead 95 = .ok (.aload_n 0, 1) := dk_42 (dk_at dksX4_instead_4 3 rfl rfl)
theorem dX4_instead_96 : decode cX4_instead 96 = .ok (.getfield 111, 3) := dk_180 0 111 (dk_at dksX4_instead_4 4 rfl rfl)
theorem dX4_instead_99 : decode cX4_instead 99 = .ok (.iload_n 3, 1) := dk_29 (dk_at dksX4_instead_4 7 rfl rfl)
theorem dX4_instead_100 : decode cX4_instead 100 = .ok (.iaload, 1) := dk_46 (dk_at dksX4_instead_4 8 rfl rfl)
theorem dX4_instead_101 : decode cX4_instead 101 = .ok (.ireturn, 1) := dk_172 (dk_at dksX4_instead_4 9 rfl rfl)
theorem dX4_instead_102 : decode cX4_instead 102 = .ok (.iinc 3 1, 3) := dk_132 3 1 (dk_at dksX4_instead_4 10 rfl rfl)
theorem dX4_instead_105 : decode cX4_instead 105 = .ok (.goto (-38), 3) := dk_167 255 218 (dk_at dksX4_instead_4 13 rfl rfl)
theorem dX4_instead_108 : decode cX4_instead 108 = .ok (.iconst (-1), 1) := dk_2 (dk_at dksX4_instead_4 16 rfl rfl)
theorem dX4_instead_109 : decode cX4_instead 109 = .ok (.ireturn, 1) := dk_172 (dk_at dksX4_instead_4 17 rfl rfl)
abbrev cX4_orThrown : ByteArray := prog_13_method_89_code
def yX4_orThrown : MethodName := ⟨RX4, "orThrown", "()I"⟩
def dkwX4_orThrown_0 : List UInt8 := [42, 180, 0, 168, 154, 0, 7, 2, 167, 0, 4, 3, 172]
abbrev dktX4_orThrown_0 : List UInt8 := dkwX4_orThrown_0 ++ []
theorem dksX4_orThrown_0 : cX4_orThrown.data.toList.drop 0 = dktX4_orThrown_0 := by decide +kernel
theorem dX4_orThrown_0 : decode cX4_orThrown 0 = .ok (.aload_n 0, 1) := dk_42 (dk_at dksX4_orThrown_0 0 rfl rfl)
theorem dX4_orThrown_1 : decode cX4_orThrown 1 = .ok (.getfield 168, 3) := dk_180 0 168 (dk_at dksX4_orThrown_0 1 rfl rfl)
theorem dX4_orThrown_4 : decode cX4_orThrown 4 = .ok (.ifCond .ne 7, 3) := dk_154 0 7 (dk_at dksX4_orThrown_0 4 rfl rfl)
theorem dX4_orThrown_7 : decode cX4_orThrown 7 = .ok (.iconst (-1), 1) := dk_2 (dk_at dksX4_orThrown_0 7 rfl rfl)
theorem dX4_orThrown_8 : decode cX4_orThrown 8 = .ok (.goto 4, 3) := dk_167 0 4 (dk_at dksX4_orThrown_0 8 rfl rfl)
theorem dX4_orThrown_11 : decode cX4_orThrown 11 = .ok (.iconst 0, 1) := dk_3 (dk_at dksX4_orThrown_0 11 rfl rfl)
theorem dX4_orThrown_12 : decode cX4_orThrown 12 = .ok (.ireturn, 1) := dk_172 (dk_at dksX4_orThrown_0 12 rfl rfl)
abbrev cX4_worst : ByteArray := prog_13_method_90_code
def yX4_worst : MethodName := ⟨RX4, "worst", "(I)I"⟩
def dkwX4_worst_3 : List UInt8 := [167, 255, 212, 27, 154, 0, 7, 28, 167, 0, 4, 29, 172]
abbrev dktX4_worst_3 : List UInt8 := dkwX4_worst_3 ++ []
def dkwX4_worst_2 : List UInt8 := [167, 0, 21, 42, 180, 0, 93, 3, 46, 21, 4, 96, 61, 42, 180, 0, 120, 21, 4, 46, 62, 132, 4, 1]
abbrev dktX4_worst_2 : List UInt8 := dkwX4_worst_2 ++ dktX4_worst_3
def dkwX4_worst_1 : List UInt8 := [3, 54, 4, 21, 4, 42, 182, 1, 187, 162, 0, 41, 42, 180, 0, 120, 21, 4, 46, 29, 163, 0, 6]
abbrev dktX4_worst_1 : List UInt8 := dkwX4_worst_1 ++ dktX4_worst_2
def dkwX4_worst_0 : List UInt8 := [42, 3, 181, 0, 168, 42, 27, 4, 182, 1, 206, 154, 0, 5, 3, 172, 42, 182, 1, 227, 2, 61, 3, 62]
abbrev dktX4_worst_0 : List UInt8 := dkwX4_worst_0 ++ dktX4_worst_1
theorem dksX4_worst_0 : cX4_worst.data.toList.drop 0 = dktX4_worst_0 := by decide +kernel
theorem dksX4_worst_1 : cX4_worst.data.toList.drop 24 = dktX4_worst_1 := dk_seg dksX4_worst_0 24 rfl rfl
theorem dksX4_worst_2 : cX4_worst.data.toList.drop 47 = dktX4_worst_2 := dk_seg dksX4_worst_1 23 rfl rfl
theorem dksX4_worst_3 : cX4_worst.data.toList.drop 71 = dktX4_worst_3 := dk_seg dksX4_worst_2 24 rfl rfl
theorem dX4_worst_0 : decode cX4_worst 0 = .ok (.aload_n 0, 1) := dk_42 (dk_at dksX4_worst_0 0 rfl rfl)
theorem dX4_worst_1 : decode cX4_worst 1 = .ok (.iconst 0, 1) := dk_3 (dk_at dksX4_worst_0 1 rfl rfl)
theorem dX4_worst_2 : decode cX4_worst 2 = .ok (.putfield 168, 3) := dk_181 0 168 (dk_at dksX4_worst_0 2 rfl rfl)
theorem dX4_worst_5 : decode cX4_worst 5 = .ok (.aload_n 0, 1) := dk_42 (dk_at dksX4_worst_0 5 rfl rfl)
theorem dX4_worst_6 : decode cX4_worst 6 = .ok (.iload_n 1, 1) := dk_27 (dk_at dksX4_worst_0 6 rfl rfl)
theorem dX4_worst_7 : decode cX4_worst 7 = .ok (.iconst 1, 1) := dk_4 (dk_at dksX4_worst_0 7 rfl rfl)
theorem dX4_worst_8 : decode cX4_worst 8 = .ok (.invokevirtual 462, 3) := dk_182 1 206 (dk_at dksX4_worst_0 8 rfl rfl)
theorem dX4_worst_11 : decode cX4_worst 11 = .ok (.ifCond .ne 5, 3) := dk_154 0 5 (dk_at dksX4_worst_0 11 rfl rfl)
theorem dX4_worst_14 : decode cX4_worst 14 = .ok (.iconst 0, 1) := dk_3 (dk_at dksX4_worst_0 14 rfl rfl)
theorem dX4_worst_15 : decode cX4_worst 15 = .ok (.ireturn, 1) := dk_172 (dk_at dksX4_worst_0 15 rfl rfl)
theorem dX4_worst_16 : decode cX4_worst 16 = .ok (.aload_n 0, 1) := dk_42 (dk_at dksX4_worst_0 16 rfl rfl)
theorem dX4_worst_17 : decode cX4_worst 17 = .ok (.invokevirtual 483, 3) := dk_182 1 227 (dk_at dksX4_worst_0 17 rfl rfl)
theorem dX4_worst_20 : decode cX4_worst 20 = .ok (.iconst (-1), 1) := dk_2 (dk_at dksX4_worst_0 20 rfl rfl)
theorem dX4_worst_21 : decode cX4_worst 21 = .ok (.istore_n 2, 1) := dk_61 (dk_at dksX4_worst_0 21 rfl rfl)
theorem dX4_worst_22 : decode cX4_worst 22 = .ok (.iconst 0, 1) := dk_3 (dk_at dksX4_worst_0 22 rfl rfl)
theorem dX4_worst_23 : decode cX4_worst 23 = .ok (.istore_n 3, 1) := dk_62 (dk_at dksX4_worst_0 23 rfl rfl)
theorem dX4_worst_24 : decode cX4_worst 24 = .ok (.iconst 0, 1) := dk_3 (dk_at dksX4_worst_1 0 rfl rfl)
theorem dX4_worst_25 : decode cX4_worst 25 = .ok (.istore 4, 2) := dk_54 4 (dk_at dksX4_worst_1 1 rfl rfl)
theorem dX4_worst_27 : decode cX4_worst 27 = .ok (.iload 4, 2) := dk_21 4 (dk_at dksX4_worst_1 3 rfl rfl)
theorem dX4_worst_29 : decode cX4_worst 29 = .ok (.aload_n 0, 1) := dk_42 (dk_at dksX4_worst_1 5 rfl rfl)
theorem dX4_worst_30 : decode cX4_worst 30 = .ok (.invokevirtual 443, 3) := dk_182 1 187 (dk_at dksX4_worst_1 6 rfl rfl)
theorem dX4_worst_33 : decode cX4_worst 33 = .ok (.if_icmp .ge 41, 3) := dk_162 0 41 (dk_at dksX4_worst_1 9 rfl rfl)
theorem dX4_worst_36 : decode cX4_worst 36 = .ok (.aload_n 0, 1) := dk_42 (dk_at dksX4_worst_1 12 rfl rfl)
theorem dX4_worst_37 : decode cX4_worst 37 = .ok (.getfield 120, 3) := dk_180 0 120 (dk_at dksX4_worst_1 13 rfl rfl)
theorem dX4_worst_40 : decode cX4_worst 40 = .ok (.iload 4, 2) := dk_21 4 (dk_at dksX4_worst_1 16 rfl rfl)
theorem dX4_worst_42 : decode cX4_worst 42 = .ok (.iaload, 1) := dk_46 (dk_at dksX4_worst_1 18 rfl rfl)
theorem dX4_worst_43 : decode cX4_worst 43 = .ok (.iload_n 3, 1) := dk_29 (dk_at dksX4_worst_1 19 rfl rfl)
theorem dX4_worst_44 : decode cX4_worst 44 = .ok (.if_icmp .gt 6, 3) := dk_163 0 6 (dk_at dksX4_worst_1 20 rfl rfl)
theorem dX4_worst_47 : decode cX4_worst 47 = .ok (.goto 21, 3) := dk_167 0 21 (dk_at dksX4_worst_2 0 rfl rfl)
theorem dX4_worst_50 : decode cX4_worst 50 = .ok (.aload_n 0, 1) := dk_42 (dk_at dksX4_worst_2 3 rfl rfl)
theorem dX4_worst_51 : decode cX4_worst 51 = .ok (.getfield 93, 3) := dk_180 0 93 (dk_at dksX4_worst_2 4 rfl rfl)
theorem dX4_worst_54 : decode cX4_worst 54 = .ok (.iconst 0, 1) := dk_3 (dk_at dksX4_worst_2 7 rfl rfl)
theorem dX4_worst_55 : decode cX4_worst 55 = .ok (.iaload, 1) := dk_46 (dk_at dksX4_worst_2 8 rfl rfl)
theorem dX4_worst_56 : decode cX4_worst 56 = .ok (.iload 4, 2) := dk_21 4 (dk_at dksX4_worst_2 9 rfl rfl)
theorem dX4_worst_58 : decode cX4_worst 58 = .ok (.iadd, 1) := dk_96 (dk_at dksX4_worst_2 11 rfl rfl)
theorem dX4_worst_59 : decode cX4_worst 59 = .ok (.istore_n 2, 1) := dk_61 (dk_at dksX4_worst_2 12 rfl rfl)
theorem dX4_worst_60 : decode cX4_worst 60 = .ok (.aload_n 0, 1) := dk_42 (dk_at dksX4_worst_2 13 rfl rfl)
theorem dX4_worst_61 : decode cX4_worst 61 = .ok (.getfield 120, 3) := dk_180 0 120 (dk_at dksX4_worst_2 14 rfl rfl)
theorem dX4_worst_64 : decode cX4_worst 64 = .ok (.iload 4, 2) := dk_21 4 (dk_at dksX4_worst_2 17 rfl rfl)
theorem dX4_worst_66 : decode cX4_worst 66 = .ok (.iaload, 1) := dk_46 (dk_at dksX4_worst_2 19 rfl rfl)
theorem dX4_worst_67 : decode cX4_worst 67 = .ok (.istore_n 3, 1) := dk_62 (dk_at dksX4_worst_2 20 rfl rfl)
theorem dX4_worst_68 : decode cX4_worst 68 = .ok (.iinc 4 1, 3) := dk_132 4 1 (dk_at dksX4_worst_2 21 rfl rfl)
theorem dX4_worst_71 : decode cX4_worst 71 = .ok (.goto (-44), 3) := dk_167 255 212 (dk_at dksX4_worst_3 0 rfl rfl)
theorem dX4_worst_74 : decode cX4_worst 74 = .ok (.iload_n 1, 1) := dk_27 (dk_at dksX4_worst_3 3 rfl rfl)
theorem dX4_worst_75 : decode cX4_worst 75 = .ok (.ifCond .ne 7, 3) := dk_154 0 7 (dk_at dksX4_worst_3 4 rfl rfl)
theorem dX4_worst_78 : decode cX4_worst 78 = .ok (.iload_n 2, 1) := dk_28 (dk_at dksX4_worst_3 7 rfl rfl)
theorem dX4_worst_79 : decode cX4_worst 79 = .ok (.goto 4, 3) := dk_167 0 4 (dk_at dksX4_worst_3 8 rfl rfl)
theorem dX4_worst_82 : decode cX4_worst 82 = .ok (.iload_n 3, 1) := dk_29 (dk_at dksX4_worst_3 11 rfl rfl)
theorem dX4_worst_83 : decode cX4_worst 83 = .ok (.ireturn, 1) := dk_172 (dk_at dksX4_worst_3 12 rfl rfl)
abbrev cX4_idle : ByteArray := prog_13_method_91_code
def yX4_idle : MethodName := ⟨RX4, "idle", "()I"⟩
def dkwX4_idle_1 : List UInt8 := [46, 154, 0, 12, 42, 180, 0, 93, 3, 46, 27, 96, 172, 132, 1, 1, 167, 255, 227, 2, 172]
abbrev dktX4_idle_1 : List UInt8 := dkwX4_idle_1 ++ []
def dkwX4_idle_0 : List UInt8 := [42, 3, 181, 0, 168, 42, 182, 1, 227, 3, 60, 27, 42, 182, 1, 187, 162, 0, 27, 42, 180, 0, 123, 27]
abbrev dktX4_idle_0 : List UInt8 := dkwX4_idle_0 ++ dktX4_idle_1
theorem dksX4_idle_0 : cX4_idle.data.toList.drop 0 = dktX4_idle_0 := by decide +kernel
theorem dksX4_idle_1 : cX4_idle.data.toList.drop 24 = dktX4_idle_1 := dk_seg dksX4_idle_0 24 rfl rfl
theorem dX4_idle_0 : decode cX4_idle 0 = .ok (.aload_n 0, 1) := dk_42 (dk_at dksX4_idle_0 0 rfl rfl)
theorem dX4_idle_1 : decode cX4_idle 1 = .ok (.iconst 0, 1) := dk_3 (dk_at dksX4_idle_0 1 rfl rfl)
theorem dX4_idle_2 : decode cX4_idle 2 = .ok (.putfield 168, 3) := dk_181 0 168 (dk_at dksX4_idle_0 2 rfl rfl)
theorem dX4_idle_5 : decode cX4_idle 5 = .ok (.aload_n 0, 1) := dk_42 (dk_at dksX4_idle_0 5 rfl rfl)
theorem dX4_idle_6 : decode cX4_idle 6 = .ok (.invokevirtual 483, 3) := dk_182 1 227 (dk_at dksX4_idle_0 6 rfl rfl)
theorem dX4_idle_9 : decode cX4_idle 9 = .ok (.iconst 0, 1) := dk_3 (dk_at dksX4_idle_0 9 rfl rfl)
theorem dX4_idle_10 : decode cX4_idle 10 = .ok (.istore_n 1, 1) := dk_60 (dk_at dksX4_idle_0 10 rfl rfl)
theorem dX4_idle_11 : decode cX4_idle 11 = .ok (.iload_n 1, 1) := dk_27 (dk_at dksX4_idle_0 11 rfl rfl)
theorem dX4_idle_12 : decode cX4_idle 12 = .ok (.aload_n 0, 1) := dk_42 (dk_at dksX4_idle_0 12 rfl rfl)
theorem dX4_idle_13 : decode cX4_idle 13 = .ok (.invokevirtual 443, 3) := dk_182 1 187 (dk_at dksX4_idle_0 13 rfl rfl)
theorem dX4_idle_16 : decode cX4_idle 16 = .ok (.if_icmp .ge 27, 3) := dk_162 0 27 (dk_at dksX4_idle_0 16 rfl rfl)
theorem dX4_idle_19 : decode cX4_idle 19 = .ok (.aload_n 0, 1) := dk_42 (dk_at dksX4_idle_0 19 rfl rfl)
theorem dX4_idle_20 : decode cX4_idle 20 = .ok (.getfield 123, 3) := dk_180 0 123 (dk_at dksX4_idle_0 20 rfl rfl)
theorem dX4_idle_23 : decode cX4_idle 23 = .ok (.iload_n 1, 1) := dk_27 (dk_at dksX4_idle_0 23 rfl rfl)
theorem dX4_idle_24 : decode cX4_idle 24 = .ok (.iaload, 1) := dk_46 (dk_at dksX4_idle_1 0 rfl rfl)
theorem dX4_idle_25 : decode cX4_idle 25 = .ok (.ifCond .ne 12, 3) := dk_154 0 12 (dk_at dksX4_idle_1 1 rfl rfl)
theorem dX4_idle_28 : decode cX4_idle 28 = .ok (.aload_n 0, 1) := dk_42 (dk_at dksX4_idle_1 4 rfl rfl)
theorem dX4_idle_29 : decode cX4_idle 29 = .ok (.getfield 93, 3) := dk_180 0 93 (dk_at dksX4_idle_1 5 rfl rfl)
theorem dX4_idle_32 : decode cX4_idle 32 = .ok (.iconst 0, 1) := dk_3 (dk_at dksX4_idle_1 8 rfl rfl)
theorem dX4_idle_33 : decode cX4_idle 33 = .ok (.iaload, 1) := dk_46 (dk_at dksX4_idle_1 9 rfl rfl)
theorem dX4_idle_34 : decode cX4_idle 34 = .ok (.iload_n 1, 1) := dk_27 (dk_at dksX4_idle_1 10 rfl rfl)
theorem dX4_idle_35 : decode cX4_idle 35 = .ok (.iadd, 1) := dk_96 (dk_at dksX4_idle_1 11 rfl rfl)
theorem dX4_idle_36 : decode cX4_idle 36 = .ok (.ireturn, 1) := dk_172 (dk_at dksX4_idle_1 12 rfl rfl)
theorem dX4_idle_37 : decode cX4_idle 37 = .ok (.iinc 1 1, 3) := dk_132 1 1 (dk_at dksX4_idle_1 13 rfl rfl)
theorem dX4_idle_40 : decode cX4_idle 40 = .ok (.goto (-29), 3) := dk_167 255 227 (dk_at dksX4_idle_1 16 rfl rfl)
theorem dX4_idle_43 : decode cX4_idle 43 = .ok (.iconst (-1), 1) := dk_2 (dk_at dksX4_idle_1 19 rfl rfl)
theorem dX4_idle_44 : decode cX4_idle 44 = .ok (.ireturn, 1) := dk_172 (dk_at dksX4_idle_1 20 rfl rfl)
abbrev cX4_richest : ByteArray := prog_13_method_92_code
def yX4_richest : MethodName := ⟨RX4, "richest", "()I"⟩
def dkwX4_richest_2 : List UInt8 := [167, 255, 223, 27, 172]
abbrev dktX4_richest_2 : List UInt8 := dkwX4_richest_2 ++ []
def dkwX4_richest_1 : List UInt8 := [180, 0, 105, 29, 46, 28, 163, 0, 6, 167, 0, 12, 29, 60, 42, 180, 0, 105, 29, 46, 61, 132, 3, 1]
abbrev dktX4_richest_1 : List UInt8 := dkwX4_richest_1 ++ dktX4_richest_2
def dkwX4_richest_0 : List UInt8 := [42, 3, 181, 0, 168, 42, 182, 1, 227, 2, 60, 3, 61, 3, 62, 29, 42, 180, 1, 91, 162, 0, 31, 42]
abbrev dktX4_richest_0 : List UInt8 := dkwX4_richest_0 ++ dktX4_richest_1
theorem dksX4_richest_0 : cX4_richest.data.toList.drop 0 = dktX4_richest_0 := by decide +kernel
theorem dksX4_richest_1 : cX4_richest.data.toList.drop 24 = dktX4_richest_1 := dk_seg dksX4_richest_0 24 rfl rfl
theorem dksX4_richest_2 : cX4_richest.data.toList.drop 48 = dktX4_richest_2 := dk_seg dksX4_richest_1 24 rfl rfl
theorem dX4_richest_0 : decode cX4_richest 0 = .ok (.aload_n 0, 1) := dk_42 (dk_at dksX4_richest_0 0 rfl rfl)
theorem dX4_richest_1 : decode cX4_richest 1 = .ok (.iconst 0, 1) := dk_3 (dk_at dksX4_richest_0 1 rfl rfl)
theorem dX4_richest_2 : decode cX4_richest 2 = .ok (.putfield 168, 3) := dk_181 0 168 (dk_at dksX4_richest_0 2 rfl rfl)
theorem dX4_richest_5 : decode cX4_richest 5 = .ok (.aload_n 0, 1) := dk_42 (dk_at dksX4_richest_0 5 rfl rfl)
theorem dX4_richest_6 : decode cX4_richest 6 = .ok (.invokevirtual 483, 3) := dk_182 1 227 (dk_at dksX4_richest_0 6 rfl rfl)
theorem dX4_richest_9 : decode cX4_richest 9 = .ok (.iconst (-1), 1) := dk_2 (dk_at dksX4_richest_0 9 rfl rfl)
theorem dX4_richest_10 : decode cX4_richest 10 = .ok (.istore_n 1, 1) := dk_60 (dk_at dksX4_richest_0 10 rfl rfl)
theorem dX4_richest_11 : decode cX4_richest 11 = .ok (.iconst 0, 1) := dk_3 (dk_at dksX4_richest_0 11 rfl rfl)
theorem dX4_richest_12 : decode cX4_richest 12 = .ok (.istore_n 2, 1) := dk_61 (dk_at dksX4_richest_0 12 rfl rfl)
theorem dX4_richest_13 : decode cX4_richest 13 = .ok (.iconst 0, 1) := dk_3 (dk_at dksX4_richest_0 13 rfl rfl)
theorem dX4_richest_14 : decode cX4_richest 14 = .ok (.istore_n 3, 1) := dk_62 (dk_at dksX4_richest_0 14 rfl rfl)
theorem dX4_richest_15 : decode cX4_richest 15 = .ok (.iload_n 3, 1) := dk_29 (dk_at dksX4_richest_0 15 rfl rfl)
theorem dX4_richest_16 : decode cX4_richest 16 = .ok (.aload_n 0, 1) := dk_42 (dk_at dksX4_richest_0 16 rfl rfl)
theorem dX4_richest_17 : decode cX4_richest 17 = .ok (.getfield 347, 3) := dk_180 1 91 (dk_at dksX4_richest_0 17 rfl rfl)
theorem dX4_richest_20 : decode cX4_richest 20 = .ok (.if_icmp .ge 31, 3) := dk_162 0 31 (dk_at dksX4_richest_0 20 rfl rfl)
theorem dX4_richest_23 : decode cX4_richest 23 = .ok (.aload_n 0, 1) := dk_42 (dk_at dksX4_richest_0 23 rfl rfl)
theorem dX4_richest_24 : decode cX4_richest 24 = .ok (.getfield 105, 3) := dk_180 0 105 (dk_at dksX4_richest_1 0 rfl rfl)
theorem dX4_richest_27 : decode cX4_richest 27 = .ok (.iload_n 3, 1) := dk_29 (dk_at dksX4_richest_1 3 rfl rfl)
theorem dX4_richest_28 : decode cX4_richest 28 = .ok (.iaload, 1) := dk_46 (dk_at dksX4_richest_1 4 rfl rfl)
theorem dX4_richest_29 : decode cX4_richest 29 = .ok (.iload_n 2, 1) := dk_28 (dk_at dksX4_richest_1 5 rfl rfl)
theorem dX4_richest_30 : decode cX4_richest 30 = .ok (.if_icmp .gt 6, 3) := dk_163 0 6 (dk_at dksX4_richest_1 6 rfl rfl)
theorem dX4_richest_33 : decode cX4_richest 33 = .ok (.goto 12, 3) := dk_167 0 12 (dk_at dksX4_richest_1 9 rfl rfl)
theorem dX4_richest_36 : decode cX4_richest 36 = .ok (.iload_n 3, 1) := dk_29 (dk_at dksX4_richest_1 12 rfl rfl)
theorem dX4_richest_37 : decode cX4_richest 37 = .ok (.istore_n 1, 1) := dk_60 (dk_at dksX4_richest_1 13 rfl rfl)
theorem dX4_richest_38 : decode cX4_richest 38 = .ok (.aload_n 0, 1) := dk_42 (dk_at dksX4_richest_1 14 rfl rfl)
theorem dX4_richest_39 : decode cX4_richest 39 = .ok (.getfield 105, 3) := dk_180 0 105 (dk_at dksX4_richest_1 15 rfl rfl)
theorem dX4_richest_42 : decode cX4_richest 42 = .ok (.iload_n 3, 1) := dk_29 (dk_at dksX4_richest_1 18 rfl rfl)
theorem dX4_richest_43 : decode cX4_richest 43 = .ok (.iaload, 1) := dk_46 (dk_at dksX4_richest_1 19 rfl rfl)
theorem dX4_richest_44 : decode cX4_richest 44 = .ok (.istore_n 2, 1) := dk_61 (dk_at dksX4_richest_1 20 rfl rfl)
theorem dX4_richest_45 : decode cX4_richest 45 = .ok (.iinc 3 1, 3) := dk_132 3 1 (dk_at dksX4_richest_1 21 rfl rfl)
theorem dX4_richest_48 : decode cX4_richest 48 = .ok (.goto (-33), 3) := dk_167 255 223 (dk_at dksX4_richest_2 0 rfl rfl)
theorem dX4_richest_51 : decode cX4_richest 51 = .ok (.iload_n 1, 1) := dk_27 (dk_at dksX4_richest_2 3 rfl rfl)
theorem dX4_richest_52 : decode cX4_richest 52 = .ok (.ireturn, 1) := dk_172 (dk_at dksX4_richest_2 4 rfl rfl)
abbrev cX4_stay : ByteArray := prog_13_method_93_code
def yX4_stay : MethodName := ⟨RX4, "stay", "(II)I"⟩
def dkwX4_stay_5 : List UInt8 := [2, 172]
abbrev dktX4_stay_5 : List UInt8 := dkwX4_stay_5 ++ []
def dkwX4_stay_4 : List UInt8 := [180, 0, 13, 28, 46, 21, 4, 96, 29, 100, 16, 10, 161, 0, 6, 21, 4, 172, 132, 4, 1, 167, 255, 212]
abbrev dktX4_stay_4 : List UInt8 := dkwX4_stay_4 ++ dktX4_stay_5
def dkwX4_stay_3 : List UInt8 := [21, 4, 42, 180, 0, 93, 3, 46, 42, 182, 1, 187, 96, 162, 0, 34, 21, 4, 29, 161, 0, 22, 42]
abbrev dktX4_stay_3 : List UInt8 := dkwX4_stay_3 ++ dktX4_stay_4
def dkwX4_stay_2 : List UInt8 := [180, 0, 13, 28, 46, 2, 159, 0, 8, 29, 2, 160, 0, 5, 2, 172, 42, 180, 0, 93, 3, 46, 54, 4]
abbrev dktX4_stay_2 : List UInt8 := dkwX4_stay_2 ++ dktX4_stay_3
def dkwX4_stay_1 : List UInt8 := [182, 1, 227, 42, 180, 0, 126, 7, 27, 96, 46, 62, 42, 180, 0, 93, 27, 184, 1, 150, 154, 0, 18, 42]
abbrev dktX4_stay_1 : List UInt8 := dkwX4_stay_1 ++ dktX4_stay_2
def dkwX4_stay_0 : List UInt8 := [42, 3, 181, 0, 168, 42, 27, 182, 1, 212, 153, 0, 11, 42, 28, 182, 1, 209, 154, 0, 5, 3, 172, 42]
abbrev dktX4_stay_0 : List UInt8 := dkwX4_stay_0 ++ dktX4_stay_1
theorem dksX4_stay_0 : cX4_stay.data.toList.drop 0 = dktX4_stay_0 := by decide +kernel
theorem dksX4_stay_1 : cX4_stay.data.toList.drop 24 = dktX4_stay_1 := dk_seg dksX4_stay_0 24 rfl rfl
theorem dksX4_stay_2 : cX4_stay.data.toList.drop 48 = dktX4_stay_2 := dk_seg dksX4_stay_1 24 rfl rfl
theorem dksX4_stay_3 : cX4_stay.data.toList.drop 72 = dktX4_stay_3 := dk_seg dksX4_stay_2 24 rfl rfl
theorem dksX4_stay_4 : cX4_stay.data.toList.drop 95 = dktX4_stay_4 := dk_seg dksX4_stay_3 23 rfl rfl
theorem dksX4_stay_5 : cX4_stay.data.toList.drop 119 = dktX4_stay_5 := dk_seg dksX4_stay_4 24 rfl rfl
theorem dX4_stay_0 : decode cX4_stay 0 = .ok (.aload_n 0, 1) := dk_42 (dk_at dksX4_stay_0 0 rfl rfl)
theorem dX4_stay_1 : decode cX4_stay 1 = .ok (.iconst 0, 1) := dk_3 (dk_at dksX4_stay_0 1 rfl rfl)
theorem dX4_stay_2 : decode cX4_stay 2 = .ok (.putfield 168, 3) := dk_181 0 168 (dk_at dksX4_stay_0 2 rfl rfl)
theorem dX4_stay_5 : decode cX4_stay 5 = .ok (.aload_n 0, 1) := dk_42 (dk_at dksX4_stay_0 5 rfl rfl)
theorem dX4_stay_6 : decode cX4_stay 6 = .ok (.iload_n 1, 1) := dk_27 (dk_at dksX4_stay_0 6 rfl rfl)
theorem dX4_stay_7 : decode cX4_stay 7 = .ok (.invokevirtual 468, 3) := dk_182 1 212 (dk_at dksX4_stay_0 7 rfl rfl)
theorem dX4_stay_10 : decode cX4_stay 10 = .ok (.ifCond .eq 11, 3) := dk_153 0 11 (dk_at dksX4_stay_0 10 rfl rfl)
theorem dX4_stay_13 : decode cX4_stay 13 = .ok (.aload_n 0, 1) := dk_42 (dk_at dksX4_stay_0 13 rfl rfl)
theorem dX4_stay_14 : decode cX4_stay 14 = .ok (.iload_n 2, 1) := dk_28 (dk_at dksX4_stay_0 14 rfl rfl)
theorem dX4_stay_15 : decode cX4_stay 15 = .ok (.invokevirtual 465, 3) := dk_182 1 209 (dk_at dksX4_stay_0 15 rfl rfl)
theorem dX4_stay_18 : decode cX4_stay 18 = .ok (.ifCond .ne 5, 3) := dk_154 0 5 (dk_at dksX4_stay_0 18 rfl rfl)
theorem dX4_stay_21 : decode cX4_stay 21 = .ok (.iconst 0, 1) := dk_3 (dk_at dksX4_stay_0 21 rfl rfl)
theorem dX4_stay_22 : decode cX4_stay 22 = .ok (.ireturn, 1) := dk_172 (dk_at dksX4_stay_0 22 rfl rfl)
theorem dX4_stay_23 : decode cX4_stay 23 = .ok (.aload_n 0, 1) := dk_42 (dk_at dksX4_stay_0 23 rfl rfl)
theorem dX4_stay_24 : decode cX4_stay 24 = .ok (.invokevirtual 483, 3) := dk_182 1 227 (dk_at dksX4_stay_1 0 rfl rfl)
theorem dX4_stay_27 : decode cX4_stay 27 = .ok (.aload_n 0, 1) := dk_42 (dk_at dksX4_stay_1 3 rfl rfl)
theorem dX4_stay_28 : decode cX4_stay 28 = .ok (.getfield 126, 3) := dk_180 0 126 (dk_at dksX4_stay_1 4 rfl rfl)
theorem dX4_stay_31 : decode cX4_stay 31 = .ok (.iconst 4, 1) := dk_7 (dk_at dksX4_stay_1 7 rfl rfl)
theorem dX4_stay_32 : decode cX4_stay 32 = .ok (.iload_n 1, 1) := dk_27 (dk_at dksX4_stay_1 8 rfl rfl)
theorem dX4_stay_33 : decode cX4_stay 33 = .ok (.iadd, 1) := dk_96 (dk_at dksX4_stay_1 9 rfl rfl)
theorem dX4_stay_34 : decode cX4_stay 34 = .ok (.iaload, 1) := dk_46 (dk_at dksX4_stay_1 10 rfl rfl)
theorem dX4_stay_35 : decode cX4_stay 35 = .ok (.istore_n 3, 1) := dk_62 (dk_at dksX4_stay_1 11 rfl rfl)
theorem dX4_stay_36 : decode cX4_stay 36 = .ok (.aload_n 0, 1) := dk_42 (dk_at dksX4_stay_1 12 rfl rfl)
theorem dX4_stay_37 : decode cX4_stay 37 = .ok (.getfield 93, 3) := dk_180 0 93 (dk_at dksX4_stay_1 13 rfl rfl)
theorem dX4_stay_40 : decode cX4_stay 40 = .ok (.iload_n 1, 1) := dk_27 (dk_at dksX4_stay_1 16 rfl rfl)
theorem dX4_stay_41 : decode cX4_stay 41 = .ok (.invokestatic 406, 3) := dk_184 1 150 (dk_at dksX4_stay_1 17 rfl rfl)
theorem dX4_stay_44 : decode cX4_stay 44 = .ok (.ifCond .ne 18, 3) := dk_154 0 18 (dk_at dksX4_stay_1 20 rfl rfl)
theorem dX4_stay_47 : decode cX4_stay 47 = .ok (.aload_n 0, 1) := dk_42 (dk_at dksX4_stay_1 23 rfl rfl)
theorem dX4_stay_48 : decode cX4_stay 48 = .ok (.getfield 13, 3) := dk_180 0 13 (dk_at dksX4_stay_2 0 rfl rfl)
theorem dX4_stay_51 : decode cX4_stay 51 = .ok (.iload_n 2, 1) := dk_28 (dk_at dksX4_stay_2 3 rfl rfl)
theorem dX4_stay_52 : decode cX4_stay 52 = .ok (.iaload, 1) := dk_46 (dk_at dksX4_stay_2 4 rfl rfl)
theorem dX4_stay_53 : decode cX4_stay 53 = .ok (.iconst (-1), 1) := dk_2 (dk_at dksX4_stay_2 5 rfl rfl)
theorem dX4_stay_54 : decode cX4_stay 54 = .ok (.if_icmp .eq 8, 3) := dk_159 0 8 (dk_at dksX4_stay_2 6 rfl rfl)
theorem dX4_stay_57 : decode cX4_stay 57 = .ok (.iload_n 3, 1) := dk_29 (dk_at dksX4_stay_2 9 rfl rfl)
theorem dX4_stay_58 : decode cX4_stay 58 = .ok (.iconst (-1), 1) := dk_2 (dk_at dksX4_stay_2 10 rfl rfl)
theorem dX4_stay_59 : decode cX4_stay 59 = .ok (.if_icmp .ne 5, 3) := dk_160 0 5 (dk_at dksX4_stay_2 11 rfl rfl)
theorem dX4_stay_62 : decode cX4_stay 62 = .ok (.iconst (-1), 1) := dk_2 (dk_at dksX4_stay_2 14 rfl rfl)
theorem dX4_stay_63 : decode cX4_stay 63 = .ok (.ireturn, 1) := dk_172 (dk_at dksX4_stay_2 15 rfl rfl)
theorem dX4_stay_64 : decode cX4_stay 64 = .ok (.aload_n 0, 1) := dk_42 (dk_at dksX4_stay_2 16 rfl rfl)
theorem dX4_stay_65 : decode cX4_stay 65 = .ok (.getfield 93, 3) := dk_180 0 93 (dk_at dksX4_stay_2 17 rfl rfl)
theorem dX4_stay_68 : decode cX4_stay 68 = .ok (.iconst 0, 1) := dk_3 (dk_at dksX4_stay_2 20 rfl rfl)
theorem dX4_stay_69 : decode cX4_stay 69 = .ok (.iaload, 1) := dk_46 (dk_at dksX4_stay_2 21 rfl rfl)
theorem dX4_stay_70 : decode cX4_stay 70 = .ok (.istore 4, 2) := dk_54 4 (dk_at dksX4_stay_2 22 rfl rfl)
theorem dX4_stay_72 : decode cX4_stay 72 = .ok (.iload 4, 2) := dk_21 4 (dk_at dksX4_stay_3 0 rfl rfl)
theorem dX4_stay_74 : decode cX4_stay 74 = .ok (.aload_n 0, 1) := dk_42 (dk_at dksX4_stay_3 2 rfl rfl)
theorem dX4_stay_75 : decode cX4_stay 75 = .ok (.getfield 93, 3) := dk_180 0 93 (dk_at dksX4_stay_3 3 rfl rfl)
theorem dX4_stay_78 : decode cX4_stay 78 = .ok (.iconst 0, 1) := dk_3 (dk_at dksX4_stay_3 6 rfl rfl)
theorem dX4_stay_79 : decode cX4_stay 79 = .ok (.iaload, 1) := dk_46 (dk_at dksX4_stay_3 7 rfl rfl)
theorem dX4_stay_80 : decode cX4_stay 80 = .ok (.aload_n 0, 1) := dk_42 (dk_at dksX4_stay_3 8 rfl rfl)
theorem dX4_stay_81 : decode cX4_stay 81 = .ok (.invokevirtual 443, 3) := dk_182 1 187 (dk_at dksX4_stay_3 9 rfl rfl)
theorem dX4_stay_84 : decode cX4_stay 84 = .ok (.iadd, 1) := dk_96 (dk_at dksX4_stay_3 12 rfl rfl)
theorem dX4_stay_85 : decode cX4_stay 85 = .ok (.if_icmp .ge 34, 3) := dk_162 0 34 (dk_at dksX4_stay_3 13 rfl rfl)
theorem dX4_stay_88 : decode cX4_stay 88 = .ok (.iload 4, 2) := dk_21 4 (dk_at dksX4_stay_3 16 rfl rfl)
theorem dX4_stay_90 : decode cX4_stay 90 = .ok (.iload_n 3, 1) := dk_29 (dk_at dksX4_stay_3 18 rfl rfl)
theorem dX4_stay_91 : decode cX4_stay 91 = .ok (.if_icmp .lt 22, 3) := dk_161 0 22 (dk_at dksX4_stay_3 19 rfl rfl)
theorem dX4_stay_94 : decode cX4_stay 94 = .ok (.aload_n 0, 1) := dk_42 (dk_at dksX4_stay_3 22 rfl rfl)
theorem dX4_stay_95 : decode cX4_stay 95 = .ok (.getfield 13, 3) := dk_180 0 13 (dk_at dksX4_stay_4 0 rfl rfl)
theorem dX4_stay_98 : decode cX4_stay 98 = .ok (.iload_n 2, 1) := dk_28 (dk_at dksX4_stay_4 3 rfl rfl)
theorem dX4_stay_99 : decode cX4_stay 99 = .ok (.iaload, 1) := dk_46 (dk_at dksX4_stay_4 4 rfl rfl)
theorem dX4_stay_100 : decode cX4_stay 100 = .ok (.iload 4, 2) := dk_21 4 (dk_at dksX4_stay_4 5 rfl rfl)
theorem dX4_stay_102 : decode cX4_stay 102 = .ok (.iadd, 1) := dk_96 (dk_at dksX4_stay_4 7 rfl rfl)
theorem dX4_stay_103 : decode cX4_stay 103 = .ok (.iload_n 3, 1) := dk_29 (dk_at dksX4_stay_4 8 rfl rfl)
theorem dX4_stay_104 : decode cX4_stay 104 = .ok (.isub, 1) := dk_100 (dk_at dksX4_stay_4 9 rfl rfl)
theorem dX4_stay_105 : decode cX4_stay 105 = .ok (.bipush 10, 2) := dk_16 10 (dk_at dksX4_stay_4 10 rfl rfl)
theorem dX4_stay_107 : decode cX4_stay 107 = .ok (.if_icmp .lt 6, 3) := dk_161 0 6 (dk_at dksX4_stay_4 12 rfl rfl)
theorem dX4_stay_110 : decode cX4_stay 110 = .ok (.iload 4, 2) := dk_21 4 (dk_at dksX4_stay_4 15 rfl rfl)
theorem dX4_stay_112 : decode cX4_stay 112 = .ok (.ireturn, 1) := dk_172 (dk_at dksX4_stay_4 17 rfl rfl)
theorem dX4_stay_113 : decode cX4_stay 113 = .ok (.iinc 4 1, 3) := dk_132 4 1 (dk_at dksX4_stay_4 18 rfl rfl)
theorem dX4_stay_116 : decode cX4_stay 116 = .ok (.goto (-44), 3) := dk_167 255 212 (dk_at dksX4_stay_4 21 rfl rfl)
theorem dX4_stay_119 : decode cX4_stay 119 = .ok (.iconst (-1), 1) := dk_2 (dk_at dksX4_stay_5 0 rfl rfl)
theorem dX4_stay_120 : decode cX4_stay 120 = .ok (.ireturn, 1) := dk_172 (dk_at dksX4_stay_5 1 rfl rfl)
abbrev cX4_out : ByteArray := prog_13_method_96_code
def yX4_out : MethodName := ⟨RX4, "out", "(I)I"⟩
def dkwX4_out_1 : List UInt8 := [42, 182, 1, 230, 172, 42, 182, 1, 227, 42, 27, 42, 180, 0, 126, 7, 27, 96, 46, 182, 1, 236, 172]
abbrev dktX4_out_1 : List UInt8 := dkwX4_out_1 ++ []
def dkwX4_out_0 : List UInt8 := [42, 3, 181, 0, 168, 42, 27, 182, 1, 212, 153, 0, 14, 42, 180, 0, 93, 27, 184, 1, 150, 153, 0, 8]
abbrev dktX4_out_0 : List UInt8 := dkwX4_out_0 ++ dktX4_out_1
theorem dksX4_out_0 : cX4_out.data.toList.drop 0 = dktX4_out_0 := by decide +kernel
theorem dksX4_out_1 : cX4_out.data.toList.drop 24 = dktX4_out_1 := dk_seg dksX4_out_0 24 rfl rfl
theorem dX4_out_0 : decode cX4_out 0 = .ok (.aload_n 0, 1) := dk_42 (dk_at dksX4_out_0 0 rfl rfl)
theorem dX4_out_1 : decode cX4_out 1 = .ok (.iconst 0, 1) := dk_3 (dk_at dksX4_out_0 1 rfl rfl)
theorem dX4_out_2 : decode cX4_out 2 = .ok (.putfield 168, 3) := dk_181 0 168 (dk_at dksX4_out_0 2 rfl rfl)
theorem dX4_out_5 : decode cX4_out 5 = .ok (.aload_n 0, 1) := dk_42 (dk_at dksX4_out_0 5 rfl rfl)
theorem dX4_out_6 : decode cX4_out 6 = .ok (.iload_n 1, 1) := dk_27 (dk_at dksX4_out_0 6 rfl rfl)
theorem dX4_out_7 : decode cX4_out 7 = .ok (.invokevirtual 468, 3) := dk_182 1 212 (dk_at dksX4_out_0 7 rfl rfl)
theorem dX4_out_10 : decode cX4_out 10 = .ok (.ifCond .eq 14, 3) := dk_153 0 14 (dk_at dksX4_out_0 10 rfl rfl)
theorem dX4_out_13 : decode cX4_out 13 = .ok (.aload_n 0, 1) := dk_42 (dk_at dksX4_out_0 13 rfl rfl)
theorem dX4_out_14 : decode cX4_out 14 = .ok (.getfield 93, 3) := dk_180 0 93 (dk_at dksX4_out_0 14 rfl rfl)
theorem dX4_out_17 : decode cX4_out 17 = .ok (.iload_n 1, 1) := dk_27 (dk_at dksX4_out_0 17 rfl rfl)
theorem dX4_out_18 : decode cX4_out 18 = .ok (.invokestatic 406, 3) := dk_184 1 150 (dk_at dksX4_out_0 18 rfl rfl)
theorem dX4_out_21 : decode cX4_out 21 = .ok (.ifCond .eq 8, 3) := dk_153 0 8 (dk_at dksX4_out_0 21 rfl rfl)
theorem dX4_out_24 : decode cX4_out 24 = .ok (.aload_n 0, 1) := dk_42 (dk_at dksX4_out_1 0 rfl rfl)
theorem dX4_out_25 : decode cX4_out 25 = .ok (.invokevirtual 486, 3) := dk_182 1 230 (dk_at dksX4_out_1 1 rfl rfl)
theorem dX4_out_28 : decode cX4_out 28 = .ok (.ireturn, 1) := dk_172 (dk_at dksX4_out_1 4 rfl rfl)
theorem dX4_out_29 : decode cX4_out 29 = .ok (.aload_n 0, 1) := dk_42 (dk_at dksX4_out_1 5 rfl rfl)
theorem dX4_out_30 : decode cX4_out 30 = .ok (.invokevirtual 483, 3) := dk_182 1 227 (dk_at dksX4_out_1 6 rfl rfl)
theorem dX4_out_33 : decode cX4_out 33 = .ok (.aload_n 0, 1) := dk_42 (dk_at dksX4_out_1 9 rfl rfl)
theorem dX4_out_34 : decode cX4_out 34 = .ok (.iload_n 1, 1) := dk_27 (dk_at dksX4_out_1 10 rfl rfl)
theorem dX4_out_35 : decode cX4_out 35 = .ok (.aload_n 0, 1) := dk_42 (dk_at dksX4_out_1 11 rfl rfl)
theorem dX4_out_36 : decode cX4_out 36 = .ok (.getfield 126, 3) := dk_180 0 126 (dk_at dksX4_out_1 12 rfl rfl)
theorem dX4_out_39 : decode cX4_out 39 = .ok (.iconst 4, 1) := dk_7 (dk_at dksX4_out_1 15 rfl rfl)
theorem dX4_out_40 : decode cX4_out 40 = .ok (.iload_n 1, 1) := dk_27 (dk_at dksX4_out_1 16 rfl rfl)
theorem dX4_out_41 : decode cX4_out 41 = .ok (.iadd, 1) := dk_96 (dk_at dksX4_out_1 17 rfl rfl)
theorem dX4_out_42 : decode cX4_out 42 = .ok (.iaload, 1) := dk_46 (dk_at dksX4_out_1 18 rfl rfl)
theorem dX4_out_43 : decode cX4_out 43 = .ok (.invokevirtual 492, 3) := dk_182 1 236 (dk_at dksX4_out_1 19 rfl rfl)
theorem dX4_out_46 : decode cX4_out 46 = .ok (.ireturn, 1) := dk_172 (dk_at dksX4_out_1 22 rfl rfl)
abbrev cX4_outOf : ByteArray := prog_13_method_95_code
def yX4_outOf : MethodName := ⟨RX4, "outOf", "(II)I"⟩
def dkwX4_outOf_9 : List UInt8 := [3, 84, 132, 5, 1, 167, 255, 194, 132, 4, 1, 167, 255, 102, 2, 172]
abbrev dktX4_outOf_9 : List UInt8 := dkwX4_outOf_9 ++ []
def dkwX4_outOf_8 : List UInt8 := [161, 0, 20, 42, 180, 0, 13, 21, 5, 46, 21, 4, 96, 28, 100, 16, 10, 162, 0, 7, 4, 167, 0, 4]
abbrev dktX4_outOf_8 : List UInt8 := dkwX4_outOf_8 ++ dktX4_outOf_9
def dkwX4_outOf_7 : List UInt8 := [180, 0, 135, 21, 5, 42, 180, 0, 135, 21, 5, 51, 153, 0, 35, 28, 2, 159, 0, 26, 21, 4, 28]
abbrev dktX4_outOf_7 : List UInt8 := dkwX4_outOf_7 ++ dktX4_outOf_8
def dkwX4_outOf_6 : List UInt8 := [21, 4, 172, 132, 5, 1, 167, 255, 220, 3, 54, 5, 21, 5, 42, 180, 1, 94, 162, 0, 59, 42]
abbrev dktX4_outOf_6 : List UInt8 := dkwX4_outOf_6 ++ dktX4_outOf_7
def dkwX4_outOf_5 : List UInt8 := [162, 0, 33, 42, 180, 0, 135, 21, 5, 51, 153, 0, 17, 42, 180, 0, 13, 21, 5, 46, 2, 160, 0, 6]
abbrev dktX4_outOf_5 : List UInt8 := dkwX4_outOf_5 ++ dktX4_outOf_6
def dkwX4_outOf_4 : List UInt8 := [27, 96, 46, 46, 2, 159, 0, 9, 42, 21, 4, 182, 1, 233, 3, 54, 5, 21, 5, 42, 180, 1, 94]
abbrev dktX4_outOf_4 : List UInt8 := dkwX4_outOf_4 ++ dktX4_outOf_5
def dkwX4_outOf_3 : List UInt8 := [163, 0, 154, 21, 4, 42, 180, 0, 93, 3, 46, 163, 0, 21, 42, 180, 0, 13, 42, 180, 0, 93, 16, 22]
abbrev dktX4_outOf_3 : List UInt8 := dkwX4_outOf_3 ++ dktX4_outOf_4
def dkwX4_outOf_2 : List UInt8 := [167, 0, 4, 3, 84, 132, 4, 1, 167, 255, 220, 42, 180, 0, 93, 3, 46, 54, 4, 21, 4, 29]
abbrev dktX4_outOf_2 : List UInt8 := dkwX4_outOf_2 ++ dktX4_outOf_3
def dkwX4_outOf_1 : List UInt8 := [162, 0, 35, 42, 180, 0, 135, 21, 4, 21, 4, 42, 180, 0, 93, 16, 22, 27, 96, 46, 160, 0, 7, 4]
abbrev dktX4_outOf_1 : List UInt8 := dkwX4_outOf_1 ++ dktX4_outOf_2
def dkwX4_outOf_0 : List UInt8 := [42, 180, 0, 93, 3, 46, 16, 30, 96, 16, 60, 184, 1, 140, 62, 3, 54, 4, 21, 4, 16, 8]
abbrev dktX4_outOf_0 : List UInt8 := dkwX4_outOf_0 ++ dktX4_outOf_1
theorem dksX4_outOf_0 : cX4_outOf.data.toList.drop 0 = dktX4_outOf_0 := by decide +kernel
theorem dksX4_outOf_1 : cX4_outOf.data.toList.drop 22 = dktX4_outOf_1 := dk_seg dksX4_outOf_0 22 rfl rfl
theorem dksX4_outOf_2 : cX4_outOf.data.toList.drop 46 = dktX4_outOf_2 := dk_seg dksX4_outOf_1 24 rfl rfl
theorem dksX4_outOf_3 : cX4_outOf.data.toList.drop 68 = dktX4_outOf_3 := dk_seg dksX4_outOf_2 22 rfl rfl
theorem dksX4_outOf_4 : cX4_outOf.data.toList.drop 92 = dktX4_outOf_4 := dk_seg dksX4_outOf_3 24 rfl rfl
theorem dksX4_outOf_5 : cX4_outOf.data.toList.drop 115 = dktX4_outOf_5 := dk_seg dksX4_outOf_4 23 rfl rfl
theorem dksX4_outOf_6 : cX4_outOf.data.toList.drop 139 = dktX4_outOf_6 := dk_seg dksX4_outOf_5 24 rfl rfl
theorem dksX4_outOf_7 : cX4_outOf.data.toList.drop 161 = dktX4_outOf_7 := dk_seg dksX4_outOf_6 22 rfl rfl
theorem dksX4_outOf_8 : cX4_outOf.data.toList.drop 184 = dktX4_outOf_8 := dk_seg dksX4_outOf_7 23 rfl rfl
theorem dksX4_outOf_9 : cX4_outOf.data.toList.drop 208 = dktX4_outOf_9 := dk_seg dksX4_outOf_8 24 rfl rfl
theorem dX4_outOf_0 : decode cX4_outOf 0 = .ok (.aload_n 0, 1) := dk_42 (dk_at dksX4_outOf_0 0 rfl rfl)
theorem dX4_outOf_1 : decode cX4_outOf 1 = .ok (.getfield 93, 3) := dk_180 0 93 (dk_at dksX4_outOf_0 1 rfl rfl)
theorem dX4_outOf_4 : decode cX4_outOf 4 = .ok (.iconst 0, 1) := dk_3 (dk_at dksX4_outOf_0 4 rfl rfl)
theorem dX4_outOf_5 : decode cX4_outOf 5 = .ok (.iaload, 1) := dk_46 (dk_at dksX4_outOf_0 5 rfl rfl)
theorem dX4_outOf_6 : decode cX4_outOf 6 = .ok (.bipush 30, 2) := dk_16 30 (dk_at dksX4_outOf_0 6 rfl rfl)
theorem dX4_outOf_8 : decode cX4_outOf 8 = .ok (.iadd, 1) := dk_96 (dk_at dksX4_outOf_0 8 rfl rfl)
theorem dX4_outOf_9 : decode cX4_outOf 9 = .ok (.bipush 60, 2) := dk_16 60 (dk_at dksX4_outOf_0 9 rfl rfl)
theorem dX4_outOf_11 : decode cX4_outOf 11 = .ok (.invokestatic 396, 3) := dk_184 1 140 (dk_at dksX4_outOf_0 11 rfl rfl)
theorem dX4_outOf_14 : decode cX4_outOf 14 = .ok (.istore_n 3, 1) := dk_62 (dk_at dksX4_outOf_0 14 rfl rfl)
theorem dX4_outOf_15 : decode cX4_outOf 15 = .ok (.iconst 0, 1) := dk_3 (dk_at dksX4_outOf_0 15 rfl rfl)
theorem dX4_outOf_16 : decode cX4_outOf 16 = .ok (.istore 4, 2) := dk_54 4 (dk_at dksX4_outOf_0 16 rfl rfl)
theorem dX4_outOf_18 : decode cX4_outOf 18 = .ok (.iload 4, 2) := dk_21 4 (dk_at dksX4_outOf_0 18 rfl rfl)
theorem dX4_outOf_20 : decode cX4_outOf 20 = .ok (.bipush 8, 2) := dk_16 8 (dk_at dksX4_outOf_0 20 rfl rfl)
theorem dX4_outOf_22 : decode cX4_outOf 22 = .ok (.if_icmp .ge 35, 3) := dk_162 0 35 (dk_at dksX4_outOf_1 0 rfl rfl)
theorem dX4_outOf_25 : decode cX4_outOf 25 = .ok (.aload_n 0, 1) := dk_42 (dk_at dksX4_outOf_1 3 rfl rfl)
theorem dX4_outOf_26 : decode cX4_outOf 26 = .ok (.getfield 135, 3) := dk_180 0 135 (dk_at dksX4_outOf_1 4 rfl rfl)
theorem dX4_outOf_29 : decode cX4_outOf 29 = .ok (.iload 4, 2) := dk_21 4 (dk_at dksX4_outOf_1 7 rfl rfl)
theorem dX4_outOf_31 : decode cX4_outOf 31 = .ok (.iload 4, 2) := dk_21 4 (dk_at dksX4_outOf_1 9 rfl rfl)
theorem dX4_outOf_33 : decode cX4_outOf 33 = .ok (.aload_n 0, 1) := dk_42 (dk_at dksX4_outOf_1 11 rfl rfl)
theorem dX4_outOf_34 : decode cX4_outOf 34 = .ok (.getfield 93, 3) := dk_180 0 93 (dk_at dksX4_outOf_1 12 rfl rfl)
theorem dX4_outOf_37 : decode cX4_outOf 37 = .ok (.bipush 22, 2) := dk_16 22 (dk_at dksX4_outOf_1 15 rfl rfl)
theorem dX4_outOf_39 : decode cX4_outOf 39 = .ok (.iload_n 1, 1) := dk_27 (dk_at dksX4_outOf_1 17 rfl rfl)
theorem dX4_outOf_40 : decode cX4_outOf 40 = .ok (.iadd, 1) := dk_96 (dk_at dksX4_outOf_1 18 rfl rfl)
theorem dX4_outOf_41 : decode cX4_outOf 41 = .ok (.iaload, 1) := dk_46 (dk_at dksX4_outOf_1 19 rfl rfl)
theorem dX4_outOf_42 : decode cX4_outOf 42 = .ok (.if_icmp .ne 7, 3) := dk_160 0 7 (dk_at dksX4_outOf_1 20 rfl rfl)
theorem dX4_outOf_45 : decode cX4_outOf 45 = .ok (.iconst 1, 1) := dk_4 (dk_at dksX4_outOf_1 23 rfl rfl)
theorem dX4_outOf_46 : decode cX4_outOf 46 = .ok (.goto 4, 3) := dk_167 0 4 (dk_at dksX4_outOf_2 0 rfl rfl)
theorem dX4_outOf_49 : decode cX4_outOf 49 = .ok (.iconst 0, 1) := dk_3 (dk_at dksX4_outOf_2 3 rfl rfl)
theorem dX4_outOf_50 : decode cX4_outOf 50 = .ok (.bastore, 1) := dk_84 (dk_at dksX4_outOf_2 4 rfl rfl)
theorem dX4_outOf_51 : decode cX4_outOf 51 = .ok (.iinc 4 1, 3) := dk_132 4 1 (dk_at dksX4_outOf_2 5 rfl rfl)
theorem dX4_outOf_54 : decode cX4_outOf 54 = .ok (.goto (-36), 3) := dk_167 255 220 (dk_at dksX4_outOf_2 8 rfl rfl)
theorem dX4_outOf_57 : decode cX4_outOf 57 = .ok (.aload_n 0, 1) := dk_42 (dk_at dksX4_outOf_2 11 rfl rfl)
theorem dX4_outOf_58 : decode cX4_outOf 58 = .ok (.getfield 93, 3) := dk_180 0 93 (dk_at dksX4_outOf_2 12 rfl rfl)
theorem dX4_outOf_61 : decode cX4_outOf 61 = .ok (.iconst 0, 1) := dk_3 (dk_at dksX4_outOf_2 15 rfl rfl)
theorem dX4_outOf_62 : decode cX4_outOf 62 = .ok (.iaload, 1) := dk_46 (dk_at dksX4_outOf_2 16 rfl rfl)
theorem dX4_outOf_63 : decode cX4_outOf 63 = .ok (.istore 4, 2) := dk_54 4 (dk_at dksX4_outOf_2 17 rfl rfl)
theorem dX4_outOf_65 : decode cX4_outOf 65 = .ok (.iload 4, 2) := dk_21 4 (dk_at dksX4_outOf_2 19 rfl rfl)
theorem dX4_outOf_67 : decode cX4_outOf 67 = .ok (.iload_n 3, 1) := dk_29 (dk_at dksX4_outOf_2 21 rfl rfl)
theorem dX4_outOf_68 : decode cX4_outOf 68 = .ok (.if_icmp .gt 154, 3) := dk_163 0 154 (dk_at dksX4_outOf_3 0 rfl rfl)
theorem dX4_outOf_71 : decode cX4_outOf 71 = .ok (.iload 4, 2) := dk_21 4 (dk_at dksX4_outOf_3 3 rfl rfl)
theorem dX4_outOf_73 : decode cX4_outOf 73 = .ok (.aload_n 0, 1) := dk_42 (dk_at dksX4_outOf_3 5 rfl rfl)
theorem dX4_outOf_74 : decode cX4_outOf 74 = .ok (.getfield 93, 3) := dk_180 0 93 (dk_at dksX4_outOf_3 6 rfl rfl)
theorem dX4_outOf_77 : decode cX4_outOf 77 = .ok (.iconst 0, 1) := dk_3 (dk_at dksX4_outOf_3 9 rfl rfl)
theorem dX4_outOf_78 : decode cX4_outOf 78 = .ok (.iaload, 1) := dk_46 (dk_at dksX4_outOf_3 10 rfl rfl)
theorem dX4_outOf_79 : decode cX4_outOf 79 = .ok (.if_icmp .gt 21, 3) := dk_163 0 21 (dk_at dksX4_outOf_3 11 rfl rfl)
theorem dX4_outOf_82 : decode cX4_outOf 82 = .ok (.aload_n 0, 1) := dk_42 (dk_at dksX4_outOf_3 14 rfl rfl)
theorem dX4_outOf_83 : decode cX4_outOf 83 = .ok (.getfield 13, 3) := dk_180 0 13 (dk_at dksX4_outOf_3 15 rfl rfl)
theorem dX4_outOf_86 : decode cX4_outOf 86 = .ok (.aload_n 0, 1) := dk_42 (dk_at dksX4_outOf_3 18 rfl rfl)
theorem dX4_outOf_87 : decode cX4_outOf 87 = .ok (.getfield 93, 3) := dk_180 0 93 (dk_at dksX4_outOf_3 19 rfl rfl)
theorem dX4_outOf_90 : decode cX4_outOf 90 = .ok (.bipush 22, 2) := dk_16 22 (dk_at dksX4_outOf_3 22 rfl rfl)
theorem dX4_outOf_92 : decode cX4_outOf 92 = .ok (.iload_n 1, 1) := dk_27 (dk_at dksX4_outOf_4 0 rfl rfl)
theorem dX4_outOf_93 : decode cX4_outOf 93 = .ok (.iadd, 1) := dk_96 (dk_at dksX4_outOf_4 1 rfl rfl)
theorem dX4_outOf_94 : decode cX4_outOf 94 = .ok (.iaload, 1) := dk_46 (dk_at dksX4_outOf_4 2 rfl rfl)
theorem dX4_outOf_95 : decode cX4_outOf 95 = .ok (.iaload, 1) := dk_46 (dk_at dksX4_outOf_4 3 rfl rfl)
theorem dX4_outOf_96 : decode cX4_outOf 96 = .ok (.iconst (-1), 1) := dk_2 (dk_at dksX4_outOf_4 4 rfl rfl)
theorem dX4_outOf_97 : decode cX4_outOf 97 = .ok (.if_icmp .eq 9, 3) := dk_159 0 9 (dk_at dksX4_outOf_4 5 rfl rfl)
theorem dX4_outOf_100 : decode cX4_outOf 100 = .ok (.aload_n 0, 1) := dk_42 (dk_at dksX4_outOf_4 8 rfl rfl)
theorem dX4_outOf_101 : decode cX4_outOf 101 = .ok (.iload 4, 2) := dk_21 4 (dk_at dksX4_outOf_4 9 rfl rfl)
theorem dX4_outOf_103 : decode cX4_outOf 103 = .ok (.invokevirtual 489, 3) := dk_182 1 233 (dk_at dksX4_outOf_4 11 rfl rfl)
theorem dX4_outOf_106 : decode cX4_outOf 106 = .ok (.iconst 0, 1) := dk_3 (dk_at dksX4_outOf_4 14 rfl rfl)
theorem dX4_outOf_107 : decode cX4_outOf 107 = .ok (.istore 5, 2) := dk_54 5 (dk_at dksX4_outOf_4 15 rfl rfl)
theorem dX4_outOf_109 : decode cX4_outOf 109 = .ok (.iload 5, 2) := dk_21 5 (dk_at dksX4_outOf_4 17 rfl rfl)
theorem dX4_outOf_111 : decode cX4_outOf 111 = .ok (.aload_n 0, 1) := dk_42 (dk_at dksX4_outOf_4 19 rfl rfl)
theorem dX4_outOf_112 : decode cX4_outOf 112 = .ok (.getfield 350, 3) := dk_180 1 94 (dk_at dksX4_outOf_4 20 rfl rfl)
theorem dX4_outOf_115 : decode cX4_outOf 115 = .ok (.if_icmp .ge 33, 3) := dk_162 0 33 (dk_at dksX4_outOf_5 0 rfl rfl)
theorem dX4_outOf_118 : decode cX4_outOf 118 = .ok (.aload_n 0, 1) := dk_42 (dk_at dksX4_outOf_5 3 rfl rfl)
theorem dX4_outOf_119 : decode cX4_outOf 119 = .ok (.getfield 135, 3) := dk_180 0 135 (dk_at dksX4_outOf_5 4 rfl rfl)
theorem dX4_outOf_122 : decode cX4_outOf 122 = .ok (.iload 5, 2) := dk_21 5 (dk_at dksX4_outOf_5 7 rfl rfl)
theorem dX4_outOf_124 : decode cX4_outOf 124 = .ok (.baload, 1) := dk_51 (dk_at dksX4_outOf_5 9 rfl rfl)
theorem dX4_outOf_125 : decode cX4_outOf 125 = .ok (.ifCond .eq 17, 3) := dk_153 0 17 (dk_at dksX4_outOf_5 10 rfl rfl)
theorem dX4_outOf_128 : decode cX4_outOf 128 = .ok (.aload_n 0, 1) := dk_42 (dk_at dksX4_outOf_5 13 rfl rfl)
theorem dX4_outOf_129 : decode cX4_outOf 129 = .ok (.getfield 13, 3) := dk_180 0 13 (dk_at dksX4_outOf_5 14 rfl rfl)
theorem dX4_outOf_132 : decode cX4_outOf 132 = .ok (.iload 5, 2) := dk_21 5 (dk_at dksX4_outOf_5 17 rfl rfl)
theorem dX4_outOf_134 : decode cX4_outOf 134 = .ok (.iaload, 1) := dk_46 (dk_at dksX4_outOf_5 19 rfl rfl)
theorem dX4_outOf_135 : decode cX4_outOf 135 = .ok (.iconst (-1), 1) := dk_2 (dk_at dksX4_outOf_5 20 rfl rfl)
theorem dX4_outOf_136 : decode cX4_outOf 136 = .ok (.if_icmp .ne 6, 3) := dk_160 0 6 (dk_at dksX4_outOf_5 21 rfl rfl)
theorem dX4_outOf_139 : decode cX4_outOf 139 = .ok (.iload 4, 2) := dk_21 4 (dk_at dksX4_outOf_6 0 rfl rfl)
theorem dX4_outOf_141 : decode cX4_outOf 141 = .ok (.ireturn, 1) := dk_172 (dk_at dksX4_outOf_6 2 rfl rfl)
theorem dX4_outOf_142 : decode cX4_outOf 142 = .ok (.iinc 5 1, 3) := dk_132 5 1 (dk_at dksX4_outOf_6 3 rfl rfl)
theorem dX4_outOf_145 : decode cX4_outOf 145 = .ok (.goto (-36), 3) := dk_167 255 220 (dk_at dksX4_outOf_6 6 rfl rfl)
theorem dX4_outOf_148 : decode cX4_outOf 148 = .ok (.iconst 0, 1) := dk_3 (dk_at dksX4_outOf_6 9 rfl rfl)
theorem dX4_outOf_149 : decode cX4_outOf 149 = .ok (.istore 5, 2) := dk_54 5 (dk_at dksX4_outOf_6 10 rfl rfl)
theorem dX4_outOf_151 : decode cX4_outOf 151 = .ok (.iload 5, 2) := dk_21 5 (dk_at dksX4_outOf_6 12 rfl rfl)
theorem dX4_outOf_153 : decode cX4_outOf 153 = .ok (.aload_n 0, 1) := dk_42 (dk_at dksX4_outOf_6 14 rfl rfl)
theorem dX4_outOf_154 : decode cX4_outOf 154 = .ok (.getfield 350, 3) := dk_180 1 94 (dk_at dksX4_outOf_6 15 rfl rfl)
theorem dX4_outOf_157 : decode cX4_outOf 157 = .ok (.if_icmp .ge 59, 3) := dk_162 0 59 (dk_at dksX4_outOf_6 18 rfl rfl)
theorem dX4_outOf_160 : decode cX4_outOf 160 = .ok (.aload_n 0, 1) := dk_42 (dk_at dksX4_outOf_6 21 rfl rfl)
theorem dX4_outOf_161 : decode cX4_outOf 161 = .ok (.getfield 135, 3) := dk_180 0 135 (dk_at dksX4_outOf_7 0 rfl rfl)
theorem dX4_outOf_164 : decode cX4_outOf 164 = .ok (.iload 5, 2) := dk_21 5 (dk_at dksX4_outOf_7 3 rfl rfl)
theorem dX4_outOf_166 : decode cX4_outOf 166 = .ok (.aload_n 0, 1) := dk_42 (dk_at dksX4_outOf_7 5 rfl rfl)
theorem dX4_outOf_167 : decode cX4_outOf 167 = .ok (.getfield 135, 3) := dk_180 0 135 (dk_at dksX4_outOf_7 6 rfl rfl)
theorem dX4_outOf_170 : decode cX4_outOf 170 = .ok (.iload 5, 2) := dk_21 5 (dk_at dksX4_outOf_7 9 rfl rfl)
theorem dX4_outOf_172 : decode cX4_outOf 172 = .ok (.baload, 1) := dk_51 (dk_at dksX4_outOf_7 11 rfl rfl)
theorem dX4_outOf_173 : decode cX4_outOf 173 = .ok (.ifCond .eq 35, 3) := dk_153 0 35 (dk_at dksX4_outOf_7 12 rfl rfl)
theorem dX4_outOf_176 : decode cX4_outOf 176 = .ok (.iload_n 2, 1) := dk_28 (dk_at dksX4_outOf_7 15 rfl rfl)
theorem dX4_outOf_177 : decode cX4_outOf 177 = .ok (.iconst (-1), 1) := dk_2 (dk_at dksX4_outOf_7 16 rfl rfl)
theorem dX4_outOf_178 : decode cX4_outOf 178 = .ok (.if_icmp .eq 26, 3) := dk_159 0 26 (dk_at dksX4_outOf_7 17 rfl rfl)
theorem dX4_outOf_181 : decode cX4_outOf 181 = .ok (.iload 4, 2) := dk_21 4 (dk_at dksX4_outOf_7 20 rfl rfl)
theorem dX4_outOf_183 : decode cX4_outOf 183 = .ok (.iload_n 2, 1) := dk_28 (dk_at dksX4_outOf_7 22 rfl rfl)
theorem dX4_outOf_184 : decode cX4_outOf 184 = .ok (.if_icmp .lt 20, 3) := dk_161 0 20 (dk_at dksX4_outOf_8 0 rfl rfl)
theorem dX4_outOf_187 : decode cX4_outOf 187 = .ok (.aload_n 0, 1) := dk_42 (dk_at dksX4_outOf_8 3 rfl rfl)
theorem dX4_outOf_188 : decode cX4_outOf 188 = .ok (.getfield 13, 3) := dk_180 0 13 (dk_at dksX4_outOf_8 4 rfl rfl)
theorem dX4_outOf_191 : decode cX4_outOf 191 = .ok (.iload 5, 2) := dk_21 5 (dk_at dksX4_outOf_8 7 rfl rfl)
theorem dX4_outOf_193 : decode cX4_outOf 193 = .ok (.iaload, 1) := dk_46 (dk_at dksX4_outOf_8 9 rfl rfl)
theorem dX4_outOf_194 : decode cX4_outOf 194 = .ok (.iload 4, 2) := dk_21 4 (dk_at dksX4_outOf_8 10 rfl rfl)
theorem dX4_outOf_196 : decode cX4_outOf 196 = .ok (.iadd, 1) := dk_96 (dk_at dksX4_outOf_8 12 rfl rfl)
theorem dX4_outOf_197 : decode cX4_outOf 197 = .ok (.iload_n 2, 1) := dk_28 (dk_at dksX4_outOf_8 13 rfl rfl)
theorem dX4_outOf_198 : decode cX4_outOf 198 = .ok (.isub, 1) := dk_100 (dk_at dksX4_outOf_8 14 rfl rfl)
theorem dX4_outOf_199 : decode cX4_outOf 199 = .ok (.bipush 10, 2) := dk_16 10 (dk_at dksX4_outOf_8 15 rfl rfl)
theorem dX4_outOf_201 : decode cX4_outOf 201 = .ok (.if_icmp .ge 7, 3) := dk_162 0 7 (dk_at dksX4_outOf_8 17 rfl rfl)
theorem dX4_outOf_204 : decode cX4_outOf 204 = .ok (.iconst 1, 1) := dk_4 (dk_at dksX4_outOf_8 20 rfl rfl)
theorem dX4_outOf_205 : decode cX4_outOf 205 = .ok (.goto 4, 3) := dk_167 0 4 (dk_at dksX4_outOf_8 21 rfl rfl)
theorem dX4_outOf_208 : decode cX4_outOf 208 = .ok (.iconst 0, 1) := dk_3 (dk_at dksX4_outOf_9 0 rfl rfl)
theorem dX4_outOf_209 : decode cX4_outOf 209 = .ok (.bastore, 1) := dk_84 (dk_at dksX4_outOf_9 1 rfl rfl)
theorem dX4_outOf_210 : decode cX4_outOf 210 = .ok (.iinc 5 1, 3) := dk_132 5 1 (dk_at dksX4_outOf_9 2 rfl rfl)
theorem dX4_outOf_213 : decode cX4_outOf 213 = .ok (.goto (-62), 3) := dk_167 255 194 (dk_at dksX4_outOf_9 5 rfl rfl)
theorem dX4_outOf_216 : decode cX4_outOf 216 = .ok (.iinc 4 1, 3) := dk_132 4 1 (dk_at dksX4_outOf_9 8 rfl rfl)
theorem dX4_outOf_219 : decode cX4_outOf 219 = .ok (.goto (-154), 3) := dk_167 255 102 (dk_at dksX4_outOf_9 11 rfl rfl)
theorem dX4_outOf_222 : decode cX4_outOf 222 = .ok (.iconst (-1), 1) := dk_2 (dk_at dksX4_outOf_9 14 rfl rfl)
theorem dX4_outOf_223 : decode cX4_outOf 223 = .ok (.ireturn, 1) := dk_172 (dk_at dksX4_outOf_9 15 rfl rfl)
abbrev cX4_stepsOn : ByteArray := prog_13_method_94_code
def yX4_stepsOn : MethodName := ⟨RX4, "stepsOn", "(I)V"⟩
def dkwX4_stepsOn_7 : List UInt8 := [180, 0, 138, 28, 51, 84, 132, 2, 1, 167, 255, 233, 177]
abbrev dktX4_stepsOn_7 : List UInt8 := dkwX4_stepsOn_7 ++ []
def dkwX4_stepsOn_6 : List UInt8 := [132, 2, 1, 167, 255, 145, 3, 61, 28, 42, 180, 1, 94, 162, 0, 21, 42, 180, 0, 135, 28, 42]
abbrev dktX4_stepsOn_6 : List UInt8 := dkwX4_stepsOn_6 ++ dktX4_stepsOn_7
def dkwX4_stepsOn_5 : List UInt8 := [154, 0, 17, 42, 180, 0, 135, 42, 180, 0, 17, 28, 46, 51, 153, 0, 7, 4, 167, 0, 4, 3, 84]
abbrev dktX4_stepsOn_5 : List UInt8 := dkwX4_stepsOn_5 ++ dktX4_stepsOn_6
def dkwX4_stepsOn_4 : List UInt8 := [3, 84, 42, 180, 0, 138, 42, 180, 0, 20, 28, 46, 42, 180, 0, 138, 42, 180, 0, 20, 28, 46, 51]
abbrev dktX4_stepsOn_4 : List UInt8 := dkwX4_stepsOn_4 ++ dktX4_stepsOn_5
def dkwX4_stepsOn_3 : List UInt8 := [28, 46, 51, 154, 0, 17, 42, 180, 0, 135, 42, 180, 0, 20, 28, 46, 51, 153, 0, 7, 4, 167, 0, 4]
abbrev dktX4_stepsOn_3 : List UInt8 := dkwX4_stepsOn_3 ++ dktX4_stepsOn_4
def dkwX4_stepsOn_2 : List UInt8 := [154, 0, 6, 167, 0, 91, 42, 180, 0, 138, 42, 180, 0, 17, 28, 46, 42, 180, 0, 138, 42, 180, 0, 17]
abbrev dktX4_stepsOn_2 : List UInt8 := dkwX4_stepsOn_2 ++ dktX4_stepsOn_3
def dkwX4_stepsOn_1 : List UInt8 := [132, 2, 1, 167, 255, 233, 3, 61, 28, 42, 180, 1, 97, 162, 0, 109, 42, 28, 27, 182, 1, 224]
abbrev dktX4_stepsOn_1 : List UInt8 := dkwX4_stepsOn_1 ++ dktX4_stepsOn_2
def dkwX4_stepsOn_0 : List UInt8 := [3, 61, 28, 42, 180, 1, 94, 162, 0, 21, 42, 180, 0, 138, 28, 42, 180, 0, 135, 28, 51, 84]
abbrev dktX4_stepsOn_0 : List UInt8 := dkwX4_stepsOn_0 ++ dktX4_stepsOn_1
theorem dksX4_stepsOn_0 : cX4_stepsOn.data.toList.drop 0 = dktX4_stepsOn_0 := by decide +kernel
theorem dksX4_stepsOn_1 : cX4_stepsOn.data.toList.drop 22 = dktX4_stepsOn_1 := dk_seg dksX4_stepsOn_0 22 rfl rfl
theorem dksX4_stepsOn_2 : cX4_stepsOn.data.toList.drop 44 = dktX4_stepsOn_2 := dk_seg dksX4_stepsOn_1 22 rfl rfl
theorem dksX4_stepsOn_3 : cX4_stepsOn.data.toList.drop 68 = dktX4_stepsOn_3 := dk_seg dksX4_stepsOn_2 24 rfl rfl
theorem dksX4_stepsOn_4 : cX4_stepsOn.data.toList.drop 92 = dktX4_stepsOn_4 := dk_seg dksX4_stepsOn_3 24 rfl rfl
theorem dksX4_stepsOn_5 : cX4_stepsOn.data.toList.drop 115 = dktX4_stepsOn_5 := dk_seg dksX4_stepsOn_4 23 rfl rfl
theorem dksX4_stepsOn_6 : cX4_stepsOn.data.toList.drop 138 = dktX4_stepsOn_6 := dk_seg dksX4_stepsOn_5 23 rfl rfl
theorem dksX4_stepsOn_7 : cX4_stepsOn.data.toList.drop 160 = dktX4_stepsOn_7 := dk_seg dksX4_stepsOn_6 22 rfl rfl
theorem dX4_stepsOn_0 : decode cX4_stepsOn 0 = .ok (.iconst 0, 1) := dk_3 (dk_at dksX4_stepsOn_0 0 rfl rfl)
theorem dX4_stepsOn_1 : decode cX4_stepsOn 1 = .ok (.istore_n 2, 1) := dk_61 (dk_at dksX4_stepsOn_0 1 rfl rfl)
theorem dX4_stepsOn_2 : decode cX4_stepsOn 2 = .ok (.iload_n 2, 1) := dk_28 (dk_at dksX4_stepsOn_0 2 rfl rfl)
theorem dX4_stepsOn_3 : decode cX4_stepsOn 3 = .ok (.aload_n 0, 1) := dk_42 (dk_at dksX4_stepsOn_0 3 rfl rfl)
theorem dX4_stepsOn_4 : decode cX4_stepsOn 4 = .ok (.getfield 350, 3) := dk_180 1 94 (dk_at dksX4_stepsOn_0 4 rfl rfl)
theorem dX4_stepsOn_7 : decode cX4_stepsOn 7 = .ok (.if_icmp .ge 21, 3) := dk_162 0 21 (dk_at dksX4_stepsOn_0 7 rfl rfl)
theorem dX4_stepsOn_10 : decode cX4_stepsOn 10 = .ok (.aload_n 0, 1) := dk_42 (dk_at dksX4_stepsOn_0 10 rfl rfl)
theorem dX4_stepsOn_11 : decode cX4_stepsOn 11 = .ok (.getfield 138, 3) := dk_180 0 138 (dk_at dksX4_stepsOn_0 11 rfl rfl)
theorem dX4_stepsOn_14 : decode cX4_stepsOn 14 = .ok (.iload_n 2, 1) := dk_28 (dk_at dksX4_stepsOn_0 14 rfl rfl)
theorem dX4_stepsOn_15 : decode cX4_stepsOn 15 = .ok (.aload_n 0, 1) := dk_42 (dk_at dksX4_stepsOn_0 15 rfl rfl)
theorem dX4_stepsOn_16 : decode cX4_stepsOn 16 = .ok (.getfield 135, 3) := dk_180 0 135 (dk_at dksX4_stepsOn_0 16 rfl rfl)
theorem dX4_stepsOn_19 : decode cX4_stepsOn 19 = .ok (.iload_n 2, 1) := dk_28 (dk_at dksX4_stepsOn_0 19 rfl rfl)
theorem dX4_stepsOn_20 : decode cX4_stepsOn 20 = .ok (.baload, 1) := dk_51 (dk_at dksX4_stepsOn_0 20 rfl rfl)
theorem dX4_stepsOn_21 : decode cX4_stepsOn 21 = .ok (.bastore, 1) := dk_84 (dk_at dksX4_stepsOn_0 21 rfl rfl)
theorem dX4_stepsOn_22 : decode cX4_stepsOn 22 = .ok (.iinc 2 1, 3) := dk_132 2 1 (dk_at dksX4_stepsOn_1 0 rfl rfl)
theorem dX4_stepsOn_25 : decode cX4_stepsOn 25 = .ok (.goto (-23), 3) := dk_167 255 233 (dk_at dksX4_stepsOn_1 3 rfl rfl)
theorem dX4_stepsOn_28 : decode cX4_stepsOn 28 = .ok (.iconst 0, 1) := dk_3 (dk_at dksX4_stepsOn_1 6 rfl rfl)
theorem dX4_stepsOn_29 : decode cX4_stepsOn 29 = .ok (.istore_n 2, 1) := dk_61 (dk_at dksX4_stepsOn_1 7 rfl rfl)
theorem dX4_stepsOn_30 : decode cX4_stepsOn 30 = .ok (.iload_n 2, 1) := dk_28 (dk_at dksX4_stepsOn_1 8 rfl rfl)
theorem dX4_stepsOn_31 : decode cX4_stepsOn 31 = .ok (.aload_n 0, 1) := dk_42 (dk_at dksX4_stepsOn_1 9 rfl rfl)
theorem dX4_stepsOn_32 : decode cX4_stepsOn 32 = .ok (.getfield 353, 3) := dk_180 1 97 (dk_at dksX4_stepsOn_1 10 rfl rfl)
theorem dX4_stepsOn_35 : decode cX4_stepsOn 35 = .ok (.if_icmp .ge 109, 3) := dk_162 0 109 (dk_at dksX4_stepsOn_1 13 rfl rfl)
theorem dX4_stepsOn_38 : decode cX4_stepsOn 38 = .ok (.aload_n 0, 1) := dk_42 (dk_at dksX4_stepsOn_1 16 rfl rfl)
theorem dX4_stepsOn_39 : decode cX4_stepsOn 39 = .ok (.iload_n 2, 1) := dk_28 (dk_at dksX4_stepsOn_1 17 rfl rfl)
theorem dX4_stepsOn_40 : decode cX4_stepsOn 40 = .ok (.iload_n 1, 1) := dk_27 (dk_at dksX4_stepsOn_1 18 rfl rfl)
theorem dX4_stepsOn_41 : decode cX4_stepsOn 41 = .ok (.invokevirtual 480, 3) := dk_182 1 224 (dk_at dksX4_stepsOn_1 19 rfl rfl)
theorem dX4_stepsOn_44 : decode cX4_stepsOn 44 = .ok (.ifCond .ne 6, 3) := dk_154 0 6 (dk_at dksX4_stepsOn_2 0 rfl rfl)
theorem dX4_stepsOn_47 : decode cX4_stepsOn 47 = .ok (.goto 91, 3) := dk_167 0 91 (dk_at dksX4_stepsOn_2 3 rfl rfl)
theorem dX4_stepsOn_50 : decode cX4_stepsOn 50 = .ok (.aload_n 0, 1) := dk_42 (dk_at dksX4_stepsOn_2 6 rfl rfl)
theorem dX4_stepsOn_51 : decode cX4_stepsOn 51 = .ok (.getfield 138, 3) := dk_180 0 138 (dk_at dksX4_stepsOn_2 7 rfl rfl)
theorem dX4_stepsOn_54 : decode cX4_stepsOn 54 = .ok (.aload_n 0, 1) := dk_42 (dk_at dksX4_stepsOn_2 10 rfl rfl)
theorem dX4_stepsOn_55 : decode cX4_stepsOn 55 = .ok (.getfield 17, 3) := dk_180 0 17 (dk_at dksX4_stepsOn_2 11 rfl rfl)
theorem dX4_stepsOn_58 : decode cX4_stepsOn 58 = .ok (.iload_n 2, 1) := dk_28 (dk_at dksX4_stepsOn_2 14 rfl rfl)
theorem dX4_stepsOn_59 : decode cX4_stepsOn 59 = .ok (.iaload, 1) := dk_46 (dk_at dksX4_stepsOn_2 15 rfl rfl)
theorem dX4_stepsOn_60 : decode cX4_stepsOn 60 = .ok (.aload_n 0, 1) := dk_42 (dk_at dksX4_stepsOn_2 16 rfl rfl)
theorem dX4_stepsOn_61 : decode cX4_stepsOn 61 = .ok (.getfield 138, 3) := dk_180 0 138 (dk_at dksX4_stepsOn_2 17 rfl rfl)
theorem dX4_stepsOn_64 : decode cX4_stepsOn 64 = .ok (.aload_n 0, 1) := dk_42 (dk_at dksX4_stepsOn_2 20 rfl rfl)
theorem dX4_stepsOn_65 : decode cX4_stepsOn 65 = .ok (.getfield 17, 3) := dk_180 0 17 (dk_at dksX4_stepsOn_2 21 rfl rfl)
theorem dX4_stepsOn_68 : decode cX4_stepsOn 68 = .ok (.iload_n 2, 1) := dk_28 (dk_at dksX4_stepsOn_3 0 rfl rfl)
theorem dX4_stepsOn_69 : decode cX4_stepsOn 69 = .ok (.iaload, 1) := dk_46 (dk_at dksX4_stepsOn_3 1 rfl rfl)
theorem dX4_stepsOn_70 : decode cX4_stepsOn 70 = .ok (.baload, 1) := dk_51 (dk_at dksX4_stepsOn_3 2 rfl rfl)
theorem dX4_stepsOn_71 : decode cX4_stepsOn 71 = .ok (.ifCond .ne 17, 3) := dk_154 0 17 (dk_at dksX4_stepsOn_3 3 rfl rfl)
theorem dX4_stepsOn_74 : decode cX4_stepsOn 74 = .ok (.aload_n 0, 1) := dk_42 (dk_at dksX4_stepsOn_3 6 rfl rfl)
theorem dX4_stepsOn_75 : decode cX4_stepsOn 75 = .ok (.getfield 135, 3) := dk_180 0 135 (dk_at dksX4_stepsOn_3 7 rfl rfl)
theorem dX4_stepsOn_78 : decode cX4_stepsOn 78 = .ok (.aload_n 0, 1) := dk_42 (dk_at dksX4_stepsOn_3 10 rfl rfl)
theorem dX4_stepsOn_79 : decode cX4_stepsOn 79 = .ok (.getfield 20, 3) := dk_180 0 20 (dk_at dksX4_stepsOn_3 11 rfl rfl)
theorem dX4_stepsOn_82 : decode cX4_stepsOn 82 = .ok (.iload_n 2, 1) := dk_28 (dk_at dksX4_stepsOn_3 14 rfl rfl)
theorem dX4_stepsOn_83 : decode cX4_stepsOn 83 = .ok (.iaload, 1) := dk_46 (dk_at dksX4_stepsOn_3 15 rfl rfl)
theorem dX4_stepsOn_84 : decode cX4_stepsOn 84 = .ok (.baload, 1) := dk_51 (dk_at dksX4_stepsOn_3 16 rfl rfl)
theorem dX4_stepsOn_85 : decode cX4_stepsOn 85 = .ok (.ifCond .eq 7, 3) := dk_153 0 7 (dk_at dksX4_stepsOn_3 17 rfl rfl)
theorem dX4_stepsOn_88 : decode cX4_stepsOn 88 = .ok (.iconst 1, 1) := dk_4 (dk_at dksX4_stepsOn_3 20 rfl rfl)
theorem dX4_stepsOn_89 : decode cX4_stepsOn 89 = .ok (.goto 4, 3) := dk_167 0 4 (dk_at dksX4_stepsOn_3 21 rfl rfl)
theorem dX4_stepsOn_92 : decode cX4_stepsOn 92 = .ok (.iconst 0, 1) := dk_3 (dk_at dksX4_stepsOn_4 0 rfl rfl)
theorem dX4_stepsOn_93 : decode cX4_stepsOn 93 = .ok (.bastore, 1) := dk_84 (dk_at dksX4_stepsOn_4 1 rfl rfl)
theorem dX4_stepsOn_94 : decode cX4_stepsOn 94 = .ok (.aload_n 0, 1) := dk_42 (dk_at dksX4_stepsOn_4 2 rfl rfl)
theorem dX4_stepsOn_95 : decode cX4_stepsOn 95 = .ok (.getfield 138, 3) := dk_180 0 138 (dk_at dksX4_stepsOn_4 3 rfl rfl)
theorem dX4_stepsOn_98 : decode cX4_stepsOn 98 = .ok (.aload_n 0, 1) := dk_42 (dk_at dksX4_stepsOn_4 6 rfl rfl)
theorem dX4_stepsOn_99 : decode cX4_stepsOn 99 = .ok (.getfield 20, 3) := dk_180 0 20 (dk_at dksX4_stepsOn_4 7 rfl rfl)
theorem dX4_stepsOn_102 : decode cX4_stepsOn 102 = .ok (.iload_n 2, 1) := dk_28 (dk_at dksX4_stepsOn_4 10 rfl rfl)
theorem dX4_stepsOn_103 : decode cX4_stepsOn 103 = .ok (.iaload, 1) := dk_46 (dk_at dksX4_stepsOn_4 11 rfl rfl)
theorem dX4_stepsOn_104 : decode cX4_stepsOn 104 = .ok (.aload_n 0, 1) := dk_42 (dk_at dksX4_stepsOn_4 12 rfl rfl)
theorem dX4_stepsOn_105 : decode cX4_stepsOn 105 = .ok (.getfield 138, 3) := dk_180 0 138 (dk_at dksX4_stepsOn_4 13 rfl rfl)
theorem dX4_stepsOn_108 : decode cX4_stepsOn 108 = .ok (.aload_n 0, 1) := dk_42 (dk_at dksX4_stepsOn_4 16 rfl rfl)
theorem dX4_stepsOn_109 : decode cX4_stepsOn 109 = .ok (.getfield 20, 3) := dk_180 0 20 (dk_at dksX4_stepsOn_4 17 rfl rfl)
theorem dX4_stepsOn_112 : decode cX4_stepsOn 112 = .ok (.iload_n 2, 1) := dk_28 (dk_at dksX4_stepsOn_4 20 rfl rfl)
theorem dX4_stepsOn_113 : decode cX4_stepsOn 113 = .ok (.iaload, 1) := dk_46 (dk_at dksX4_stepsOn_4 21 rfl rfl)
theorem dX4_stepsOn_114 : decode cX4_stepsOn 114 = .ok (.baload, 1) := dk_51 (dk_at dksX4_stepsOn_4 22 rfl rfl)
theorem dX4_stepsOn_115 : decode cX4_stepsOn 115 = .ok (.ifCond .ne 17, 3) := dk_154 0 17 (dk_at dksX4_stepsOn_5 0 rfl rfl)
theorem dX4_stepsOn_118 : decode cX4_stepsOn 118 = .ok (.aload_n 0, 1) := dk_42 (dk_at dksX4_stepsOn_5 3 rfl rfl)
theorem dX4_stepsOn_119 : decode cX4_stepsOn 119 = .ok (.getfield 135, 3) := dk_180 0 135 (dk_at dksX4_stepsOn_5 4 rfl rfl)
theorem dX4_stepsOn_122 : decode cX4_stepsOn 122 = .ok (.aload_n 0, 1) := dk_42 (dk_at dksX4_stepsOn_5 7 rfl rfl)
theorem dX4_stepsOn_123 : decode cX4_stepsOn 123 = .ok (.getfield 17, 3) := dk_180 0 17 (dk_at dksX4_stepsOn_5 8 rfl rfl)
theorem dX4_stepsOn_126 : decode cX4_stepsOn 126 = .ok (.iload_n 2, 1) := dk_28 (dk_at dksX4_stepsOn_5 11 rfl rfl)
theorem dX4_stepsOn_127 : decode cX4_stepsOn 127 = .ok (.iaload, 1) := dk_46 (dk_at dksX4_stepsOn_5 12 rfl rfl)
theorem dX4_stepsOn_128 : decode cX4_stepsOn 128 = .ok (.baload, 1) := dk_51 (dk_at dksX4_stepsOn_5 13 rfl rfl)
theorem dX4_stepsOn_129 : decode cX4_stepsOn 129 = .ok (.ifCond .eq 7, 3) := dk_153 0 7 (dk_at dksX4_stepsOn_5 14 rfl rfl)
theorem dX4_stepsOn_132 : decode cX4_stepsOn 132 = .ok (.iconst 1, 1) := dk_4 (dk_at dksX4_stepsOn_5 17 rfl rfl)
theorem dX4_stepsOn_133 : decode cX4_stepsOn 133 = .ok (.goto 4, 3) := dk_167 0 4 (dk_at dksX4_stepsOn_5 18 rfl rfl)
theorem dX4_stepsOn_136 : decode cX4_stepsOn 136 = .ok (.iconst 0, 1) := dk_3 (dk_at dksX4_stepsOn_5 21 rfl rfl)
theorem dX4_stepsOn_137 : decode cX4_stepsOn 137 = .ok (.bastore, 1) := dk_84 (dk_at dksX4_stepsOn_5 22 rfl rfl)
theorem dX4_stepsOn_138 : decode cX4_stepsOn 138 = .ok (.iinc 2 1, 3) := dk_132 2 1 (dk_at dksX4_stepsOn_6 0 rfl rfl)
theorem dX4_stepsOn_141 : decode cX4_stepsOn 141 = .ok (.goto (-111), 3) := dk_167 255 145 (dk_at dksX4_stepsOn_6 3 rfl rfl)
theorem dX4_stepsOn_144 : decode cX4_stepsOn 144 = .ok (.iconst 0, 1) := dk_3 (dk_at dksX4_stepsOn_6 6 rfl rfl)
theorem dX4_stepsOn_145 : decode cX4_stepsOn 145 = .ok (.istore_n 2, 1) := dk_61 (dk_at dksX4_stepsOn_6 7 rfl rfl)
theorem dX4_stepsOn_146 : decode cX4_stepsOn 146 = .ok (.iload_n 2, 1) := dk_28 (dk_at dksX4_stepsOn_6 8 rfl rfl)
theorem dX4_stepsOn_147 : decode cX4_stepsOn 147 = .ok (.aload_n 0, 1) := dk_42 (dk_at dksX4_stepsOn_6 9 rfl rfl)
theorem dX4_stepsOn_148 : decode cX4_stepsOn 148 = .ok (.getfield 350, 3) := dk_180 1 94 (dk_at dksX4_stepsOn_6 10 rfl rfl)
theorem dX4_stepsOn_151 : decode cX4_stepsOn 151 = .ok (.if_icmp .ge 21, 3) := dk_162 0 21 (dk_at dksX4_stepsOn_6 13 rfl rfl)
theorem dX4_stepsOn_154 : decode cX4_stepsOn 154 = .ok (.aload_n 0, 1) := dk_42 (dk_at dksX4_stepsOn_6 16 rfl rfl)
theorem dX4_stepsOn_155 : decode cX4_stepsOn 155 = .ok (.getfield 135, 3) := dk_180 0 135 (dk_at dksX4_stepsOn_6 17 rfl rfl)
theorem dX4_stepsOn_158 : decode cX4_stepsOn 158 = .ok (.iload_n 2, 1) := dk_28 (dk_at dksX4_stepsOn_6 20 rfl rfl)
theorem dX4_stepsOn_159 : decode cX4_stepsOn 159 = .ok (.aload_n 0, 1) := dk_42 (dk_at dksX4_stepsOn_6 21 rfl rfl)
theorem dX4_stepsOn_160 : decode cX4_stepsOn 160 = .ok (.getfield 138, 3) := dk_180 0 138 (dk_at dksX4_stepsOn_7 0 rfl rfl)
theorem dX4_stepsOn_163 : decode cX4_stepsOn 163 = .ok (.iload_n 2, 1) := dk_28 (dk_at dksX4_stepsOn_7 3 rfl rfl)
theorem dX4_stepsOn_164 : decode cX4_stepsOn 164 = .ok (.baload, 1) := dk_51 (dk_at dksX4_stepsOn_7 4 rfl rfl)
theorem dX4_stepsOn_165 : decode cX4_stepsOn 165 = .ok (.bastore, 1) := dk_84 (dk_at dksX4_stepsOn_7 5 rfl rfl)
theorem dX4_stepsOn_166 : decode cX4_stepsOn 166 = .ok (.iinc 2 1, 3) := dk_132 2 1 (dk_at dksX4_stepsOn_7 6 rfl rfl)
theorem dX4_stepsOn_169 : decode cX4_stepsOn 169 = .ok (.goto (-23), 3) := dk_167 255 233 (dk_at dksX4_stepsOn_7 9 rfl rfl)
theorem dX4_stepsOn_172 : decode cX4_stepsOn 172 = .ok (.return_, 1) := dk_177 (dk_at dksX4_stepsOn_7 12 rfl rfl)
abbrev cX4_gate : ByteArray := prog_13_method_97_code
def yX4_gate : MethodName := ⟨RX4, "gate", "(I)I"⟩
def dkwX4_gate_4 : List UInt8 := [21, 4, 62, 132, 4, 1, 167, 255, 216, 42, 2, 181, 0, 129, 29, 172]
abbrev dktX4_gate_4 : List UInt8 := dkwX4_gate_4 ++ []
def dkwX4_gate_3 : List UInt8 := [160, 0, 32, 42, 21, 4, 181, 0, 129, 42, 27, 28, 182, 1, 236, 2, 160, 0, 7, 2, 167, 0, 5]
abbrev dktX4_gate_3 : List UInt8 := dkwX4_gate_3 ++ dktX4_gate_4
def dkwX4_gate_2 : List UInt8 := [182, 1, 236, 2, 159, 0, 5, 2, 172, 3, 54, 4, 21, 4, 42, 180, 1, 97, 162, 0, 37, 29, 2]
abbrev dktX4_gate_2 : List UInt8 := dkwX4_gate_2 ++ dktX4_gate_3
def dkwX4_gate_1 : List UInt8 := [42, 182, 1, 230, 172, 42, 182, 1, 227, 42, 180, 0, 126, 7, 27, 96, 46, 61, 2, 62, 42, 27, 28]
abbrev dktX4_gate_1 : List UInt8 := dkwX4_gate_1 ++ dktX4_gate_2
def dkwX4_gate_0 : List UInt8 := [42, 3, 181, 0, 168, 42, 27, 182, 1, 212, 153, 0, 14, 42, 180, 0, 93, 27, 184, 1, 150, 153, 0, 8]
abbrev dktX4_gate_0 : List UInt8 := dkwX4_gate_0 ++ dktX4_gate_1
theorem dksX4_gate_0 : cX4_gate.data.toList.drop 0 = dktX4_gate_0 := by decide +kernel
theorem dksX4_gate_1 : cX4_gate.data.toList.drop 24 = dktX4_gate_1 := dk_seg dksX4_gate_0 24 rfl rfl
theorem dksX4_gate_2 : cX4_gate.data.toList.drop 47 = dktX4_gate_2 := dk_seg dksX4_gate_1 23 rfl rfl
theorem dksX4_gate_3 : cX4_gate.data.toList.drop 70 = dktX4_gate_3 := dk_seg dksX4_gate_2 23 rfl rfl
theorem dksX4_gate_4 : cX4_gate.data.toList.drop 93 = dktX4_gate_4 := dk_seg dksX4_gate_3 23 rfl rfl
theorem dX4_gate_0 : decode cX4_gate 0 = .ok (.aload_n 0, 1) := dk_42 (dk_at dksX4_gate_0 0 rfl rfl)
theorem dX4_gate_1 : decode cX4_gate 1 = .ok (.iconst 0, 1) := dk_3 (dk_at dksX4_gate_0 1 rfl rfl)
theorem dX4_gate_2 : decode cX4_gate 2 = .ok (.putfield 168, 3) := dk_181 0 168 (dk_at dksX4_gate_0 2 rfl rfl)
theorem dX4_gate_5 : decode cX4_gate 5 = .ok (.aload_n 0, 1) := dk_42 (dk_at dksX4_gate_0 5 rfl rfl)
theorem dX4_gate_6 : decode cX4_gate 6 = .ok (.iload_n 1, 1) := dk_27 (dk_at dksX4_gate_0 6 rfl rfl)
theorem dX4_gate_7 : decode cX4_gate 7 = .ok (.invokevirtual 468, 3) := dk_182 1 212 (dk_at dksX4_gate_0 7 rfl rfl)
theorem dX4_gate_10 : decode cX4_gate 10 = .ok (.ifCond .eq 14, 3) := dk_153 0 14 (dk_at dksX4_gate_0 10 rfl rfl)
theorem dX4_gate_13 : decode cX4_gate 13 = .ok (.aload_n 0, 1) := dk_42 (dk_at dksX4_gate_0 13 rfl rfl)
theorem dX4_gate_14 : decode cX4_gate 14 = .ok (.getfield 93, 3) := dk_180 0 93 (dk_at dksX4_gate_0 14 rfl rfl)
theorem dX4_gate_17 : decode cX4_gate 17 = .ok (.iload_n 1, 1) := dk_27 (dk_at dksX4_gate_0 17 rfl rfl)
theorem dX4_gate_18 : decode cX4_gate 18 = .ok (.invokestatic 406, 3) := dk_184 1 150 (dk_at dksX4_gate_0 18 rfl rfl)
theorem dX4_gate_21 : decode cX4_gate 21 = .ok (.ifCond .eq 8, 3) := dk_153 0 8 (dk_at dksX4_gate_0 21 rfl rfl)
theorem dX4_gate_24 : decode cX4_gate 24 = .ok (.aload_n 0, 1) := dk_42 (dk_at dksX4_gate_1 0 rfl rfl)
theorem dX4_gate_25 : decode cX4_gate 25 = .ok (.invokevirtual 486, 3) := dk_182 1 230 (dk_at dksX4_gate_1 1 rfl rfl)
theorem dX4_gate_28 : decode cX4_gate 28 = .ok (.ireturn, 1) := dk_172 (dk_at dksX4_gate_1 4 rfl rfl)
theorem dX4_gate_29 : decode cX4_gate 29 = .ok (.aload_n 0, 1) := dk_42 (dk_at dksX4_gate_1 5 rfl rfl)
theorem dX4_gate_30 : decode cX4_gate 30 = .ok (.invokevirtual 483, 3) := dk_182 1 227 (dk_at dksX4_gate_1 6 rfl rfl)
theorem dX4_gate_33 : decode cX4_gate 33 = .ok (.aload_n 0, 1) := dk_42 (dk_at dksX4_gate_1 9 rfl rfl)
theorem dX4_gate_34 : decode cX4_gate 34 = .ok (.getfield 126, 3) := dk_180 0 126 (dk_at dksX4_gate_1 10 rfl rfl)
theorem dX4_gate_37 : decode cX4_gate 37 = .ok (.iconst 4, 1) := dk_7 (dk_at dksX4_gate_1 13 rfl rfl)
theorem dX4_gate_38 : decode cX4_gate 38 = .ok (.iload_n 1, 1) := dk_27 (dk_at dksX4_gate_1 14 rfl rfl)
theorem dX4_gate_39 : decode cX4_gate 39 = .ok (.iadd, 1) := dk_96 (dk_at dksX4_gate_1 15 rfl rfl)
theorem dX4_gate_40 : decode cX4_gate 40 = .ok (.iaload, 1) := dk_46 (dk_at dksX4_gate_1 16 rfl rfl)
theorem dX4_gate_41 : decode cX4_gate 41 = .ok (.istore_n 2, 1) := dk_61 (dk_at dksX4_gate_1 17 rfl rfl)
theorem dX4_gate_42 : decode cX4_gate 42 = .ok (.iconst (-1), 1) := dk_2 (dk_at dksX4_gate_1 18 rfl rfl)
theorem dX4_gate_43 : decode cX4_gate 43 = .ok (.istore_n 3, 1) := dk_62 (dk_at dksX4_gate_1 19 rfl rfl)
theorem dX4_gate_44 : decode cX4_gate 44 = .ok (.aload_n 0, 1) := dk_42 (dk_at dksX4_gate_1 20 rfl rfl)
theorem dX4_gate_45 : decode cX4_gate 45 = .ok (.iload_n 1, 1) := dk_27 (dk_at dksX4_gate_1 21 rfl rfl)
theorem dX4_gate_46 : decode cX4_gate 46 = .ok (.iload_n 2, 1) := dk_28 (dk_at dksX4_gate_1 22 rfl rfl)
theorem dX4_gate_47 : decode cX4_gate 47 = .ok (.invokevirtual 492, 3) := dk_182 1 236 (dk_at dksX4_gate_2 0 rfl rfl)
theorem dX4_gate_50 : decode cX4_gate 50 = .ok (.iconst (-1), 1) := dk_2 (dk_at dksX4_gate_2 3 rfl rfl)
theorem dX4_gate_51 : decode cX4_gate 51 = .ok (.if_icmp .eq 5, 3) := dk_159 0 5 (dk_at dksX4_gate_2 4 rfl rfl)
theorem dX4_gate_54 : decode cX4_gate 54 = .ok (.iconst (-1), 1) := dk_2 (dk_at dksX4_gate_2 7 rfl rfl)
theorem dX4_gate_55 : decode cX4_gate 55 = .ok (.ireturn, 1) := dk_172 (dk_at dksX4_gate_2 8 rfl rfl)
theorem dX4_gate_56 : decode cX4_gate 56 = .ok (.iconst 0, 1) := dk_3 (dk_at dksX4_gate_2 9 rfl rfl)
theorem dX4_gate_57 : decode cX4_gate 57 = .ok (.istore 4, 2) := dk_54 4 (dk_at dksX4_gate_2 10 rfl rfl)
theorem dX4_gate_59 : decode cX4_gate 59 = .ok (.iload 4, 2) := dk_21 4 (dk_at dksX4_gate_2 12 rfl rfl)
theorem dX4_gate_61 : decode cX4_gate 61 = .ok (.aload_n 0, 1) := dk_42 (dk_at dksX4_gate_2 14 rfl rfl)
theorem dX4_gate_62 : decode cX4_gate 62 = .ok (.getfield 353, 3) := dk_180 1 97 (dk_at dksX4_gate_2 15 rfl rfl)
theorem dX4_gate_65 : decode cX4_gate 65 = .ok (.if_icmp .ge 37, 3) := dk_162 0 37 (dk_at dksX4_gate_2 18 rfl rfl)
theorem dX4_gate_68 : decode cX4_gate 68 = .ok (.iload_n 3, 1) := dk_29 (dk_at dksX4_gate_2 21 rfl rfl)
theorem dX4_gate_69 : decode cX4_gate 69 = .ok (.iconst (-1), 1) := dk_2 (dk_at dksX4_gate_2 22 rfl rfl)
theorem dX4_gate_70 : decode cX4_gate 70 = .ok (.if_icmp .ne 32, 3) := dk_160 0 32 (dk_at dksX4_gate_3 0 rfl rfl)
theorem dX4_gate_73 : decode cX4_gate 73 = .ok (.aload_n 0, 1) := dk_42 (dk_at dksX4_gate_3 3 rfl rfl)
theorem dX4_gate_74 : decode cX4_gate 74 = .ok (.iload 4, 2) := dk_21 4 (dk_at dksX4_gate_3 4 rfl rfl)
theorem dX4_gate_76 : decode cX4_gate 76 = .ok (.putfield 129, 3) := dk_181 0 129 (dk_at dksX4_gate_3 6 rfl rfl)
theorem dX4_gate_79 : decode cX4_gate 79 = .ok (.aload_n 0, 1) := dk_42 (dk_at dksX4_gate_3 9 rfl rfl)
theorem dX4_gate_80 : decode cX4_gate 80 = .ok (.iload_n 1, 1) := dk_27 (dk_at dksX4_gate_3 10 rfl rfl)
theorem dX4_gate_81 : decode cX4_gate 81 = .ok (.iload_n 2, 1) := dk_28 (dk_at dksX4_gate_3 11 rfl rfl)
theorem dX4_gate_82 : decode cX4_gate 82 = .ok (.invokevirtual 492, 3) := dk_182 1 236 (dk_at dksX4_gate_3 12 rfl rfl)
theorem dX4_gate_85 : decode cX4_gate 85 = .ok (.iconst (-1), 1) := dk_2 (dk_at dksX4_gate_3 15 rfl rfl)
theorem dX4_gate_86 : decode cX4_gate 86 = .ok (.if_icmp .ne 7, 3) := dk_160 0 7 (dk_at dksX4_gate_3 16 rfl rfl)
theorem dX4_gate_89 : decode cX4_gate 89 = .ok (.iconst (-1), 1) := dk_2 (dk_at dksX4_gate_3 19 rfl rfl)
theorem dX4_gate_90 : decode cX4_gate 90 = .ok (.goto 5, 3) := dk_167 0 5 (dk_at dksX4_gate_3 20 rfl rfl)
theorem dX4_gate_93 : decode cX4_gate 93 = .ok (.iload 4, 2) := dk_21 4 (dk_at dksX4_gate_4 0 rfl rfl)
theorem dX4_gate_95 : decode cX4_gate 95 = .ok (.istore_n 3, 1) := dk_62 (dk_at dksX4_gate_4 2 rfl rfl)
theorem dX4_gate_96 : decode cX4_gate 96 = .ok (.iinc 4 1, 3) := dk_132 4 1 (dk_at dksX4_gate_4 3 rfl rfl)
theorem dX4_gate_99 : decode cX4_gate 99 = .ok (.goto (-40), 3) := dk_167 255 216 (dk_at dksX4_gate_4 6 rfl rfl)
theorem dX4_gate_102 : decode cX4_gate 102 = .ok (.aload_n 0, 1) := dk_42 (dk_at dksX4_gate_4 9 rfl rfl)
theorem dX4_gate_103 : decode cX4_gate 103 = .ok (.iconst (-1), 1) := dk_2 (dk_at dksX4_gate_4 10 rfl rfl)
theorem dX4_gate_104 : decode cX4_gate 104 = .ok (.putfield 129, 3) := dk_181 0 129 (dk_at dksX4_gate_4 11 rfl rfl)
theorem dX4_gate_107 : decode cX4_gate 107 = .ok (.iload_n 3, 1) := dk_29 (dk_at dksX4_gate_4 14 rfl rfl)
theorem dX4_gate_108 : decode cX4_gate 108 = .ok (.ireturn, 1) := dk_172 (dk_at dksX4_gate_4 15 rfl rfl)
abbrev cX4_surest : ByteArray := prog_13_method_99_code
def yX4_surest : MethodName := ⟨RX4, "surest", "(II)I"⟩
def dkwX4_surest_15 : List UInt8 := [54, 4, 132, 5, 1, 167, 255, 218, 21, 4, 172]
abbrev dktX4_surest_15 : List UInt8 := dkwX4_surest_15 ++ []
def dkwX4_surest_14 : List UInt8 := [180, 0, 141, 21, 5, 46, 21, 4, 164, 0, 13, 42, 180, 0, 141, 21, 5, 46, 167, 0, 5, 21, 4]
abbrev dktX4_surest_14 : List UInt8 := dkwX4_surest_14 ++ dktX4_surest_15
def dkwX4_surest_13 : List UInt8 := [132, 4, 1, 167, 255, 58, 3, 54, 4, 3, 54, 5, 21, 5, 42, 180, 1, 94, 162, 0, 35, 42]
abbrev dktX4_surest_13 : List UInt8 := dkwX4_surest_13 ++ dktX4_surest_14
def dkwX4_surest_12 : List UInt8 := [16, 10, 42, 180, 0, 13, 21, 6, 46, 100, 167, 0, 5, 16, 10, 104, 79, 132, 6, 1, 167, 255, 198]
abbrev dktX4_surest_12 : List UInt8 := dkwX4_surest_12 ++ dktX4_surest_13
def dkwX4_surest_11 : List UInt8 := [42, 180, 0, 144, 21, 6, 46, 21, 5, 153, 0, 27, 42, 180, 0, 13, 21, 6, 46, 2, 159, 0, 16]
abbrev dktX4_surest_11 : List UInt8 := dkwX4_surest_11 ++ dktX4_surest_12
def dkwX4_surest_10 : List UInt8 := [167, 0, 4, 3, 54, 5, 3, 54, 6, 21, 6, 42, 180, 1, 94, 162, 0, 55, 42, 180, 0, 141, 21, 6]
abbrev dktX4_surest_10 : List UInt8 := dkwX4_surest_10 ++ dktX4_surest_11
def dkwX4_surest_9 : List UInt8 := [21, 5, 46, 182, 1, 239, 132, 5, 1, 167, 255, 194, 29, 2, 159, 0, 13, 21, 4, 29, 161, 0, 7, 4]
abbrev dktX4_surest_9 : List UInt8 := dkwX4_surest_9 ++ dktX4_surest_10
def dkwX4_surest_8 : List UInt8 := [46, 42, 180, 0, 20, 21, 5, 46, 182, 1, 239, 42, 42, 180, 0, 20, 21, 5, 46, 42, 180, 0, 17]
abbrev dktX4_surest_8 : List UInt8 := dkwX4_surest_8 ++ dktX4_surest_9
def dkwX4_surest_7 : List UInt8 := [162, 0, 59, 42, 21, 5, 21, 4, 182, 1, 224, 154, 0, 6, 167, 0, 39, 42, 42, 180, 0, 17, 21, 5]
abbrev dktX4_surest_7 : List UInt8 := dkwX4_surest_7 ++ dktX4_surest_8
def dkwX4_surest_6 : List UInt8 := [180, 0, 141, 21, 5, 46, 79, 132, 5, 1, 167, 255, 230, 3, 54, 5, 21, 5, 42, 180, 1, 97]
abbrev dktX4_surest_6 : List UInt8 := dkwX4_surest_6 ++ dktX4_surest_7
def dkwX4_surest_5 : List UInt8 := [96, 162, 0, 191, 3, 54, 5, 21, 5, 42, 180, 1, 94, 162, 0, 23, 42, 180, 0, 144, 21, 5, 42]
abbrev dktX4_surest_5 : List UInt8 := dkwX4_surest_5 ++ dktX4_surest_6
def dkwX4_surest_4 : List UInt8 := [79, 132, 4, 1, 167, 255, 220, 42, 180, 0, 93, 3, 46, 54, 4, 21, 4, 42, 180, 0, 93, 3, 46, 28]
abbrev dktX4_surest_4 : List UInt8 := dkwX4_surest_4 ++ dktX4_surest_5
def dkwX4_surest_3 : List UInt8 := [180, 0, 141, 21, 4, 21, 4, 42, 180, 0, 93, 16, 22, 27, 96, 46, 160, 0, 7, 4, 167, 0, 4, 3]
abbrev dktX4_surest_3 : List UInt8 := dkwX4_surest_3 ++ dktX4_surest_4
def dkwX4_surest_2 : List UInt8 := [182, 1, 227, 42, 180, 0, 126, 7, 27, 96, 46, 62, 3, 54, 4, 21, 4, 16, 8, 162, 0, 35, 42]
abbrev dktX4_surest_2 : List UInt8 := dkwX4_surest_2 ++ dktX4_surest_3
def dkwX4_surest_1 : List UInt8 := [182, 1, 84, 154, 0, 5, 3, 172, 42, 180, 0, 93, 27, 184, 1, 150, 153, 0, 5, 3, 172, 42]
abbrev dktX4_surest_1 : List UInt8 := dkwX4_surest_1 ++ dktX4_surest_2
def dkwX4_surest_0 : List UInt8 := [42, 3, 181, 0, 168, 42, 27, 182, 1, 212, 153, 0, 18, 42, 28, 4, 16, 9, 184, 1, 193, 5]
abbrev dktX4_surest_0 : List UInt8 := dkwX4_surest_0 ++ dktX4_surest_1
theorem dksX4_surest_0 : cX4_surest.data.toList.drop 0 = dktX4_surest_0 := by decide +kernel
theorem dksX4_surest_1 : cX4_surest.data.toList.drop 22 = dktX4_surest_1 := dk_seg dksX4_surest_0 22 rfl rfl
theorem dksX4_surest_2 : cX4_surest.data.toList.drop 44 = dktX4_surest_2 := dk_seg dksX4_surest_1 22 rfl rfl
theorem dksX4_surest_3 : cX4_surest.data.toList.drop 67 = dktX4_surest_3 := dk_seg dksX4_surest_2 23 rfl rfl
theorem dksX4_surest_4 : cX4_surest.data.toList.drop 91 = dktX4_surest_4 := dk_seg dksX4_surest_3 24 rfl rfl
theorem dksX4_surest_5 : cX4_surest.data.toList.drop 115 = dktX4_surest_5 := dk_seg dksX4_surest_4 24 rfl rfl
theorem dksX4_surest_6 : cX4_surest.data.toList.drop 138 = dktX4_surest_6 := dk_seg dksX4_surest_5 23 rfl rfl
theorem dksX4_surest_7 : cX4_surest.data.toList.drop 160 = dktX4_surest_7 := dk_seg dksX4_surest_6 22 rfl rfl
theorem dksX4_surest_8 : cX4_surest.data.toList.drop 184 = dktX4_surest_8 := dk_seg dksX4_surest_7 24 rfl rfl
theorem dksX4_surest_9 : cX4_surest.data.toList.drop 207 = dktX4_surest_9 := dk_seg dksX4_surest_8 23 rfl rfl
theorem dksX4_surest_10 : cX4_surest.data.toList.drop 231 = dktX4_surest_10 := dk_seg dksX4_surest_9 24 rfl rfl
theorem dksX4_surest_11 : cX4_surest.data.toList.drop 255 = dktX4_surest_11 := dk_seg dksX4_surest_10 24 rfl rfl
theorem dksX4_surest_12 : cX4_surest.data.toList.drop 278 = dktX4_surest_12 := dk_seg dksX4_surest_11 23 rfl rfl
theorem dksX4_surest_13 : cX4_surest.data.toList.drop 301 = dktX4_surest_13 := dk_seg dksX4_surest_12 23 rfl rfl
theorem dksX4_surest_14 : cX4_surest.data.toList.drop 323 = dktX4_surest_14 := dk_seg dksX4_surest_13 22 rfl rfl
theorem dksX4_surest_15 : cX4_surest.data.toList.drop 346 = dktX4_surest_15 := dk_seg dksX4_surest_14 23 rfl rfl
theorem dX4_surest_0 : decode cX4_surest 0 = .ok (.aload_n 0, 1) := dk_42 (dk_at dksX4_surest_0 0 rfl rfl)
theorem dX4_surest_1 : decode cX4_surest 1 = .ok (.iconst 0, 1) := dk_3 (dk_at dksX4_surest_0 1 rfl rfl)
theorem dX4_surest_2 : decode cX4_surest 2 = .ok (.putfield 168, 3) := dk_181 0 168 (dk_at dksX4_surest_0 2 rfl rfl)
theorem dX4_surest_5 : decode cX4_surest 5 = .ok (.aload_n 0, 1) := dk_42 (dk_at dksX4_surest_0 5 rfl rfl)
theorem dX4_surest_6 : decode cX4_surest 6 = .ok (.iload_n 1, 1) := dk_27 (dk_at dksX4_surest_0 6 rfl rfl)
theorem dX4_surest_7 : decode cX4_surest 7 = .ok (.invokevirtual 468, 3) := dk_182 1 212 (dk_at dksX4_surest_0 7 rfl rfl)
theorem dX4_surest_10 : decode cX4_surest 10 = .ok (.ifCond .eq 18, 3) := dk_153 0 18 (dk_at dksX4_surest_0 10 rfl rfl)
theorem dX4_surest_13 : decode cX4_surest 13 = .ok (.aload_n 0, 1) := dk_42 (dk_at dksX4_surest_0 13 rfl rfl)
theorem dX4_surest_14 : decode cX4_surest 14 = .ok (.iload_n 2, 1) := dk_28 (dk_at dksX4_surest_0 14 rfl rfl)
theorem dX4_surest_15 : decode cX4_surest 15 = .ok (.iconst 1, 1) := dk_4 (dk_at dksX4_surest_0 15 rfl rfl)
theorem dX4_surest_16 : decode cX4_surest 16 = .ok (.bipush 9, 2) := dk_16 9 (dk_at dksX4_surest_0 16 rfl rfl)
theorem dX4_surest_18 : decode cX4_surest 18 = .ok (.invokestatic 449, 3) := dk_184 1 193 (dk_at dksX4_surest_0 18 rfl rfl)
theorem dX4_surest_21 : decode cX4_surest 21 = .ok (.iconst 2, 1) := dk_5 (dk_at dksX4_surest_0 21 rfl rfl)
theorem dX4_surest_22 : decode cX4_surest 22 = .ok (.invokevirtual 340, 3) := dk_182 1 84 (dk_at dksX4_surest_1 0 rfl rfl)
theorem dX4_surest_25 : decode cX4_surest 25 = .ok (.ifCond .ne 5, 3) := dk_154 0 5 (dk_at dksX4_surest_1 3 rfl rfl)
theorem dX4_surest_28 : decode cX4_surest 28 = .ok (.iconst 0, 1) := dk_3 (dk_at dksX4_surest_1 6 rfl rfl)
theorem dX4_surest_29 : decode cX4_surest 29 = .ok (.ireturn, 1) := dk_172 (dk_at dksX4_surest_1 7 rfl rfl)
theorem dX4_surest_30 : decode cX4_surest 30 = .ok (.aload_n 0, 1) := dk_42 (dk_at dksX4_surest_1 8 rfl rfl)
theorem dX4_surest_31 : decode cX4_surest 31 = .ok (.getfield 93, 3) := dk_180 0 93 (dk_at dksX4_surest_1 9 rfl rfl)
theorem dX4_surest_34 : decode cX4_surest 34 = .ok (.iload_n 1, 1) := dk_27 (dk_at dksX4_surest_1 12 rfl rfl)
theorem dX4_surest_35 : decode cX4_surest 35 = .ok (.invokestatic 406, 3) := dk_184 1 150 (dk_at dksX4_surest_1 13 rfl rfl)
theorem dX4_surest_38 : decode cX4_surest 38 = .ok (.ifCond .eq 5, 3) := dk_153 0 5 (dk_at dksX4_surest_1 16 rfl rfl)
theorem dX4_surest_41 : decode cX4_surest 41 = .ok (.iconst 0, 1) := dk_3 (dk_at dksX4_surest_1 19 rfl rfl)
theorem dX4_surest_42 : decode cX4_surest 42 = .ok (.ireturn, 1) := dk_172 (dk_at dksX4_surest_1 20 rfl rfl)
theorem dX4_surest_43 : decode cX4_surest 43 = .ok (.aload_n 0, 1) := dk_42 (dk_at dksX4_surest_1 21 rfl rfl)
theorem dX4_surest_44 : decode cX4_surest 44 = .ok (.invokevirtual 483, 3) := dk_182 1 227 (dk_at dksX4_surest_2 0 rfl rfl)
theorem dX4_surest_47 : decode cX4_surest 47 = .ok (.aload_n 0, 1) := dk_42 (dk_at dksX4_surest_2 3 rfl rfl)
theorem dX4_surest_48 : decode cX4_surest 48 = .ok (.getfield 126, 3) := dk_180 0 126 (dk_at dksX4_surest_2 4 rfl rfl)
theorem dX4_surest_51 : decode cX4_surest 51 = .ok (.iconst 4, 1) := dk_7 (dk_at dksX4_surest_2 7 rfl rfl)
theorem dX4_surest_52 : decode cX4_surest 52 = .ok (.iload_n 1, 1) := dk_27 (dk_at dksX4_surest_2 8 rfl rfl)
theorem dX4_surest_53 : decode cX4_surest 53 = .ok (.iadd, 1) := dk_96 (dk_at dksX4_surest_2 9 rfl rfl)
theorem dX4_surest_54 : decode cX4_surest 54 = .ok (.iaload, 1) := dk_46 (dk_at dksX4_surest_2 10 rfl rfl)
theorem dX4_surest_55 : decode cX4_surest 55 = .ok (.istore_n 3, 1) := dk_62 (dk_at dksX4_surest_2 11 rfl rfl)
theorem dX4_surest_56 : decode cX4_surest 56 = .ok (.iconst 0, 1) := dk_3 (dk_at dksX4_surest_2 12 rfl rfl)
theorem dX4_surest_57 : decode cX4_surest 57 = .ok (.istore 4, 2) := dk_54 4 (dk_at dksX4_surest_2 13 rfl rfl)
theorem dX4_surest_59 : decode cX4_surest 59 = .ok (.iload 4, 2) := dk_21 4 (dk_at dksX4_surest_2 15 rfl rfl)
theorem dX4_surest_61 : decode cX4_surest 61 = .ok (.bipush 8, 2) := dk_16 8 (dk_at dksX4_surest_2 17 rfl rfl)
theorem dX4_surest_63 : decode cX4_surest 63 = .ok (.if_icmp .ge 35, 3) := dk_162 0 35 (dk_at dksX4_surest_2 19 rfl rfl)
theorem dX4_surest_66 : decode cX4_surest 66 = .ok (.aload_n 0, 1) := dk_42 (dk_at dksX4_surest_2 22 rfl rfl)
theorem dX4_surest_67 : decode cX4_surest 67 = .ok (.getfield 141, 3) := dk_180 0 141 (dk_at dksX4_surest_3 0 rfl rfl)
theorem dX4_surest_70 : decode cX4_surest 70 = .ok (.iload 4, 2) := dk_21 4 (dk_at dksX4_surest_3 3 rfl rfl)
theorem dX4_surest_72 : decode cX4_surest 72 = .ok (.iload 4, 2) := dk_21 4 (dk_at dksX4_surest_3 5 rfl rfl)
theorem dX4_surest_74 : decode cX4_surest 74 = .ok (.aload_n 0, 1) := dk_42 (dk_at dksX4_surest_3 7 rfl rfl)
theorem dX4_surest_75 : decode cX4_surest 75 = .ok (.getfield 93, 3) := dk_180 0 93 (dk_at dksX4_surest_3 8 rfl rfl)
theorem dX4_surest_78 : decode cX4_surest 78 = .ok (.bipush 22, 2) := dk_16 22 (dk_at dksX4_surest_3 11 rfl rfl)
theorem dX4_surest_80 : decode cX4_surest 80 = .ok (.iload_n 1, 1) := dk_27 (dk_at dksX4_surest_3 13 rfl rfl)
theorem dX4_surest_81 : decode cX4_surest 81 = .ok (.iadd, 1) := dk_96 (dk_at dksX4_surest_3 14 rfl rfl)
theorem dX4_surest_82 : decode cX4_surest 82 = .ok (.iaload, 1) := dk_46 (dk_at dksX4_surest_3 15 rfl rfl)
theorem dX4_surest_83 : decode cX4_surest 83 = .ok (.if_icmp .ne 7, 3) := dk_160 0 7 (dk_at dksX4_surest_3 16 rfl rfl)
theorem dX4_surest_86 : decode cX4_surest 86 = .ok (.iconst 1, 1) := dk_4 (dk_at dksX4_surest_3 19 rfl rfl)
theorem dX4_surest_87 : decode cX4_surest 87 = .ok (.goto 4, 3) := dk_167 0 4 (dk_at dksX4_surest_3 20 rfl rfl)
theorem dX4_surest_90 : decode cX4_surest 90 = .ok (.iconst 0, 1) := dk_3 (dk_at dksX4_surest_3 23 rfl rfl)
theorem dX4_surest_91 : decode cX4_surest 91 = .ok (.iastore, 1) := dk_79 (dk_at dksX4_surest_4 0 rfl rfl)
theorem dX4_surest_92 : decode cX4_surest 92 = .ok (.iinc 4 1, 3) := dk_132 4 1 (dk_at dksX4_surest_4 1 rfl rfl)
theorem dX4_surest_95 : decode cX4_surest 95 = .ok (.goto (-36), 3) := dk_167 255 220 (dk_at dksX4_surest_4 4 rfl rfl)
theorem dX4_surest_98 : decode cX4_surest 98 = .ok (.aload_n 0, 1) := dk_42 (dk_at dksX4_surest_4 7 rfl rfl)
theorem dX4_surest_99 : decode cX4_surest 99 = .ok (.getfield 93, 3) := dk_180 0 93 (dk_at dksX4_surest_4 8 rfl rfl)
theorem dX4_surest_102 : decode cX4_surest 102 = .ok (.iconst 0, 1) := dk_3 (dk_at dksX4_surest_4 11 rfl rfl)
theorem dX4_surest_103 : decode cX4_surest 103 = .ok (.iaload, 1) := dk_46 (dk_at dksX4_surest_4 12 rfl rfl)
theorem dX4_surest_104 : decode cX4_surest 104 = .ok (.istore 4, 2) := dk_54 4 (dk_at dksX4_surest_4 13 rfl rfl)
theorem dX4_surest_106 : decode cX4_surest 106 = .ok (.iload 4, 2) := dk_21 4 (dk_at dksX4_surest_4 15 rfl rfl)
theorem dX4_surest_108 : decode cX4_surest 108 = .ok (.aload_n 0, 1) := dk_42 (dk_at dksX4_surest_4 17 rfl rfl)
theorem dX4_surest_109 : decode cX4_surest 109 = .ok (.getfield 93, 3) := dk_180 0 93 (dk_at dksX4_surest_4 18 rfl rfl)
theorem dX4_surest_112 : decode cX4_surest 112 = .ok (.iconst 0, 1) := dk_3 (dk_at dksX4_surest_4 21 rfl rfl)
theorem dX4_surest_113 : decode cX4_surest 113 = .ok (.iaload, 1) := dk_46 (dk_at dksX4_surest_4 22 rfl rfl)
theorem dX4_surest_114 : decode cX4_surest 114 = .ok (.iload_n 2, 1) := dk_28 (dk_at dksX4_surest_4 23 rfl rfl)
theorem dX4_surest_115 : decode cX4_surest 115 = .ok (.iadd, 1) := dk_96 (dk_at dksX4_surest_5 0 rfl rfl)
theorem dX4_surest_116 : decode cX4_surest 116 = .ok (.if_icmp .ge 191, 3) := dk_162 0 191 (dk_at dksX4_surest_5 1 rfl rfl)
theorem dX4_surest_119 : decode cX4_surest 119 = .ok (.iconst 0, 1) := dk_3 (dk_at dksX4_surest_5 4 rfl rfl)
theorem dX4_surest_120 : decode cX4_surest 120 = .ok (.istore 5, 2) := dk_54 5 (dk_at dksX4_surest_5 5 rfl rfl)
theorem dX4_surest_122 : decode cX4_surest 122 = .ok (.iload 5, 2) := dk_21 5 (dk_at dksX4_surest_5 7 rfl rfl)
theorem dX4_surest_124 : decode cX4_surest 124 = .ok (.aload_n 0, 1) := dk_42 (dk_at dksX4_surest_5 9 rfl rfl)
theorem dX4_surest_125 : decode cX4_surest 125 = .ok (.getfield 350, 3) := dk_180 1 94 (dk_at dksX4_surest_5 10 rfl rfl)
theorem dX4_surest_128 : decode cX4_surest 128 = .ok (.if_icmp .ge 23, 3) := dk_162 0 23 (dk_at dksX4_surest_5 13 rfl rfl)
theorem dX4_surest_131 : decode cX4_surest 131 = .ok (.aload_n 0, 1) := dk_42 (dk_at dksX4_surest_5 16 rfl rfl)
theorem dX4_surest_132 : decode cX4_surest 132 = .ok (.getfield 144, 3) := dk_180 0 144 (dk_at dksX4_surest_5 17 rfl rfl)
theorem dX4_surest_135 : decode cX4_surest 135 = .ok (.iload 5, 2) := dk_21 5 (dk_at dksX4_surest_5 20 rfl rfl)
theorem dX4_surest_137 : decode cX4_surest 137 = .ok (.aload_n 0, 1) := dk_42 (dk_at dksX4_surest_5 22 rfl rfl)
theorem dX4_surest_138 : decode cX4_surest 138 = .ok (.getfield 141, 3) := dk_180 0 141 (dk_at dksX4_surest_6 0 rfl rfl)
theorem dX4_surest_141 : decode cX4_surest 141 = .ok (.iload 5, 2) := dk_21 5 (dk_at dksX4_surest_6 3 rfl rfl)
theorem dX4_surest_143 : decode cX4_surest 143 = .ok (.iaload, 1) := dk_46 (dk_at dksX4_surest_6 5 rfl rfl)
theorem dX4_surest_144 : decode cX4_surest 144 = .ok (.iastore, 1) := dk_79 (dk_at dksX4_surest_6 6 rfl rfl)
theorem dX4_surest_145 : decode cX4_surest 145 = .ok (.iinc 5 1, 3) := dk_132 5 1 (dk_at dksX4_surest_6 7 rfl rfl)
theorem dX4_surest_148 : decode cX4_surest 148 = .ok (.goto (-26), 3) := dk_167 255 230 (dk_at dksX4_surest_6 10 rfl rfl)
theorem dX4_surest_151 : decode cX4_surest 151 = .ok (.iconst 0, 1) := dk_3 (dk_at dksX4_surest_6 13 rfl rfl)
theorem dX4_surest_152 : decode cX4_surest 152 = .ok (.istore 5, 2) := dk_54 5 (dk_at dksX4_surest_6 14 rfl rfl)
theorem dX4_surest_154 : decode cX4_surest 154 = .ok (.iload 5, 2) := dk_21 5 (dk_at dksX4_surest_6 16 rfl rfl)
theorem dX4_surest_156 : decode cX4_surest 156 = .ok (.aload_n 0, 1) := dk_42 (dk_at dksX4_surest_6 18 rfl rfl)
theorem dX4_surest_157 : decode cX4_surest 157 = .ok (.getfield 353, 3) := dk_180 1 97 (dk_at dksX4_surest_6 19 rfl rfl)
theorem dX4_surest_160 : decode cX4_surest 160 = .ok (.if_icmp .ge 59, 3) := dk_162 0 59 (dk_at dksX4_surest_7 0 rfl rfl)
theorem dX4_surest_163 : decode cX4_surest 163 = .ok (.aload_n 0, 1) := dk_42 (dk_at dksX4_surest_7 3 rfl rfl)
theorem dX4_surest_164 : decode cX4_surest 164 = .ok (.iload 5, 2) := dk_21 5 (dk_at dksX4_surest_7 4 rfl rfl)
theorem dX4_surest_166 : decode cX4_surest 166 = .ok (.iload 4, 2) := dk_21 4 (dk_at dksX4_surest_7 6 rfl rfl)
theorem dX4_surest_168 : decode cX4_surest 168 = .ok (.invokevirtual 480, 3) := dk_182 1 224 (dk_at dksX4_surest_7 8 rfl rfl)
theorem dX4_surest_171 : decode cX4_surest 171 = .ok (.ifCond .ne 6, 3) := dk_154 0 6 (dk_at dksX4_surest_7 11 rfl rfl)
theorem dX4_surest_174 : decode cX4_surest 174 = .ok (.goto 39, 3) := dk_167 0 39 (dk_at dksX4_surest_7 14 rfl rfl)
theorem dX4_surest_177 : decode cX4_surest 177 = .ok (.aload_n 0, 1) := dk_42 (dk_at dksX4_surest_7 17 rfl rfl)
theorem dX4_surest_178 : decode cX4_surest 178 = .ok (.aload_n 0, 1) := dk_42 (dk_at dksX4_surest_7 18 rfl rfl)
theorem dX4_surest_179 : decode cX4_surest 179 = .ok (.getfield 17, 3) := dk_180 0 17 (dk_at dksX4_surest_7 19 rfl rfl)
theorem dX4_surest_182 : decode cX4_surest 182 = .ok (.iload 5, 2) := dk_21 5 (dk_at dksX4_surest_7 22 rfl rfl)
theorem dX4_surest_184 : decode cX4_surest 184 = .ok (.iaload, 1) := dk_46 (dk_at dksX4_surest_8 0 rfl rfl)
theorem dX4_surest_185 : decode cX4_surest 185 = .ok (.aload_n 0, 1) := dk_42 (dk_at dksX4_surest_8 1 rfl rfl)
theorem dX4_surest_186 : decode cX4_surest 186 = .ok (.getfield 20, 3) := dk_180 0 20 (dk_at dksX4_surest_8 2 rfl rfl)
theorem dX4_surest_189 : decode cX4_surest 189 = .ok (.iload 5, 2) := dk_21 5 (dk_at dksX4_surest_8 5 rfl rfl)
theorem dX4_surest_191 : decode cX4_surest 191 = .ok (.iaload, 1) := dk_46 (dk_at dksX4_surest_8 7 rfl rfl)
theorem dX4_surest_192 : decode cX4_surest 192 = .ok (.invokevirtual 495, 3) := dk_182 1 239 (dk_at dksX4_surest_8 8 rfl rfl)
theorem dX4_surest_195 : decode cX4_surest 195 = .ok (.aload_n 0, 1) := dk_42 (dk_at dksX4_surest_8 11 rfl rfl)
theorem dX4_surest_196 : decode cX4_surest 196 = .ok (.aload_n 0, 1) := dk_42 (dk_at dksX4_surest_8 12 rfl rfl)
theorem dX4_surest_197 : decode cX4_surest 197 = .ok (.getfield 20, 3) := dk_180 0 20 (dk_at dksX4_surest_8 13 rfl rfl)
theorem dX4_surest_200 : decode cX4_surest 200 = .ok (.iload 5, 2) := dk_21 5 (dk_at dksX4_surest_8 16 rfl rfl)
theorem dX4_surest_202 : decode cX4_surest 202 = .ok (.iaload, 1) := dk_46 (dk_at dksX4_surest_8 18 rfl rfl)
theorem dX4_surest_203 : decode cX4_surest 203 = .ok (.aload_n 0, 1) := dk_42 (dk_at dksX4_surest_8 19 rfl rfl)
theorem dX4_surest_204 : decode cX4_surest 204 = .ok (.getfield 17, 3) := dk_180 0 17 (dk_at dksX4_surest_8 20 rfl rfl)
theorem dX4_surest_207 : decode cX4_surest 207 = .ok (.iload 5, 2) := dk_21 5 (dk_at dksX4_surest_9 0 rfl rfl)
theorem dX4_surest_209 : decode cX4_surest 209 = .ok (.iaload, 1) := dk_46 (dk_at dksX4_surest_9 2 rfl rfl)
theorem dX4_surest_210 : decode cX4_surest 210 = .ok (.invokevirtual 495, 3) := dk_182 1 239 (dk_at dksX4_surest_9 3 rfl rfl)
theorem dX4_surest_213 : decode cX4_surest 213 = .ok (.iinc 5 1, 3) := dk_132 5 1 (dk_at dksX4_surest_9 6 rfl rfl)
theorem dX4_surest_216 : decode cX4_surest 216 = .ok (.goto (-62), 3) := dk_167 255 194 (dk_at dksX4_surest_9 9 rfl rfl)
theorem dX4_surest_219 : decode cX4_surest 219 = .ok (.iload_n 3, 1) := dk_29 (dk_at dksX4_surest_9 12 rfl rfl)
theorem dX4_surest_220 : decode cX4_surest 220 = .ok (.iconst (-1), 1) := dk_2 (dk_at dksX4_surest_9 13 rfl rfl)
theorem dX4_surest_221 : decode cX4_surest 221 = .ok (.if_icmp .eq 13, 3) := dk_159 0 13 (dk_at dksX4_surest_9 14 rfl rfl)
theorem dX4_surest_224 : decode cX4_surest 224 = .ok (.iload 4, 2) := dk_21 4 (dk_at dksX4_surest_9 17 rfl rfl)
theorem dX4_surest_226 : decode cX4_surest 226 = .ok (.iload_n 3, 1) := dk_29 (dk_at dksX4_surest_9 19 rfl rfl)
theorem dX4_surest_227 : decode cX4_surest 227 = .ok (.if_icmp .lt 7, 3) := dk_161 0 7 (dk_at dksX4_surest_9 20 rfl rfl)
theorem dX4_surest_230 : decode cX4_surest 230 = .ok (.iconst 1, 1) := dk_4 (dk_at dksX4_surest_9 23 rfl rfl)
theorem dX4_surest_231 : decode cX4_surest 231 = .ok (.goto 4, 3) := dk_167 0 4 (dk_at dksX4_surest_10 0 rfl rfl)
theorem dX4_surest_234 : decode cX4_surest 234 = .ok (.iconst 0, 1) := dk_3 (dk_at dksX4_surest_10 3 rfl rfl)
theorem dX4_surest_235 : decode cX4_surest 235 = .ok (.istore 5, 2) := dk_54 5 (dk_at dksX4_surest_10 4 rfl rfl)
theorem dX4_surest_237 : decode cX4_surest 237 = .ok (.iconst 0, 1) := dk_3 (dk_at dksX4_surest_10 6 rfl rfl)
theorem dX4_surest_238 : decode cX4_surest 238 = .ok (.istore 6, 2) := dk_54 6 (dk_at dksX4_surest_10 7 rfl rfl)
theorem dX4_surest_240 : decode cX4_surest 240 = .ok (.iload 6, 2) := dk_21 6 (dk_at dksX4_surest_10 9 rfl rfl)
theorem dX4_surest_242 : decode cX4_surest 242 = .ok (.aload_n 0, 1) := dk_42 (dk_at dksX4_surest_10 11 rfl rfl)
theorem dX4_surest_243 : decode cX4_surest 243 = .ok (.getfield 350, 3) := dk_180 1 94 (dk_at dksX4_surest_10 12 rfl rfl)
theorem dX4_surest_246 : decode cX4_surest 246 = .ok (.if_icmp .ge 55, 3) := dk_162 0 55 (dk_at dksX4_surest_10 15 rfl rfl)
theorem dX4_surest_249 : decode cX4_surest 249 = .ok (.aload_n 0, 1) := dk_42 (dk_at dksX4_surest_10 18 rfl rfl)
theorem dX4_surest_250 : decode cX4_surest 250 = .ok (.getfield 141, 3) := dk_180 0 141 (dk_at dksX4_surest_10 19 rfl rfl)
theorem dX4_surest_253 : decode cX4_surest 253 = .ok (.iload 6, 2) := dk_21 6 (dk_at dksX4_surest_10 22 rfl rfl)
theorem dX4_surest_255 : decode cX4_surest 255 = .ok (.aload_n 0, 1) := dk_42 (dk_at dksX4_surest_11 0 rfl rfl)
theorem dX4_surest_256 : decode cX4_surest 256 = .ok (.getfield 144, 3) := dk_180 0 144 (dk_at dksX4_surest_11 1 rfl rfl)
theorem dX4_surest_259 : decode cX4_surest 259 = .ok (.iload 6, 2) := dk_21 6 (dk_at dksX4_surest_11 4 rfl rfl)
theorem dX4_surest_261 : decode cX4_surest 261 = .ok (.iaload, 1) := dk_46 (dk_at dksX4_surest_11 6 rfl rfl)
theorem dX4_surest_262 : decode cX4_surest 262 = .ok (.iload 5, 2) := dk_21 5 (dk_at dksX4_surest_11 7 rfl rfl)
theorem dX4_surest_264 : decode cX4_surest 264 = .ok (.ifCond .eq 27, 3) := dk_153 0 27 (dk_at dksX4_surest_11 9 rfl rfl)
theorem dX4_surest_267 : decode cX4_surest 267 = .ok (.aload_n 0, 1) := dk_42 (dk_at dksX4_surest_11 12 rfl rfl)
theorem dX4_surest_268 : decode cX4_surest 268 = .ok (.getfield 13, 3) := dk_180 0 13 (dk_at dksX4_surest_11 13 rfl rfl)
theorem dX4_surest_271 : decode cX4_surest 271 = .ok (.iload 6, 2) := dk_21 6 (dk_at dksX4_surest_11 16 rfl rfl)
theorem dX4_surest_273 : decode cX4_surest 273 = .ok (.iaload, 1) := dk_46 (dk_at dksX4_surest_11 18 rfl rfl)
theorem dX4_surest_274 : decode cX4_surest 274 = .ok (.iconst (-1), 1) := dk_2 (dk_at dksX4_surest_11 19 rfl rfl)
theorem dX4_surest_275 : decode cX4_surest 275 = .ok (.if_icmp .eq 16, 3) := dk_159 0 16 (dk_at dksX4_surest_11 20 rfl rfl)
theorem dX4_surest_278 : decode cX4_surest 278 = .ok (.bipush 10, 2) := dk_16 10 (dk_at dksX4_surest_12 0 rfl rfl)
theorem dX4_surest_280 : decode cX4_surest 280 = .ok (.aload_n 0, 1) := dk_42 (dk_at dksX4_surest_12 2 rfl rfl)
theorem dX4_surest_281 : decode cX4_surest 281 = .ok (.getfield 13, 3) := dk_180 0 13 (dk_at dksX4_surest_12 3 rfl rfl)
theorem dX4_surest_284 : decode cX4_surest 284 = .ok (.iload 6, 2) := dk_21 6 (dk_at dksX4_surest_12 6 rfl rfl)
theorem dX4_surest_286 : decode cX4_surest 286 = .ok (.iaload, 1) := dk_46 (dk_at dksX4_surest_12 8 rfl rfl)
theorem dX4_surest_287 : decode cX4_surest 287 = .ok (.isub, 1) := dk_100 (dk_at dksX4_surest_12 9 rfl rfl)
theorem dX4_surest_288 : decode cX4_surest 288 = .ok (.goto 5, 3) := dk_167 0 5 (dk_at dksX4_surest_12 10 rfl rfl)
theorem dX4_surest_291 : decode cX4_surest 291 = .ok (.bipush 10, 2) := dk_16 10 (dk_at dksX4_surest_12 13 rfl rfl)
theorem dX4_surest_293 : decode cX4_surest 293 = .ok (.imul, 1) := dk_104 (dk_at dksX4_surest_12 15 rfl rfl)
theorem dX4_surest_294 : decode cX4_surest 294 = .ok (.iastore, 1) := dk_79 (dk_at dksX4_surest_12 16 rfl rfl)
theorem dX4_surest_295 : decode cX4_surest 295 = .ok (.iinc 6 1, 3) := dk_132 6 1 (dk_at dksX4_surest_12 17 rfl rfl)
theorem dX4_surest_298 : decode cX4_surest 298 = .ok (.goto (-58), 3) := dk_167 255 198 (dk_at dksX4_surest_12 20 rfl rfl)
theorem dX4_surest_301 : decode cX4_surest 301 = .ok (.iinc 4 1, 3) := dk_132 4 1 (dk_at dksX4_surest_13 0 rfl rfl)
theorem dX4_surest_304 : decode cX4_surest 304 = .ok (.goto (-198), 3) := dk_167 255 58 (dk_at dksX4_surest_13 3 rfl rfl)
theorem dX4_surest_307 : decode cX4_surest 307 = .ok (.iconst 0, 1) := dk_3 (dk_at dksX4_surest_13 6 rfl rfl)
theorem dX4_surest_308 : decode cX4_surest 308 = .ok (.istore 4, 2) := dk_54 4 (dk_at dksX4_surest_13 7 rfl rfl)
theorem dX4_surest_310 : decode cX4_surest 310 = .ok (.iconst 0, 1) := dk_3 (dk_at dksX4_surest_13 9 rfl rfl)
theorem dX4_surest_311 : decode cX4_surest 311 = .ok (.istore 5, 2) := dk_54 5 (dk_at dksX4_surest_13 10 rfl rfl)
theorem dX4_surest_313 : decode cX4_surest 313 = .ok (.iload 5, 2) := dk_21 5 (dk_at dksX4_surest_13 12 rfl rfl)
theorem dX4_surest_315 : decode cX4_surest 315 = .ok (.aload_n 0, 1) := dk_42 (dk_at dksX4_surest_13 14 rfl rfl)
theorem dX4_surest_316 : decode cX4_surest 316 = .ok (.getfield 350, 3) := dk_180 1 94 (dk_at dksX4_surest_13 15 rfl rfl)
theorem dX4_surest_319 : decode cX4_surest 319 = .ok (.if_icmp .ge 35, 3) := dk_162 0 35 (dk_at dksX4_surest_13 18 rfl rfl)
theorem dX4_surest_322 : decode cX4_surest 322 = .ok (.aload_n 0, 1) := dk_42 (dk_at dksX4_surest_13 21 rfl rfl)
theorem dX4_surest_323 : decode cX4_surest 323 = .ok (.getfield 141, 3) := dk_180 0 141 (dk_at dksX4_surest_14 0 rfl rfl)
theorem dX4_surest_326 : decode cX4_surest 326 = .ok (.iload 5, 2) := dk_21 5 (dk_at dksX4_surest_14 3 rfl rfl)
theorem dX4_surest_328 : decode cX4_surest 328 = .ok (.iaload, 1) := dk_46 (dk_at dksX4_surest_14 5 rfl rfl)
theorem dX4_surest_329 : decode cX4_surest 329 = .ok (.iload 4, 2) := dk_21 4 (dk_at dksX4_surest_14 6 rfl rfl)
theorem dX4_surest_331 : decode cX4_surest 331 = .ok (.if_icmp .le 13, 3) := dk_164 0 13 (dk_at dksX4_surest_14 8 rfl rfl)
theorem dX4_surest_334 : decode cX4_surest 334 = .ok (.aload_n 0, 1) := dk_42 (dk_at dksX4_surest_14 11 rfl rfl)
theorem dX4_surest_335 : decode cX4_surest 335 = .ok (.getfield 141, 3) := dk_180 0 141 (dk_at dksX4_surest_14 12 rfl rfl)
theorem dX4_surest_338 : decode cX4_surest 338 = .ok (.iload 5, 2) := dk_21 5 (dk_at dksX4_surest_14 15 rfl rfl)
theorem dX4_surest_340 : decode cX4_surest 340 = .ok (.iaload, 1) := dk_46 (dk_at dksX4_surest_14 17 rfl rfl)
theorem dX4_surest_341 : decode cX4_surest 341 = .ok (.goto 5, 3) := dk_167 0 5 (dk_at dksX4_surest_14 18 rfl rfl)
theorem dX4_surest_344 : decode cX4_surest 344 = .ok (.iload 4, 2) := dk_21 4 (dk_at dksX4_surest_14 21 rfl rfl)
theorem dX4_surest_346 : decode cX4_surest 346 = .ok (.istore 4, 2) := dk_54 4 (dk_at dksX4_surest_15 0 rfl rfl)
theorem dX4_surest_348 : decode cX4_surest 348 = .ok (.iinc 5 1, 3) := dk_132 5 1 (dk_at dksX4_surest_15 2 rfl rfl)
theorem dX4_surest_351 : decode cX4_surest 351 = .ok (.goto (-38), 3) := dk_167 255 218 (dk_at dksX4_surest_15 5 rfl rfl)
theorem dX4_surest_354 : decode cX4_surest 354 = .ok (.iload 4, 2) := dk_21 4 (dk_at dksX4_surest_15 8 rfl rfl)
theorem dX4_surest_356 : decode cX4_surest 356 = .ok (.ireturn, 1) := dk_172 (dk_at dksX4_surest_15 10 rfl rfl)
abbrev cX4_surer : ByteArray := prog_13_method_98_code
def yX4_surer : MethodName := ⟨RX4, "surer", "(II)V"⟩
def dkwX4_surer_1 : List UInt8 := [163, 0, 4, 177, 42, 180, 0, 144, 28, 42, 180, 0, 141, 27, 46, 79, 177]
abbrev dktX4_surer_1 : List UInt8 := dkwX4_surer_1 ++ []
def dkwX4_surer_0 : List UInt8 := [42, 180, 0, 13, 27, 46, 2, 159, 0, 18, 42, 180, 0, 141, 27, 46, 42, 180, 0, 144, 28, 46]
abbrev dktX4_surer_0 : List UInt8 := dkwX4_surer_0 ++ dktX4_surer_1
theorem dksX4_surer_0 : cX4_surer.data.toList.drop 0 = dktX4_surer_0 := by decide +kernel
theorem dksX4_surer_1 : cX4_surer.data.toList.drop 22 = dktX4_surer_1 := dk_seg dksX4_surer_0 22 rfl rfl
theorem dX4_surer_0 : decode cX4_surer 0 = .ok (.aload_n 0, 1) := dk_42 (dk_at dksX4_surer_0 0 rfl rfl)
theorem dX4_surer_1 : decode cX4_surer 1 = .ok (.getfield 13, 3) := dk_180 0 13 (dk_at dksX4_surer_0 1 rfl rfl)
theorem dX4_surer_4 : decode cX4_surer 4 = .ok (.iload_n 1, 1) := dk_27 (dk_at dksX4_surer_0 4 rfl rfl)
theorem dX4_surer_5 : decode cX4_surer 5 = .ok (.iaload, 1) := dk_46 (dk_at dksX4_surer_0 5 rfl rfl)
theorem dX4_surer_6 : decode cX4_surer 6 = .ok (.iconst (-1), 1) := dk_2 (dk_at dksX4_surer_0 6 rfl rfl)
theorem dX4_surer_7 : decode cX4_surer 7 = .ok (.if_icmp .eq 18, 3) := dk_159 0 18 (dk_at dksX4_surer_0 7 rfl rfl)
theorem dX4_surer_10 : decode cX4_surer 10 = .ok (.aload_n 0, 1) := dk_42 (dk_at dksX4_surer_0 10 rfl rfl)
theorem dX4_surer_11 : decode cX4_surer 11 = .ok (.getfield 141, 3) := dk_180 0 141 (dk_at dksX4_surer_0 11 rfl rfl)
theorem dX4_surer_14 : decode cX4_surer 14 = .ok (.iload_n 1, 1) := dk_27 (dk_at dksX4_surer_0 14 rfl rfl)
theorem dX4_surer_15 : decode cX4_surer 15 = .ok (.iaload, 1) := dk_46 (dk_at dksX4_surer_0 15 rfl rfl)
theorem dX4_surer_16 : decode cX4_surer 16 = .ok (.aload_n 0, 1) := dk_42 (dk_at dksX4_surer_0 16 rfl rfl)
theorem dX4_surer_17 : decode cX4_surer 17 = .ok (.getfield 144, 3) := dk_180 0 144 (dk_at dksX4_surer_0 17 rfl rfl)
theorem dX4_surer_20 : decode cX4_surer 20 = .ok (.iload_n 2, 1) := dk_28 (dk_at dksX4_surer_0 20 rfl rfl)
theorem dX4_surer_21 : decode cX4_surer 21 = .ok (.iaload, 1) := dk_46 (dk_at dksX4_surer_0 21 rfl rfl)
theorem dX4_surer_22 : decode cX4_surer 22 = .ok (.if_icmp .gt 4, 3) := dk_163 0 4 (dk_at dksX4_surer_1 0 rfl rfl)
theorem dX4_surer_25 : decode cX4_surer 25 = .ok (.return_, 1) := dk_177 (dk_at dksX4_surer_1 3 rfl rfl)
theorem dX4_surer_26 : decode cX4_surer 26 = .ok (.aload_n 0, 1) := dk_42 (dk_at dksX4_surer_1 4 rfl rfl)
theorem dX4_surer_27 : decode cX4_surer 27 = .ok (.getfield 144, 3) := dk_180 0 144 (dk_at dksX4_surer_1 5 rfl rfl)
theorem dX4_surer_30 : decode cX4_surer 30 = .ok (.iload_n 2, 1) := dk_28 (dk_at dksX4_surer_1 8 rfl rfl)
theorem dX4_surer_31 : decode cX4_surer 31 = .ok (.aload_n 0, 1) := dk_42 (dk_at dksX4_surer_1 9 rfl rfl)
theorem dX4_surer_32 : decode cX4_surer 32 = .ok (.getfield 141, 3) := dk_180 0 141 (dk_at dksX4_surer_1 10 rfl rfl)
theorem dX4_surer_35 : decode cX4_surer 35 = .ok (.iload_n 1, 1) := dk_27 (dk_at dksX4_surer_1 13 rfl rfl)
theorem dX4_surer_36 : decode cX4_surer 36 = .ok (.iaload, 1) := dk_46 (dk_at dksX4_surer_1 14 rfl rfl)
theorem dX4_surer_37 : decode cX4_surer 37 = .ok (.iastore, 1) := dk_79 (dk_at dksX4_surer_1 15 rfl rfl)
theorem dX4_surer_38 : decode cX4_surer 38 = .ok (.return_, 1) := dk_177 (dk_at dksX4_surer_1 16 rfl rfl)
abbrev cX4_close : ByteArray := prog_13_method_101_code
def yX4_close : MethodName := ⟨RX4, "close", "(I)I"⟩
def dkwX4_close_2 : List UInt8 := [3, 46, 28, 96, 172, 132, 2, 255, 167, 255, 228, 2, 172]
abbrev dktX4_close_2 : List UInt8 := dkwX4_close_2 ++ []
def dkwX4_close_1 : List UInt8 := [182, 1, 187, 61, 28, 155, 0, 30, 42, 28, 182, 1, 243, 184, 1, 134, 27, 163, 0, 12, 42, 180, 0, 93]
abbrev dktX4_close_1 : List UInt8 := dkwX4_close_1 ++ dktX4_close_2
def dkwX4_close_0 : List UInt8 := [42, 3, 181, 0, 168, 42, 27, 3, 16, 9, 184, 1, 193, 4, 182, 1, 84, 154, 0, 5, 3, 172, 42]
abbrev dktX4_close_0 : List UInt8 := dkwX4_close_0 ++ dktX4_close_1
theorem dksX4_close_0 : cX4_close.data.toList.drop 0 = dktX4_close_0 := by decide +kernel
theorem dksX4_close_1 : cX4_close.data.toList.drop 23 = dktX4_close_1 := dk_seg dksX4_close_0 23 rfl rfl
theorem dksX4_close_2 : cX4_close.data.toList.drop 47 = dktX4_close_2 := dk_seg dksX4_close_1 24 rfl rfl
theorem dX4_close_0 : decode cX4_close 0 = .ok (.aload_n 0, 1) := dk_42 (dk_at dksX4_close_0 0 rfl rfl)
theorem dX4_close_1 : decode cX4_close 1 = .ok (.iconst 0, 1) := dk_3 (dk_at dksX4_close_0 1 rfl rfl)
theorem dX4_close_2 : decode cX4_close 2 = .ok (.putfield 168, 3) := dk_181 0 168 (dk_at dksX4_close_0 2 rfl rfl)
theorem dX4_close_5 : decode cX4_close 5 = .ok (.aload_n 0, 1) := dk_42 (dk_at dksX4_close_0 5 rfl rfl)
theorem dX4_close_6 : decode cX4_close 6 = .ok (.iload_n 1, 1) := dk_27 (dk_at dksX4_close_0 6 rfl rfl)
theorem dX4_close_7 : decode cX4_close 7 = .ok (.iconst 0, 1) := dk_3 (dk_at dksX4_close_0 7 rfl rfl)
theorem dX4_close_8 : decode cX4_close 8 = .ok (.bipush 9, 2) := dk_16 9 (dk_at dksX4_close_0 8 rfl rfl)
theorem dX4_close_10 : decode cX4_close 10 = .ok (.invokestatic 449, 3) := dk_184 1 193 (dk_at dksX4_close_0 10 rfl rfl)
theorem dX4_close_13 : decode cX4_close 13 = .ok (.iconst 1, 1) := dk_4 (dk_at dksX4_close_0 13 rfl rfl)
theorem dX4_close_14 : decode cX4_close 14 = .ok (.invokevirtual 340, 3) := dk_182 1 84 (dk_at dksX4_close_0 14 rfl rfl)
theorem dX4_close_17 : decode cX4_close 17 = .ok (.ifCond .ne 5, 3) := dk_154 0 5 (dk_at dksX4_close_0 17 rfl rfl)
theorem dX4_close_20 : decode cX4_close 20 = .ok (.iconst 0, 1) := dk_3 (dk_at dksX4_close_0 20 rfl rfl)
theorem dX4_close_21 : decode cX4_close 21 = .ok (.ireturn, 1) := dk_172 (dk_at dksX4_close_0 21 rfl rfl)
theorem dX4_close_22 : decode cX4_close 22 = .ok (.aload_n 0, 1) := dk_42 (dk_at dksX4_close_0 22 rfl rfl)
theorem dX4_close_23 : decode cX4_close 23 = .ok (.invokevirtual 443, 3) := dk_182 1 187 (dk_at dksX4_close_1 0 rfl rfl)
theorem dX4_close_26 : decode cX4_close 26 = .ok (.istore_n 2, 1) := dk_61 (dk_at dksX4_close_1 3 rfl rfl)
theorem dX4_close_27 : decode cX4_close 27 = .ok (.iload_n 2, 1) := dk_28 (dk_at dksX4_close_1 4 rfl rfl)
theorem dX4_close_28 : decode cX4_close 28 = .ok (.ifCond .lt 30, 3) := dk_155 0 30 (dk_at dksX4_close_1 5 rfl rfl)
theorem dX4_close_31 : decode cX4_close 31 = .ok (.aload_n 0, 1) := dk_42 (dk_at dksX4_close_1 8 rfl rfl)
theorem dX4_close_32 : decode cX4_close 32 = .ok (.iload_n 2, 1) := dk_28 (dk_at dksX4_close_1 9 rfl rfl)
theorem dX4_close_33 : decode cX4_close 33 = .ok (.invokevirtual 499, 3) := dk_182 1 243 (dk_at dksX4_close_1 10 rfl rfl)
theorem dX4_close_36 : decode cX4_close 36 = .ok (.invokestatic 390, 3) := dk_184 1 134 (dk_at dksX4_close_1 13 rfl rfl)
theorem dX4_close_39 : decode cX4_close 39 = .ok (.iload_n 1, 1) := dk_27 (dk_at dksX4_close_1 16 rfl rfl)
theorem dX4_close_40 : decode cX4_close 40 = .ok (.if_icmp .gt 12, 3) := dk_163 0 12 (dk_at dksX4_close_1 17 rfl rfl)
theorem dX4_close_43 : decode cX4_close 43 = .ok (.aload_n 0, 1) := dk_42 (dk_at dksX4_close_1 20 rfl rfl)
theorem dX4_close_44 : decode cX4_close 44 = .ok (.getfield 93, 3) := dk_180 0 93 (dk_at dksX4_close_1 21 rfl rfl)
theorem dX4_close_47 : decode cX4_close 47 = .ok (.iconst 0, 1) := dk_3 (dk_at dksX4_close_2 0 rfl rfl)
theorem dX4_close_48 : decode cX4_close 48 = .ok (.iaload, 1) := dk_46 (dk_at dksX4_close_2 1 rfl rfl)
theorem dX4_close_49 : decode cX4_close 49 = .ok (.iload_n 2, 1) := dk_28 (dk_at dksX4_close_2 2 rfl rfl)
theorem dX4_close_50 : decode cX4_close 50 = .ok (.iadd, 1) := dk_96 (dk_at dksX4_close_2 3 rfl rfl)
theorem dX4_close_51 : decode cX4_close 51 = .ok (.ireturn, 1) := dk_172 (dk_at dksX4_close_2 4 rfl rfl)
theorem dX4_close_52 : decode cX4_close 52 = .ok (.iinc 2 (-1), 3) := dk_132 2 255 (dk_at dksX4_close_2 5 rfl rfl)
theorem dX4_close_55 : decode cX4_close 55 = .ok (.goto (-28), 3) := dk_167 255 228 (dk_at dksX4_close_2 8 rfl rfl)
theorem dX4_close_58 : decode cX4_close 58 = .ok (.iconst (-1), 1) := dk_2 (dk_at dksX4_close_2 11 rfl rfl)
theorem dX4_close_59 : decode cX4_close 59 = .ok (.ireturn, 1) := dk_172 (dk_at dksX4_close_2 12 rfl rfl)
abbrev cX4_deadBy : ByteArray := prog_13_method_100_code
def yX4_deadBy : MethodName := ⟨RX4, "deadBy", "(I)I"⟩
def dkwX4_deadBy_2 : List UInt8 := [100, 182, 1, 190, 42, 180, 0, 126, 4, 46, 172]
abbrev dktX4_deadBy_2 : List UInt8 := dkwX4_deadBy_2 ++ []
def dkwX4_deadBy_1 : List UInt8 := [28, 162, 0, 10, 42, 180, 0, 126, 6, 3, 79, 27, 28, 162, 0, 15, 42, 42, 180, 0, 126, 27, 28, 27]
abbrev dktX4_deadBy_1 : List UInt8 := dkwX4_deadBy_1 ++ dktX4_deadBy_2
def dkwX4_deadBy_0 : List UInt8 := [42, 182, 1, 184, 42, 182, 1, 187, 61, 42, 42, 180, 0, 126, 3, 27, 28, 184, 1, 140, 182, 1, 190, 27]
abbrev dktX4_deadBy_0 : List UInt8 := dkwX4_deadBy_0 ++ dktX4_deadBy_1
theorem dksX4_deadBy_0 : cX4_deadBy.data.toList.drop 0 = dktX4_deadBy_0 := by decide +kernel
theorem dksX4_deadBy_1 : cX4_deadBy.data.toList.drop 24 = dktX4_deadBy_1 := dk_seg dksX4_deadBy_0 24 rfl rfl
theorem dksX4_deadBy_2 : cX4_deadBy.data.toList.drop 48 = dktX4_deadBy_2 := dk_seg dksX4_deadBy_1 24 rfl rfl
theorem dX4_deadBy_0 : decode cX4_deadBy 0 = .ok (.aload_n 0, 1) := dk_42 (dk_at dksX4_deadBy_0 0 rfl rfl)
theorem dX4_deadBy_1 : decode cX4_deadBy 1 = .ok (.invokevirtual 440, 3) := dk_182 1 184 (dk_at dksX4_deadBy_0 1 rfl rfl)
theorem dX4_deadBy_4 : decode cX4_deadBy 4 = .ok (.aload_n 0, 1) := dk_42 (dk_at dksX4_deadBy_0 4 rfl rfl)
theorem dX4_deadBy_5 : decode cX4_deadBy 5 = .ok (.invokevirtual 443, 3) := dk_182 1 187 (dk_at dksX4_deadBy_0 5 rfl rfl)
theorem dX4_deadBy_8 : decode cX4_deadBy 8 = .ok (.istore_n 2, 1) := dk_61 (dk_at dksX4_deadBy_0 8 rfl rfl)
theorem dX4_deadBy_9 : decode cX4_deadBy 9 = .ok (.aload_n 0, 1) := dk_42 (dk_at dksX4_deadBy_0 9 rfl rfl)
theorem dX4_deadBy_10 : decode cX4_deadBy 10 = .ok (.aload_n 0, 1) := dk_42 (dk_at dksX4_deadBy_0 10 rfl rfl)
theorem dX4_deadBy_11 : decode cX4_deadBy 11 = .ok (.getfield 126, 3) := dk_180 0 126 (dk_at dksX4_deadBy_0 11 rfl rfl)
theorem dX4_deadBy_14 : decode cX4_deadBy 14 = .ok (.iconst 0, 1) := dk_3 (dk_at dksX4_deadBy_0 14 rfl rfl)
theorem dX4_deadBy_15 : decode cX4_deadBy 15 = .ok (.iload_n 1, 1) := dk_27 (dk_at dksX4_deadBy_0 15 rfl rfl)
theorem dX4_deadBy_16 : decode cX4_deadBy 16 = .ok (.iload_n 2, 1) := dk_28 (dk_at dksX4_deadBy_0 16 rfl rfl)
theorem dX4_deadBy_17 : decode cX4_deadBy 17 = .ok (.invokestatic 396, 3) := dk_184 1 140 (dk_at dksX4_deadBy_0 17 rfl rfl)
theorem dX4_deadBy_20 : decode cX4_deadBy 20 = .ok (.invokevirtual 446, 3) := dk_182 1 190 (dk_at dksX4_deadBy_0 20 rfl rfl)
theorem dX4_deadBy_23 : decode cX4_deadBy 23 = .ok (.iload_n 1, 1) := dk_27 (dk_at dksX4_deadBy_0 23 rfl rfl)
theorem dX4_deadBy_24 : decode cX4_deadBy 24 = .ok (.iload_n 2, 1) := dk_28 (dk_at dksX4_deadBy_1 0 rfl rfl)
theorem dX4_deadBy_25 : decode cX4_deadBy 25 = .ok (.if_icmp .ge 10, 3) := dk_162 0 10 (dk_at dksX4_deadBy_1 1 rfl rfl)
theorem dX4_deadBy_28 : decode cX4_deadBy 28 = .ok (.aload_n 0, 1) := dk_42 (dk_at dksX4_deadBy_1 4 rfl rfl)
theorem dX4_deadBy_29 : decode cX4_deadBy 29 = .ok (.getfield 126, 3) := dk_180 0 126 (dk_at dksX4_deadBy_1 5 rfl rfl)
theorem dX4_deadBy_32 : decode cX4_deadBy 32 = .ok (.iconst 3, 1) := dk_6 (dk_at dksX4_deadBy_1 8 rfl rfl)
theorem dX4_deadBy_33 : decode cX4_deadBy 33 = .ok (.iconst 0, 1) := dk_3 (dk_at dksX4_deadBy_1 9 rfl rfl)
theorem dX4_deadBy_34 : decode cX4_deadBy 34 = .ok (.iastore, 1) := dk_79 (dk_at dksX4_deadBy_1 10 rfl rfl)
theorem dX4_deadBy_35 : decode cX4_deadBy 35 = .ok (.iload_n 1, 1) := dk_27 (dk_at dksX4_deadBy_1 11 rfl rfl)
theorem dX4_deadBy_36 : decode cX4_deadBy 36 = .ok (.iload_n 2, 1) := dk_28 (dk_at dksX4_deadBy_1 12 rfl rfl)
theorem dX4_deadBy_37 : decode cX4_deadBy 37 = .ok (.if_icmp .ge 15, 3) := dk_162 0 15 (dk_at dksX4_deadBy_1 13 rfl rfl)
theorem dX4_deadBy_40 : decode cX4_deadBy 40 = .ok (.aload_n 0, 1) := dk_42 (dk_at dksX4_deadBy_1 16 rfl rfl)
theorem dX4_deadBy_41 : decode cX4_deadBy 41 = .ok (.aload_n 0, 1) := dk_42 (dk_at dksX4_deadBy_1 17 rfl rfl)
theorem dX4_deadBy_42 : decode cX4_deadBy 42 = .ok (.getfield 126, 3) := dk_180 0 126 (dk_at dksX4_deadBy_1 18 rfl rfl)
theorem dX4_deadBy_45 : decode cX4_deadBy 45 = .ok (.iload_n 1, 1) := dk_27 (dk_at dksX4_deadBy_1 21 rfl rfl)
theorem dX4_deadBy_46 : decode cX4_deadBy 46 = .ok (.iload_n 2, 1) := dk_28 (dk_at dksX4_deadBy_1 22 rfl rfl)
theorem dX4_deadBy_47 : decode cX4_deadBy 47 = .ok (.iload_n 1, 1) := dk_27 (dk_at dksX4_deadBy_1 23 rfl rfl)
theorem dX4_deadBy_48 : decode cX4_deadBy 48 = .ok (.isub, 1) := dk_100 (dk_at dksX4_deadBy_2 0 rfl rfl)
theorem dX4_deadBy_49 : decode cX4_deadBy 49 = .ok (.invokevirtual 446, 3) := dk_182 1 190 (dk_at dksX4_deadBy_2 1 rfl rfl)
theorem dX4_deadBy_52 : decode cX4_deadBy 52 = .ok (.aload_n 0, 1) := dk_42 (dk_at dksX4_deadBy_2 4 rfl rfl)
theorem dX4_deadBy_53 : decode cX4_deadBy 53 = .ok (.getfield 126, 3) := dk_180 0 126 (dk_at dksX4_deadBy_2 5 rfl rfl)
theorem dX4_deadBy_56 : decode cX4_deadBy 56 = .ok (.iconst 1, 1) := dk_4 (dk_at dksX4_deadBy_2 8 rfl rfl)
theorem dX4_deadBy_57 : decode cX4_deadBy 57 = .ok (.iaload, 1) := dk_46 (dk_at dksX4_deadBy_2 9 rfl rfl)
theorem dX4_deadBy_58 : decode cX4_deadBy 58 = .ok (.ireturn, 1) := dk_172 (dk_at dksX4_deadBy_2 10 rfl rfl)
abbrev cX4_spared : ByteArray := prog_13_method_102_code
def yX4_spared : MethodName := ⟨RX4, "spared", "()I"⟩
def dkwX4_spared_0 : List UInt8 := [42, 3, 181, 0, 168, 42, 16, 30, 182, 1, 243, 60, 27, 42, 3, 182, 1, 243, 2, 130, 126, 172]
abbrev dktX4_spared_0 : List UInt8 := dkwX4_spared_0 ++ []
theorem dksX4_spared_0 : cX4_spared.data.toList.drop 0 = dktX4_spared_0 := by decide +kernel
theorem dX4_spared_0 : decode cX4_spared 0 = .ok (.aload_n 0, 1) := dk_42 (dk_at dksX4_spared_0 0 rfl rfl)
theorem dX4_spared_1 : decode cX4_spared 1 = .ok (.iconst 0, 1) := dk_3 (dk_at dksX4_spared_0 1 rfl rfl)
theorem dX4_spared_2 : decode cX4_spared 2 = .ok (.putfield 168, 3) := dk_181 0 168 (dk_at dksX4_spared_0 2 rfl rfl)
theorem dX4_spared_5 : decode cX4_spared 5 = .ok (.aload_n 0, 1) := dk_42 (dk_at dksX4_spared_0 5 rfl rfl)
theorem dX4_spared_6 : decode cX4_spared 6 = .ok (.bipush 30, 2) := dk_16 30 (dk_at dksX4_spared_0 6 rfl rfl)
theorem dX4_spared_8 : decode cX4_spared 8 = .ok (.invokevirtual 499, 3) := dk_182 1 243 (dk_at dksX4_spared_0 8 rfl rfl)
theorem dX4_spared_11 : decode cX4_spared 11 = .ok (.istore_n 1, 1) := dk_60 (dk_at dksX4_spared_0 11 rfl rfl)
theorem dX4_spared_12 : decode cX4_spared 12 = .ok (.iload_n 1, 1) := dk_27 (dk_at dksX4_spared_0 12 rfl rfl)
theorem dX4_spared_13 : decode cX4_spared 13 = .ok (.aload_n 0, 1) := dk_42 (dk_at dksX4_spared_0 13 rfl rfl)
theorem dX4_spared_14 : decode cX4_spared 14 = .ok (.iconst 0, 1) := dk_3 (dk_at dksX4_spared_0 14 rfl rfl)
theorem dX4_spared_15 : decode cX4_spared 15 = .ok (.invokevirtual 499, 3) := dk_182 1 243 (dk_at dksX4_spared_0 15 rfl rfl)
theorem dX4_spared_18 : decode cX4_spared 18 = .ok (.iconst (-1), 1) := dk_2 (dk_at dksX4_spared_0 18 rfl rfl)
theorem dX4_spared_19 : decode cX4_spared 19 = .ok (.ixor, 1) := dk_130 (dk_at dksX4_spared_0 19 rfl rfl)
theorem dX4_spared_20 : decode cX4_spared 20 = .ok (.iand, 1) := dk_126 (dk_at dksX4_spared_0 20 rfl rfl)
theorem dX4_spared_21 : decode cX4_spared 21 = .ok (.ireturn, 1) := dk_172 (dk_at dksX4_spared_0 21 rfl rfl)
abbrev cX4_see : ByteArray := prog_13_method_103_code
def yX4_see : MethodName := ⟨RX4, "see", "(IIZ)I"⟩
def dkwX4_see_4 : List UInt8 := [96, 181, 1, 116, 42, 180, 1, 116, 172]
abbrev dktX4_see_4 : List UInt8 := dkwX4_see_4 ++ []
def dkwX4_see_3 : List UInt8 := [6, 42, 180, 1, 116, 104, 5, 96, 29, 153, 0, 7, 4, 167, 0, 4, 3, 79, 42, 89, 180, 1, 116, 4]
abbrev dktX4_see_3 : List UInt8 := dkwX4_see_3 ++ dktX4_see_4
def dkwX4_see_2 : List UInt8 := [180, 1, 116, 104, 27, 79, 42, 180, 0, 150, 6, 42, 180, 1, 116, 104, 4, 96, 28, 79, 42, 180, 0, 150]
abbrev dktX4_see_2 : List UInt8 := dkwX4_see_2 ++ dktX4_see_3
def dkwX4_see_1 : List UInt8 := [28, 3, 16, 29, 184, 1, 193, 154, 0, 9, 42, 5, 182, 1, 215, 172, 42, 180, 0, 150, 6, 42]
abbrev dktX4_see_1 : List UInt8 := dkwX4_see_1 ++ dktX4_see_2
def dkwX4_see_0 : List UInt8 := [42, 3, 181, 0, 168, 42, 27, 182, 1, 212, 154, 0, 5, 3, 172, 42, 180, 1, 116, 16, 8, 159, 0, 13]
abbrev dktX4_see_0 : List UInt8 := dkwX4_see_0 ++ dktX4_see_1
theorem dksX4_see_0 : cX4_see.data.toList.drop 0 = dktX4_see_0 := by decide +kernel
theorem dksX4_see_1 : cX4_see.data.toList.drop 24 = dktX4_see_1 := dk_seg dksX4_see_0 24 rfl rfl
theorem dksX4_see_2 : cX4_see.data.toList.drop 46 = dktX4_see_2 := dk_seg dksX4_see_1 22 rfl rfl
theorem dksX4_see_3 : cX4_see.data.toList.drop 70 = dktX4_see_3 := dk_seg dksX4_see_2 24 rfl rfl
theorem dksX4_see_4 : cX4_see.data.toList.drop 94 = dktX4_see_4 := dk_seg dksX4_see_3 24 rfl rfl
theorem dX4_see_0 : decode cX4_see 0 = .ok (.aload_n 0, 1) := dk_42 (dk_at dksX4_see_0 0 rfl rfl)
theorem dX4_see_1 : decode cX4_see 1 = .ok (.iconst 0, 1) := dk_3 (dk_at dksX4_see_0 1 rfl rfl)
theorem dX4_see_2 : decode cX4_see 2 = .ok (.putfield 168, 3) := dk_181 0 168 (dk_at dksX4_see_0 2 rfl rfl)
theorem dX4_see_5 : decode cX4_see 5 = .ok (.aload_n 0, 1) := dk_42 (dk_at dksX4_see_0 5 rfl rfl)
theorem dX4_see_6 : decode cX4_see 6 = .ok (.iload_n 1, 1) := dk_27 (dk_at dksX4_see_0 6 rfl rfl)
theorem dX4_see_7 : decode cX4_see 7 = .ok (.invokevirtual 468, 3) := dk_182 1 212 (dk_at dksX4_see_0 7 rfl rfl)
theorem dX4_see_10 : decode cX4_see 10 = .ok (.ifCond .ne 5, 3) := dk_154 0 5 (dk_at dksX4_see_0 10 rfl rfl)
theorem dX4_see_13 : decode cX4_see 13 = .ok (.iconst 0, 1) := dk_3 (dk_at dksX4_see_0 13 rfl rfl)
theorem dX4_see_14 : decode cX4_see 14 = .ok (.ireturn, 1) := dk_172 (dk_at dksX4_see_0 14 rfl rfl)
theorem dX4_see_15 : decode cX4_see 15 = .ok (.aload_n 0, 1) := dk_42 (dk_at dksX4_see_0 15 rfl rfl)
theorem dX4_see_16 : decode cX4_see 16 = .ok (.getfield 372, 3) := dk_180 1 116 (dk_at dksX4_see_0 16 rfl rfl)
theorem dX4_see_19 : decode cX4_see 19 = .ok (.bipush 8, 2) := dk_16 8 (dk_at dksX4_see_0 19 rfl rfl)
theorem dX4_see_21 : decode cX4_see 21 = .ok (.if_icmp .eq 13, 3) := dk_159 0 13 (dk_at dksX4_see_0 21 rfl rfl)
theorem dX4_see_24 : decode cX4_see 24 = .ok (.iload_n 2, 1) := dk_28 (dk_at dksX4_see_1 0 rfl rfl)
theorem dX4_see_25 : decode cX4_see 25 = .ok (.iconst 0, 1) := dk_3 (dk_at dksX4_see_1 1 rfl rfl)
theorem dX4_see_26 : decode cX4_see 26 = .ok (.bipush 29, 2) := dk_16 29 (dk_at dksX4_see_1 2 rfl rfl)
theorem dX4_see_28 : decode cX4_see 28 = .ok (.invokestatic 449, 3) := dk_184 1 193 (dk_at dksX4_see_1 4 rfl rfl)
theorem dX4_see_31 : decode cX4_see 31 = .ok (.ifCond .ne 9, 3) := dk_154 0 9 (dk_at dksX4_see_1 7 rfl rfl)
theorem dX4_see_34 : decode cX4_see 34 = .ok (.aload_n 0, 1) := dk_42 (dk_at dksX4_see_1 10 rfl rfl)
theorem dX4_see_35 : decode cX4_see 35 = .ok (.iconst 2, 1) := dk_5 (dk_at dksX4_see_1 11 rfl rfl)
theorem dX4_see_36 : decode cX4_see 36 = .ok (.invokevirtual 471, 3) := dk_182 1 215 (dk_at dksX4_see_1 12 rfl rfl)
theorem dX4_see_39 : decode cX4_see 39 = .ok (.ireturn, 1) := dk_172 (dk_at dksX4_see_1 15 rfl rfl)
theorem dX4_see_40 : decode cX4_see 40 = .ok (.aload_n 0, 1) := dk_42 (dk_at dksX4_see_1 16 rfl rfl)
theorem dX4_see_41 : decode cX4_see 41 = .ok (.getfield 150, 3) := dk_180 0 150 (dk_at dksX4_see_1 17 rfl rfl)
theorem dX4_see_44 : decode cX4_see 44 = .ok (.iconst 3, 1) := dk_6 (dk_at dksX4_see_1 20 rfl rfl)
theorem dX4_see_45 : decode cX4_see 45 = .ok (.aload_n 0, 1) := dk_42 (dk_at dksX4_see_1 21 rfl rfl)
theorem dX4_see_46 : decode cX4_see 46 = .ok (.getfield 372, 3) := dk_180 1 116 (dk_at dksX4_see_2 0 rfl rfl)
theorem dX4_see_49 : decode cX4_see 49 = .ok (.imul, 1) := dk_104 (dk_at dksX4_see_2 3 rfl rfl)
theorem dX4_see_50 : decode cX4_see 50 = .ok (.iload_n 1, 1) := dk_27 (dk_at dksX4_see_2 4 rfl rfl)
theorem dX4_see_51 : decode cX4_see 51 = .ok (.iastore, 1) := dk_79 (dk_at dksX4_see_2 5 rfl rfl)
theorem dX4_see_52 : decode cX4_see 52 = .ok (.aload_n 0, 1) := dk_42 (dk_at dksX4_see_2 6 rfl rfl)
theorem dX4_see_53 : decode cX4_see 53 = .ok (.getfield 150, 3) := dk_180 0 150 (dk_at dksX4_see_2 7 rfl rfl)
theorem dX4_see_56 : decode cX4_see 56 = .ok (.iconst 3, 1) := dk_6 (dk_at dksX4_see_2 10 rfl rfl)
theorem dX4_see_57 : decode cX4_see 57 = .ok (.aload_n 0, 1) := dk_42 (dk_at dksX4_see_2 11 rfl rfl)
theorem dX4_see_58 : decode cX4_see 58 = .ok (.getfield 372, 3) := dk_180 1 116 (dk_at dksX4_see_2 12 rfl rfl)
theorem dX4_see_61 : decode cX4_see 61 = .ok (.imul, 1) := dk_104 (dk_at dksX4_see_2 15 rfl rfl)
theorem dX4_see_62 : decode cX4_see 62 = .ok (.iconst 1, 1) := dk_4 (dk_at dksX4_see_2 16 rfl rfl)
theorem dX4_see_63 : decode cX4_see 63 = .ok (.iadd, 1) := dk_96 (dk_at dksX4_see_2 17 rfl rfl)
theorem dX4_see_64 : decode cX4_see 64 = .ok (.iload_n 2, 1) := dk_28 (dk_at dksX4_see_2 18 rfl rfl)
theorem dX4_see_65 : decode cX4_see 65 = .ok (.iastore, 1) := dk_79 (dk_at dksX4_see_2 19 rfl rfl)
theorem dX4_see_66 : decode cX4_see 66 = .ok (.aload_n 0, 1) := dk_42 (dk_at dksX4_see_2 20 rfl rfl)
theorem dX4_see_67 : decode cX4_see 67 = .ok (.getfield 150, 3) := dk_180 0 150 (dk_at dksX4_see_2 21 rfl rfl)
theorem dX4_see_70 : decode cX4_see 70 = .ok (.iconst 3, 1) := dk_6 (dk_at dksX4_see_3 0 rfl rfl)
theorem dX4_see_71 : decode cX4_see 71 = .ok (.aload_n 0, 1) := dk_42 (dk_at dksX4_see_3 1 rfl rfl)
theorem dX4_see_72 : decode cX4_see 72 = .ok (.getfield 372, 3) := dk_180 1 116 (dk_at dksX4_see_3 2 rfl rfl)
theorem dX4_see_75 : decode cX4_see 75 = .ok (.imul, 1) := dk_104 (dk_at dksX4_see_3 5 rfl rfl)
theorem dX4_see_76 : decode cX4_see 76 = .ok (.iconst 2, 1) := dk_5 (dk_at dksX4_see_3 6 rfl rfl)
theorem dX4_see_77 : decode cX4_see 77 = .ok (.iadd, 1) := dk_96 (dk_at dksX4_see_3 7 rfl rfl)
theorem dX4_see_78 : decode cX4_see 78 = .ok (.iload_n 3, 1) := dk_29 (dk_at dksX4_see_3 8 rfl rfl)
theorem dX4_see_79 : decode cX4_see 79 = .ok (.ifCond .eq 7, 3) := dk_153 0 7 (dk_at dksX4_see_3 9 rfl rfl)
theorem dX4_see_82 : decode cX4_see 82 = .ok (.iconst 1, 1) := dk_4 (dk_at dksX4_see_3 12 rfl rfl)
theorem dX4_see_83 : decode cX4_see 83 = .ok (.goto 4, 3) := dk_167 0 4 (dk_at dksX4_see_3 13 rfl rfl)
theorem dX4_see_86 : decode cX4_see 86 = .ok (.iconst 0, 1) := dk_3 (dk_at dksX4_see_3 16 rfl rfl)
theorem dX4_see_87 : decode cX4_see 87 = .ok (.iastore, 1) := dk_79 (dk_at dksX4_see_3 17 rfl rfl)
theorem dX4_see_88 : decode cX4_see 88 = .ok (.aload_n 0, 1) := dk_42 (dk_at dksX4_see_3 18 rfl rfl)
theorem dX4_see_89 : decode cX4_see 89 = .ok (.dup, 1) := dk_89 (dk_at dksX4_see_3 19 rfl rfl)
theorem dX4_see_90 : decode cX4_see 90 = .ok (.getfield 372, 3) := dk_180 1 116 (dk_at dksX4_see_3 20 rfl rfl)
theorem dX4_see_93 : decode cX4_see 93 = .ok (.iconst 1, 1) := dk_4 (dk_at dksX4_see_3 23 rfl rfl)
theorem dX4_see_94 : decode cX4_see 94 = .ok (.iadd, 1) := dk_96 (dk_at dksX4_see_4 0 rfl rfl)
theorem dX4_see_95 : decode cX4_see 95 = .ok (.putfield 372, 3) := dk_181 1 116 (dk_at dksX4_see_4 1 rfl rfl)
theorem dX4_see_98 : decode cX4_see 98 = .ok (.aload_n 0, 1) := dk_42 (dk_at dksX4_see_4 4 rfl rfl)
theorem dX4_see_99 : decode cX4_see 99 = .ok (.getfield 372, 3) := dk_180 1 116 (dk_at dksX4_see_4 5 rfl rfl)
theorem dX4_see_102 : decode cX4_see 102 = .ok (.ireturn, 1) := dk_172 (dk_at dksX4_see_4 8 rfl rfl)
abbrev cX4_forget : ByteArray := prog_13_method_104_code
def yX4_forget : MethodName := ⟨RX4, "forget", "()V"⟩
def dkwX4_forget_0 : List UInt8 := [42, 3, 181, 0, 168, 42, 3, 181, 1, 116, 177]
abbrev dktX4_forget_0 : List UInt8 := dkwX4_forget_0 ++ []
theorem dksX4_forget_0 : cX4_forget.data.toList.drop 0 = dktX4_forget_0 := by decide +kernel
theorem dX4_forget_0 : decode cX4_forget 0 = .ok (.aload_n 0, 1) := dk_42 (dk_at dksX4_forget_0 0 rfl rfl)
theorem dX4_forget_1 : decode cX4_forget 1 = .ok (.iconst 0, 1) := dk_3 (dk_at dksX4_forget_0 1 rfl rfl)
theorem dX4_forget_2 : decode cX4_forget 2 = .ok (.putfield 168, 3) := dk_181 0 168 (dk_at dksX4_forget_0 2 rfl rfl)
theorem dX4_forget_5 : decode cX4_forget 5 = .ok (.aload_n 0, 1) := dk_42 (dk_at dksX4_forget_0 5 rfl rfl)
theorem dX4_forget_6 : decode cX4_forget 6 = .ok (.iconst 0, 1) := dk_3 (dk_at dksX4_forget_0 6 rfl rfl)
theorem dX4_forget_7 : decode cX4_forget 7 = .ok (.putfield 372, 3) := dk_181 1 116 (dk_at dksX4_forget_0 7 rfl rfl)
theorem dX4_forget_10 : decode cX4_forget 10 = .ok (.return_, 1) := dk_177 (dk_at dksX4_forget_0 10 rfl rfl)
abbrev cX4_scribe : ByteArray := prog_13_method_107_code
def yX4_scribe : MethodName := ⟨RX4, "scribe", "(I)I"⟩
def dkwX4_scribe_5 : List UInt8 := [154, 0, 7, 28, 167, 0, 4, 29, 172]
abbrev dktX4_scribe_5 : List UInt8 := dkwX4_scribe_5 ++ []
def dkwX4_scribe_4 : List UInt8 := [16, 100, 21, 4, 104, 21, 5, 96, 62, 132, 5, 1, 167, 255, 208, 132, 4, 1, 167, 255, 190, 27]
abbrev dktX4_scribe_4 : List UInt8 := dkwX4_scribe_4 ++ dktX4_scribe_5
def dkwX4_scribe_3 : List UInt8 := [182, 1, 252, 153, 0, 30, 42, 182, 1, 249, 154, 0, 6, 167, 0, 20, 132, 2, 1, 29, 2, 160, 0, 12]
abbrev dktX4_scribe_3 : List UInt8 := dkwX4_scribe_3 ++ dktX4_scribe_4
def dkwX4_scribe_2 : List UInt8 := [21, 4, 42, 180, 1, 100, 162, 0, 63, 3, 54, 5, 21, 5, 16, 10, 162, 0, 47, 42, 21, 4, 21, 5]
abbrev dktX4_scribe_2 : List UInt8 := dkwX4_scribe_2 ++ dktX4_scribe_3
def dkwX4_scribe_1 : List UInt8 := [182, 1, 227, 42, 182, 1, 249, 153, 0, 7, 4, 167, 0, 4, 3, 172, 3, 61, 2, 62, 3, 54, 4]
abbrev dktX4_scribe_1 : List UInt8 := dkwX4_scribe_1 ++ dktX4_scribe_2
def dkwX4_scribe_0 : List UInt8 := [42, 3, 181, 0, 168, 42, 27, 5, 182, 1, 206, 154, 0, 5, 3, 172, 27, 5, 160, 0, 20, 42]
abbrev dktX4_scribe_0 : List UInt8 := dkwX4_scribe_0 ++ dktX4_scribe_1
theorem dksX4_scribe_0 : cX4_scribe.data.toList.drop 0 = dktX4_scribe_0 := by decide +kernel
theorem dksX4_scribe_1 : cX4_scribe.data.toList.drop 22 = dktX4_scribe_1 := dk_seg dksX4_scribe_0 22 rfl rfl
theorem dksX4_scribe_2 : cX4_scribe.data.toList.drop 45 = dktX4_scribe_2 := dk_seg dksX4_scribe_1 23 rfl rfl
theorem dksX4_scribe_3 : cX4_scribe.data.toList.drop 69 = dktX4_scribe_3 := dk_seg dksX4_scribe_2 24 rfl rfl
theorem dksX4_scribe_4 : cX4_scribe.data.toList.drop 93 = dktX4_scribe_4 := dk_seg dksX4_scribe_3 24 rfl rfl
theorem dksX4_scribe_5 : cX4_scribe.data.toList.drop 115 = dktX4_scribe_5 := dk_seg dksX4_scribe_4 22 rfl rfl
theorem dX4_scribe_0 : decode cX4_scribe 0 = .ok (.aload_n 0, 1) := dk_42 (dk_at dksX4_scribe_0 0 rfl rfl)
theorem dX4_scribe_1 : decode cX4_scribe 1 = .ok (.iconst 0, 1) := dk_3 (dk_at dksX4_scribe_0 1 rfl rfl)
theorem dX4_scribe_2 : decode cX4_scribe 2 = .ok (.putfield 168, 3) := dk_181 0 168 (dk_at dksX4_scribe_0 2 rfl rfl)
theorem dX4_scribe_5 : decode cX4_scribe 5 = .ok (.aload_n 0, 1) := dk_42 (dk_at dksX4_scribe_0 5 rfl rfl)
theorem dX4_scribe_6 : decode cX4_scribe 6 = .ok (.iload_n 1, 1) := dk_27 (dk_at dksX4_scribe_0 6 rfl rfl)
theorem dX4_scribe_7 : decode cX4_scribe 7 = .ok (.iconst 2, 1) := dk_5 (dk_at dksX4_scribe_0 7 rfl rfl)
theorem dX4_scribe_8 : decode cX4_scribe 8 = .ok (.invokevirtual 462, 3) := dk_182 1 206 (dk_at dksX4_scribe_0 8 rfl rfl)
theorem dX4_scribe_11 : decode cX4_scribe 11 = .ok (.ifCond .ne 5, 3) := dk_154 0 5 (dk_at dksX4_scribe_0 11 rfl rfl)
theorem dX4_scribe_14 : decode cX4_scribe 14 = .ok (.iconst 0, 1) := dk_3 (dk_at dksX4_scribe_0 14 rfl rfl)
theorem dX4_scribe_15 : decode cX4_scribe 15 = .ok (.ireturn, 1) := dk_172 (dk_at dksX4_scribe_0 15 rfl rfl)
theorem dX4_scribe_16 : decode cX4_scribe 16 = .ok (.iload_n 1, 1) := dk_27 (dk_at dksX4_scribe_0 16 rfl rfl)
theorem dX4_scribe_17 : decode cX4_scribe 17 = .ok (.iconst 2, 1) := dk_5 (dk_at dksX4_scribe_0 17 rfl rfl)
theorem dX4_scribe_18 : decode cX4_scribe 18 = .ok (.if_icmp .ne 20, 3) := dk_160 0 20 (dk_at dksX4_scribe_0 18 rfl rfl)
theorem dX4_scribe_21 : decode cX4_scribe 21 = .ok (.aload_n 0, 1) := dk_42 (dk_at dksX4_scribe_0 21 rfl rfl)
theorem dX4_scribe_22 : decode cX4_scribe 22 = .ok (.invokevirtual 483, 3) := dk_182 1 227 (dk_at dksX4_scribe_1 0 rfl rfl)
theorem dX4_scribe_25 : decode cX4_scribe 25 = .ok (.aload_n 0, 1) := dk_42 (dk_at dksX4_scribe_1 3 rfl rfl)
theorem dX4_scribe_26 : decode cX4_scribe 26 = .ok (.invokevirtual 505, 3) := dk_182 1 249 (dk_at dksX4_scribe_1 4 rfl rfl)
theorem dX4_scribe_29 : decode cX4_scribe 29 = .ok (.ifCond .eq 7, 3) := dk_153 0 7 (dk_at dksX4_scribe_1 7 rfl rfl)
theorem dX4_scribe_32 : decode cX4_scribe 32 = .ok (.iconst 1, 1) := dk_4 (dk_at dksX4_scribe_1 10 rfl rfl)
theorem dX4_scribe_33 : decode cX4_scribe 33 = .ok (.goto 4, 3) := dk_167 0 4 (dk_at dksX4_scribe_1 11 rfl rfl)
theorem dX4_scribe_36 : decode cX4_scribe 36 = .ok (.iconst 0, 1) := dk_3 (dk_at dksX4_scribe_1 14 rfl rfl)
theorem dX4_scribe_37 : decode cX4_scribe 37 = .ok (.ireturn, 1) := dk_172 (dk_at dksX4_scribe_1 15 rfl rfl)
theorem dX4_scribe_38 : decode cX4_scribe 38 = .ok (.iconst 0, 1) := dk_3 (dk_at dksX4_scribe_1 16 rfl rfl)
theorem dX4_scribe_39 : decode cX4_scribe 39 = .ok (.istore_n 2, 1) := dk_61 (dk_at dksX4_scribe_1 17 rfl rfl)
theorem dX4_scribe_40 : decode cX4_scribe 40 = .ok (.iconst (-1), 1) := dk_2 (dk_at dksX4_scribe_1 18 rfl rfl)
theorem dX4_scribe_41 : decode cX4_scribe 41 = .ok (.istore_n 3, 1) := dk_62 (dk_at dksX4_scribe_1 19 rfl rfl)
theorem dX4_scribe_42 : decode cX4_scribe 42 = .ok (.iconst 0, 1) := dk_3 (dk_at dksX4_scribe_1 20 rfl rfl)
theorem dX4_scribe_43 : decode cX4_scribe 43 = .ok (.istore 4, 2) := dk_54 4 (dk_at dksX4_scribe_1 21 rfl rfl)
theorem dX4_scribe_45 : decode cX4_scribe 45 = .ok (.iload 4, 2) := dk_21 4 (dk_at dksX4_scribe_2 0 rfl rfl)
theorem dX4_scribe_47 : decode cX4_scribe 47 = .ok (.aload_n 0, 1) := dk_42 (dk_at dksX4_scribe_2 2 rfl rfl)
theorem dX4_scribe_48 : decode cX4_scribe 48 = .ok (.getfield 356, 3) := dk_180 1 100 (dk_at dksX4_scribe_2 3 rfl rfl)
theorem dX4_scribe_51 : decode cX4_scribe 51 = .ok (.if_icmp .ge 63, 3) := dk_162 0 63 (dk_at dksX4_scribe_2 6 rfl rfl)
theorem dX4_scribe_54 : decode cX4_scribe 54 = .ok (.iconst 0, 1) := dk_3 (dk_at dksX4_scribe_2 9 rfl rfl)
theorem dX4_scribe_55 : decode cX4_scribe 55 = .ok (.istore 5, 2) := dk_54 5 (dk_at dksX4_scribe_2 10 rfl rfl)
theorem dX4_scribe_57 : decode cX4_scribe 57 = .ok (.iload 5, 2) := dk_21 5 (dk_at dksX4_scribe_2 12 rfl rfl)
theorem dX4_scribe_59 : decode cX4_scribe 59 = .ok (.bipush 10, 2) := dk_16 10 (dk_at dksX4_scribe_2 14 rfl rfl)
theorem dX4_scribe_61 : decode cX4_scribe 61 = .ok (.if_icmp .ge 47, 3) := dk_162 0 47 (dk_at dksX4_scribe_2 16 rfl rfl)
theorem dX4_scribe_64 : decode cX4_scribe 64 = .ok (.aload_n 0, 1) := dk_42 (dk_at dksX4_scribe_2 19 rfl rfl)
theorem dX4_scribe_65 : decode cX4_scribe 65 = .ok (.iload 4, 2) := dk_21 4 (dk_at dksX4_scribe_2 20 rfl rfl)
theorem dX4_scribe_67 : decode cX4_scribe 67 = .ok (.iload 5, 2) := dk_21 5 (dk_at dksX4_scribe_2 22 rfl rfl)
theorem dX4_scribe_69 : decode cX4_scribe 69 = .ok (.invokevirtual 508, 3) := dk_182 1 252 (dk_at dksX4_scribe_3 0 rfl rfl)
theorem dX4_scribe_72 : decode cX4_scribe 72 = .ok (.ifCond .eq 30, 3) := dk_153 0 30 (dk_at dksX4_scribe_3 3 rfl rfl)
theorem dX4_scribe_75 : decode cX4_scribe 75 = .ok (.aload_n 0, 1) := dk_42 (dk_at dksX4_scribe_3 6 rfl rfl)
theorem dX4_scribe_76 : decode cX4_scribe 76 = .ok (.invokevirtual 505, 3) := dk_182 1 249 (dk_at dksX4_scribe_3 7 rfl rfl)
theorem dX4_scribe_79 : decode cX4_scribe 79 = .ok (.ifCond .ne 6, 3) := dk_154 0 6 (dk_at dksX4_scribe_3 10 rfl rfl)
theorem dX4_scribe_82 : decode cX4_scribe 82 = .ok (.goto 20, 3) := dk_167 0 20 (dk_at dksX4_scribe_3 13 rfl rfl)
theorem dX4_scribe_85 : decode cX4_scribe 85 = .ok (.iinc 2 1, 3) := dk_132 2 1 (dk_at dksX4_scribe_3 16 rfl rfl)
theorem dX4_scribe_88 : decode cX4_scribe 88 = .ok (.iload_n 3, 1) := dk_29 (dk_at dksX4_scribe_3 19 rfl rfl)
theorem dX4_scribe_89 : decode cX4_scribe 89 = .ok (.iconst (-1), 1) := dk_2 (dk_at dksX4_scribe_3 20 rfl rfl)
theorem dX4_scribe_90 : decode cX4_scribe 90 = .ok (.if_icmp .ne 12, 3) := dk_160 0 12 (dk_at dksX4_scribe_3 21 rfl rfl)
theorem dX4_scribe_93 : decode cX4_scribe 93 = .ok (.bipush 100, 2) := dk_16 100 (dk_at dksX4_scribe_4 0 rfl rfl)
theorem dX4_scribe_95 : decode cX4_scribe 95 = .ok (.iload 4, 2) := dk_21 4 (dk_at dksX4_scribe_4 2 rfl rfl)
theorem dX4_scribe_97 : decode cX4_scribe 97 = .ok (.imul, 1) := dk_104 (dk_at dksX4_scribe_4 4 rfl rfl)
theorem dX4_scribe_98 : decode cX4_scribe 98 = .ok (.iload 5, 2) := dk_21 5 (dk_at dksX4_scribe_4 5 rfl rfl)
theorem dX4_scribe_100 : decode cX4_scribe 100 = .ok (.iadd, 1) := dk_96 (dk_at dksX4_scribe_4 7 rfl rfl)
theorem dX4_scribe_101 : decode cX4_scribe 101 = .ok (.istore_n 3, 1) := dk_62 (dk_at dksX4_scribe_4 8 rfl rfl)
theorem dX4_scribe_102 : decode cX4_scribe 102 = .ok (.iinc 5 1, 3) := dk_132 5 1 (dk_at dksX4_scribe_4 9 rfl rfl)
theorem dX4_scribe_105 : decode cX4_scribe 105 = .ok (.goto (-48), 3) := dk_167 255 208 (dk_at dksX4_scribe_4 12 rfl rfl)
theorem dX4_scribe_108 : decode cX4_scribe 108 = .ok (.iinc 4 1, 3) := dk_132 4 1 (dk_at dksX4_scribe_4 15 rfl rfl)
theorem dX4_scribe_111 : decode cX4_scribe 111 = .ok (.goto (-66), 3) := dk_167 255 190 (dk_at dksX4_scribe_4 18 rfl rfl)
theorem dX4_scribe_114 : decode cX4_scribe 114 = .ok (.iload_n 1, 1) := dk_27 (dk_at dksX4_scribe_4 21 rfl rfl)
theorem dX4_scribe_115 : decode cX4_scribe 115 = .ok (.ifCond .ne 7, 3) := dk_154 0 7 (dk_at dksX4_scribe_5 0 rfl rfl)
theorem dX4_scribe_118 : decode cX4_scribe 118 = .ok (.iload_n 2, 1) := dk_28 (dk_at dksX4_scribe_5 3 rfl rfl)
theorem dX4_scribe_119 : decode cX4_scribe 119 = .ok (.goto 4, 3) := dk_167 0 4 (dk_at dksX4_scribe_5 4 rfl rfl)
theorem dX4_scribe_122 : decode cX4_scribe 122 = .ok (.iload_n 3, 1) := dk_29 (dk_at dksX4_scribe_5 7 rfl rfl)
theorem dX4_scribe_123 : decode cX4_scribe 123 = .ok (.ireturn, 1) := dk_172 (dk_at dksX4_scribe_5 8 rfl rfl)
abbrev cX4_isSeen : ByteArray := prog_13_method_105_code
def yX4_isSeen : MethodName := ⟨RX4, "isSeen", "()Z"⟩
def dkwX4_isSeen_2 : List UInt8 := [3, 172, 132, 1, 1, 167, 255, 205, 4, 172]
abbrev dktX4_isSeen_2 : List UInt8 := dkwX4_isSeen_2 ++ []
def dkwX4_isSeen_1 : List UInt8 := [42, 180, 0, 150, 6, 27, 104, 46, 122, 4, 126, 42, 180, 0, 150, 6, 27, 104, 5, 96, 46, 159, 0, 5]
abbrev dktX4_isSeen_1 : List UInt8 := dkwX4_isSeen_1 ++ dktX4_isSeen_2
def dkwX4_isSeen_0 : List UInt8 := [3, 60, 27, 42, 180, 1, 116, 162, 0, 49, 42, 42, 180, 0, 150, 6, 27, 104, 4, 96, 46, 182, 1, 246]
abbrev dktX4_isSeen_0 : List UInt8 := dkwX4_isSeen_0 ++ dktX4_isSeen_1
theorem dksX4_isSeen_0 : cX4_isSeen.data.toList.drop 0 = dktX4_isSeen_0 := by decide +kernel
theorem dksX4_isSeen_1 : cX4_isSeen.data.toList.drop 24 = dktX4_isSeen_1 := dk_seg dksX4_isSeen_0 24 rfl rfl
theorem dksX4_isSeen_2 : cX4_isSeen.data.toList.drop 48 = dktX4_isSeen_2 := dk_seg dksX4_isSeen_1 24 rfl rfl
theorem dX4_isSeen_0 : decode cX4_isSeen 0 = .ok (.iconst 0, 1) := dk_3 (dk_at dksX4_isSeen_0 0 rfl rfl)
theorem dX4_isSeen_1 : decode cX4_isSeen 1 = .ok (.istore_n 1, 1) := dk_60 (dk_at dksX4_isSeen_0 1 rfl rfl)
theorem dX4_isSeen_2 : decode cX4_isSeen 2 = .ok (.iload_n 1, 1) := dk_27 (dk_at dksX4_isSeen_0 2 rfl rfl)
theorem dX4_isSeen_3 : decode cX4_isSeen 3 = .ok (.aload_n 0, 1) := dk_42 (dk_at dksX4_isSeen_0 3 rfl rfl)
theorem dX4_isSeen_4 : decode cX4_isSeen 4 = .ok (.getfield 372, 3) := dk_180 1 116 (dk_at dksX4_isSeen_0 4 rfl rfl)
theorem dX4_isSeen_7 : decode cX4_isSeen 7 = .ok (.if_icmp .ge 49, 3) := dk_162 0 49 (dk_at dksX4_isSeen_0 7 rfl rfl)
theorem dX4_isSeen_10 : decode cX4_isSeen 10 = .ok (.aload_n 0, 1) := dk_42 (dk_at dksX4_isSeen_0 10 rfl rfl)
theorem dX4_isSeen_11 : decode cX4_isSeen 11 = .ok (.aload_n 0, 1) := dk_42 (dk_at dksX4_isSeen_0 11 rfl rfl)
theorem dX4_isSeen_12 : decode cX4_isSeen 12 = .ok (.getfield 150, 3) := dk_180 0 150 (dk_at dksX4_isSeen_0 12 rfl rfl)
theorem dX4_isSeen_15 : decode cX4_isSeen 15 = .ok (.iconst 3, 1) := dk_6 (dk_at dksX4_isSeen_0 15 rfl rfl)
theorem dX4_isSeen_16 : decode cX4_isSeen 16 = .ok (.iload_n 1, 1) := dk_27 (dk_at dksX4_isSeen_0 16 rfl rfl)
theorem dX4_isSeen_17 : decode cX4_isSeen 17 = .ok (.imul, 1) := dk_104 (dk_at dksX4_isSeen_0 17 rfl rfl)
theorem dX4_isSeen_18 : decode cX4_isSeen 18 = .ok (.iconst 1, 1) := dk_4 (dk_at dksX4_isSeen_0 18 rfl rfl)
theorem dX4_isSeen_19 : decode cX4_isSeen 19 = .ok (.iadd, 1) := dk_96 (dk_at dksX4_isSeen_0 19 rfl rfl)
theorem dX4_isSeen_20 : decode cX4_isSeen 20 = .ok (.iaload, 1) := dk_46 (dk_at dksX4_isSeen_0 20 rfl rfl)
theorem dX4_isSeen_21 : decode cX4_isSeen 21 = .ok (.invokevirtual 502, 3) := dk_182 1 246 (dk_at dksX4_isSeen_0 21 rfl rfl)
theorem dX4_isSeen_24 : decode cX4_isSeen 24 = .ok (.aload_n 0, 1) := dk_42 (dk_at dksX4_isSeen_1 0 rfl rfl)
theorem dX4_isSeen_25 : decode cX4_isSeen 25 = .ok (.getfield 150, 3) := dk_180 0 150 (dk_at dksX4_isSeen_1 1 rfl rfl)
theorem dX4_isSeen_28 : decode cX4_isSeen 28 = .ok (.iconst 3, 1) := dk_6 (dk_at dksX4_isSeen_1 4 rfl rfl)
theorem dX4_isSeen_29 : decode cX4_isSeen 29 = .ok (.iload_n 1, 1) := dk_27 (dk_at dksX4_isSeen_1 5 rfl rfl)
theorem dX4_isSeen_30 : decode cX4_isSeen 30 = .ok (.imul, 1) := dk_104 (dk_at dksX4_isSeen_1 6 rfl rfl)
theorem dX4_isSeen_31 : decode cX4_isSeen 31 = .ok (.iaload, 1) := dk_46 (dk_at dksX4_isSeen_1 7 rfl rfl)
theorem dX4_isSeen_32 : decode cX4_isSeen 32 = .ok (.ishr, 1) := dk_122 (dk_at dksX4_isSeen_1 8 rfl rfl)
theorem dX4_isSeen_33 : decode cX4_isSeen 33 = .ok (.iconst 1, 1) := dk_4 (dk_at dksX4_isSeen_1 9 rfl rfl)
theorem dX4_isSeen_34 : decode cX4_isSeen 34 = .ok (.iand, 1) := dk_126 (dk_at dksX4_isSeen_1 10 rfl rfl)
theorem dX4_isSeen_35 : decode cX4_isSeen 35 = .ok (.aload_n 0, 1) := dk_42 (dk_at dksX4_isSeen_1 11 rfl rfl)
theorem dX4_isSeen_36 : decode cX4_isSeen 36 = .ok (.getfield 150, 3) := dk_180 0 150 (dk_at dksX4_isSeen_1 12 rfl rfl)
theorem dX4_isSeen_39 : decode cX4_isSeen 39 = .ok (.iconst 3, 1) := dk_6 (dk_at dksX4_isSeen_1 15 rfl rfl)
theorem dX4_isSeen_40 : decode cX4_isSeen 40 = .ok (.iload_n 1, 1) := dk_27 (dk_at dksX4_isSeen_1 16 rfl rfl)
theorem dX4_isSeen_41 : decode cX4_isSeen 41 = .ok (.imul, 1) := dk_104 (dk_at dksX4_isSeen_1 17 rfl rfl)
theorem dX4_isSeen_42 : decode cX4_isSeen 42 = .ok (.iconst 2, 1) := dk_5 (dk_at dksX4_isSeen_1 18 rfl rfl)
theorem dX4_isSeen_43 : decode cX4_isSeen 43 = .ok (.iadd, 1) := dk_96 (dk_at dksX4_isSeen_1 19 rfl rfl)
theorem dX4_isSeen_44 : decode cX4_isSeen 44 = .ok (.iaload, 1) := dk_46 (dk_at dksX4_isSeen_1 20 rfl rfl)
theorem dX4_isSeen_45 : decode cX4_isSeen 45 = .ok (.if_icmp .eq 5, 3) := dk_159 0 5 (dk_at dksX4_isSeen_1 21 rfl rfl)
theorem dX4_isSeen_48 : decode cX4_isSeen 48 = .ok (.iconst 0, 1) := dk_3 (dk_at dksX4_isSeen_2 0 rfl rfl)
theorem dX4_isSeen_49 : decode cX4_isSeen 49 = .ok (.ireturn, 1) := dk_172 (dk_at dksX4_isSeen_2 1 rfl rfl)
theorem dX4_isSeen_50 : decode cX4_isSeen 50 = .ok (.iinc 1 1, 3) := dk_132 1 1 (dk_at dksX4_isSeen_2 2 rfl rfl)
theorem dX4_isSeen_53 : decode cX4_isSeen 53 = .ok (.goto (-51), 3) := dk_167 255 205 (dk_at dksX4_isSeen_2 5 rfl rfl)
theorem dX4_isSeen_56 : decode cX4_isSeen 56 = .ok (.iconst 1, 1) := dk_4 (dk_at dksX4_isSeen_2 8 rfl rfl)
theorem dX4_isSeen_57 : decode cX4_isSeen 57 = .ok (.ireturn, 1) := dk_172 (dk_at dksX4_isSeen_2 9 rfl rfl)
abbrev cX4_listBehind : ByteArray := prog_13_method_65_code
def yX4_listBehind : MethodName := ⟨RX4, "listBehind", "(I)I"⟩
def dkwX4_listBehind_1 : List UInt8 := [27, 28, 162, 0, 7, 27, 167, 0, 6, 28, 4, 100, 46, 172]
abbrev dktX4_listBehind_1 : List UInt8 := dkwX4_listBehind_1 ++ []
def dkwX4_listBehind_0 : List UInt8 := [42, 182, 1, 187, 61, 28, 154, 0, 14, 42, 42, 180, 0, 126, 182, 1, 127, 167, 0, 20, 42, 180, 0, 117]
abbrev dktX4_listBehind_0 : List UInt8 := dkwX4_listBehind_0 ++ dktX4_listBehind_1
theorem dksX4_listBehind_0 : cX4_listBehind.data.toList.drop 0 = dktX4_listBehind_0 := by decide +kernel
theorem dksX4_listBehind_1 : cX4_listBehind.data.toList.drop 24 = dktX4_listBehind_1 := dk_seg dksX4_listBehind_0 24 rfl rfl
theorem dX4_listBehind_0 : decode cX4_listBehind 0 = .ok (.aload_n 0, 1) := dk_42 (dk_at dksX4_listBehind_0 0 rfl rfl)
theorem dX4_listBehind_1 : decode cX4_listBehind 1 = .ok (.invokevirtual 443, 3) := dk_182 1 187 (dk_at dksX4_listBehind_0 1 rfl rfl)
theorem dX4_listBehind_4 : decode cX4_listBehind 4 = .ok (.istore_n 2, 1) := dk_61 (dk_at dksX4_listBehind_0 4 rfl rfl)
theorem dX4_listBehind_5 : decode cX4_listBehind 5 = .ok (.iload_n 2, 1) := dk_28 (dk_at dksX4_listBehind_0 5 rfl rfl)
theorem dX4_listBehind_6 : decode cX4_listBehind 6 = .ok (.ifCond .ne 14, 3) := dk_154 0 14 (dk_at dksX4_listBehind_0 6 rfl rfl)
theorem dX4_listBehind_9 : decode cX4_listBehind 9 = .ok (.aload_n 0, 1) := dk_42 (dk_at dksX4_listBehind_0 9 rfl rfl)
theorem dX4_listBehind_10 : decode cX4_listBehind 10 = .ok (.aload_n 0, 1) := dk_42 (dk_at dksX4_listBehind_0 10 rfl rfl)
theorem dX4_listBehind_11 : decode cX4_listBehind 11 = .ok (.getfield 126, 3) := dk_180 0 126 (dk_at dksX4_listBehind_0 11 rfl rfl)
theorem dX4_listBehind_14 : decode cX4_listBehind 14 = .ok (.invokevirtual 383, 3) := dk_182 1 127 (dk_at dksX4_listBehind_0 14 rfl rfl)
theorem dX4_listBehind_17 : decode cX4_listBehind 17 = .ok (.goto 20, 3) := dk_167 0 20 (dk_at dksX4_listBehind_0 17 rfl rfl)
theorem dX4_listBehind_20 : decode cX4_listBehind 20 = .ok (.aload_n 0, 1) := dk_42 (dk_at dksX4_listBehind_0 20 rfl rfl)
theorem dX4_listBehind_21 : decode cX4_listBehind 21 = .ok (.getfield 117, 3) := dk_180 0 117 (dk_at dksX4_listBehind_0 21 rfl rfl)
theorem dX4_listBehind_24 : decode cX4_listBehind 24 = .ok (.iload_n 1, 1) := dk_27 (dk_at dksX4_listBehind_1 0 rfl rfl)
theorem dX4_listBehind_25 : decode cX4_listBehind 25 = .ok (.iload_n 2, 1) := dk_28 (dk_at dksX4_listBehind_1 1 rfl rfl)
theorem dX4_listBehind_26 : decode cX4_listBehind 26 = .ok (.if_icmp .ge 7, 3) := dk_162 0 7 (dk_at dksX4_listBehind_1 2 rfl rfl)
theorem dX4_listBehind_29 : decode cX4_listBehind 29 = .ok (.iload_n 1, 1) := dk_27 (dk_at dksX4_listBehind_1 5 rfl rfl)
theorem dX4_listBehind_30 : decode cX4_listBehind 30 = .ok (.goto 6, 3) := dk_167 0 6 (dk_at dksX4_listBehind_1 6 rfl rfl)
theorem dX4_listBehind_33 : decode cX4_listBehind 33 = .ok (.iload_n 2, 1) := dk_28 (dk_at dksX4_listBehind_1 9 rfl rfl)
theorem dX4_listBehind_34 : decode cX4_listBehind 34 = .ok (.iconst 1, 1) := dk_4 (dk_at dksX4_listBehind_1 10 rfl rfl)
theorem dX4_listBehind_35 : decode cX4_listBehind 35 = .ok (.isub, 1) := dk_100 (dk_at dksX4_listBehind_1 11 rfl rfl)
theorem dX4_listBehind_36 : decode cX4_listBehind 36 = .ok (.iaload, 1) := dk_46 (dk_at dksX4_listBehind_1 12 rfl rfl)
theorem dX4_listBehind_37 : decode cX4_listBehind 37 = .ok (.ireturn, 1) := dk_172 (dk_at dksX4_listBehind_1 13 rfl rfl)
abbrev cX4_playsWith : ByteArray := prog_13_method_106_code
def yX4_playsWith : MethodName := ⟨RX4, "playsWith", "(II)Z"⟩
def dkwX4_playsWith_2 : List UInt8 := [16, 254, 182, 1, 164, 42, 42, 180, 0, 126, 28, 29, 28, 100, 182, 1, 190, 4, 172]
abbrev dktX4_playsWith_2 : List UInt8 := dkwX4_playsWith_2 ++ []
def dkwX4_playsWith_1 : List UInt8 := [182, 1, 190, 42, 180, 0, 126, 7, 27, 96, 46, 2, 159, 0, 5, 3, 172, 42, 42, 180, 0, 126, 27]
abbrev dktX4_playsWith_1 : List UInt8 := dkwX4_playsWith_1 ++ dktX4_playsWith_2
def dkwX4_playsWith_0 : List UInt8 := [42, 182, 1, 187, 62, 28, 29, 161, 0, 5, 3, 172, 42, 182, 1, 184, 42, 42, 180, 0, 126, 3, 28]
abbrev dktX4_playsWith_0 : List UInt8 := dkwX4_playsWith_0 ++ dktX4_playsWith_1
theorem dksX4_playsWith_0 : cX4_playsWith.data.toList.drop 0 = dktX4_playsWith_0 := by decide +kernel
theorem dksX4_playsWith_1 : cX4_playsWith.data.toList.drop 23 = dktX4_playsWith_1 := dk_seg dksX4_playsWith_0 23 rfl rfl
theorem dksX4_playsWith_2 : cX4_playsWith.data.toList.drop 46 = dktX4_playsWith_2 := dk_seg dksX4_playsWith_1 23 rfl rfl
theorem dX4_playsWith_0 : decode cX4_playsWith 0 = .ok (.aload_n 0, 1) := dk_42 (dk_at dksX4_playsWith_0 0 rfl rfl)
theorem dX4_playsWith_1 : decode cX4_playsWith 1 = .ok (.invokevirtual 443, 3) := dk_182 1 187 (dk_at dksX4_playsWith_0 1 rfl rfl)
theorem dX4_playsWith_4 : decode cX4_playsWith 4 = .ok (.istore_n 3, 1) := dk_62 (dk_at dksX4_playsWith_0 4 rfl rfl)
theorem dX4_playsWith_5 : decode cX4_playsWith 5 = .ok (.iload_n 2, 1) := dk_28 (dk_at dksX4_playsWith_0 5 rfl rfl)
theorem dX4_playsWith_6 : decode cX4_playsWith 6 = .ok (.iload_n 3, 1) := dk_29 (dk_at dksX4_playsWith_0 6 rfl rfl)
theorem dX4_playsWith_7 : decode cX4_playsWith 7 = .ok (.if_icmp .lt 5, 3) := dk_161 0 5 (dk_at dksX4_playsWith_0 7 rfl rfl)
theorem dX4_playsWith_10 : decode cX4_playsWith 10 = .ok (.iconst 0, 1) := dk_3 (dk_at dksX4_playsWith_0 10 rfl rfl)
theorem dX4_playsWith_11 : decode cX4_playsWith 11 = .ok (.ireturn, 1) := dk_172 (dk_at dksX4_playsWith_0 11 rfl rfl)
theorem dX4_playsWith_12 : decode cX4_playsWith 12 = .ok (.aload_n 0, 1) := dk_42 (dk_at dksX4_playsWith_0 12 rfl rfl)
theorem dX4_playsWith_13 : decode cX4_playsWith 13 = .ok (.invokevirtual 440, 3) := dk_182 1 184 (dk_at dksX4_playsWith_0 13 rfl rfl)
theorem dX4_playsWith_16 : decode cX4_playsWith 16 = .ok (.aload_n 0, 1) := dk_42 (dk_at dksX4_playsWith_0 16 rfl rfl)
theorem dX4_playsWith_17 : decode cX4_playsWith 17 = .ok (.aload_n 0, 1) := dk_42 (dk_at dksX4_playsWith_0 17 rfl rfl)
theorem dX4_playsWith_18 : decode cX4_playsWith 18 = .ok (.getfield 126, 3) := dk_180 0 126 (dk_at dksX4_playsWith_0 18 rfl rfl)
theorem dX4_playsWith_21 : decode cX4_playsWith 21 = .ok (.iconst 0, 1) := dk_3 (dk_at dksX4_playsWith_0 21 rfl rfl)
theorem dX4_playsWith_22 : decode cX4_playsWith 22 = .ok (.iload_n 2, 1) := dk_28 (dk_at dksX4_playsWith_0 22 rfl rfl)
theorem dX4_playsWith_23 : decode cX4_playsWith 23 = .ok (.invokevirtual 446, 3) := dk_182 1 190 (dk_at dksX4_playsWith_1 0 rfl rfl)
theorem dX4_playsWith_26 : decode cX4_playsWith 26 = .ok (.aload_n 0, 1) := dk_42 (dk_at dksX4_playsWith_1 3 rfl rfl)
theorem dX4_playsWith_27 : decode cX4_playsWith 27 = .ok (.getfield 126, 3) := dk_180 0 126 (dk_at dksX4_playsWith_1 4 rfl rfl)
theorem dX4_playsWith_30 : decode cX4_playsWith 30 = .ok (.iconst 4, 1) := dk_7 (dk_at dksX4_playsWith_1 7 rfl rfl)
theorem dX4_playsWith_31 : decode cX4_playsWith 31 = .ok (.iload_n 1, 1) := dk_27 (dk_at dksX4_playsWith_1 8 rfl rfl)
theorem dX4_playsWith_32 : decode cX4_playsWith 32 = .ok (.iadd, 1) := dk_96 (dk_at dksX4_playsWith_1 9 rfl rfl)
theorem dX4_playsWith_33 : decode cX4_playsWith 33 = .ok (.iaload, 1) := dk_46 (dk_at dksX4_playsWith_1 10 rfl rfl)
theorem dX4_playsWith_34 : decode cX4_playsWith 34 = .ok (.iconst (-1), 1) := dk_2 (dk_at dksX4_playsWith_1 11 rfl rfl)
theorem dX4_playsWith_35 : decode cX4_playsWith 35 = .ok (.if_icmp .eq 5, 3) := dk_159 0 5 (dk_at dksX4_playsWith_1 12 rfl rfl)
theorem dX4_playsWith_38 : decode cX4_playsWith 38 = .ok (.iconst 0, 1) := dk_3 (dk_at dksX4_playsWith_1 15 rfl rfl)
theorem dX4_playsWith_39 : decode cX4_playsWith 39 = .ok (.ireturn, 1) := dk_172 (dk_at dksX4_playsWith_1 16 rfl rfl)
theorem dX4_playsWith_40 : decode cX4_playsWith 40 = .ok (.aload_n 0, 1) := dk_42 (dk_at dksX4_playsWith_1 17 rfl rfl)
theorem dX4_playsWith_41 : decode cX4_playsWith 41 = .ok (.aload_n 0, 1) := dk_42 (dk_at dksX4_playsWith_1 18 rfl rfl)
theorem dX4_playsWith_42 : decode cX4_playsWith 42 = .ok (.getfield 126, 3) := dk_180 0 126 (dk_at dksX4_playsWith_1 19 rfl rfl)
theorem dX4_playsWith_45 : decode cX4_playsWith 45 = .ok (.iload_n 1, 1) := dk_27 (dk_at dksX4_playsWith_1 22 rfl rfl)
theorem dX4_playsWith_46 : decode cX4_playsWith 46 = .ok (.bipush (-2), 2) := dk_16 254 (dk_at dksX4_playsWith_2 0 rfl rfl)
theorem dX4_playsWith_48 : decode cX4_playsWith 48 = .ok (.invokevirtual 420, 3) := dk_182 1 164 (dk_at dksX4_playsWith_2 2 rfl rfl)
theorem dX4_playsWith_51 : decode cX4_playsWith 51 = .ok (.aload_n 0, 1) := dk_42 (dk_at dksX4_playsWith_2 5 rfl rfl)
theorem dX4_playsWith_52 : decode cX4_playsWith 52 = .ok (.aload_n 0, 1) := dk_42 (dk_at dksX4_playsWith_2 6 rfl rfl)
theorem dX4_playsWith_53 : decode cX4_playsWith 53 = .ok (.getfield 126, 3) := dk_180 0 126 (dk_at dksX4_playsWith_2 7 rfl rfl)
theorem dX4_playsWith_56 : decode cX4_playsWith 56 = .ok (.iload_n 2, 1) := dk_28 (dk_at dksX4_playsWith_2 10 rfl rfl)
theorem dX4_playsWith_57 : decode cX4_playsWith 57 = .ok (.iload_n 3, 1) := dk_29 (dk_at dksX4_playsWith_2 11 rfl rfl)
theorem dX4_playsWith_58 : decode cX4_playsWith 58 = .ok (.iload_n 2, 1) := dk_28 (dk_at dksX4_playsWith_2 12 rfl rfl)
theorem dX4_playsWith_59 : decode cX4_playsWith 59 = .ok (.isub, 1) := dk_100 (dk_at dksX4_playsWith_2 13 rfl rfl)
theorem dX4_playsWith_60 : decode cX4_playsWith 60 = .ok (.invokevirtual 446, 3) := dk_182 1 190 (dk_at dksX4_playsWith_2 14 rfl rfl)
theorem dX4_playsWith_63 : decode cX4_playsWith 63 = .ok (.iconst 1, 1) := dk_4 (dk_at dksX4_playsWith_2 17 rfl rfl)
theorem dX4_playsWith_64 : decode cX4_playsWith 64 = .ok (.ireturn, 1) := dk_172 (dk_at dksX4_playsWith_2 18 rfl rfl)
abbrev cX4_tells : ByteArray := prog_13_method_108_code
def yX4_tells : MethodName := ⟨RX4, "tells", "(I)I"⟩
def dkwX4_tells_10 : List UInt8 := [132, 5, 1, 167, 255, 136, 27, 154, 0, 7, 29, 167, 0, 5, 21, 4, 172]
abbrev dktX4_tells_10 : List UInt8 := dkwX4_tells_10 ++ []
def dkwX4_tells_9 : List UInt8 := [132, 7, 1, 167, 255, 172, 21, 6, 21, 4, 163, 0, 6, 167, 0, 10, 21, 5, 62, 21, 6, 54, 4]
abbrev dktX4_tells_9 : List UInt8 := dkwX4_tells_9 ++ dktX4_tells_10
def dkwX4_tells_8 : List UInt8 := [3, 54, 8, 132, 9, 1, 167, 255, 205, 21, 6, 21, 8, 153, 0, 7, 4, 167, 0, 4, 3, 96, 54, 6]
abbrev dktX4_tells_8 : List UInt8 := dkwX4_tells_8 ++ dktX4_tells_9
def dkwX4_tells_7 : List UInt8 := [21, 5, 96, 46, 42, 180, 0, 153, 16, 30, 21, 9, 104, 21, 5, 96, 46, 159, 0, 7, 4, 167, 0, 4]
abbrev dktX4_tells_7 : List UInt8 := dkwX4_tells_7 ++ dktX4_tells_8
def dkwX4_tells_6 : List UInt8 := [54, 9, 21, 9, 21, 7, 162, 0, 50, 21, 8, 153, 0, 45, 42, 180, 0, 153, 16, 30, 21, 7, 104]
abbrev dktX4_tells_6 : List UInt8 := dkwX4_tells_6 ++ dktX4_tells_7
def dkwX4_tells_5 : List UInt8 := [21, 5, 16, 30, 162, 0, 119, 3, 54, 6, 3, 54, 7, 21, 7, 28, 162, 0, 84, 4, 54, 8, 3]
abbrev dktX4_tells_5 : List UInt8 := dkwX4_tells_5 ++ dktX4_tells_6
def dkwX4_tells_4 : List UInt8 := [132, 2, 1, 132, 4, 1, 167, 255, 189, 132, 3, 1, 167, 255, 172, 2, 62, 3, 54, 4, 3, 54, 5]
abbrev dktX4_tells_4 : List UInt8 := dkwX4_tells_4 ++ dktX4_tells_5
def dkwX4_tells_3 : List UInt8 := [180, 0, 153, 16, 30, 28, 104, 21, 5, 96, 42, 21, 5, 182, 1, 246, 79, 132, 5, 1, 167, 255, 228]
abbrev dktX4_tells_3 : List UInt8 := dkwX4_tells_3 ++ dktX4_tells_4
def dkwX4_tells_2 : List UInt8 := [153, 0, 50, 42, 182, 1, 249, 154, 0, 6, 167, 0, 40, 3, 54, 5, 21, 5, 16, 30, 162, 0, 27, 42]
abbrev dktX4_tells_2 : List UInt8 := dkwX4_tells_2 ++ dktX4_tells_3
def dkwX4_tells_1 : List UInt8 := [180, 1, 100, 162, 0, 82, 3, 54, 4, 21, 4, 16, 10, 162, 0, 66, 42, 29, 21, 4, 182, 1, 252]
abbrev dktX4_tells_1 : List UInt8 := dkwX4_tells_1 ++ dktX4_tells_2
def dkwX4_tells_0 : List UInt8 := [42, 3, 181, 0, 168, 42, 27, 4, 182, 1, 206, 154, 0, 5, 3, 172, 3, 61, 3, 62, 29, 42]
abbrev dktX4_tells_0 : List UInt8 := dkwX4_tells_0 ++ dktX4_tells_1
theorem dksX4_tells_0 : cX4_tells.data.toList.drop 0 = dktX4_tells_0 := by decide +kernel
theorem dksX4_tells_1 : cX4_tells.data.toList.drop 22 = dktX4_tells_1 := dk_seg dksX4_tells_0 22 rfl rfl
theorem dksX4_tells_2 : cX4_tells.data.toList.drop 45 = dktX4_tells_2 := dk_seg dksX4_tells_1 23 rfl rfl
theorem dksX4_tells_3 : cX4_tells.data.toList.drop 69 = dktX4_tells_3 := dk_seg dksX4_tells_2 24 rfl rfl
theorem dksX4_tells_4 : cX4_tells.data.toList.drop 92 = dktX4_tells_4 := dk_seg dksX4_tells_3 23 rfl rfl
theorem dksX4_tells_5 : cX4_tells.data.toList.drop 115 = dktX4_tells_5 := dk_seg dksX4_tells_4 23 rfl rfl
theorem dksX4_tells_6 : cX4_tells.data.toList.drop 138 = dktX4_tells_6 := dk_seg dksX4_tells_5 23 rfl rfl
theorem dksX4_tells_7 : cX4_tells.data.toList.drop 161 = dktX4_tells_7 := dk_seg dksX4_tells_6 23 rfl rfl
theorem dksX4_tells_8 : cX4_tells.data.toList.drop 185 = dktX4_tells_8 := dk_seg dksX4_tells_7 24 rfl rfl
theorem dksX4_tells_9 : cX4_tells.data.toList.drop 209 = dktX4_tells_9 := dk_seg dksX4_tells_8 24 rfl rfl
theorem dksX4_tells_10 : cX4_tells.data.toList.drop 232 = dktX4_tells_10 := dk_seg dksX4_tells_9 23 rfl rfl
theorem dX4_tells_0 : decode cX4_tells 0 = .ok (.aload_n 0, 1) := dk_42 (dk_at dksX4_tells_0 0 rfl rfl)
theorem dX4_tells_1 : decode cX4_tells 1 = .ok (.iconst 0, 1) := dk_3 (dk_at dksX4_tells_0 1 rfl rfl)
theorem dX4_tells_2 : decode cX4_tells 2 = .ok (.putfield 168, 3) := dk_181 0 168 (dk_at dksX4_tells_0 2 rfl rfl)
theorem dX4_tells_5 : decode cX4_tells 5 = .ok (.aload_n 0, 1) := dk_42 (dk_at dksX4_tells_0 5 rfl rfl)
theorem dX4_tells_6 : decode cX4_tells 6 = .ok (.iload_n 1, 1) := dk_27 (dk_at dksX4_tells_0 6 rfl rfl)
theorem dX4_tells_7 : decode cX4_tells 7 = .ok (.iconst 1, 1) := dk_4 (dk_at dksX4_tells_0 7 rfl rfl)
theorem dX4_tells_8 : decode cX4_tells 8 = .ok (.invokevirtual 462, 3) := dk_182 1 206 (dk_at dksX4_tells_0 8 rfl rfl)
theorem dX4_tells_11 : decode cX4_tells 11 = .ok (.ifCond .ne 5, 3) := dk_154 0 5 (dk_at dksX4_tells_0 11 rfl rfl)
theorem dX4_tells_14 : decode cX4_tells 14 = .ok (.iconst 0, 1) := dk_3 (dk_at dksX4_tells_0 14 rfl rfl)
theorem dX4_tells_15 : decode cX4_tells 15 = .ok (.ireturn, 1) := dk_172 (dk_at dksX4_tells_0 15 rfl rfl)
theorem dX4_tells_16 : decode cX4_tells 16 = .ok (.iconst 0, 1) := dk_3 (dk_at dksX4_tells_0 16 rfl rfl)
theorem dX4_tells_17 : decode cX4_tells 17 = .ok (.istore_n 2, 1) := dk_61 (dk_at dksX4_tells_0 17 rfl rfl)
theorem dX4_tells_18 : decode cX4_tells 18 = .ok (.iconst 0, 1) := dk_3 (dk_at dksX4_tells_0 18 rfl rfl)
theorem dX4_tells_19 : decode cX4_tells 19 = .ok (.istore_n 3, 1) := dk_62 (dk_at dksX4_tells_0 19 rfl rfl)
theorem dX4_tells_20 : decode cX4_tells 20 = .ok (.iload_n 3, 1) := dk_29 (dk_at dksX4_tells_0 20 rfl rfl)
theorem dX4_tells_21 : decode cX4_tells 21 = .ok (.aload_n 0, 1) := dk_42 (dk_at dksX4_tells_0 21 rfl rfl)
theorem dX4_tells_22 : decode cX4_tells 22 = .ok (.getfield 356, 3) := dk_180 1 100 (dk_at dksX4_tells_1 0 rfl rfl)
theorem dX4_tells_25 : decode cX4_tells 25 = .ok (.if_icmp .ge 82, 3) := dk_162 0 82 (dk_at dksX4_tells_1 3 rfl rfl)
theorem dX4_tells_28 : decode cX4_tells 28 = .ok (.iconst 0, 1) := dk_3 (dk_at dksX4_tells_1 6 rfl rfl)
theorem dX4_tells_29 : decode cX4_tells 29 = .ok (.istore 4, 2) := dk_54 4 (dk_at dksX4_tells_1 7 rfl rfl)
theorem dX4_tells_31 : decode cX4_tells 31 = .ok (.iload 4, 2) := dk_21 4 (dk_at dksX4_tells_1 9 rfl rfl)
theorem dX4_tells_33 : decode cX4_tells 33 = .ok (.bipush 10, 2) := dk_16 10 (dk_at dksX4_tells_1 11 rfl rfl)
theorem dX4_tells_35 : decode cX4_tells 35 = .ok (.if_icmp .ge 66, 3) := dk_162 0 66 (dk_at dksX4_tells_1 13 rfl rfl)
theorem dX4_tells_38 : decode cX4_tells 38 = .ok (.aload_n 0, 1) := dk_42 (dk_at dksX4_tells_1 16 rfl rfl)
theorem dX4_tells_39 : decode cX4_tells 39 = .ok (.iload_n 3, 1) := dk_29 (dk_at dksX4_tells_1 17 rfl rfl)
theorem dX4_tells_40 : decode cX4_tells 40 = .ok (.iload 4, 2) := dk_21 4 (dk_at dksX4_tells_1 18 rfl rfl)
theorem dX4_tells_42 : decode cX4_tells 42 = .ok (.invokevirtual 508, 3) := dk_182 1 252 (dk_at dksX4_tells_1 20 rfl rfl)
theorem dX4_tells_45 : decode cX4_tells 45 = .ok (.ifCond .eq 50, 3) := dk_153 0 50 (dk_at dksX4_tells_2 0 rfl rfl)
theorem dX4_tells_48 : decode cX4_tells 48 = .ok (.aload_n 0, 1) := dk_42 (dk_at dksX4_tells_2 3 rfl rfl)
theorem dX4_tells_49 : decode cX4_tells 49 = .ok (.invokevirtual 505, 3) := dk_182 1 249 (dk_at dksX4_tells_2 4 rfl rfl)
theorem dX4_tells_52 : decode cX4_tells 52 = .ok (.ifCond .ne 6, 3) := dk_154 0 6 (dk_at dksX4_tells_2 7 rfl rfl)
theorem dX4_tells_55 : decode cX4_tells 55 = .ok (.goto 40, 3) := dk_167 0 40 (dk_at dksX4_tells_2 10 rfl rfl)
theorem dX4_tells_58 : decode cX4_tells 58 = .ok (.iconst 0, 1) := dk_3 (dk_at dksX4_tells_2 13 rfl rfl)
theorem dX4_tells_59 : decode cX4_tells 59 = .ok (.istore 5, 2) := dk_54 5 (dk_at dksX4_tells_2 14 rfl rfl)
theorem dX4_tells_61 : decode cX4_tells 61 = .ok (.iload 5, 2) := dk_21 5 (dk_at dksX4_tells_2 16 rfl rfl)
theorem dX4_tells_63 : decode cX4_tells 63 = .ok (.bipush 30, 2) := dk_16 30 (dk_at dksX4_tells_2 18 rfl rfl)
theorem dX4_tells_65 : decode cX4_tells 65 = .ok (.if_icmp .ge 27, 3) := dk_162 0 27 (dk_at dksX4_tells_2 20 rfl rfl)
theorem dX4_tells_68 : decode cX4_tells 68 = .ok (.aload_n 0, 1) := dk_42 (dk_at dksX4_tells_2 23 rfl rfl)
theorem dX4_tells_69 : decode cX4_tells 69 = .ok (.getfield 153, 3) := dk_180 0 153 (dk_at dksX4_tells_3 0 rfl rfl)
theorem dX4_tells_72 : decode cX4_tells 72 = .ok (.bipush 30, 2) := dk_16 30 (dk_at dksX4_tells_3 3 rfl rfl)
theorem dX4_tells_74 : decode cX4_tells 74 = .ok (.iload_n 2, 1) := dk_28 (dk_at dksX4_tells_3 5 rfl rfl)
theorem dX4_tells_75 : decode cX4_tells 75 = .ok (.imul, 1) := dk_104 (dk_at dksX4_tells_3 6 rfl rfl)
theorem dX4_tells_76 : decode cX4_tells 76 = .ok (.iload 5, 2) := dk_21 5 (dk_at dksX4_tells_3 7 rfl rfl)
theorem dX4_tells_78 : decode cX4_tells 78 = .ok (.iadd, 1) := dk_96 (dk_at dksX4_tells_3 9 rfl rfl)
theorem dX4_tells_79 : decode cX4_tells 79 = .ok (.aload_n 0, 1) := dk_42 (dk_at dksX4_tells_3 10 rfl rfl)
theorem dX4_tells_80 : decode cX4_tells 80 = .ok (.iload 5, 2) := dk_21 5 (dk_at dksX4_tells_3 11 rfl rfl)
theorem dX4_tells_82 : decode cX4_tells 82 = .ok (.invokevirtual 502, 3) := dk_182 1 246 (dk_at dksX4_tells_3 13 rfl rfl)
theorem dX4_tells_85 : decode cX4_tells 85 = .ok (.iastore, 1) := dk_79 (dk_at dksX4_tells_3 16 rfl rfl)
theorem dX4_tells_86 : decode cX4_tells 86 = .ok (.iinc 5 1, 3) := dk_132 5 1 (dk_at dksX4_tells_3 17 rfl rfl)
theorem dX4_tells_89 : decode cX4_tells 89 = .ok (.goto (-28), 3) := dk_167 255 228 (dk_at dksX4_tells_3 20 rfl rfl)
theorem dX4_tells_92 : decode cX4_tells 92 = .ok (.iinc 2 1, 3) := dk_132 2 1 (dk_at dksX4_tells_4 0 rfl rfl)
theorem dX4_tells_95 : decode cX4_tells 95 = .ok (.iinc 4 1, 3) := dk_132 4 1 (dk_at dksX4_tells_4 3 rfl rfl)
theorem dX4_tells_98 : decode cX4_tells 98 = .ok (.goto (-67), 3) := dk_167 255 189 (dk_at dksX4_tells_4 6 rfl rfl)
theorem dX4_tells_101 : decode cX4_tells 101 = .ok (.iinc 3 1, 3) := dk_132 3 1 (dk_at dksX4_tells_4 9 rfl rfl)
theorem dX4_tells_104 : decode cX4_tells 104 = .ok (.goto (-84), 3) := dk_167 255 172 (dk_at dksX4_tells_4 12 rfl rfl)
theorem dX4_tells_107 : decode cX4_tells 107 = .ok (.iconst (-1), 1) := dk_2 (dk_at dksX4_tells_4 15 rfl rfl)
theorem dX4_tells_108 : decode cX4_tells 108 = .ok (.istore_n 3, 1) := dk_62 (dk_at dksX4_tells_4 16 rfl rfl)
theorem dX4_tells_109 : decode cX4_tells 109 = .ok (.iconst 0, 1) := dk_3 (dk_at dksX4_tells_4 17 rfl rfl)
theorem dX4_tells_110 : decode cX4_tells 110 = .ok (.istore 4, 2) := dk_54 4 (dk_at dksX4_tells_4 18 rfl rfl)
theorem dX4_tells_112 : decode cX4_tells 112 = .ok (.iconst 0, 1) := dk_3 (dk_at dksX4_tells_4 20 rfl rfl)
theorem dX4_tells_113 : decode cX4_tells 113 = .ok (.istore 5, 2) := dk_54 5 (dk_at dksX4_tells_4 21 rfl rfl)
theorem dX4_tells_115 : decode cX4_tells 115 = .ok (.iload 5, 2) := dk_21 5 (dk_at dksX4_tells_5 0 rfl rfl)
theorem dX4_tells_117 : decode cX4_tells 117 = .ok (.bipush 30, 2) := dk_16 30 (dk_at dksX4_tells_5 2 rfl rfl)
theorem dX4_tells_119 : decode cX4_tells 119 = .ok (.if_icmp .ge 119, 3) := dk_162 0 119 (dk_at dksX4_tells_5 4 rfl rfl)
theorem dX4_tells_122 : decode cX4_tells 122 = .ok (.iconst 0, 1) := dk_3 (dk_at dksX4_tells_5 7 rfl rfl)
theorem dX4_tells_123 : decode cX4_tells 123 = .ok (.istore 6, 2) := dk_54 6 (dk_at dksX4_tells_5 8 rfl rfl)
theorem dX4_tells_125 : decode cX4_tells 125 = .ok (.iconst 0, 1) := dk_3 (dk_at dksX4_tells_5 10 rfl rfl)
theorem dX4_tells_126 : decode cX4_tells 126 = .ok (.istore 7, 2) := dk_54 7 (dk_at dksX4_tells_5 11 rfl rfl)
theorem dX4_tells_128 : decode cX4_tells 128 = .ok (.iload 7, 2) := dk_21 7 (dk_at dksX4_tells_5 13 rfl rfl)
theorem dX4_tells_130 : decode cX4_tells 130 = .ok (.iload_n 2, 1) := dk_28 (dk_at dksX4_tells_5 15 rfl rfl)
theorem dX4_tells_131 : decode cX4_tells 131 = .ok (.if_icmp .ge 84, 3) := dk_162 0 84 (dk_at dksX4_tells_5 16 rfl rfl)
theorem dX4_tells_134 : decode cX4_tells 134 = .ok (.iconst 1, 1) := dk_4 (dk_at dksX4_tells_5 19 rfl rfl)
theorem dX4_tells_135 : decode cX4_tells 135 = .ok (.istore 8, 2) := dk_54 8 (dk_at dksX4_tells_5 20 rfl rfl)
theorem dX4_tells_137 : decode cX4_tells 137 = .ok (.iconst 0, 1) := dk_3 (dk_at dksX4_tells_5 22 rfl rfl)
theorem dX4_tells_138 : decode cX4_tells 138 = .ok (.istore 9, 2) := dk_54 9 (dk_at dksX4_tells_6 0 rfl rfl)
theorem dX4_tells_140 : decode cX4_tells 140 = .ok (.iload 9, 2) := dk_21 9 (dk_at dksX4_tells_6 2 rfl rfl)
theorem dX4_tells_142 : decode cX4_tells 142 = .ok (.iload 7, 2) := dk_21 7 (dk_at dksX4_tells_6 4 rfl rfl)
theorem dX4_tells_144 : decode cX4_tells 144 = .ok (.if_icmp .ge 50, 3) := dk_162 0 50 (dk_at dksX4_tells_6 6 rfl rfl)
theorem dX4_tells_147 : decode cX4_tells 147 = .ok (.iload 8, 2) := dk_21 8 (dk_at dksX4_tells_6 9 rfl rfl)
theorem dX4_tells_149 : decode cX4_tells 149 = .ok (.ifCond .eq 45, 3) := dk_153 0 45 (dk_at dksX4_tells_6 11 rfl rfl)
theorem dX4_tells_152 : decode cX4_tells 152 = .ok (.aload_n 0, 1) := dk_42 (dk_at dksX4_tells_6 14 rfl rfl)
theorem dX4_tells_153 : decode cX4_tells 153 = .ok (.getfield 153, 3) := dk_180 0 153 (dk_at dksX4_tells_6 15 rfl rfl)
theorem dX4_tells_156 : decode cX4_tells 156 = .ok (.bipush 30, 2) := dk_16 30 (dk_at dksX4_tells_6 18 rfl rfl)
theorem dX4_tells_158 : decode cX4_tells 158 = .ok (.iload 7, 2) := dk_21 7 (dk_at dksX4_tells_6 20 rfl rfl)
theorem dX4_tells_160 : decode cX4_tells 160 = .ok (.imul, 1) := dk_104 (dk_at dksX4_tells_6 22 rfl rfl)
theorem dX4_tells_161 : decode cX4_tells 161 = .ok (.iload 5, 2) := dk_21 5 (dk_at dksX4_tells_7 0 rfl rfl)
theorem dX4_tells_163 : decode cX4_tells 163 = .ok (.iadd, 1) := dk_96 (dk_at dksX4_tells_7 2 rfl rfl)
theorem dX4_tells_164 : decode cX4_tells 164 = .ok (.iaload, 1) := dk_46 (dk_at dksX4_tells_7 3 rfl rfl)
theorem dX4_tells_165 : decode cX4_tells 165 = .ok (.aload_n 0, 1) := dk_42 (dk_at dksX4_tells_7 4 rfl rfl)
theorem dX4_tells_166 : decode cX4_tells 166 = .ok (.getfield 153, 3) := dk_180 0 153 (dk_at dksX4_tells_7 5 rfl rfl)
theorem dX4_tells_169 : decode cX4_tells 169 = .ok (.bipush 30, 2) := dk_16 30 (dk_at dksX4_tells_7 8 rfl rfl)
theorem dX4_tells_171 : decode cX4_tells 171 = .ok (.iload 9, 2) := dk_21 9 (dk_at dksX4_tells_7 10 rfl rfl)
theorem dX4_tells_173 : decode cX4_tells 173 = .ok (.imul, 1) := dk_104 (dk_at dksX4_tells_7 12 rfl rfl)
theorem dX4_tells_174 : decode cX4_tells 174 = .ok (.iload 5, 2) := dk_21 5 (dk_at dksX4_tells_7 13 rfl rfl)
theorem dX4_tells_176 : decode cX4_tells 176 = .ok (.iadd, 1) := dk_96 (dk_at dksX4_tells_7 15 rfl rfl)
theorem dX4_tells_177 : decode cX4_tells 177 = .ok (.iaload, 1) := dk_46 (dk_at dksX4_tells_7 16 rfl rfl)
theorem dX4_tells_178 : decode cX4_tells 178 = .ok (.if_icmp .eq 7, 3) := dk_159 0 7 (dk_at dksX4_tells_7 17 rfl rfl)
theorem dX4_tells_181 : decode cX4_tells 181 = .ok (.iconst 1, 1) := dk_4 (dk_at dksX4_tells_7 20 rfl rfl)
theorem dX4_tells_182 : decode cX4_tells 182 = .ok (.goto 4, 3) := dk_167 0 4 (dk_at dksX4_tells_7 21 rfl rfl)
theorem dX4_tells_185 : decode cX4_tells 185 = .ok (.iconst 0, 1) := dk_3 (dk_at dksX4_tells_8 0 rfl rfl)
theorem dX4_tells_186 : decode cX4_tells 186 = .ok (.istore 8, 2) := dk_54 8 (dk_at dksX4_tells_8 1 rfl rfl)
theorem dX4_tells_188 : decode cX4_tells 188 = .ok (.iinc 9 1, 3) := dk_132 9 1 (dk_at dksX4_tells_8 3 rfl rfl)
theorem dX4_tells_191 : decode cX4_tells 191 = .ok (.goto (-51), 3) := dk_167 255 205 (dk_at dksX4_tells_8 6 rfl rfl)
theorem dX4_tells_194 : decode cX4_tells 194 = .ok (.iload 6, 2) := dk_21 6 (dk_at dksX4_tells_8 9 rfl rfl)
theorem dX4_tells_196 : decode cX4_tells 196 = .ok (.iload 8, 2) := dk_21 8 (dk_at dksX4_tells_8 11 rfl rfl)
theorem dX4_tells_198 : decode cX4_tells 198 = .ok (.ifCond .eq 7, 3) := dk_153 0 7 (dk_at dksX4_tells_8 13 rfl rfl)
theorem dX4_tells_201 : decode cX4_tells 201 = .ok (.iconst 1, 1) := dk_4 (dk_at dksX4_tells_8 16 rfl rfl)
theorem dX4_tells_202 : decode cX4_tells 202 = .ok (.goto 4, 3) := dk_167 0 4 (dk_at dksX4_tells_8 17 rfl rfl)
theorem dX4_tells_205 : decode cX4_tells 205 = .ok (.iconst 0, 1) := dk_3 (dk_at dksX4_tells_8 20 rfl rfl)
theorem dX4_tells_206 : decode cX4_tells 206 = .ok (.iadd, 1) := dk_96 (dk_at dksX4_tells_8 21 rfl rfl)
theorem dX4_tells_207 : decode cX4_tells 207 = .ok (.istore 6, 2) := dk_54 6 (dk_at dksX4_tells_8 22 rfl rfl)
theorem dX4_tells_209 : decode cX4_tells 209 = .ok (.iinc 7 1, 3) := dk_132 7 1 (dk_at dksX4_tells_9 0 rfl rfl)
theorem dX4_tells_212 : decode cX4_tells 212 = .ok (.goto (-84), 3) := dk_167 255 172 (dk_at dksX4_tells_9 3 rfl rfl)
theorem dX4_tells_215 : decode cX4_tells 215 = .ok (.iload 6, 2) := dk_21 6 (dk_at dksX4_tells_9 6 rfl rfl)
theorem dX4_tells_217 : decode cX4_tells 217 = .ok (.iload 4, 2) := dk_21 4 (dk_at dksX4_tells_9 8 rfl rfl)
theorem dX4_tells_219 : decode cX4_tells 219 = .ok (.if_icmp .gt 6, 3) := dk_163 0 6 (dk_at dksX4_tells_9 10 rfl rfl)
theorem dX4_tells_222 : decode cX4_tells 222 = .ok (.goto 10, 3) := dk_167 0 10 (dk_at dksX4_tells_9 13 rfl rfl)
theorem dX4_tells_225 : decode cX4_tells 225 = .ok (.iload 5, 2) := dk_21 5 (dk_at dksX4_tells_9 16 rfl rfl)
theorem dX4_tells_227 : decode cX4_tells 227 = .ok (.istore_n 3, 1) := dk_62 (dk_at dksX4_tells_9 18 rfl rfl)
theorem dX4_tells_228 : decode cX4_tells 228 = .ok (.iload 6, 2) := dk_21 6 (dk_at dksX4_tells_9 19 rfl rfl)
theorem dX4_tells_230 : decode cX4_tells 230 = .ok (.istore 4, 2) := dk_54 4 (dk_at dksX4_tells_9 21 rfl rfl)
theorem dX4_tells_232 : decode cX4_tells 232 = .ok (.iinc 5 1, 3) := dk_132 5 1 (dk_at dksX4_tells_10 0 rfl rfl)
theorem dX4_tells_235 : decode cX4_tells 235 = .ok (.goto (-120), 3) := dk_167 255 136 (dk_at dksX4_tells_10 3 rfl rfl)
theorem dX4_tells_238 : decode cX4_tells 238 = .ok (.iload_n 1, 1) := dk_27 (dk_at dksX4_tells_10 6 rfl rfl)
theorem dX4_tells_239 : decode cX4_tells 239 = .ok (.ifCond .ne 7, 3) := dk_154 0 7 (dk_at dksX4_tells_10 7 rfl rfl)
theorem dX4_tells_242 : decode cX4_tells 242 = .ok (.iload_n 3, 1) := dk_29 (dk_at dksX4_tells_10 10 rfl rfl)
theorem dX4_tells_243 : decode cX4_tells 243 = .ok (.goto 5, 3) := dk_167 0 5 (dk_at dksX4_tells_10 11 rfl rfl)
theorem dX4_tells_246 : decode cX4_tells 246 = .ok (.iload 4, 2) := dk_21 4 (dk_at dksX4_tells_10 14 rfl rfl)
theorem dX4_tells_248 : decode cX4_tells 248 = .ok (.ireturn, 1) := dk_172 (dk_at dksX4_tells_10 16 rfl rfl)
abbrev cX4_roll : ByteArray := prog_13_method_109_code
def yX4_roll : MethodName := ⟨RX4, "roll", "(I)I"⟩
def dkwX4_roll_5 : List UInt8 := [21, 4, 27, 160, 0, 7, 29, 167, 0, 4, 28, 61, 132, 3, 1, 167, 255, 152, 28, 172]
abbrev dktX4_roll_5 : List UInt8 := dkwX4_roll_5 ++ []
def dkwX4_roll_4 : List UInt8 := [160, 0, 13, 42, 180, 0, 26, 21, 5, 46, 167, 0, 4, 3, 96, 54, 4, 132, 5, 1, 167, 255, 218]
abbrev dktX4_roll_4 : List UInt8 := dkwX4_roll_4 ++ dktX4_roll_5
def dkwX4_roll_3 : List UInt8 := [54, 4, 3, 54, 5, 21, 5, 42, 180, 1, 100, 162, 0, 35, 21, 4, 29, 21, 5, 122, 4, 126, 4]
abbrev dktX4_roll_3 : List UInt8 := dkwX4_roll_3 ++ dktX4_roll_4
def dkwX4_roll_2 : List UInt8 := [154, 0, 81, 28, 2, 159, 0, 17, 29, 184, 1, 134, 28, 184, 1, 134, 161, 0, 6, 167, 0, 62, 3]
abbrev dktX4_roll_2 : List UInt8 := dkwX4_roll_2 ++ dktX4_roll_3
def dkwX4_roll_1 : List UInt8 := [61, 3, 62, 29, 42, 180, 0, 93, 4, 46, 163, 0, 100, 29, 42, 180, 0, 93, 4, 46, 2, 130, 126]
abbrev dktX4_roll_1 : List UInt8 := dkwX4_roll_1 ++ dktX4_roll_2
def dkwX4_roll_0 : List UInt8 := [42, 3, 181, 0, 168, 42, 27, 3, 17, 3, 231, 184, 1, 193, 4, 182, 1, 84, 154, 0, 5, 3, 172, 2]
abbrev dktX4_roll_0 : List UInt8 := dkwX4_roll_0 ++ dktX4_roll_1
theorem dksX4_roll_0 : cX4_roll.data.toList.drop 0 = dktX4_roll_0 := by decide +kernel
theorem dksX4_roll_1 : cX4_roll.data.toList.drop 24 = dktX4_roll_1 := dk_seg dksX4_roll_0 24 rfl rfl
theorem dksX4_roll_2 : cX4_roll.data.toList.drop 47 = dktX4_roll_2 := dk_seg dksX4_roll_1 23 rfl rfl
theorem dksX4_roll_3 : cX4_roll.data.toList.drop 70 = dktX4_roll_3 := dk_seg dksX4_roll_2 23 rfl rfl
theorem dksX4_roll_4 : cX4_roll.data.toList.drop 93 = dktX4_roll_4 := dk_seg dksX4_roll_3 23 rfl rfl
theorem dksX4_roll_5 : cX4_roll.data.toList.drop 116 = dktX4_roll_5 := dk_seg dksX4_roll_4 23 rfl rfl
theorem dX4_roll_0 : decode cX4_roll 0 = .ok (.aload_n 0, 1) := dk_42 (dk_at dksX4_roll_0 0 rfl rfl)
theorem dX4_roll_1 : decode cX4_roll 1 = .ok (.iconst 0, 1) := dk_3 (dk_at dksX4_roll_0 1 rfl rfl)
theorem dX4_roll_2 : decode cX4_roll 2 = .ok (.putfield 168, 3) := dk_181 0 168 (dk_at dksX4_roll_0 2 rfl rfl)
theorem dX4_roll_5 : decode cX4_roll 5 = .ok (.aload_n 0, 1) := dk_42 (dk_at dksX4_roll_0 5 rfl rfl)
theorem dX4_roll_6 : decode cX4_roll 6 = .ok (.iload_n 1, 1) := dk_27 (dk_at dksX4_roll_0 6 rfl rfl)
theorem dX4_roll_7 : decode cX4_roll 7 = .ok (.iconst 0, 1) := dk_3 (dk_at dksX4_roll_0 7 rfl rfl)
theorem dX4_roll_8 : decode cX4_roll 8 = .ok (.sipush 999, 3) := dk_17 3 231 (dk_at dksX4_roll_0 8 rfl rfl)
theorem dX4_roll_11 : decode cX4_roll 11 = .ok (.invokestatic 449, 3) := dk_184 1 193 (dk_at dksX4_roll_0 11 rfl rfl)
theorem dX4_roll_14 : decode cX4_roll 14 = .ok (.iconst 1, 1) := dk_4 (dk_at dksX4_roll_0 14 rfl rfl)
theorem dX4_roll_15 : decode cX4_roll 15 = .ok (.invokevirtual 340, 3) := dk_182 1 84 (dk_at dksX4_roll_0 15 rfl rfl)
theorem dX4_roll_18 : decode cX4_roll 18 = .ok (.ifCond .ne 5, 3) := dk_154 0 5 (dk_at dksX4_roll_0 18 rfl rfl)
theorem dX4_roll_21 : decode cX4_roll 21 = .ok (.iconst 0, 1) := dk_3 (dk_at dksX4_roll_0 21 rfl rfl)
theorem dX4_roll_22 : decode cX4_roll 22 = .ok (.ireturn, 1) := dk_172 (dk_at dksX4_roll_0 22 rfl rfl)
theorem dX4_roll_23 : decode cX4_roll 23 = .ok (.iconst (-1), 1) := dk_2 (dk_at dksX4_roll_0 23 rfl rfl)
theorem dX4_roll_24 : decode cX4_roll 24 = .ok (.istore_n 2, 1) := dk_61 (dk_at dksX4_roll_1 0 rfl rfl)
theorem dX4_roll_25 : decode cX4_roll 25 = .ok (.iconst 0, 1) := dk_3 (dk_at dksX4_roll_1 1 rfl rfl)
theorem dX4_roll_26 : decode cX4_roll 26 = .ok (.istore_n 3, 1) := dk_62 (dk_at dksX4_roll_1 2 rfl rfl)
theorem dX4_roll_27 : decode cX4_roll 27 = .ok (.iload_n 3, 1) := dk_29 (dk_at dksX4_roll_1 3 rfl rfl)
theorem dX4_roll_28 : decode cX4_roll 28 = .ok (.aload_n 0, 1) := dk_42 (dk_at dksX4_roll_1 4 rfl rfl)
theorem dX4_roll_29 : decode cX4_roll 29 = .ok (.getfield 93, 3) := dk_180 0 93 (dk_at dksX4_roll_1 5 rfl rfl)
theorem dX4_roll_32 : decode cX4_roll 32 = .ok (.iconst 1, 1) := dk_4 (dk_at dksX4_roll_1 8 rfl rfl)
theorem dX4_roll_33 : decode cX4_roll 33 = .ok (.iaload, 1) := dk_46 (dk_at dksX4_roll_1 9 rfl rfl)
theorem dX4_roll_34 : decode cX4_roll 34 = .ok (.if_icmp .gt 100, 3) := dk_163 0 100 (dk_at dksX4_roll_1 10 rfl rfl)
theorem dX4_roll_37 : decode cX4_roll 37 = .ok (.iload_n 3, 1) := dk_29 (dk_at dksX4_roll_1 13 rfl rfl)
theorem dX4_roll_38 : decode cX4_roll 38 = .ok (.aload_n 0, 1) := dk_42 (dk_at dksX4_roll_1 14 rfl rfl)
theorem dX4_roll_39 : decode cX4_roll 39 = .ok (.getfield 93, 3) := dk_180 0 93 (dk_at dksX4_roll_1 15 rfl rfl)
theorem dX4_roll_42 : decode cX4_roll 42 = .ok (.iconst 1, 1) := dk_4 (dk_at dksX4_roll_1 18 rfl rfl)
theorem dX4_roll_43 : decode cX4_roll 43 = .ok (.iaload, 1) := dk_46 (dk_at dksX4_roll_1 19 rfl rfl)
theorem dX4_roll_44 : decode cX4_roll 44 = .ok (.iconst (-1), 1) := dk_2 (dk_at dksX4_roll_1 20 rfl rfl)
theorem dX4_roll_45 : decode cX4_roll 45 = .ok (.ixor, 1) := dk_130 (dk_at dksX4_roll_1 21 rfl rfl)
theorem dX4_roll_46 : decode cX4_roll 46 = .ok (.iand, 1) := dk_126 (dk_at dksX4_roll_1 22 rfl rfl)
theorem dX4_roll_47 : decode cX4_roll 47 = .ok (.ifCond .ne 81, 3) := dk_154 0 81 (dk_at dksX4_roll_2 0 rfl rfl)
theorem dX4_roll_50 : decode cX4_roll 50 = .ok (.iload_n 2, 1) := dk_28 (dk_at dksX4_roll_2 3 rfl rfl)
theorem dX4_roll_51 : decode cX4_roll 51 = .ok (.iconst (-1), 1) := dk_2 (dk_at dksX4_roll_2 4 rfl rfl)
theorem dX4_roll_52 : decode cX4_roll 52 = .ok (.if_icmp .eq 17, 3) := dk_159 0 17 (dk_at dksX4_roll_2 5 rfl rfl)
theorem dX4_roll_55 : decode cX4_roll 55 = .ok (.iload_n 3, 1) := dk_29 (dk_at dksX4_roll_2 8 rfl rfl)
theorem dX4_roll_56 : decode cX4_roll 56 = .ok (.invokestatic 390, 3) := dk_184 1 134 (dk_at dksX4_roll_2 9 rfl rfl)
theorem dX4_roll_59 : decode cX4_roll 59 = .ok (.iload_n 2, 1) := dk_28 (dk_at dksX4_roll_2 12 rfl rfl)
theorem dX4_roll_60 : decode cX4_roll 60 = .ok (.invokestatic 390, 3) := dk_184 1 134 (dk_at dksX4_roll_2 13 rfl rfl)
theorem dX4_roll_63 : decode cX4_roll 63 = .ok (.if_icmp .lt 6, 3) := dk_161 0 6 (dk_at dksX4_roll_2 16 rfl rfl)
theorem dX4_roll_66 : decode cX4_roll 66 = .ok (.goto 62, 3) := dk_167 0 62 (dk_at dksX4_roll_2 19 rfl rfl)
theorem dX4_roll_69 : decode cX4_roll 69 = .ok (.iconst 0, 1) := dk_3 (dk_at dksX4_roll_2 22 rfl rfl)
theorem dX4_roll_70 : decode cX4_roll 70 = .ok (.istore 4, 2) := dk_54 4 (dk_at dksX4_roll_3 0 rfl rfl)
theorem dX4_roll_72 : decode cX4_roll 72 = .ok (.iconst 0, 1) := dk_3 (dk_at dksX4_roll_3 2 rfl rfl)
theorem dX4_roll_73 : decode cX4_roll 73 = .ok (.istore 5, 2) := dk_54 5 (dk_at dksX4_roll_3 3 rfl rfl)
theorem dX4_roll_75 : decode cX4_roll 75 = .ok (.iload 5, 2) := dk_21 5 (dk_at dksX4_roll_3 5 rfl rfl)
theorem dX4_roll_77 : decode cX4_roll 77 = .ok (.aload_n 0, 1) := dk_42 (dk_at dksX4_roll_3 7 rfl rfl)
theorem dX4_roll_78 : decode cX4_roll 78 = .ok (.getfield 356, 3) := dk_180 1 100 (dk_at dksX4_roll_3 8 rfl rfl)
theorem dX4_roll_81 : decode cX4_roll 81 = .ok (.if_icmp .ge 35, 3) := dk_162 0 35 (dk_at dksX4_roll_3 11 rfl rfl)
theorem dX4_roll_84 : decode cX4_roll 84 = .ok (.iload 4, 2) := dk_21 4 (dk_at dksX4_roll_3 14 rfl rfl)
theorem dX4_roll_86 : decode cX4_roll 86 = .ok (.iload_n 3, 1) := dk_29 (dk_at dksX4_roll_3 16 rfl rfl)
theorem dX4_roll_87 : decode cX4_roll 87 = .ok (.iload 5, 2) := dk_21 5 (dk_at dksX4_roll_3 17 rfl rfl)
theorem dX4_roll_89 : decode cX4_roll 89 = .ok (.ishr, 1) := dk_122 (dk_at dksX4_roll_3 19 rfl rfl)
theorem dX4_roll_90 : decode cX4_roll 90 = .ok (.iconst 1, 1) := dk_4 (dk_at dksX4_roll_3 20 rfl rfl)
theorem dX4_roll_91 : decode cX4_roll 91 = .ok (.iand, 1) := dk_126 (dk_at dksX4_roll_3 21 rfl rfl)
theorem dX4_roll_92 : decode cX4_roll 92 = .ok (.iconst 1, 1) := dk_4 (dk_at dksX4_roll_3 22 rfl rfl)
theorem dX4_roll_93 : decode cX4_roll 93 = .ok (.if_icmp .ne 13, 3) := dk_160 0 13 (dk_at dksX4_roll_4 0 rfl rfl)
theorem dX4_roll_96 : decode cX4_roll 96 = .ok (.aload_n 0, 1) := dk_42 (dk_at dksX4_roll_4 3 rfl rfl)
theorem dX4_roll_97 : decode cX4_roll 97 = .ok (.getfield 26, 3) := dk_180 0 26 (dk_at dksX4_roll_4 4 rfl rfl)
theorem dX4_roll_100 : decode cX4_roll 100 = .ok (.iload 5, 2) := dk_21 5 (dk_at dksX4_roll_4 7 rfl rfl)
theorem dX4_roll_102 : decode cX4_roll 102 = .ok (.iaload, 1) := dk_46 (dk_at dksX4_roll_4 9 rfl rfl)
theorem dX4_roll_103 : decode cX4_roll 103 = .ok (.goto 4, 3) := dk_167 0 4 (dk_at dksX4_roll_4 10 rfl rfl)
theorem dX4_roll_106 : decode cX4_roll 106 = .ok (.iconst 0, 1) := dk_3 (dk_at dksX4_roll_4 13 rfl rfl)
theorem dX4_roll_107 : decode cX4_roll 107 = .ok (.iadd, 1) := dk_96 (dk_at dksX4_roll_4 14 rfl rfl)
theorem dX4_roll_108 : decode cX4_roll 108 = .ok (.istore 4, 2) := dk_54 4 (dk_at dksX4_roll_4 15 rfl rfl)
theorem dX4_roll_110 : decode cX4_roll 110 = .ok (.iinc 5 1, 3) := dk_132 5 1 (dk_at dksX4_roll_4 17 rfl rfl)
theorem dX4_roll_113 : decode cX4_roll 113 = .ok (.goto (-38), 3) := dk_167 255 218 (dk_at dksX4_roll_4 20 rfl rfl)
theorem dX4_roll_116 : decode cX4_roll 116 = .ok (.iload 4, 2) := dk_21 4 (dk_at dksX4_roll_5 0 rfl rfl)
theorem dX4_roll_118 : decode cX4_roll 118 = .ok (.iload_n 1, 1) := dk_27 (dk_at dksX4_roll_5 2 rfl rfl)
theorem dX4_roll_119 : decode cX4_roll 119 = .ok (.if_icmp .ne 7, 3) := dk_160 0 7 (dk_at dksX4_roll_5 3 rfl rfl)
theorem dX4_roll_122 : decode cX4_roll 122 = .ok (.iload_n 3, 1) := dk_29 (dk_at dksX4_roll_5 6 rfl rfl)
theorem dX4_roll_123 : decode cX4_roll 123 = .ok (.goto 4, 3) := dk_167 0 4 (dk_at dksX4_roll_5 7 rfl rfl)
theorem dX4_roll_126 : decode cX4_roll 126 = .ok (.iload_n 2, 1) := dk_28 (dk_at dksX4_roll_5 10 rfl rfl)
theorem dX4_roll_127 : decode cX4_roll 127 = .ok (.istore_n 2, 1) := dk_61 (dk_at dksX4_roll_5 11 rfl rfl)
theorem dX4_roll_128 : decode cX4_roll 128 = .ok (.iinc 3 1, 3) := dk_132 3 1 (dk_at dksX4_roll_5 12 rfl rfl)
theorem dX4_roll_131 : decode cX4_roll 131 = .ok (.goto (-104), 3) := dk_167 255 152 (dk_at dksX4_roll_5 15 rfl rfl)
theorem dX4_roll_134 : decode cX4_roll 134 = .ok (.iload_n 2, 1) := dk_28 (dk_at dksX4_roll_5 18 rfl rfl)
theorem dX4_roll_135 : decode cX4_roll 135 = .ok (.ireturn, 1) := dk_172 (dk_at dksX4_roll_5 19 rfl rfl)
abbrev cX4_bargain : ByteArray := prog_13_method_112_code
def yX4_bargain : MethodName := ⟨RX4, "bargain", "(III)I"⟩
def dkwX4_bargain_9 : List UInt8 := [132, 8, 1, 167, 255, 134, 29, 154, 0, 8, 21, 6, 167, 0, 5, 21, 7, 172]
abbrev dktX4_bargain_9 : List UInt8 := dkwX4_bargain_9 ++ []
def dkwX4_bargain_8 : List UInt8 := [167, 0, 22, 132, 6, 1, 21, 7, 2, 160, 0, 13, 16, 10, 21, 9, 104, 21, 10, 96, 54, 7]
abbrev dktX4_bargain_8 : List UInt8 := dkwX4_bargain_8 ++ dktX4_bargain_9
def dkwX4_bargain_7 : List UInt8 := [27, 4, 21, 10, 100, 21, 9, 182, 2, 2, 42, 28, 27, 21, 10, 21, 9, 182, 2, 2, 164, 0, 6]
abbrev dktX4_bargain_7 : List UInt8 := dkwX4_bargain_7 ++ dktX4_bargain_8
def dkwX4_bargain_6 : List UInt8 := [182, 2, 2, 42, 27, 28, 21, 9, 21, 10, 182, 2, 2, 163, 0, 56, 21, 5, 4, 160, 0, 31, 42, 28]
abbrev dktX4_bargain_6 : List UInt8 := dkwX4_bargain_6 ++ dktX4_bargain_7
def dkwX4_bargain_5 : List UInt8 := [21, 5, 164, 0, 6, 167, 0, 87, 21, 4, 4, 160, 0, 28, 42, 27, 28, 4, 21, 9, 100, 21, 10]
abbrev dktX4_bargain_5 : List UInt8 := dkwX4_bargain_5 ++ dktX4_bargain_6
def dkwX4_bargain_4 : List UInt8 := [162, 0, 122, 21, 8, 5, 108, 54, 9, 21, 8, 5, 112, 54, 10, 21, 9, 21, 4, 163, 0, 97, 21, 10]
abbrev dktX4_bargain_4 : List UInt8 := dkwX4_bargain_4 ++ dktX4_bargain_5
def dkwX4_bargain_3 : List UInt8 := [160, 0, 7, 3, 167, 0, 4, 4, 54, 5, 3, 54, 6, 2, 54, 7, 3, 54, 8, 21, 8, 7]
abbrev dktX4_bargain_3 : List UInt8 := dkwX4_bargain_3 ++ dktX4_bargain_4
def dkwX4_bargain_2 : List UInt8 := [3, 172, 42, 27, 182, 1, 255, 2, 160, 0, 7, 3, 167, 0, 4, 4, 54, 4, 42, 28, 182, 1, 255, 2]
abbrev dktX4_bargain_2 : List UInt8 := dkwX4_bargain_2 ++ dktX4_bargain_3
def dkwX4_bargain_1 : List UInt8 := [182, 1, 206, 153, 0, 21, 42, 27, 28, 159, 0, 7, 4, 167, 0, 4, 3, 5, 182, 1, 84, 154, 0, 5]
abbrev dktX4_bargain_1 : List UInt8 := dkwX4_bargain_1 ++ dktX4_bargain_2
def dkwX4_bargain_0 : List UInt8 := [42, 3, 181, 0, 168, 42, 27, 182, 1, 203, 153, 0, 38, 42, 28, 182, 1, 203, 153, 0, 30, 42, 29, 4]
abbrev dktX4_bargain_0 : List UInt8 := dkwX4_bargain_0 ++ dktX4_bargain_1
theorem dksX4_bargain_0 : cX4_bargain.data.toList.drop 0 = dktX4_bargain_0 := by decide +kernel
theorem dksX4_bargain_1 : cX4_bargain.data.toList.drop 24 = dktX4_bargain_1 := dk_seg dksX4_bargain_0 24 rfl rfl
theorem dksX4_bargain_2 : cX4_bargain.data.toList.drop 48 = dktX4_bargain_2 := dk_seg dksX4_bargain_1 24 rfl rfl
theorem dksX4_bargain_3 : cX4_bargain.data.toList.drop 72 = dktX4_bargain_3 := dk_seg dksX4_bargain_2 24 rfl rfl
theorem dksX4_bargain_4 : cX4_bargain.data.toList.drop 94 = dktX4_bargain_4 := dk_seg dksX4_bargain_3 22 rfl rfl
theorem dksX4_bargain_5 : cX4_bargain.data.toList.drop 118 = dktX4_bargain_5 := dk_seg dksX4_bargain_4 24 rfl rfl
theorem dksX4_bargain_6 : cX4_bargain.data.toList.drop 141 = dktX4_bargain_6 := dk_seg dksX4_bargain_5 23 rfl rfl
theorem dksX4_bargain_7 : cX4_bargain.data.toList.drop 165 = dktX4_bargain_7 := dk_seg dksX4_bargain_6 24 rfl rfl
theorem dksX4_bargain_8 : cX4_bargain.data.toList.drop 188 = dktX4_bargain_8 := dk_seg dksX4_bargain_7 23 rfl rfl
theorem dksX4_bargain_9 : cX4_bargain.data.toList.drop 210 = dktX4_bargain_9 := dk_seg dksX4_bargain_8 22 rfl rfl
theorem dX4_bargain_0 : decode cX4_bargain 0 = .ok (.aload_n 0, 1) := dk_42 (dk_at dksX4_bargain_0 0 rfl rfl)
theorem dX4_bargain_1 : decode cX4_bargain 1 = .ok (.iconst 0, 1) := dk_3 (dk_at dksX4_bargain_0 1 rfl rfl)
theorem dX4_bargain_2 : decode cX4_bargain 2 = .ok (.putfield 168, 3) := dk_181 0 168 (dk_at dksX4_bargain_0 2 rfl rfl)
theorem dX4_bargain_5 : decode cX4_bargain 5 = .ok (.aload_n 0, 1) := dk_42 (dk_at dksX4_bargain_0 5 rfl rfl)
theorem dX4_bargain_6 : decode cX4_bargain 6 = .ok (.iload_n 1, 1) := dk_27 (dk_at dksX4_bargain_0 6 rfl rfl)
theorem dX4_bargain_7 : decode cX4_bargain 7 = .ok (.invokevirtual 459, 3) := dk_182 1 203 (dk_at dksX4_bargain_0 7 rfl rfl)
theorem dX4_bargain_10 : decode cX4_bargain 10 = .ok (.ifCond .eq 38, 3) := dk_153 0 38 (dk_at dksX4_bargain_0 10 rfl rfl)
theorem dX4_bargain_13 : decode cX4_bargain 13 = .ok (.aload_n 0, 1) := dk_42 (dk_at dksX4_bargain_0 13 rfl rfl)
theorem dX4_bargain_14 : decode cX4_bargain 14 = .ok (.iload_n 2, 1) := dk_28 (dk_at dksX4_bargain_0 14 rfl rfl)
theorem dX4_bargain_15 : decode cX4_bargain 15 = .ok (.invokevirtual 459, 3) := dk_182 1 203 (dk_at dksX4_bargain_0 15 rfl rfl)
theorem dX4_bargain_18 : decode cX4_bargain 18 = .ok (.ifCond .eq 30, 3) := dk_153 0 30 (dk_at dksX4_bargain_0 18 rfl rfl)
theorem dX4_bargain_21 : decode cX4_bargain 21 = .ok (.aload_n 0, 1) := dk_42 (dk_at dksX4_bargain_0 21 rfl rfl)
theorem dX4_bargain_22 : decode cX4_bargain 22 = .ok (.iload_n 3, 1) := dk_29 (dk_at dksX4_bargain_0 22 rfl rfl)
theorem dX4_bargain_23 : decode cX4_bargain 23 = .ok (.iconst 1, 1) := dk_4 (dk_at dksX4_bargain_0 23 rfl rfl)
theorem dX4_bargain_24 : decode cX4_bargain 24 = .ok (.invokevirtual 462, 3) := dk_182 1 206 (dk_at dksX4_bargain_1 0 rfl rfl)
theorem dX4_bargain_27 : decode cX4_bargain 27 = .ok (.ifCond .eq 21, 3) := dk_153 0 21 (dk_at dksX4_bargain_1 3 rfl rfl)
theorem dX4_bargain_30 : decode cX4_bargain 30 = .ok (.aload_n 0, 1) := dk_42 (dk_at dksX4_bargain_1 6 rfl rfl)
theorem dX4_bargain_31 : decode cX4_bargain 31 = .ok (.iload_n 1, 1) := dk_27 (dk_at dksX4_bargain_1 7 rfl rfl)
theorem dX4_bargain_32 : decode cX4_bargain 32 = .ok (.iload_n 2, 1) := dk_28 (dk_at dksX4_bargain_1 8 rfl rfl)
theorem dX4_bargain_33 : decode cX4_bargain 33 = .ok (.if_icmp .eq 7, 3) := dk_159 0 7 (dk_at dksX4_bargain_1 9 rfl rfl)
theorem dX4_bargain_36 : decode cX4_bargain 36 = .ok (.iconst 1, 1) := dk_4 (dk_at dksX4_bargain_1 12 rfl rfl)
theorem dX4_bargain_37 : decode cX4_bargain 37 = .ok (.goto 4, 3) := dk_167 0 4 (dk_at dksX4_bargain_1 13 rfl rfl)
theorem dX4_bargain_40 : decode cX4_bargain 40 = .ok (.iconst 0, 1) := dk_3 (dk_at dksX4_bargain_1 16 rfl rfl)
theorem dX4_bargain_41 : decode cX4_bargain 41 = .ok (.iconst 2, 1) := dk_5 (dk_at dksX4_bargain_1 17 rfl rfl)
theorem dX4_bargain_42 : decode cX4_bargain 42 = .ok (.invokevirtual 340, 3) := dk_182 1 84 (dk_at dksX4_bargain_1 18 rfl rfl)
theorem dX4_bargain_45 : decode cX4_bargain 45 = .ok (.ifCond .ne 5, 3) := dk_154 0 5 (dk_at dksX4_bargain_1 21 rfl rfl)
theorem dX4_bargain_48 : decode cX4_bargain 48 = .ok (.iconst 0, 1) := dk_3 (dk_at dksX4_bargain_2 0 rfl rfl)
theorem dX4_bargain_49 : decode cX4_bargain 49 = .ok (.ireturn, 1) := dk_172 (dk_at dksX4_bargain_2 1 rfl rfl)
theorem dX4_bargain_50 : decode cX4_bargain 50 = .ok (.aload_n 0, 1) := dk_42 (dk_at dksX4_bargain_2 2 rfl rfl)
theorem dX4_bargain_51 : decode cX4_bargain 51 = .ok (.iload_n 1, 1) := dk_27 (dk_at dksX4_bargain_2 3 rfl rfl)
theorem dX4_bargain_52 : decode cX4_bargain 52 = .ok (.invokevirtual 511, 3) := dk_182 1 255 (dk_at dksX4_bargain_2 4 rfl rfl)
theorem dX4_bargain_55 : decode cX4_bargain 55 = .ok (.iconst (-1), 1) := dk_2 (dk_at dksX4_bargain_2 7 rfl rfl)
theorem dX4_bargain_56 : decode cX4_bargain 56 = .ok (.if_icmp .ne 7, 3) := dk_160 0 7 (dk_at dksX4_bargain_2 8 rfl rfl)
theorem dX4_bargain_59 : decode cX4_bargain 59 = .ok (.iconst 0, 1) := dk_3 (dk_at dksX4_bargain_2 11 rfl rfl)
theorem dX4_bargain_60 : decode cX4_bargain 60 = .ok (.goto 4, 3) := dk_167 0 4 (dk_at dksX4_bargain_2 12 rfl rfl)
theorem dX4_bargain_63 : decode cX4_bargain 63 = .ok (.iconst 1, 1) := dk_4 (dk_at dksX4_bargain_2 15 rfl rfl)
theorem dX4_bargain_64 : decode cX4_bargain 64 = .ok (.istore 4, 2) := dk_54 4 (dk_at dksX4_bargain_2 16 rfl rfl)
theorem dX4_bargain_66 : decode cX4_bargain 66 = .ok (.aload_n 0, 1) := dk_42 (dk_at dksX4_bargain_2 18 rfl rfl)
theorem dX4_bargain_67 : decode cX4_bargain 67 = .ok (.iload_n 2, 1) := dk_28 (dk_at dksX4_bargain_2 19 rfl rfl)
theorem dX4_bargain_68 : decode cX4_bargain 68 = .ok (.invokevirtual 511, 3) := dk_182 1 255 (dk_at dksX4_bargain_2 20 rfl rfl)
theorem dX4_bargain_71 : decode cX4_bargain 71 = .ok (.iconst (-1), 1) := dk_2 (dk_at dksX4_bargain_2 23 rfl rfl)
theorem dX4_bargain_72 : decode cX4_bargain 72 = .ok (.if_icmp .ne 7, 3) := dk_160 0 7 (dk_at dksX4_bargain_3 0 rfl rfl)
theorem dX4_bargain_75 : decode cX4_bargain 75 = .ok (.iconst 0, 1) := dk_3 (dk_at dksX4_bargain_3 3 rfl rfl)
theorem dX4_bargain_76 : decode cX4_bargain 76 = .ok (.goto 4, 3) := dk_167 0 4 (dk_at dksX4_bargain_3 4 rfl rfl)
theorem dX4_bargain_79 : decode cX4_bargain 79 = .ok (.iconst 1, 1) := dk_4 (dk_at dksX4_bargain_3 7 rfl rfl)
theorem dX4_bargain_80 : decode cX4_bargain 80 = .ok (.istore 5, 2) := dk_54 5 (dk_at dksX4_bargain_3 8 rfl rfl)
theorem dX4_bargain_82 : decode cX4_bargain 82 = .ok (.iconst 0, 1) := dk_3 (dk_at dksX4_bargain_3 10 rfl rfl)
theorem dX4_bargain_83 : decode cX4_bargain 83 = .ok (.istore 6, 2) := dk_54 6 (dk_at dksX4_bargain_3 11 rfl rfl)
theorem dX4_bargain_85 : decode cX4_bargain 85 = .ok (.iconst (-1), 1) := dk_2 (dk_at dksX4_bargain_3 13 rfl rfl)
theorem dX4_bargain_86 : decode cX4_bargain 86 = .ok (.istore 7, 2) := dk_54 7 (dk_at dksX4_bargain_3 14 rfl rfl)
theorem dX4_bargain_88 : decode cX4_bargain 88 = .ok (.iconst 0, 1) := dk_3 (dk_at dksX4_bargain_3 16 rfl rfl)
theorem dX4_bargain_89 : decode cX4_bargain 89 = .ok (.istore 8, 2) := dk_54 8 (dk_at dksX4_bargain_3 17 rfl rfl)
theorem dX4_bargain_91 : decode cX4_bargain 91 = .ok (.iload 8, 2) := dk_21 8 (dk_at dksX4_bargain_3 19 rfl rfl)
theorem dX4_bargain_93 : decode cX4_bargain 93 = .ok (.iconst 4, 1) := dk_7 (dk_at dksX4_bargain_3 21 rfl rfl)
theorem dX4_bargain_94 : decode cX4_bargain 94 = .ok (.if_icmp .ge 122, 3) := dk_162 0 122 (dk_at dksX4_bargain_4 0 rfl rfl)
theorem dX4_bargain_97 : decode cX4_bargain 97 = .ok (.iload 8, 2) := dk_21 8 (dk_at dksX4_bargain_4 3 rfl rfl)
theorem dX4_bargain_99 : decode cX4_bargain 99 = .ok (.iconst 2, 1) := dk_5 (dk_at dksX4_bargain_4 5 rfl rfl)
theorem dX4_bargain_100 : decode cX4_bargain 100 = .ok (.idiv, 1) := dk_108 (dk_at dksX4_bargain_4 6 rfl rfl)
theorem dX4_bargain_101 : decode cX4_bargain 101 = .ok (.istore 9, 2) := dk_54 9 (dk_at dksX4_bargain_4 7 rfl rfl)
theorem dX4_bargain_103 : decode cX4_bargain 103 = .ok (.iload 8, 2) := dk_21 8 (dk_at dksX4_bargain_4 9 rfl rfl)
theorem dX4_bargain_105 : decode cX4_bargain 105 = .ok (.iconst 2, 1) := dk_5 (dk_at dksX4_bargain_4 11 rfl rfl)
theorem dX4_bargain_106 : decode cX4_bargain 106 = .ok (.irem, 1) := dk_112 (dk_at dksX4_bargain_4 12 rfl rfl)
theorem dX4_bargain_107 : decode cX4_bargain 107 = .ok (.istore 10, 2) := dk_54 10 (dk_at dksX4_bargain_4 13 rfl rfl)
theorem dX4_bargain_109 : decode cX4_bargain 109 = .ok (.iload 9, 2) := dk_21 9 (dk_at dksX4_bargain_4 15 rfl rfl)
theorem dX4_bargain_111 : decode cX4_bargain 111 = .ok (.iload 4, 2) := dk_21 4 (dk_at dksX4_bargain_4 17 rfl rfl)
theorem dX4_bargain_113 : decode cX4_bargain 113 = .ok (.if_icmp .gt 97, 3) := dk_163 0 97 (dk_at dksX4_bargain_4 19 rfl rfl)
theorem dX4_bargain_116 : decode cX4_bargain 116 = .ok (.iload 10, 2) := dk_21 10 (dk_at dksX4_bargain_4 22 rfl rfl)
theorem dX4_bargain_118 : decode cX4_bargain 118 = .ok (.iload 5, 2) := dk_21 5 (dk_at dksX4_bargain_5 0 rfl rfl)
theorem dX4_bargain_120 : decode cX4_bargain 120 = .ok (.if_icmp .le 6, 3) := dk_164 0 6 (dk_at dksX4_bargain_5 2 rfl rfl)
theorem dX4_bargain_123 : decode cX4_bargain 123 = .ok (.goto 87, 3) := dk_167 0 87 (dk_at dksX4_bargain_5 5 rfl rfl)
theorem dX4_bargain_126 : decode cX4_bargain 126 = .ok (.iload 4, 2) := dk_21 4 (dk_at dksX4_bargain_5 8 rfl rfl)
theorem dX4_bargain_128 : decode cX4_bargain 128 = .ok (.iconst 1, 1) := dk_4 (dk_at dksX4_bargain_5 10 rfl rfl)
theorem dX4_bargain_129 : decode cX4_bargain 129 = .ok (.if_icmp .ne 28, 3) := dk_160 0 28 (dk_at dksX4_bargain_5 11 rfl rfl)
theorem dX4_bargain_132 : decode cX4_bargain 132 = .ok (.aload_n 0, 1) := dk_42 (dk_at dksX4_bargain_5 14 rfl rfl)
theorem dX4_bargain_133 : decode cX4_bargain 133 = .ok (.iload_n 1, 1) := dk_27 (dk_at dksX4_bargain_5 15 rfl rfl)
theorem dX4_bargain_134 : decode cX4_bargain 134 = .ok (.iload_n 2, 1) := dk_28 (dk_at dksX4_bargain_5 16 rfl rfl)
theorem dX4_bargain_135 : decode cX4_bargain 135 = .ok (.iconst 1, 1) := dk_4 (dk_at dksX4_bargain_5 17 rfl rfl)
theorem dX4_bargain_136 : decode cX4_bargain 136 = .ok (.iload 9, 2) := dk_21 9 (dk_at dksX4_bargain_5 18 rfl rfl)
theorem dX4_bargain_138 : decode cX4_bargain 138 = .ok (.isub, 1) := dk_100 (dk_at dksX4_bargain_5 20 rfl rfl)
theorem dX4_bargain_139 : decode cX4_bargain 139 = .ok (.iload 10, 2) := dk_21 10 (dk_at dksX4_bargain_5 21 rfl rfl)
theorem dX4_bargain_141 : decode cX4_bargain 141 = .ok (.invokevirtual 514, 3) := dk_182 2 2 (dk_at dksX4_bargain_6 0 rfl rfl)
theorem dX4_bargain_144 : decode cX4_bargain 144 = .ok (.aload_n 0, 1) := dk_42 (dk_at dksX4_bargain_6 3 rfl rfl)
theorem dX4_bargain_145 : decode cX4_bargain 145 = .ok (.iload_n 1, 1) := dk_27 (dk_at dksX4_bargain_6 4 rfl rfl)
theorem dX4_bargain_146 : decode cX4_bargain 146 = .ok (.iload_n 2, 1) := dk_28 (dk_at dksX4_bargain_6 5 rfl rfl)
theorem dX4_bargain_147 : decode cX4_bargain 147 = .ok (.iload 9, 2) := dk_21 9 (dk_at dksX4_bargain_6 6 rfl rfl)
theorem dX4_bargain_149 : decode cX4_bargain 149 = .ok (.iload 10, 2) := dk_21 10 (dk_at dksX4_bargain_6 8 rfl rfl)
theorem dX4_bargain_151 : decode cX4_bargain 151 = .ok (.invokevirtual 514, 3) := dk_182 2 2 (dk_at dksX4_bargain_6 10 rfl rfl)
theorem dX4_bargain_154 : decode cX4_bargain 154 = .ok (.if_icmp .gt 56, 3) := dk_163 0 56 (dk_at dksX4_bargain_6 13 rfl rfl)
theorem dX4_bargain_157 : decode cX4_bargain 157 = .ok (.iload 5, 2) := dk_21 5 (dk_at dksX4_bargain_6 16 rfl rfl)
theorem dX4_bargain_159 : decode cX4_bargain 159 = .ok (.iconst 1, 1) := dk_4 (dk_at dksX4_bargain_6 18 rfl rfl)
theorem dX4_bargain_160 : decode cX4_bargain 160 = .ok (.if_icmp .ne 31, 3) := dk_160 0 31 (dk_at dksX4_bargain_6 19 rfl rfl)
theorem dX4_bargain_163 : decode cX4_bargain 163 = .ok (.aload_n 0, 1) := dk_42 (dk_at dksX4_bargain_6 22 rfl rfl)
theorem dX4_bargain_164 : decode cX4_bargain 164 = .ok (.iload_n 2, 1) := dk_28 (dk_at dksX4_bargain_6 23 rfl rfl)
theorem dX4_bargain_165 : decode cX4_bargain 165 = .ok (.iload_n 1, 1) := dk_27 (dk_at dksX4_bargain_7 0 rfl rfl)
theorem dX4_bargain_166 : decode cX4_bargain 166 = .ok (.iconst 1, 1) := dk_4 (dk_at dksX4_bargain_7 1 rfl rfl)
theorem dX4_bargain_167 : decode cX4_bargain 167 = .ok (.iload 10, 2) := dk_21 10 (dk_at dksX4_bargain_7 2 rfl rfl)
theorem dX4_bargain_169 : decode cX4_bargain 169 = .ok (.isub, 1) := dk_100 (dk_at dksX4_bargain_7 4 rfl rfl)
theorem dX4_bargain_170 : decode cX4_bargain 170 = .ok (.iload 9, 2) := dk_21 9 (dk_at dksX4_bargain_7 5 rfl rfl)
theorem dX4_bargain_172 : decode cX4_bargain 172 = .ok (.invokevirtual 514, 3) := dk_182 2 2 (dk_at dksX4_bargain_7 7 rfl rfl)
theorem dX4_bargain_175 : decode cX4_bargain 175 = .ok (.aload_n 0, 1) := dk_42 (dk_at dksX4_bargain_7 10 rfl rfl)
theorem dX4_bargain_176 : decode cX4_bargain 176 = .ok (.iload_n 2, 1) := dk_28 (dk_at dksX4_bargain_7 11 rfl rfl)
theorem dX4_bargain_177 : decode cX4_bargain 177 = .ok (.iload_n 1, 1) := dk_27 (dk_at dksX4_bargain_7 12 rfl rfl)
theorem dX4_bargain_178 : decode cX4_bargain 178 = .ok (.iload 10, 2) := dk_21 10 (dk_at dksX4_bargain_7 13 rfl rfl)
theorem dX4_bargain_180 : decode cX4_bargain 180 = .ok (.iload 9, 2) := dk_21 9 (dk_at dksX4_bargain_7 15 rfl rfl)
theorem dX4_bargain_182 : decode cX4_bargain 182 = .ok (.invokevirtual 514, 3) := dk_182 2 2 (dk_at dksX4_bargain_7 17 rfl rfl)
theorem dX4_bargain_185 : decode cX4_bargain 185 = .ok (.if_icmp .le 6, 3) := dk_164 0 6 (dk_at dksX4_bargain_7 20 rfl rfl)
theorem dX4_bargain_188 : decode cX4_bargain 188 = .ok (.goto 22, 3) := dk_167 0 22 (dk_at dksX4_bargain_8 0 rfl rfl)
theorem dX4_bargain_191 : decode cX4_bargain 191 = .ok (.iinc 6 1, 3) := dk_132 6 1 (dk_at dksX4_bargain_8 3 rfl rfl)
theorem dX4_bargain_194 : decode cX4_bargain 194 = .ok (.iload 7, 2) := dk_21 7 (dk_at dksX4_bargain_8 6 rfl rfl)
theorem dX4_bargain_196 : decode cX4_bargain 196 = .ok (.iconst (-1), 1) := dk_2 (dk_at dksX4_bargain_8 8 rfl rfl)
theorem dX4_bargain_197 : decode cX4_bargain 197 = .ok (.if_icmp .ne 13, 3) := dk_160 0 13 (dk_at dksX4_bargain_8 9 rfl rfl)
theorem dX4_bargain_200 : decode cX4_bargain 200 = .ok (.bipush 10, 2) := dk_16 10 (dk_at dksX4_bargain_8 12 rfl rfl)
theorem dX4_bargain_202 : decode cX4_bargain 202 = .ok (.iload 9, 2) := dk_21 9 (dk_at dksX4_bargain_8 14 rfl rfl)
theorem dX4_bargain_204 : decode cX4_bargain 204 = .ok (.imul, 1) := dk_104 (dk_at dksX4_bargain_8 16 rfl rfl)
theorem dX4_bargain_205 : decode cX4_bargain 205 = .ok (.iload 10, 2) := dk_21 10 (dk_at dksX4_bargain_8 17 rfl rfl)
theorem dX4_bargain_207 : decode cX4_bargain 207 = .ok (.iadd, 1) := dk_96 (dk_at dksX4_bargain_8 19 rfl rfl)
theorem dX4_bargain_208 : decode cX4_bargain 208 = .ok (.istore 7, 2) := dk_54 7 (dk_at dksX4_bargain_8 20 rfl rfl)
theorem dX4_bargain_210 : decode cX4_bargain 210 = .ok (.iinc 8 1, 3) := dk_132 8 1 (dk_at dksX4_bargain_9 0 rfl rfl)
theorem dX4_bargain_213 : decode cX4_bargain 213 = .ok (.goto (-122), 3) := dk_167 255 134 (dk_at dksX4_bargain_9 3 rfl rfl)
theorem dX4_bargain_216 : decode cX4_bargain 216 = .ok (.iload_n 3, 1) := dk_29 (dk_at dksX4_bargain_9 6 rfl rfl)
theorem dX4_bargain_217 : decode cX4_bargain 217 = .ok (.ifCond .ne 8, 3) := dk_154 0 8 (dk_at dksX4_bargain_9 7 rfl rfl)
theorem dX4_bargain_220 : decode cX4_bargain 220 = .ok (.iload 6, 2) := dk_21 6 (dk_at dksX4_bargain_9 10 rfl rfl)
theorem dX4_bargain_222 : decode cX4_bargain 222 = .ok (.goto 5, 3) := dk_167 0 5 (dk_at dksX4_bargain_9 12 rfl rfl)
theorem dX4_bargain_225 : decode cX4_bargain 225 = .ok (.iload 7, 2) := dk_21 7 (dk_at dksX4_bargain_9 15 rfl rfl)
theorem dX4_bargain_227 : decode cX4_bargain 227 = .ok (.ireturn, 1) := dk_172 (dk_at dksX4_bargain_9 17 rfl rfl)
abbrev cX4_friendOf0 : ByteArray := prog_13_method_110_code
def yX4_friendOf0 : MethodName := ⟨RX4, "friendOf0", "(I)I"⟩
def dkwX4_friendOf0_2 : List UInt8 := [180, 0, 35, 28, 46, 172, 132, 2, 1, 167, 255, 201, 2, 172]
abbrev dktX4_friendOf0_2 : List UInt8 := dkwX4_friendOf0_2 ++ []
def dkwX4_friendOf0_1 : List UInt8 := [28, 46, 4, 160, 0, 27, 42, 180, 0, 93, 7, 42, 180, 0, 35, 28, 46, 96, 46, 2, 160, 0, 10, 42]
abbrev dktX4_friendOf0_1 : List UInt8 := dkwX4_friendOf0_1 ++ dktX4_friendOf0_2
def dkwX4_friendOf0_0 : List UInt8 := [3, 61, 28, 42, 180, 1, 106, 162, 0, 53, 42, 180, 0, 32, 28, 46, 27, 160, 0, 37, 42, 180, 0, 38]
abbrev dktX4_friendOf0_0 : List UInt8 := dkwX4_friendOf0_0 ++ dktX4_friendOf0_1
theorem dksX4_friendOf0_0 : cX4_friendOf0.data.toList.drop 0 = dktX4_friendOf0_0 := by decide +kernel
theorem dksX4_friendOf0_1 : cX4_friendOf0.data.toList.drop 24 = dktX4_friendOf0_1 := dk_seg dksX4_friendOf0_0 24 rfl rfl
theorem dksX4_friendOf0_2 : cX4_friendOf0.data.toList.drop 48 = dktX4_friendOf0_2 := dk_seg dksX4_friendOf0_1 24 rfl rfl
theorem dX4_friendOf0_0 : decode cX4_friendOf0 0 = .ok (.iconst 0, 1) := dk_3 (dk_at dksX4_friendOf0_0 0 rfl rfl)
theorem dX4_friendOf0_1 : decode cX4_friendOf0 1 = .ok (.istore_n 2, 1) := dk_61 (dk_at dksX4_friendOf0_0 1 rfl rfl)
theorem dX4_friendOf0_2 : decode cX4_friendOf0 2 = .ok (.iload_n 2, 1) := dk_28 (dk_at dksX4_friendOf0_0 2 rfl rfl)
theorem dX4_friendOf0_3 : decode cX4_friendOf0 3 = .ok (.aload_n 0, 1) := dk_42 (dk_at dksX4_friendOf0_0 3 rfl rfl)
theorem dX4_friendOf0_4 : decode cX4_friendOf0 4 = .ok (.getfield 362, 3) := dk_180 1 106 (dk_at dksX4_friendOf0_0 4 rfl rfl)
theorem dX4_friendOf0_7 : decode cX4_friendOf0 7 = .ok (.if_icmp .ge 53, 3) := dk_162 0 53 (dk_at dksX4_friendOf0_0 7 rfl rfl)
theorem dX4_friendOf0_10 : decode cX4_friendOf0 10 = .ok (.aload_n 0, 1) := dk_42 (dk_at dksX4_friendOf0_0 10 rfl rfl)
theorem dX4_friendOf0_11 : decode cX4_friendOf0 11 = .ok (.getfield 32, 3) := dk_180 0 32 (dk_at dksX4_friendOf0_0 11 rfl rfl)
theorem dX4_friendOf0_14 : decode cX4_friendOf0 14 = .ok (.iload_n 2, 1) := dk_28 (dk_at dksX4_friendOf0_0 14 rfl rfl)
theorem dX4_friendOf0_15 : decode cX4_friendOf0 15 = .ok (.iaload, 1) := dk_46 (dk_at dksX4_friendOf0_0 15 rfl rfl)
theorem dX4_friendOf0_16 : decode cX4_friendOf0 16 = .ok (.iload_n 1, 1) := dk_27 (dk_at dksX4_friendOf0_0 16 rfl rfl)
theorem dX4_friendOf0_17 : decode cX4_friendOf0 17 = .ok (.if_icmp .ne 37, 3) := dk_160 0 37 (dk_at dksX4_friendOf0_0 17 rfl rfl)
theorem dX4_friendOf0_20 : decode cX4_friendOf0 20 = .ok (.aload_n 0, 1) := dk_42 (dk_at dksX4_friendOf0_0 20 rfl rfl)
theorem dX4_friendOf0_21 : decode cX4_friendOf0 21 = .ok (.getfield 38, 3) := dk_180 0 38 (dk_at dksX4_friendOf0_0 21 rfl rfl)
theorem dX4_friendOf0_24 : decode cX4_friendOf0 24 = .ok (.iload_n 2, 1) := dk_28 (dk_at dksX4_friendOf0_1 0 rfl rfl)
theorem dX4_friendOf0_25 : decode cX4_friendOf0 25 = .ok (.iaload, 1) := dk_46 (dk_at dksX4_friendOf0_1 1 rfl rfl)
theorem dX4_friendOf0_26 : decode cX4_friendOf0 26 = .ok (.iconst 1, 1) := dk_4 (dk_at dksX4_friendOf0_1 2 rfl rfl)
theorem dX4_friendOf0_27 : decode cX4_friendOf0 27 = .ok (.if_icmp .ne 27, 3) := dk_160 0 27 (dk_at dksX4_friendOf0_1 3 rfl rfl)
theorem dX4_friendOf0_30 : decode cX4_friendOf0 30 = .ok (.aload_n 0, 1) := dk_42 (dk_at dksX4_friendOf0_1 6 rfl rfl)
theorem dX4_friendOf0_31 : decode cX4_friendOf0 31 = .ok (.getfield 93, 3) := dk_180 0 93 (dk_at dksX4_friendOf0_1 7 rfl rfl)
theorem dX4_friendOf0_34 : decode cX4_friendOf0 34 = .ok (.iconst 4, 1) := dk_7 (dk_at dksX4_friendOf0_1 10 rfl rfl)
theorem dX4_friendOf0_35 : decode cX4_friendOf0 35 = .ok (.aload_n 0, 1) := dk_42 (dk_at dksX4_friendOf0_1 11 rfl rfl)
theorem dX4_friendOf0_36 : decode cX4_friendOf0 36 = .ok (.getfield 35, 3) := dk_180 0 35 (dk_at dksX4_friendOf0_1 12 rfl rfl)
theorem dX4_friendOf0_39 : decode cX4_friendOf0 39 = .ok (.iload_n 2, 1) := dk_28 (dk_at dksX4_friendOf0_1 15 rfl rfl)
theorem dX4_friendOf0_40 : decode cX4_friendOf0 40 = .ok (.iaload, 1) := dk_46 (dk_at dksX4_friendOf0_1 16 rfl rfl)
theorem dX4_friendOf0_41 : decode cX4_friendOf0 41 = .ok (.iadd, 1) := dk_96 (dk_at dksX4_friendOf0_1 17 rfl rfl)
theorem dX4_friendOf0_42 : decode cX4_friendOf0 42 = .ok (.iaload, 1) := dk_46 (dk_at dksX4_friendOf0_1 18 rfl rfl)
theorem dX4_friendOf0_43 : decode cX4_friendOf0 43 = .ok (.iconst (-1), 1) := dk_2 (dk_at dksX4_friendOf0_1 19 rfl rfl)
theorem dX4_friendOf0_44 : decode cX4_friendOf0 44 = .ok (.if_icmp .ne 10, 3) := dk_160 0 10 (dk_at dksX4_friendOf0_1 20 rfl rfl)
theorem dX4_friendOf0_47 : decode cX4_friendOf0 47 = .ok (.aload_n 0, 1) := dk_42 (dk_at dksX4_friendOf0_1 23 rfl rfl)
theorem dX4_friendOf0_48 : decode cX4_friendOf0 48 = .ok (.getfield 35, 3) := dk_180 0 35 (dk_at dksX4_friendOf0_2 0 rfl rfl)
theorem dX4_friendOf0_51 : decode cX4_friendOf0 51 = .ok (.iload_n 2, 1) := dk_28 (dk_at dksX4_friendOf0_2 3 rfl rfl)
theorem dX4_friendOf0_52 : decode cX4_friendOf0 52 = .ok (.iaload, 1) := dk_46 (dk_at dksX4_friendOf0_2 4 rfl rfl)
theorem dX4_friendOf0_53 : decode cX4_friendOf0 53 = .ok (.ireturn, 1) := dk_172 (dk_at dksX4_friendOf0_2 5 rfl rfl)
theorem dX4_friendOf0_54 : decode cX4_friendOf0 54 = .ok (.iinc 2 1, 3) := dk_132 2 1 (dk_at dksX4_friendOf0_2 6 rfl rfl)
theorem dX4_friendOf0_57 : decode cX4_friendOf0 57 = .ok (.goto (-55), 3) := dk_167 255 201 (dk_at dksX4_friendOf0_2 9 rfl rfl)
theorem dX4_friendOf0_60 : decode cX4_friendOf0 60 = .ok (.iconst (-1), 1) := dk_2 (dk_at dksX4_friendOf0_2 12 rfl rfl)
theorem dX4_friendOf0_61 : decode cX4_friendOf0 61 = .ok (.ireturn, 1) := dk_172 (dk_at dksX4_friendOf0_2 13 rfl rfl)
abbrev cX4_gains : ByteArray := prog_13_method_111_code
def yX4_gains : MethodName := ⟨RX4, "gains", "(IIII)I"⟩
def dkwX4_gains_2 : List UInt8 := [154, 0, 15, 21, 4, 154, 0, 10, 21, 6, 4, 100, 167, 0, 5, 21, 6, 172]
abbrev dktX4_gains_2 : List UInt8 := dkwX4_gains_2 ++ []
def dkwX4_gains_1 : List UInt8 := [160, 0, 21, 42, 27, 3, 182, 1, 131, 21, 5, 122, 4, 126, 4, 160, 0, 6, 132, 6, 5, 29]
abbrev dktX4_gains_1 : List UInt8 := dkwX4_gains_1 ++ dktX4_gains_2
def dkwX4_gains_0 : List UInt8 := [42, 28, 182, 1, 255, 54, 5, 29, 4, 160, 0, 8, 16, 253, 167, 0, 4, 3, 54, 6, 21, 4, 4]
abbrev dktX4_gains_0 : List UInt8 := dkwX4_gains_0 ++ dktX4_gains_1
theorem dksX4_gains_0 : cX4_gains.data.toList.drop 0 = dktX4_gains_0 := by decide +kernel
theorem dksX4_gains_1 : cX4_gains.data.toList.drop 23 = dktX4_gains_1 := dk_seg dksX4_gains_0 23 rfl rfl
theorem dksX4_gains_2 : cX4_gains.data.toList.drop 45 = dktX4_gains_2 := dk_seg dksX4_gains_1 22 rfl rfl
theorem dX4_gains_0 : decode cX4_gains 0 = .ok (.aload_n 0, 1) := dk_42 (dk_at dksX4_gains_0 0 rfl rfl)
theorem dX4_gains_1 : decode cX4_gains 1 = .ok (.iload_n 2, 1) := dk_28 (dk_at dksX4_gains_0 1 rfl rfl)
theorem dX4_gains_2 : decode cX4_gains 2 = .ok (.invokevirtual 511, 3) := dk_182 1 255 (dk_at dksX4_gains_0 2 rfl rfl)
theorem dX4_gains_5 : decode cX4_gains 5 = .ok (.istore 5, 2) := dk_54 5 (dk_at dksX4_gains_0 5 rfl rfl)
theorem dX4_gains_7 : decode cX4_gains 7 = .ok (.iload_n 3, 1) := dk_29 (dk_at dksX4_gains_0 7 rfl rfl)
theorem dX4_gains_8 : decode cX4_gains 8 = .ok (.iconst 1, 1) := dk_4 (dk_at dksX4_gains_0 8 rfl rfl)
theorem dX4_gains_9 : decode cX4_gains 9 = .ok (.if_icmp .ne 8, 3) := dk_160 0 8 (dk_at dksX4_gains_0 9 rfl rfl)
theorem dX4_gains_12 : decode cX4_gains 12 = .ok (.bipush (-3), 2) := dk_16 253 (dk_at dksX4_gains_0 12 rfl rfl)
theorem dX4_gains_14 : decode cX4_gains 14 = .ok (.goto 4, 3) := dk_167 0 4 (dk_at dksX4_gains_0 14 rfl rfl)
theorem dX4_gains_17 : decode cX4_gains 17 = .ok (.iconst 0, 1) := dk_3 (dk_at dksX4_gains_0 17 rfl rfl)
theorem dX4_gains_18 : decode cX4_gains 18 = .ok (.istore 6, 2) := dk_54 6 (dk_at dksX4_gains_0 18 rfl rfl)
theorem dX4_gains_20 : decode cX4_gains 20 = .ok (.iload 4, 2) := dk_21 4 (dk_at dksX4_gains_0 20 rfl rfl)
theorem dX4_gains_22 : decode cX4_gains 22 = .ok (.iconst 1, 1) := dk_4 (dk_at dksX4_gains_0 22 rfl rfl)
theorem dX4_gains_23 : decode cX4_gains 23 = .ok (.if_icmp .ne 21, 3) := dk_160 0 21 (dk_at dksX4_gains_1 0 rfl rfl)
theorem dX4_gains_26 : decode cX4_gains 26 = .ok (.aload_n 0, 1) := dk_42 (dk_at dksX4_gains_1 3 rfl rfl)
theorem dX4_gains_27 : decode cX4_gains 27 = .ok (.iload_n 1, 1) := dk_27 (dk_at dksX4_gains_1 4 rfl rfl)
theorem dX4_gains_28 : decode cX4_gains 28 = .ok (.iconst 0, 1) := dk_3 (dk_at dksX4_gains_1 5 rfl rfl)
theorem dX4_gains_29 : decode cX4_gains 29 = .ok (.invokevirtual 387, 3) := dk_182 1 131 (dk_at dksX4_gains_1 6 rfl rfl)
theorem dX4_gains_32 : decode cX4_gains 32 = .ok (.iload 5, 2) := dk_21 5 (dk_at dksX4_gains_1 9 rfl rfl)
theorem dX4_gains_34 : decode cX4_gains 34 = .ok (.ishr, 1) := dk_122 (dk_at dksX4_gains_1 11 rfl rfl)
theorem dX4_gains_35 : decode cX4_gains 35 = .ok (.iconst 1, 1) := dk_4 (dk_at dksX4_gains_1 12 rfl rfl)
theorem dX4_gains_36 : decode cX4_gains 36 = .ok (.iand, 1) := dk_126 (dk_at dksX4_gains_1 13 rfl rfl)
theorem dX4_gains_37 : decode cX4_gains 37 = .ok (.iconst 1, 1) := dk_4 (dk_at dksX4_gains_1 14 rfl rfl)
theorem dX4_gains_38 : decode cX4_gains 38 = .ok (.if_icmp .ne 6, 3) := dk_160 0 6 (dk_at dksX4_gains_1 15 rfl rfl)
theorem dX4_gains_41 : decode cX4_gains 41 = .ok (.iinc 6 5, 3) := dk_132 6 5 (dk_at dksX4_gains_1 18 rfl rfl)
theorem dX4_gains_44 : decode cX4_gains 44 = .ok (.iload_n 3, 1) := dk_29 (dk_at dksX4_gains_1 21 rfl rfl)
theorem dX4_gains_45 : decode cX4_gains 45 = .ok (.ifCond .ne 15, 3) := dk_154 0 15 (dk_at dksX4_gains_2 0 rfl rfl)
theorem dX4_gains_48 : decode cX4_gains 48 = .ok (.iload 4, 2) := dk_21 4 (dk_at dksX4_gains_2 3 rfl rfl)
theorem dX4_gains_50 : decode cX4_gains 50 = .ok (.ifCond .ne 10, 3) := dk_154 0 10 (dk_at dksX4_gains_2 5 rfl rfl)
theorem dX4_gains_53 : decode cX4_gains 53 = .ok (.iload 6, 2) := dk_21 6 (dk_at dksX4_gains_2 8 rfl rfl)
theorem dX4_gains_55 : decode cX4_gains 55 = .ok (.iconst 1, 1) := dk_4 (dk_at dksX4_gains_2 10 rfl rfl)
theorem dX4_gains_56 : decode cX4_gains 56 = .ok (.isub, 1) := dk_100 (dk_at dksX4_gains_2 11 rfl rfl)
theorem dX4_gains_57 : decode cX4_gains 57 = .ok (.goto 5, 3) := dk_167 0 5 (dk_at dksX4_gains_2 12 rfl rfl)
theorem dX4_gains_60 : decode cX4_gains 60 = .ok (.iload 6, 2) := dk_21 6 (dk_at dksX4_gains_2 15 rfl rfl)
theorem dX4_gains_62 : decode cX4_gains 62 = .ok (.ireturn, 1) := dk_172 (dk_at dksX4_gains_2 17 rfl rfl)
abbrev cX4_lists : ByteArray := prog_13_method_115_code
def yX4_lists : MethodName := ⟨RX4, "lists", "(III)I"⟩
def dkwX4_lists_5 : List UInt8 := [46, 184, 1, 134, 167, 0, 17, 29, 4, 160, 0, 8, 21, 4, 167, 0, 7, 42, 180, 1, 147, 172]
abbrev dktX4_lists_5 : List UInt8 := dkwX4_lists_5 ++ []
def dkwX4_lists_4 : List UInt8 := [16, 31, 21, 5, 96, 46, 96, 54, 4, 132, 5, 1, 167, 255, 229, 29, 154, 0, 15, 42, 180, 0, 126, 4]
abbrev dktX4_lists_4 : List UInt8 := dkwX4_lists_4 ++ dktX4_lists_5
def dkwX4_lists_3 : List UInt8 := [167, 255, 229, 3, 54, 4, 3, 54, 5, 21, 5, 42, 180, 1, 91, 162, 0, 24, 21, 4, 42, 180, 0, 126]
abbrev dktX4_lists_3 : List UInt8 := dkwX4_lists_3 ++ dktX4_lists_4
def dkwX4_lists_2 : List UInt8 := [162, 0, 27, 42, 180, 1, 91, 158, 0, 20, 42, 180, 1, 100, 158, 0, 13, 42, 182, 2, 13, 132, 4, 1]
abbrev dktX4_lists_2 : List UInt8 := dkwX4_lists_2 ++ dktX4_lists_3
def dkwX4_lists_1 : List UInt8 := [182, 1, 84, 154, 0, 5, 3, 172, 42, 182, 1, 184, 42, 27, 181, 2, 6, 3, 54, 4, 21, 4, 28]
abbrev dktX4_lists_1 : List UInt8 := dkwX4_lists_1 ++ dktX4_lists_2
def dkwX4_lists_0 : List UInt8 := [42, 3, 181, 0, 168, 42, 29, 5, 182, 1, 206, 153, 0, 18, 42, 28, 3, 16, 60, 184, 1, 193, 5]
abbrev dktX4_lists_0 : List UInt8 := dkwX4_lists_0 ++ dktX4_lists_1
theorem dksX4_lists_0 : cX4_lists.data.toList.drop 0 = dktX4_lists_0 := by decide +kernel
theorem dksX4_lists_1 : cX4_lists.data.toList.drop 23 = dktX4_lists_1 := dk_seg dksX4_lists_0 23 rfl rfl
theorem dksX4_lists_2 : cX4_lists.data.toList.drop 46 = dktX4_lists_2 := dk_seg dksX4_lists_1 23 rfl rfl
theorem dksX4_lists_3 : cX4_lists.data.toList.drop 70 = dktX4_lists_3 := dk_seg dksX4_lists_2 24 rfl rfl
theorem dksX4_lists_4 : cX4_lists.data.toList.drop 94 = dktX4_lists_4 := dk_seg dksX4_lists_3 24 rfl rfl
theorem dksX4_lists_5 : cX4_lists.data.toList.drop 118 = dktX4_lists_5 := dk_seg dksX4_lists_4 24 rfl rfl
theorem dX4_lists_0 : decode cX4_lists 0 = .ok (.aload_n 0, 1) := dk_42 (dk_at dksX4_lists_0 0 rfl rfl)
theorem dX4_lists_1 : decode cX4_lists 1 = .ok (.iconst 0, 1) := dk_3 (dk_at dksX4_lists_0 1 rfl rfl)
theorem dX4_lists_2 : decode cX4_lists 2 = .ok (.putfield 168, 3) := dk_181 0 168 (dk_at dksX4_lists_0 2 rfl rfl)
theorem dX4_lists_5 : decode cX4_lists 5 = .ok (.aload_n 0, 1) := dk_42 (dk_at dksX4_lists_0 5 rfl rfl)
theorem dX4_lists_6 : decode cX4_lists 6 = .ok (.iload_n 3, 1) := dk_29 (dk_at dksX4_lists_0 6 rfl rfl)
theorem dX4_lists_7 : decode cX4_lists 7 = .ok (.iconst 2, 1) := dk_5 (dk_at dksX4_lists_0 7 rfl rfl)
theorem dX4_lists_8 : decode cX4_lists 8 = .ok (.invokevirtual 462, 3) := dk_182 1 206 (dk_at dksX4_lists_0 8 rfl rfl)
theorem dX4_lists_11 : decode cX4_lists 11 = .ok (.ifCond .eq 18, 3) := dk_153 0 18 (dk_at dksX4_lists_0 11 rfl rfl)
theorem dX4_lists_14 : decode cX4_lists 14 = .ok (.aload_n 0, 1) := dk_42 (dk_at dksX4_lists_0 14 rfl rfl)
theorem dX4_lists_15 : decode cX4_lists 15 = .ok (.iload_n 2, 1) := dk_28 (dk_at dksX4_lists_0 15 rfl rfl)
theorem dX4_lists_16 : decode cX4_lists 16 = .ok (.iconst 0, 1) := dk_3 (dk_at dksX4_lists_0 16 rfl rfl)
theorem dX4_lists_17 : decode cX4_lists 17 = .ok (.bipush 60, 2) := dk_16 60 (dk_at dksX4_lists_0 17 rfl rfl)
theorem dX4_lists_19 : decode cX4_lists 19 = .ok (.invokestatic 449, 3) := dk_184 1 193 (dk_at dksX4_lists_0 19 rfl rfl)
theorem dX4_lists_22 : decode cX4_lists 22 = .ok (.iconst 2, 1) := dk_5 (dk_at dksX4_lists_0 22 rfl rfl)
theorem dX4_lists_23 : decode cX4_lists 23 = .ok (.invokevirtual 340, 3) := dk_182 1 84 (dk_at dksX4_lists_1 0 rfl rfl)
theorem dX4_lists_26 : decode cX4_lists 26 = .ok (.ifCond .ne 5, 3) := dk_154 0 5 (dk_at dksX4_lists_1 3 rfl rfl)
theorem dX4_lists_29 : decode cX4_lists 29 = .ok (.iconst 0, 1) := dk_3 (dk_at dksX4_lists_1 6 rfl rfl)
theorem dX4_lists_30 : decode cX4_lists 30 = .ok (.ireturn, 1) := dk_172 (dk_at dksX4_lists_1 7 rfl rfl)
theorem dX4_lists_31 : decode cX4_lists 31 = .ok (.aload_n 0, 1) := dk_42 (dk_at dksX4_lists_1 8 rfl rfl)
theorem dX4_lists_32 : decode cX4_lists 32 = .ok (.invokevirtual 440, 3) := dk_182 1 184 (dk_at dksX4_lists_1 9 rfl rfl)
theorem dX4_lists_35 : decode cX4_lists 35 = .ok (.aload_n 0, 1) := dk_42 (dk_at dksX4_lists_1 12 rfl rfl)
theorem dX4_lists_36 : decode cX4_lists 36 = .ok (.iload_n 1, 1) := dk_27 (dk_at dksX4_lists_1 13 rfl rfl)
theorem dX4_lists_37 : decode cX4_lists 37 = .ok (.putfield 518, 3) := dk_181 2 6 (dk_at dksX4_lists_1 14 rfl rfl)
theorem dX4_lists_40 : decode cX4_lists 40 = .ok (.iconst 0, 1) := dk_3 (dk_at dksX4_lists_1 17 rfl rfl)
theorem dX4_lists_41 : decode cX4_lists 41 = .ok (.istore 4, 2) := dk_54 4 (dk_at dksX4_lists_1 18 rfl rfl)
theorem dX4_lists_43 : decode cX4_lists 43 = .ok (.iload 4, 2) := dk_21 4 (dk_at dksX4_lists_1 20 rfl rfl)
theorem dX4_lists_45 : decode cX4_lists 45 = .ok (.iload_n 2, 1) := dk_28 (dk_at dksX4_lists_1 22 rfl rfl)
theorem dX4_lists_46 : decode cX4_lists 46 = .ok (.if_icmp .ge 27, 3) := dk_162 0 27 (dk_at dksX4_lists_2 0 rfl rfl)
theorem dX4_lists_49 : decode cX4_lists 49 = .ok (.aload_n 0, 1) := dk_42 (dk_at dksX4_lists_2 3 rfl rfl)
theorem dX4_lists_50 : decode cX4_lists 50 = .ok (.getfield 347, 3) := dk_180 1 91 (dk_at dksX4_lists_2 4 rfl rfl)
theorem dX4_lists_53 : decode cX4_lists 53 = .ok (.ifCond .le 20, 3) := dk_158 0 20 (dk_at dksX4_lists_2 7 rfl rfl)
theorem dX4_lists_56 : decode cX4_lists 56 = .ok (.aload_n 0, 1) := dk_42 (dk_at dksX4_lists_2 10 rfl rfl)
theorem dX4_lists_57 : decode cX4_lists 57 = .ok (.getfield 356, 3) := dk_180 1 100 (dk_at dksX4_lists_2 11 rfl rfl)
theorem dX4_lists_60 : decode cX4_lists 60 = .ok (.ifCond .le 13, 3) := dk_158 0 13 (dk_at dksX4_lists_2 14 rfl rfl)
theorem dX4_lists_63 : decode cX4_lists 63 = .ok (.aload_n 0, 1) := dk_42 (dk_at dksX4_lists_2 17 rfl rfl)
theorem dX4_lists_64 : decode cX4_lists 64 = .ok (.invokevirtual 525, 3) := dk_182 2 13 (dk_at dksX4_lists_2 18 rfl rfl)
theorem dX4_lists_67 : decode cX4_lists 67 = .ok (.iinc 4 1, 3) := dk_132 4 1 (dk_at dksX4_lists_2 21 rfl rfl)
theorem dX4_lists_70 : decode cX4_lists 70 = .ok (.goto (-27), 3) := dk_167 255 229 (dk_at dksX4_lists_3 0 rfl rfl)
theorem dX4_lists_73 : decode cX4_lists 73 = .ok (.iconst 0, 1) := dk_3 (dk_at dksX4_lists_3 3 rfl rfl)
theorem dX4_lists_74 : decode cX4_lists 74 = .ok (.istore 4, 2) := dk_54 4 (dk_at dksX4_lists_3 4 rfl rfl)
theorem dX4_lists_76 : decode cX4_lists 76 = .ok (.iconst 0, 1) := dk_3 (dk_at dksX4_lists_3 6 rfl rfl)
theorem dX4_lists_77 : decode cX4_lists 77 = .ok (.istore 5, 2) := dk_54 5 (dk_at dksX4_lists_3 7 rfl rfl)
theorem dX4_lists_79 : decode cX4_lists 79 = .ok (.iload 5, 2) := dk_21 5 (dk_at dksX4_lists_3 9 rfl rfl)
theorem dX4_lists_81 : decode cX4_lists 81 = .ok (.aload_n 0, 1) := dk_42 (dk_at dksX4_lists_3 11 rfl rfl)
theorem dX4_lists_82 : decode cX4_lists 82 = .ok (.getfield 347, 3) := dk_180 1 91 (dk_at dksX4_lists_3 12 rfl rfl)
theorem dX4_lists_85 : decode cX4_lists 85 = .ok (.if_icmp .ge 24, 3) := dk_162 0 24 (dk_at dksX4_lists_3 15 rfl rfl)
theorem dX4_lists_88 : decode cX4_lists 88 = .ok (.iload 4, 2) := dk_21 4 (dk_at dksX4_lists_3 18 rfl rfl)
theorem dX4_lists_90 : decode cX4_lists 90 = .ok (.aload_n 0, 1) := dk_42 (dk_at dksX4_lists_3 20 rfl rfl)
theorem dX4_lists_91 : decode cX4_lists 91 = .ok (.getfield 126, 3) := dk_180 0 126 (dk_at dksX4_lists_3 21 rfl rfl)
theorem dX4_lists_94 : decode cX4_lists 94 = .ok (.bipush 31, 2) := dk_16 31 (dk_at dksX4_lists_4 0 rfl rfl)
theorem dX4_lists_96 : decode cX4_lists 96 = .ok (.iload 5, 2) := dk_21 5 (dk_at dksX4_lists_4 2 rfl rfl)
theorem dX4_lists_98 : decode cX4_lists 98 = .ok (.iadd, 1) := dk_96 (dk_at dksX4_lists_4 4 rfl rfl)
theorem dX4_lists_99 : decode cX4_lists 99 = .ok (.iaload, 1) := dk_46 (dk_at dksX4_lists_4 5 rfl rfl)
theorem dX4_lists_100 : decode cX4_lists 100 = .ok (.iadd, 1) := dk_96 (dk_at dksX4_lists_4 6 rfl rfl)
theorem dX4_lists_101 : decode cX4_lists 101 = .ok (.istore 4, 2) := dk_54 4 (dk_at dksX4_lists_4 7 rfl rfl)
theorem dX4_lists_103 : decode cX4_lists 103 = .ok (.iinc 5 1, 3) := dk_132 5 1 (dk_at dksX4_lists_4 9 rfl rfl)
theorem dX4_lists_106 : decode cX4_lists 106 = .ok (.goto (-27), 3) := dk_167 255 229 (dk_at dksX4_lists_4 12 rfl rfl)
theorem dX4_lists_109 : decode cX4_lists 109 = .ok (.iload_n 3, 1) := dk_29 (dk_at dksX4_lists_4 15 rfl rfl)
theorem dX4_lists_110 : decode cX4_lists 110 = .ok (.ifCond .ne 15, 3) := dk_154 0 15 (dk_at dksX4_lists_4 16 rfl rfl)
theorem dX4_lists_113 : decode cX4_lists 113 = .ok (.aload_n 0, 1) := dk_42 (dk_at dksX4_lists_4 19 rfl rfl)
theorem dX4_lists_114 : decode cX4_lists 114 = .ok (.getfield 126, 3) := dk_180 0 126 (dk_at dksX4_lists_4 20 rfl rfl)
theorem dX4_lists_117 : decode cX4_lists 117 = .ok (.iconst 1, 1) := dk_4 (dk_at dksX4_lists_4 23 rfl rfl)
theorem dX4_lists_118 : decode cX4_lists 118 = .ok (.iaload, 1) := dk_46 (dk_at dksX4_lists_5 0 rfl rfl)
theorem dX4_lists_119 : decode cX4_lists 119 = .ok (.invokestatic 390, 3) := dk_184 1 134 (dk_at dksX4_lists_5 1 rfl rfl)
theorem dX4_lists_122 : decode cX4_lists 122 = .ok (.goto 17, 3) := dk_167 0 17 (dk_at dksX4_lists_5 4 rfl rfl)
theorem dX4_lists_125 : decode cX4_lists 125 = .ok (.iload_n 3, 1) := dk_29 (dk_at dksX4_lists_5 7 rfl rfl)
theorem dX4_lists_126 : decode cX4_lists 126 = .ok (.iconst 1, 1) := dk_4 (dk_at dksX4_lists_5 8 rfl rfl)
theorem dX4_lists_127 : decode cX4_lists 127 = .ok (.if_icmp .ne 8, 3) := dk_160 0 8 (dk_at dksX4_lists_5 9 rfl rfl)
theorem dX4_lists_130 : decode cX4_lists 130 = .ok (.iload 4, 2) := dk_21 4 (dk_at dksX4_lists_5 12 rfl rfl)
theorem dX4_lists_132 : decode cX4_lists 132 = .ok (.goto 7, 3) := dk_167 0 7 (dk_at dksX4_lists_5 14 rfl rfl)
theorem dX4_lists_135 : decode cX4_lists 135 = .ok (.aload_n 0, 1) := dk_42 (dk_at dksX4_lists_5 17 rfl rfl)
theorem dX4_lists_136 : decode cX4_lists 136 = .ok (.getfield 403, 3) := dk_180 1 147 (dk_at dksX4_lists_5 18 rfl rfl)
theorem dX4_lists_139 : decode cX4_lists 139 = .ok (.ireturn, 1) := dk_172 (dk_at dksX4_lists_5 21 rfl rfl)
abbrev cX4_drawsMorning : ByteArray := prog_13_method_114_code
def yX4_drawsMorning : MethodName := ⟨RX4, "drawsMorning", "()V"⟩
def dkwX4_drawsMorning_6 : List UInt8 := [3, 92, 46, 4, 96, 79, 177]
abbrev dktX4_drawsMorning_6 : List UInt8 := dkwX4_drawsMorning_6 ++ []
def dkwX4_drawsMorning_5 : List UInt8 := [46, 46, 162, 0, 12, 42, 42, 180, 0, 126, 29, 182, 1, 174, 132, 3, 1, 167, 255, 175, 42, 180, 0, 126]
abbrev dktX4_drawsMorning_5 : List UInt8 := dkwX4_drawsMorning_5 ++ dktX4_drawsMorning_6
def dkwX4_drawsMorning_4 : List UInt8 := [153, 0, 6, 167, 0, 35, 42, 16, 10, 182, 2, 10, 42, 180, 0, 13, 42, 180, 0, 126, 16, 22, 29, 96]
abbrev dktX4_drawsMorning_4 : List UInt8 := dkwX4_drawsMorning_4 ++ dktX4_drawsMorning_5
def dkwX4_drawsMorning_3 : List UInt8 := [159, 0, 61, 42, 180, 0, 126, 29, 184, 1, 150, 154, 0, 50, 42, 42, 180, 0, 126, 29, 182, 1, 154]
abbrev dktX4_drawsMorning_3 : List UInt8 := dkwX4_drawsMorning_3 ++ dktX4_drawsMorning_4
def dkwX4_drawsMorning_2 : List UInt8 := [182, 1, 164, 3, 62, 29, 42, 180, 1, 100, 162, 0, 79, 42, 180, 0, 126, 7, 29, 96, 46, 2]
abbrev dktX4_drawsMorning_2 : List UInt8 := dkwX4_drawsMorning_2 ++ dktX4_drawsMorning_3
def dkwX4_drawsMorning_1 : List UInt8 := [96, 46, 2, 160, 0, 23, 42, 180, 0, 126, 6, 46, 4, 160, 0, 13, 42, 42, 180, 0, 126, 28, 27]
abbrev dktX4_drawsMorning_1 : List UInt8 := dkwX4_drawsMorning_1 ++ dktX4_drawsMorning_2
def dkwX4_drawsMorning_0 : List UInt8 := [42, 42, 180, 1, 91, 182, 2, 10, 60, 42, 42, 180, 1, 100, 182, 2, 10, 61, 42, 180, 0, 126, 7, 28]
abbrev dktX4_drawsMorning_0 : List UInt8 := dkwX4_drawsMorning_0 ++ dktX4_drawsMorning_1
theorem dksX4_drawsMorning_0 : cX4_drawsMorning.data.toList.drop 0 = dktX4_drawsMorning_0 := by decide +kernel
theorem dksX4_drawsMorning_1 : cX4_drawsMorning.data.toList.drop 24 = dktX4_drawsMorning_1 := dk_seg dksX4_drawsMorning_0 24 rfl rfl
theorem dksX4_drawsMorning_2 : cX4_drawsMorning.data.toList.drop 47 = dktX4_drawsMorning_2 := dk_seg dksX4_drawsMorning_1 23 rfl rfl
theorem dksX4_drawsMorning_3 : cX4_drawsMorning.data.toList.drop 69 = dktX4_drawsMorning_3 := dk_seg dksX4_drawsMorning_2 22 rfl rfl
theorem dksX4_drawsMorning_4 : cX4_drawsMorning.data.toList.drop 92 = dktX4_drawsMorning_4 := dk_seg dksX4_drawsMorning_3 23 rfl rfl
theorem dksX4_drawsMorning_5 : cX4_drawsMorning.data.toList.drop 116 = dktX4_drawsMorning_5 := dk_seg dksX4_drawsMorning_4 24 rfl rfl
theorem dksX4_drawsMorning_6 : cX4_drawsMorning.data.toList.drop 140 = dktX4_drawsMorning_6 := dk_seg dksX4_drawsMorning_5 24 rfl rfl
theorem dX4_drawsMorning_0 : decode cX4_drawsMorning 0 = .ok (.aload_n 0, 1) := dk_42 (dk_at dksX4_drawsMorning_0 0 rfl rfl)
theorem dX4_drawsMorning_1 : decode cX4_drawsMorning 1 = .ok (.aload_n 0, 1) := dk_42 (dk_at dksX4_drawsMorning_0 1 rfl rfl)
theorem dX4_drawsMorning_2 : decode cX4_drawsMorning 2 = .ok (.getfield 347, 3) := dk_180 1 91 (dk_at dksX4_drawsMorning_0 2 rfl rfl)
theorem dX4_drawsMorning_5 : decode cX4_drawsMorning 5 = .ok (.invokevirtual 522, 3) := dk_182 2 10 (dk_at dksX4_drawsMorning_0 5 rfl rfl)
theorem dX4_drawsMorning_8 : decode cX4_drawsMorning 8 = .ok (.istore_n 1, 1) := dk_60 (dk_at dksX4_drawsMorning_0 8 rfl rfl)
theorem dX4_drawsMorning_9 : decode cX4_drawsMorning 9 = .ok (.aload_n 0, 1) := dk_42 (dk_at dksX4_drawsMorning_0 9 rfl rfl)
theorem dX4_drawsMorning_10 : decode cX4_drawsMorning 10 = .ok (.aload_n 0, 1) := dk_42 (dk_at dksX4_drawsMorning_0 10 rfl rfl)
theorem dX4_drawsMorning_11 : decode cX4_drawsMorning 11 = .ok (.getfield 356, 3) := dk_180 1 100 (dk_at dksX4_drawsMorning_0 11 rfl rfl)
theorem dX4_drawsMorning_14 : decode cX4_drawsMorning 14 = .ok (.invokevirtual 522, 3) := dk_182 2 10 (dk_at dksX4_drawsMorning_0 14 rfl rfl)
theorem dX4_drawsMorning_17 : decode cX4_drawsMorning 17 = .ok (.istore_n 2, 1) := dk_61 (dk_at dksX4_drawsMorning_0 17 rfl rfl)
theorem dX4_drawsMorning_18 : decode cX4_drawsMorning 18 = .ok (.aload_n 0, 1) := dk_42 (dk_at dksX4_drawsMorning_0 18 rfl rfl)
theorem dX4_drawsMorning_19 : decode cX4_drawsMorning 19 = .ok (.getfield 126, 3) := dk_180 0 126 (dk_at dksX4_drawsMorning_0 19 rfl rfl)
theorem dX4_drawsMorning_22 : decode cX4_drawsMorning 22 = .ok (.iconst 4, 1) := dk_7 (dk_at dksX4_drawsMorning_0 22 rfl rfl)
theorem dX4_drawsMorning_23 : decode cX4_drawsMorning 23 = .ok (.iload_n 2, 1) := dk_28 (dk_at dksX4_drawsMorning_0 23 rfl rfl)
theorem dX4_drawsMorning_24 : decode cX4_drawsMorning 24 = .ok (.iadd, 1) := dk_96 (dk_at dksX4_drawsMorning_1 0 rfl rfl)
theorem dX4_drawsMorning_25 : decode cX4_drawsMorning 25 = .ok (.iaload, 1) := dk_46 (dk_at dksX4_drawsMorning_1 1 rfl rfl)
theorem dX4_drawsMorning_26 : decode cX4_drawsMorning 26 = .ok (.iconst (-1), 1) := dk_2 (dk_at dksX4_drawsMorning_1 2 rfl rfl)
theorem dX4_drawsMorning_27 : decode cX4_drawsMorning 27 = .ok (.if_icmp .ne 23, 3) := dk_160 0 23 (dk_at dksX4_drawsMorning_1 3 rfl rfl)
theorem dX4_drawsMorning_30 : decode cX4_drawsMorning 30 = .ok (.aload_n 0, 1) := dk_42 (dk_at dksX4_drawsMorning_1 6 rfl rfl)
theorem dX4_drawsMorning_31 : decode cX4_drawsMorning 31 = .ok (.getfield 126, 3) := dk_180 0 126 (dk_at dksX4_drawsMorning_1 7 rfl rfl)
theorem dX4_drawsMorning_34 : decode cX4_drawsMorning 34 = .ok (.iconst 3, 1) := dk_6 (dk_at dksX4_drawsMorning_1 10 rfl rfl)
theorem dX4_drawsMorning_35 : decode cX4_drawsMorning 35 = .ok (.iaload, 1) := dk_46 (dk_at dksX4_drawsMorning_1 11 rfl rfl)
theorem dX4_drawsMorning_36 : decode cX4_drawsMorning 36 = .ok (.iconst 1, 1) := dk_4 (dk_at dksX4_drawsMorning_1 12 rfl rfl)
theorem dX4_drawsMorning_37 : decode cX4_drawsMorning 37 = .ok (.if_icmp .ne 13, 3) := dk_160 0 13 (dk_at dksX4_drawsMorning_1 13 rfl rfl)
theorem dX4_drawsMorning_40 : decode cX4_drawsMorning 40 = .ok (.aload_n 0, 1) := dk_42 (dk_at dksX4_drawsMorning_1 16 rfl rfl)
theorem dX4_drawsMorning_41 : decode cX4_drawsMorning 41 = .ok (.aload_n 0, 1) := dk_42 (dk_at dksX4_drawsMorning_1 17 rfl rfl)
theorem dX4_drawsMorning_42 : decode cX4_drawsMorning 42 = .ok (.getfield 126, 3) := dk_180 0 126 (dk_at dksX4_drawsMorning_1 18 rfl rfl)
theorem dX4_drawsMorning_45 : decode cX4_drawsMorning 45 = .ok (.iload_n 2, 1) := dk_28 (dk_at dksX4_drawsMorning_1 21 rfl rfl)
theorem dX4_drawsMorning_46 : decode cX4_drawsMorning 46 = .ok (.iload_n 1, 1) := dk_27 (dk_at dksX4_drawsMorning_1 22 rfl rfl)
theorem dX4_drawsMorning_47 : decode cX4_drawsMorning 47 = .ok (.invokevirtual 420, 3) := dk_182 1 164 (dk_at dksX4_drawsMorning_2 0 rfl rfl)
theorem dX4_drawsMorning_50 : decode cX4_drawsMorning 50 = .ok (.iconst 0, 1) := dk_3 (dk_at dksX4_drawsMorning_2 3 rfl rfl)
theorem dX4_drawsMorning_51 : decode cX4_drawsMorning 51 = .ok (.istore_n 3, 1) := dk_62 (dk_at dksX4_drawsMorning_2 4 rfl rfl)
theorem dX4_drawsMorning_52 : decode cX4_drawsMorning 52 = .ok (.iload_n 3, 1) := dk_29 (dk_at dksX4_drawsMorning_2 5 rfl rfl)
theorem dX4_drawsMorning_53 : decode cX4_drawsMorning 53 = .ok (.aload_n 0, 1) := dk_42 (dk_at dksX4_drawsMorning_2 6 rfl rfl)
theorem dX4_drawsMorning_54 : decode cX4_drawsMorning 54 = .ok (.getfield 356, 3) := dk_180 1 100 (dk_at dksX4_drawsMorning_2 7 rfl rfl)
theorem dX4_drawsMorning_57 : decode cX4_drawsMorning 57 = .ok (.if_icmp .ge 79, 3) := dk_162 0 79 (dk_at dksX4_drawsMorning_2 10 rfl rfl)
theorem dX4_drawsMorning_60 : decode cX4_drawsMorning 60 = .ok (.aload_n 0, 1) := dk_42 (dk_at dksX4_drawsMorning_2 13 rfl rfl)
theorem dX4_drawsMorning_61 : decode cX4_drawsMorning 61 = .ok (.getfield 126, 3) := dk_180 0 126 (dk_at dksX4_drawsMorning_2 14 rfl rfl)
theorem dX4_drawsMorning_64 : decode cX4_drawsMorning 64 = .ok (.iconst 4, 1) := dk_7 (dk_at dksX4_drawsMorning_2 17 rfl rfl)
theorem dX4_drawsMorning_65 : decode cX4_drawsMorning 65 = .ok (.iload_n 3, 1) := dk_29 (dk_at dksX4_drawsMorning_2 18 rfl rfl)
theorem dX4_drawsMorning_66 : decode cX4_drawsMorning 66 = .ok (.iadd, 1) := dk_96 (dk_at dksX4_drawsMorning_2 19 rfl rfl)
theorem dX4_drawsMorning_67 : decode cX4_drawsMorning 67 = .ok (.iaload, 1) := dk_46 (dk_at dksX4_drawsMorning_2 20 rfl rfl)
theorem dX4_drawsMorning_68 : decode cX4_drawsMorning 68 = .ok (.iconst (-1), 1) := dk_2 (dk_at dksX4_drawsMorning_2 21 rfl rfl)
theorem dX4_drawsMorning_69 : decode cX4_drawsMorning 69 = .ok (.if_icmp .eq 61, 3) := dk_159 0 61 (dk_at dksX4_drawsMorning_3 0 rfl rfl)
theorem dX4_drawsMorning_72 : decode cX4_drawsMorning 72 = .ok (.aload_n 0, 1) := dk_42 (dk_at dksX4_drawsMorning_3 3 rfl rfl)
theorem dX4_drawsMorning_73 : decode cX4_drawsMorning 73 = .ok (.getfield 126, 3) := dk_180 0 126 (dk_at dksX4_drawsMorning_3 4 rfl rfl)
theorem dX4_drawsMorning_76 : decode cX4_drawsMorning 76 = .ok (.iload_n 3, 1) := dk_29 (dk_at dksX4_drawsMorning_3 7 rfl rfl)
theorem dX4_drawsMorning_77 : decode cX4_drawsMorning 77 = .ok (.invokestatic 406, 3) := dk_184 1 150 (dk_at dksX4_drawsMorning_3 8 rfl rfl)
theorem dX4_drawsMorning_80 : decode cX4_drawsMorning 80 = .ok (.ifCond .ne 50, 3) := dk_154 0 50 (dk_at dksX4_drawsMorning_3 11 rfl rfl)
theorem dX4_drawsMorning_83 : decode cX4_drawsMorning 83 = .ok (.aload_n 0, 1) := dk_42 (dk_at dksX4_drawsMorning_3 14 rfl rfl)
theorem dX4_drawsMorning_84 : decode cX4_drawsMorning 84 = .ok (.aload_n 0, 1) := dk_42 (dk_at dksX4_drawsMorning_3 15 rfl rfl)
theorem dX4_drawsMorning_85 : decode cX4_drawsMorning 85 = .ok (.getfield 126, 3) := dk_180 0 126 (dk_at dksX4_drawsMorning_3 16 rfl rfl)
theorem dX4_drawsMorning_88 : decode cX4_drawsMorning 88 = .ok (.iload_n 3, 1) := dk_29 (dk_at dksX4_drawsMorning_3 19 rfl rfl)
theorem dX4_drawsMorning_89 : decode cX4_drawsMorning 89 = .ok (.invokevirtual 410, 3) := dk_182 1 154 (dk_at dksX4_drawsMorning_3 20 rfl rfl)
theorem dX4_drawsMorning_92 : decode cX4_drawsMorning 92 = .ok (.ifCond .eq 6, 3) := dk_153 0 6 (dk_at dksX4_drawsMorning_4 0 rfl rfl)
theorem dX4_drawsMorning_95 : decode cX4_drawsMorning 95 = .ok (.goto 35, 3) := dk_167 0 35 (dk_at dksX4_drawsMorning_4 3 rfl rfl)
theorem dX4_drawsMorning_98 : decode cX4_drawsMorning 98 = .ok (.aload_n 0, 1) := dk_42 (dk_at dksX4_drawsMorning_4 6 rfl rfl)
theorem dX4_drawsMorning_99 : decode cX4_drawsMorning 99 = .ok (.bipush 10, 2) := dk_16 10 (dk_at dksX4_drawsMorning_4 7 rfl rfl)
theorem dX4_drawsMorning_101 : decode cX4_drawsMorning 101 = .ok (.invokevirtual 522, 3) := dk_182 2 10 (dk_at dksX4_drawsMorning_4 9 rfl rfl)
theorem dX4_drawsMorning_104 : decode cX4_drawsMorning 104 = .ok (.aload_n 0, 1) := dk_42 (dk_at dksX4_drawsMorning_4 12 rfl rfl)
theorem dX4_drawsMorning_105 : decode cX4_drawsMorning 105 = .ok (.getfield 13, 3) := dk_180 0 13 (dk_at dksX4_drawsMorning_4 13 rfl rfl)
theorem dX4_drawsMorning_108 : decode cX4_drawsMorning 108 = .ok (.aload_n 0, 1) := dk_42 (dk_at dksX4_drawsMorning_4 16 rfl rfl)
theorem dX4_drawsMorning_109 : decode cX4_drawsMorning 109 = .ok (.getfield 126, 3) := dk_180 0 126 (dk_at dksX4_drawsMorning_4 17 rfl rfl)
theorem dX4_drawsMorning_112 : decode cX4_drawsMorning 112 = .ok (.bipush 22, 2) := dk_16 22 (dk_at dksX4_drawsMorning_4 20 rfl rfl)
theorem dX4_drawsMorning_114 : decode cX4_drawsMorning 114 = .ok (.iload_n 3, 1) := dk_29 (dk_at dksX4_drawsMorning_4 22 rfl rfl)
theorem dX4_drawsMorning_115 : decode cX4_drawsMorning 115 = .ok (.iadd, 1) := dk_96 (dk_at dksX4_drawsMorning_4 23 rfl rfl)
theorem dX4_drawsMorning_116 : decode cX4_drawsMorning 116 = .ok (.iaload, 1) := dk_46 (dk_at dksX4_drawsMorning_5 0 rfl rfl)
theorem dX4_drawsMorning_117 : decode cX4_drawsMorning 117 = .ok (.iaload, 1) := dk_46 (dk_at dksX4_drawsMorning_5 1 rfl rfl)
theorem dX4_drawsMorning_118 : decode cX4_drawsMorning 118 = .ok (.if_icmp .ge 12, 3) := dk_162 0 12 (dk_at dksX4_drawsMorning_5 2 rfl rfl)
theorem dX4_drawsMorning_121 : decode cX4_drawsMorning 121 = .ok (.aload_n 0, 1) := dk_42 (dk_at dksX4_drawsMorning_5 5 rfl rfl)
theorem dX4_drawsMorning_122 : decode cX4_drawsMorning 122 = .ok (.aload_n 0, 1) := dk_42 (dk_at dksX4_drawsMorning_5 6 rfl rfl)
theorem dX4_drawsMorning_123 : decode cX4_drawsMorning 123 = .ok (.getfield 126, 3) := dk_180 0 126 (dk_at dksX4_drawsMorning_5 7 rfl rfl)
theorem dX4_drawsMorning_126 : decode cX4_drawsMorning 126 = .ok (.iload_n 3, 1) := dk_29 (dk_at dksX4_drawsMorning_5 10 rfl rfl)
theorem dX4_drawsMorning_127 : decode cX4_drawsMorning 127 = .ok (.invokevirtual 430, 3) := dk_182 1 174 (dk_at dksX4_drawsMorning_5 11 rfl rfl)
theorem dX4_drawsMorning_130 : decode cX4_drawsMorning 130 = .ok (.iinc 3 1, 3) := dk_132 3 1 (dk_at dksX4_drawsMorning_5 14 rfl rfl)
theorem dX4_drawsMorning_133 : decode cX4_drawsMorning 133 = .ok (.goto (-81), 3) := dk_167 255 175 (dk_at dksX4_drawsMorning_5 17 rfl rfl)
theorem dX4_drawsMorning_136 : decode cX4_drawsMorning 136 = .ok (.aload_n 0, 1) := dk_42 (dk_at dksX4_drawsMorning_5 20 rfl rfl)
theorem dX4_drawsMorning_137 : decode cX4_drawsMorning 137 = .ok (.getfield 126, 3) := dk_180 0 126 (dk_at dksX4_drawsMorning_5 21 rfl rfl)
theorem dX4_drawsMorning_140 : decode cX4_drawsMorning 140 = .ok (.iconst 0, 1) := dk_3 (dk_at dksX4_drawsMorning_6 0 rfl rfl)
theorem dX4_drawsMorning_141 : decode cX4_drawsMorning 141 = .ok (.dup2, 1) := dk_92 (dk_at dksX4_drawsMorning_6 1 rfl rfl)
theorem dX4_drawsMorning_142 : decode cX4_drawsMorning 142 = .ok (.iaload, 1) := dk_46 (dk_at dksX4_drawsMorning_6 2 rfl rfl)
theorem dX4_drawsMorning_143 : decode cX4_drawsMorning 143 = .ok (.iconst 1, 1) := dk_4 (dk_at dksX4_drawsMorning_6 3 rfl rfl)
theorem dX4_drawsMorning_144 : decode cX4_drawsMorning 144 = .ok (.iadd, 1) := dk_96 (dk_at dksX4_drawsMorning_6 4 rfl rfl)
theorem dX4_drawsMorning_145 : decode cX4_drawsMorning 145 = .ok (.iastore, 1) := dk_79 (dk_at dksX4_drawsMorning_6 5 rfl rfl)
theorem dX4_drawsMorning_146 : decode cX4_drawsMorning 146 = .ok (.return_, 1) := dk_177 (dk_at dksX4_drawsMorning_6 6 rfl rfl)
abbrev cX4_draw : ByteArray := prog_13_method_113_code
def yX4_draw : MethodName := ⟨RX4, "draw", "(I)I"⟩
def dkwX4_draw_1 : List UInt8 := [17, 127, 255, 126, 27, 112, 172]
abbrev dktX4_draw_1 : List UInt8 := dkwX4_draw_1 ++ []
def dkwX4_draw_0 : List UInt8 := [42, 42, 180, 2, 6, 19, 2, 9, 104, 17, 48, 57, 96, 181, 2, 6, 42, 180, 2, 6, 16, 16, 122]
abbrev dktX4_draw_0 : List UInt8 := dkwX4_draw_0 ++ dktX4_draw_1
theorem dksX4_draw_0 : cX4_draw.data.toList.drop 0 = dktX4_draw_0 := by decide +kernel
theorem dksX4_draw_1 : cX4_draw.data.toList.drop 23 = dktX4_draw_1 := dk_seg dksX4_draw_0 23 rfl rfl
theorem dX4_draw_0 : decode cX4_draw 0 = .ok (.aload_n 0, 1) := dk_42 (dk_at dksX4_draw_0 0 rfl rfl)
theorem dX4_draw_1 : decode cX4_draw 1 = .ok (.aload_n 0, 1) := dk_42 (dk_at dksX4_draw_0 1 rfl rfl)
theorem dX4_draw_2 : decode cX4_draw 2 = .ok (.getfield 518, 3) := dk_180 2 6 (dk_at dksX4_draw_0 2 rfl rfl)
theorem dX4_draw_5 : decode cX4_draw 5 = .ok (.ldc_w 521, 3) := dk_19 2 9 (dk_at dksX4_draw_0 5 rfl rfl)
theorem dX4_draw_8 : decode cX4_draw 8 = .ok (.imul, 1) := dk_104 (dk_at dksX4_draw_0 8 rfl rfl)
theorem dX4_draw_9 : decode cX4_draw 9 = .ok (.sipush 12345, 3) := dk_17 48 57 (dk_at dksX4_draw_0 9 rfl rfl)
theorem dX4_draw_12 : decode cX4_draw 12 = .ok (.iadd, 1) := dk_96 (dk_at dksX4_draw_0 12 rfl rfl)
theorem dX4_draw_13 : decode cX4_draw 13 = .ok (.putfield 518, 3) := dk_181 2 6 (dk_at dksX4_draw_0 13 rfl rfl)
theorem dX4_draw_16 : decode cX4_draw 16 = .ok (.aload_n 0, 1) := dk_42 (dk_at dksX4_draw_0 16 rfl rfl)
theorem dX4_draw_17 : decode cX4_draw 17 = .ok (.getfield 518, 3) := dk_180 2 6 (dk_at dksX4_draw_0 17 rfl rfl)
theorem dX4_draw_20 : decode cX4_draw 20 = .ok (.bipush 16, 2) := dk_16 16 (dk_at dksX4_draw_0 20 rfl rfl)
theorem dX4_draw_22 : decode cX4_draw 22 = .ok (.ishr, 1) := dk_122 (dk_at dksX4_draw_0 22 rfl rfl)
theorem dX4_draw_23 : decode cX4_draw 23 = .ok (.sipush 32767, 3) := dk_17 127 255 (dk_at dksX4_draw_1 0 rfl rfl)
theorem dX4_draw_26 : decode cX4_draw 26 = .ok (.iand, 1) := dk_126 (dk_at dksX4_draw_1 3 rfl rfl)
theorem dX4_draw_27 : decode cX4_draw 27 = .ok (.iload_n 1, 1) := dk_27 (dk_at dksX4_draw_1 4 rfl rfl)
theorem dX4_draw_28 : decode cX4_draw 28 = .ok (.irem, 1) := dk_112 (dk_at dksX4_draw_1 5 rfl rfl)
theorem dX4_draw_29 : decode cX4_draw 29 = .ok (.ireturn, 1) := dk_172 (dk_at dksX4_draw_1 6 rfl rfl)
abbrev cX4_far : ByteArray := prog_13_method_116_code
def yX4_far : MethodName := ⟨RX4, "far", "(II)I"⟩
def dkwX4_far_8 : List UInt8 := [180, 0, 156, 28, 46, 172]
abbrev dktX4_far_8 : List UInt8 := dkwX4_far_8 ++ []
def dkwX4_far_7 : List UInt8 := [132, 3, 1, 167, 255, 145, 42, 180, 0, 156, 28, 46, 16, 99, 161, 0, 7, 2, 167, 0, 9, 42]
abbrev dktX4_far_7 : List UInt8 := dkwX4_far_7 ++ dktX4_far_8
def dkwX4_far_6 : List UInt8 := [42, 180, 0, 156, 42, 180, 0, 20, 21, 4, 46, 46, 4, 96, 184, 1, 140, 79, 132, 4, 1, 167, 255, 162]
abbrev dktX4_far_6 : List UInt8 := dkwX4_far_6 ++ dktX4_far_7
def dkwX4_far_5 : List UInt8 := [79, 42, 180, 0, 156, 42, 180, 0, 17, 21, 4, 46, 42, 180, 0, 156, 42, 180, 0, 17, 21, 4, 46, 46]
abbrev dktX4_far_5 : List UInt8 := dkwX4_far_5 ++ dktX4_far_6
def dkwX4_far_4 : List UInt8 := [180, 0, 20, 21, 4, 46, 46, 42, 180, 0, 156, 42, 180, 0, 17, 21, 4, 46, 46, 4, 96, 184, 1, 140]
abbrev dktX4_far_4 : List UInt8 := dkwX4_far_4 ++ dktX4_far_5
def dkwX4_far_3 : List UInt8 := [180, 1, 97, 162, 0, 91, 42, 180, 0, 156, 42, 180, 0, 20, 21, 4, 46, 42, 180, 0, 156, 42]
abbrev dktX4_far_3 : List UInt8 := dkwX4_far_3 ++ dktX4_far_4
def dkwX4_far_2 : List UInt8 := [132, 3, 1, 167, 255, 230, 3, 62, 29, 42, 180, 1, 94, 162, 0, 109, 3, 54, 4, 21, 4, 42]
abbrev dktX4_far_2 : List UInt8 := dkwX4_far_2 ++ dktX4_far_3
def dkwX4_far_1 : List UInt8 := [62, 29, 16, 8, 162, 0, 26, 42, 180, 0, 156, 29, 29, 27, 160, 0, 7, 3, 167, 0, 5, 16, 99, 79]
abbrev dktX4_far_1 : List UInt8 := dkwX4_far_1 ++ dktX4_far_2
def dkwX4_far_0 : List UInt8 := [42, 3, 181, 0, 168, 42, 27, 182, 1, 209, 153, 0, 11, 42, 28, 182, 1, 209, 154, 0, 5, 3, 172, 3]
abbrev dktX4_far_0 : List UInt8 := dkwX4_far_0 ++ dktX4_far_1
theorem dksX4_far_0 : cX4_far.data.toList.drop 0 = dktX4_far_0 := by decide +kernel
theorem dksX4_far_1 : cX4_far.data.toList.drop 24 = dktX4_far_1 := dk_seg dksX4_far_0 24 rfl rfl
theorem dksX4_far_2 : cX4_far.data.toList.drop 48 = dktX4_far_2 := dk_seg dksX4_far_1 24 rfl rfl
theorem dksX4_far_3 : cX4_far.data.toList.drop 70 = dktX4_far_3 := dk_seg dksX4_far_2 22 rfl rfl
theorem dksX4_far_4 : cX4_far.data.toList.drop 92 = dktX4_far_4 := dk_seg dksX4_far_3 22 rfl rfl
theorem dksX4_far_5 : cX4_far.data.toList.drop 116 = dktX4_far_5 := dk_seg dksX4_far_4 24 rfl rfl
theorem dksX4_far_6 : cX4_far.data.toList.drop 140 = dktX4_far_6 := dk_seg dksX4_far_5 24 rfl rfl
theorem dksX4_far_7 : cX4_far.data.toList.drop 164 = dktX4_far_7 := dk_seg dksX4_far_6 24 rfl rfl
theorem dksX4_far_8 : cX4_far.data.toList.drop 186 = dktX4_far_8 := dk_seg dksX4_far_7 22 rfl rfl
theorem dX4_far_0 : decode cX4_far 0 = .ok (.aload_n 0, 1) := dk_42 (dk_at dksX4_far_0 0 rfl rfl)
theorem dX4_far_1 : decode cX4_far 1 = .ok (.iconst 0, 1) := dk_3 (dk_at dksX4_far_0 1 rfl rfl)
theorem dX4_far_2 : decode cX4_far 2 = .ok (.putfield 168, 3) := dk_181 0 168 (dk_at dksX4_far_0 2 rfl rfl)
theorem dX4_far_5 : decode cX4_far 5 = .ok (.aload_n 0, 1) := dk_42 (dk_at dksX4_far_0 5 rfl rfl)
theorem dX4_far_6 : decode cX4_far 6 = .ok (.iload_n 1, 1) := dk_27 (dk_at dksX4_far_0 6 rfl rfl)
theorem dX4_far_7 : decode cX4_far 7 = .ok (.invokevirtual 465, 3) := dk_182 1 209 (dk_at dksX4_far_0 7 rfl rfl)
theorem dX4_far_10 : decode cX4_far 10 = .ok (.ifCond .eq 11, 3) := dk_153 0 11 (dk_at dksX4_far_0 10 rfl rfl)
theorem dX4_far_13 : decode cX4_far 13 = .ok (.aload_n 0, 1) := dk_42 (dk_at dksX4_far_0 13 rfl rfl)
theorem dX4_far_14 : decode cX4_far 14 = .ok (.iload_n 2, 1) := dk_28 (dk_at dksX4_far_0 14 rfl rfl)
theorem dX4_far_15 : decode cX4_far 15 = .ok (.invokevirtual 465, 3) := dk_182 1 209 (dk_at dksX4_far_0 15 rfl rfl)
theorem dX4_far_18 : decode cX4_far 18 = .ok (.ifCond .ne 5, 3) := dk_154 0 5 (dk_at dksX4_far_0 18 rfl rfl)
theorem dX4_far_21 : decode cX4_far 21 = .ok (.iconst 0, 1) := dk_3 (dk_at dksX4_far_0 21 rfl rfl)
theorem dX4_far_22 : decode cX4_far 22 = .ok (.ireturn, 1) := dk_172 (dk_at dksX4_far_0 22 rfl rfl)
theorem dX4_far_23 : decode cX4_far 23 = .ok (.iconst 0, 1) := dk_3 (dk_at dksX4_far_0 23 rfl rfl)
theorem dX4_far_24 : decode cX4_far 24 = .ok (.istore_n 3, 1) := dk_62 (dk_at dksX4_far_1 0 rfl rfl)
theorem dX4_far_25 : decode cX4_far 25 = .ok (.iload_n 3, 1) := dk_29 (dk_at dksX4_far_1 1 rfl rfl)
theorem dX4_far_26 : decode cX4_far 26 = .ok (.bipush 8, 2) := dk_16 8 (dk_at dksX4_far_1 2 rfl rfl)
theorem dX4_far_28 : decode cX4_far 28 = .ok (.if_icmp .ge 26, 3) := dk_162 0 26 (dk_at dksX4_far_1 4 rfl rfl)
theorem dX4_far_31 : decode cX4_far 31 = .ok (.aload_n 0, 1) := dk_42 (dk_at dksX4_far_1 7 rfl rfl)
theorem dX4_far_32 : decode cX4_far 32 = .ok (.getfield 156, 3) := dk_180 0 156 (dk_at dksX4_far_1 8 rfl rfl)
theorem dX4_far_35 : decode cX4_far 35 = .ok (.iload_n 3, 1) := dk_29 (dk_at dksX4_far_1 11 rfl rfl)
theorem dX4_far_36 : decode cX4_far 36 = .ok (.iload_n 3, 1) := dk_29 (dk_at dksX4_far_1 12 rfl rfl)
theorem dX4_far_37 : decode cX4_far 37 = .ok (.iload_n 1, 1) := dk_27 (dk_at dksX4_far_1 13 rfl rfl)
theorem dX4_far_38 : decode cX4_far 38 = .ok (.if_icmp .ne 7, 3) := dk_160 0 7 (dk_at dksX4_far_1 14 rfl rfl)
theorem dX4_far_41 : decode cX4_far 41 = .ok (.iconst 0, 1) := dk_3 (dk_at dksX4_far_1 17 rfl rfl)
theorem dX4_far_42 : decode cX4_far 42 = .ok (.goto 5, 3) := dk_167 0 5 (dk_at dksX4_far_1 18 rfl rfl)
theorem dX4_far_45 : decode cX4_far 45 = .ok (.bipush 99, 2) := dk_16 99 (dk_at dksX4_far_1 21 rfl rfl)
theorem dX4_far_47 : decode cX4_far 47 = .ok (.iastore, 1) := dk_79 (dk_at dksX4_far_1 23 rfl rfl)
theorem dX4_far_48 : decode cX4_far 48 = .ok (.iinc 3 1, 3) := dk_132 3 1 (dk_at dksX4_far_2 0 rfl rfl)
theorem dX4_far_51 : decode cX4_far 51 = .ok (.goto (-26), 3) := dk_167 255 230 (dk_at dksX4_far_2 3 rfl rfl)
theorem dX4_far_54 : decode cX4_far 54 = .ok (.iconst 0, 1) := dk_3 (dk_at dksX4_far_2 6 rfl rfl)
theorem dX4_far_55 : decode cX4_far 55 = .ok (.istore_n 3, 1) := dk_62 (dk_at dksX4_far_2 7 rfl rfl)
theorem dX4_far_56 : decode cX4_far 56 = .ok (.iload_n 3, 1) := dk_29 (dk_at dksX4_far_2 8 rfl rfl)
theorem dX4_far_57 : decode cX4_far 57 = .ok (.aload_n 0, 1) := dk_42 (dk_at dksX4_far_2 9 rfl rfl)
theorem dX4_far_58 : decode cX4_far 58 = .ok (.getfield 350, 3) := dk_180 1 94 (dk_at dksX4_far_2 10 rfl rfl)
theorem dX4_far_61 : decode cX4_far 61 = .ok (.if_icmp .ge 109, 3) := dk_162 0 109 (dk_at dksX4_far_2 13 rfl rfl)
theorem dX4_far_64 : decode cX4_far 64 = .ok (.iconst 0, 1) := dk_3 (dk_at dksX4_far_2 16 rfl rfl)
theorem dX4_far_65 : decode cX4_far 65 = .ok (.istore 4, 2) := dk_54 4 (dk_at dksX4_far_2 17 rfl rfl)
theorem dX4_far_67 : decode cX4_far 67 = .ok (.iload 4, 2) := dk_21 4 (dk_at dksX4_far_2 19 rfl rfl)
theorem dX4_far_69 : decode cX4_far 69 = .ok (.aload_n 0, 1) := dk_42 (dk_at dksX4_far_2 21 rfl rfl)
theorem dX4_far_70 : decode cX4_far 70 = .ok (.getfield 353, 3) := dk_180 1 97 (dk_at dksX4_far_3 0 rfl rfl)
theorem dX4_far_73 : decode cX4_far 73 = .ok (.if_icmp .ge 91, 3) := dk_162 0 91 (dk_at dksX4_far_3 3 rfl rfl)
theorem dX4_far_76 : decode cX4_far 76 = .ok (.aload_n 0, 1) := dk_42 (dk_at dksX4_far_3 6 rfl rfl)
theorem dX4_far_77 : decode cX4_far 77 = .ok (.getfield 156, 3) := dk_180 0 156 (dk_at dksX4_far_3 7 rfl rfl)
theorem dX4_far_80 : decode cX4_far 80 = .ok (.aload_n 0, 1) := dk_42 (dk_at dksX4_far_3 10 rfl rfl)
theorem dX4_far_81 : decode cX4_far 81 = .ok (.getfield 20, 3) := dk_180 0 20 (dk_at dksX4_far_3 11 rfl rfl)
theorem dX4_far_84 : decode cX4_far 84 = .ok (.iload 4, 2) := dk_21 4 (dk_at dksX4_far_3 14 rfl rfl)
theorem dX4_far_86 : decode cX4_far 86 = .ok (.iaload, 1) := dk_46 (dk_at dksX4_far_3 16 rfl rfl)
theorem dX4_far_87 : decode cX4_far 87 = .ok (.aload_n 0, 1) := dk_42 (dk_at dksX4_far_3 17 rfl rfl)
theorem dX4_far_88 : decode cX4_far 88 = .ok (.getfield 156, 3) := dk_180 0 156 (dk_at dksX4_far_3 18 rfl rfl)
theorem dX4_far_91 : decode cX4_far 91 = .ok (.aload_n 0, 1) := dk_42 (dk_at dksX4_far_3 21 rfl rfl)
theorem dX4_far_92 : decode cX4_far 92 = .ok (.getfield 20, 3) := dk_180 0 20 (dk_at dksX4_far_4 0 rfl rfl)
theorem dX4_far_95 : decode cX4_far 95 = .ok (.iload 4, 2) := dk_21 4 (dk_at dksX4_far_4 3 rfl rfl)
theorem dX4_far_97 : decode cX4_far 97 = .ok (.iaload, 1) := dk_46 (dk_at dksX4_far_4 5 rfl rfl)
theorem dX4_far_98 : decode cX4_far 98 = .ok (.iaload, 1) := dk_46 (dk_at dksX4_far_4 6 rfl rfl)
theorem dX4_far_99 : decode cX4_far 99 = .ok (.aload_n 0, 1) := dk_42 (dk_at dksX4_far_4 7 rfl rfl)
theorem dX4_far_100 : decode cX4_far 100 = .ok (.getfield 156, 3) := dk_180 0 156 (dk_at dksX4_far_4 8 rfl rfl)
theorem dX4_far_103 : decode cX4_far 103 = .ok (.aload_n 0, 1) := dk_42 (dk_at dksX4_far_4 11 rfl rfl)
theorem dX4_far_104 : decode cX4_far 104 = .ok (.getfield 17, 3) := dk_180 0 17 (dk_at dksX4_far_4 12 rfl rfl)
theorem dX4_far_107 : decode cX4_far 107 = .ok (.iload 4, 2) := dk_21 4 (dk_at dksX4_far_4 15 rfl rfl)
theorem dX4_far_109 : decode cX4_far 109 = .ok (.iaload, 1) := dk_46 (dk_at dksX4_far_4 17 rfl rfl)
theorem dX4_far_110 : decode cX4_far 110 = .ok (.iaload, 1) := dk_46 (dk_at dksX4_far_4 18 rfl rfl)
theorem dX4_far_111 : decode cX4_far 111 = .ok (.iconst 1, 1) := dk_4 (dk_at dksX4_far_4 19 rfl rfl)
theorem dX4_far_112 : decode cX4_far 112 = .ok (.iadd, 1) := dk_96 (dk_at dksX4_far_4 20 rfl rfl)
theorem dX4_far_113 : decode cX4_far 113 = .ok (.invokestatic 396, 3) := dk_184 1 140 (dk_at dksX4_far_4 21 rfl rfl)
theorem dX4_far_116 : decode cX4_far 116 = .ok (.iastore, 1) := dk_79 (dk_at dksX4_far_5 0 rfl rfl)
theorem dX4_far_117 : decode cX4_far 117 = .ok (.aload_n 0, 1) := dk_42 (dk_at dksX4_far_5 1 rfl rfl)
theorem dX4_far_118 : decode cX4_far 118 = .ok (.getfield 156, 3) := dk_180 0 156 (dk_at dksX4_far_5 2 rfl rfl)
theorem dX4_far_121 : decode cX4_far 121 = .ok (.aload_n 0, 1) := dk_42 (dk_at dksX4_far_5 5 rfl rfl)
theorem dX4_far_122 : decode cX4_far 122 = .ok (.getfield 17, 3) := dk_180 0 17 (dk_at dksX4_far_5 6 rfl rfl)
theorem dX4_far_125 : decode cX4_far 125 = .ok (.iload 4, 2) := dk_21 4 (dk_at dksX4_far_5 9 rfl rfl)
theorem dX4_far_127 : decode cX4_far 127 = .ok (.iaload, 1) := dk_46 (dk_at dksX4_far_5 11 rfl rfl)
theorem dX4_far_128 : decode cX4_far 128 = .ok (.aload_n 0, 1) := dk_42 (dk_at dksX4_far_5 12 rfl rfl)
theorem dX4_far_129 : decode cX4_far 129 = .ok (.getfield 156, 3) := dk_180 0 156 (dk_at dksX4_far_5 13 rfl rfl)
theorem dX4_far_132 : decode cX4_far 132 = .ok (.aload_n 0, 1) := dk_42 (dk_at dksX4_far_5 16 rfl rfl)
theorem dX4_far_133 : decode cX4_far 133 = .ok (.getfield 17, 3) := dk_180 0 17 (dk_at dksX4_far_5 17 rfl rfl)
theorem dX4_far_136 : decode cX4_far 136 = .ok (.iload 4, 2) := dk_21 4 (dk_at dksX4_far_5 20 rfl rfl)
theorem dX4_far_138 : decode cX4_far 138 = .ok (.iaload, 1) := dk_46 (dk_at dksX4_far_5 22 rfl rfl)
theorem dX4_far_139 : decode cX4_far 139 = .ok (.iaload, 1) := dk_46 (dk_at dksX4_far_5 23 rfl rfl)
theorem dX4_far_140 : decode cX4_far 140 = .ok (.aload_n 0, 1) := dk_42 (dk_at dksX4_far_6 0 rfl rfl)
theorem dX4_far_141 : decode cX4_far 141 = .ok (.getfield 156, 3) := dk_180 0 156 (dk_at dksX4_far_6 1 rfl rfl)
theorem dX4_far_144 : decode cX4_far 144 = .ok (.aload_n 0, 1) := dk_42 (dk_at dksX4_far_6 4 rfl rfl)
theorem dX4_far_145 : decode cX4_far 145 = .ok (.getfield 20, 3) := dk_180 0 20 (dk_at dksX4_far_6 5 rfl rfl)
theorem dX4_far_148 : decode cX4_far 148 = .ok (.iload 4, 2) := dk_21 4 (dk_at dksX4_far_6 8 rfl rfl)
theorem dX4_far_150 : decode cX4_far 150 = .ok (.iaload, 1) := dk_46 (dk_at dksX4_far_6 10 rfl rfl)
theorem dX4_far_151 : decode cX4_far 151 = .ok (.iaload, 1) := dk_46 (dk_at dksX4_far_6 11 rfl rfl)
theorem dX4_far_152 : decode cX4_far 152 = .ok (.iconst 1, 1) := dk_4 (dk_at dksX4_far_6 12 rfl rfl)
theorem dX4_far_153 : decode cX4_far 153 = .ok (.iadd, 1) := dk_96 (dk_at dksX4_far_6 13 rfl rfl)
theorem dX4_far_154 : decode cX4_far 154 = .ok (.invokestatic 396, 3) := dk_184 1 140 (dk_at dksX4_far_6 14 rfl rfl)
theorem dX4_far_157 : decode cX4_far 157 = .ok (.iastore, 1) := dk_79 (dk_at dksX4_far_6 17 rfl rfl)
theorem dX4_far_158 : decode cX4_far 158 = .ok (.iinc 4 1, 3) := dk_132 4 1 (dk_at dksX4_far_6 18 rfl rfl)
theorem dX4_far_161 : decode cX4_far 161 = .ok (.goto (-94), 3) := dk_167 255 162 (dk_at dksX4_far_6 21 rfl rfl)
theorem dX4_far_164 : decode cX4_far 164 = .ok (.iinc 3 1, 3) := dk_132 3 1 (dk_at dksX4_far_7 0 rfl rfl)
theorem dX4_far_167 : decode cX4_far 167 = .ok (.goto (-111), 3) := dk_167 255 145 (dk_at dksX4_far_7 3 rfl rfl)
theorem dX4_far_170 : decode cX4_far 170 = .ok (.aload_n 0, 1) := dk_42 (dk_at dksX4_far_7 6 rfl rfl)
theorem dX4_far_171 : decode cX4_far 171 = .ok (.getfield 156, 3) := dk_180 0 156 (dk_at dksX4_far_7 7 rfl rfl)
theorem dX4_far_174 : decode cX4_far 174 = .ok (.iload_n 2, 1) := dk_28 (dk_at dksX4_far_7 10 rfl rfl)
theorem dX4_far_175 : decode cX4_far 175 = .ok (.iaload, 1) := dk_46 (dk_at dksX4_far_7 11 rfl rfl)
theorem dX4_far_176 : decode cX4_far 176 = .ok (.bipush 99, 2) := dk_16 99 (dk_at dksX4_far_7 12 rfl rfl)
theorem dX4_far_178 : decode cX4_far 178 = .ok (.if_icmp .lt 7, 3) := dk_161 0 7 (dk_at dksX4_far_7 14 rfl rfl)
theorem dX4_far_181 : decode cX4_far 181 = .ok (.iconst (-1), 1) := dk_2 (dk_at dksX4_far_7 17 rfl rfl)
theorem dX4_far_182 : decode cX4_far 182 = .ok (.goto 9, 3) := dk_167 0 9 (dk_at dksX4_far_7 18 rfl rfl)
theorem dX4_far_185 : decode cX4_far 185 = .ok (.aload_n 0, 1) := dk_42 (dk_at dksX4_far_7 21 rfl rfl)
theorem dX4_far_186 : decode cX4_far 186 = .ok (.getfield 156, 3) := dk_180 0 156 (dk_at dksX4_far_8 0 rfl rfl)
theorem dX4_far_189 : decode cX4_far 189 = .ok (.iload_n 2, 1) := dk_28 (dk_at dksX4_far_8 3 rfl rfl)
theorem dX4_far_190 : decode cX4_far 190 = .ok (.iaload, 1) := dk_46 (dk_at dksX4_far_8 4 rfl rfl)
theorem dX4_far_191 : decode cX4_far 191 = .ok (.ireturn, 1) := dk_172 (dk_at dksX4_far_8 5 rfl rfl)
abbrev cX4_refuge : ByteArray := prog_13_method_117_code
def yX4_refuge : MethodName := ⟨RX4, "refuge", "(I)I"⟩
def dkwX4_refuge_11 : List UInt8 := [180, 0, 13, 28, 46, 163, 0, 7, 29, 167, 0, 4, 28, 61, 132, 3, 255, 167, 255, 219, 28, 172]
abbrev dktX4_refuge_11 : List UInt8 := dkwX4_refuge_11 ++ []
def dkwX4_refuge_10 : List UInt8 := [100, 62, 29, 155, 0, 39, 42, 180, 0, 147, 29, 51, 153, 0, 22, 42, 180, 0, 13, 29, 46, 42]
abbrev dktX4_refuge_10 : List UInt8 := dkwX4_refuge_10 ++ dktX4_refuge_11
def dkwX4_refuge_9 : List UInt8 := [167, 255, 110, 132, 2, 1, 167, 255, 94, 42, 180, 0, 93, 16, 22, 27, 96, 46, 61, 42, 180, 1, 94, 4]
abbrev dktX4_refuge_9 : List UInt8 := dkwX4_refuge_9 ++ dktX4_refuge_10
def dkwX4_refuge_8 : List UInt8 := [180, 0, 13, 42, 180, 0, 20, 29, 46, 46, 2, 159, 0, 7, 4, 167, 0, 4, 3, 84, 132, 3, 1]
abbrev dktX4_refuge_8 : List UInt8 := dkwX4_refuge_8 ++ dktX4_refuge_9
def dkwX4_refuge_7 : List UInt8 := [180, 0, 17, 29, 46, 51, 154, 0, 32, 42, 180, 0, 147, 42, 180, 0, 20, 29, 46, 51, 153, 0, 22, 42]
abbrev dktX4_refuge_7 : List UInt8 := dkwX4_refuge_7 ++ dktX4_refuge_8
def dkwX4_refuge_6 : List UInt8 := [159, 0, 7, 4, 167, 0, 4, 3, 84, 42, 180, 0, 147, 42, 180, 0, 17, 29, 46, 42, 180, 0, 147, 42]
abbrev dktX4_refuge_6 : List UInt8 := dkwX4_refuge_6 ++ dktX4_refuge_7
def dkwX4_refuge_5 : List UInt8 := [42, 180, 0, 17, 29, 46, 51, 153, 0, 22, 42, 180, 0, 13, 42, 180, 0, 17, 29, 46, 46, 2]
abbrev dktX4_refuge_5 : List UInt8 := dkwX4_refuge_5 ++ dktX4_refuge_6
def dkwX4_refuge_4 : List UInt8 := [42, 180, 0, 20, 29, 46, 42, 180, 0, 147, 42, 180, 0, 20, 29, 46, 51, 154, 0, 32, 42, 180, 0, 147]
abbrev dktX4_refuge_4 : List UInt8 := dkwX4_refuge_4 ++ dktX4_refuge_5
def dkwX4_refuge_3 : List UInt8 := [162, 0, 144, 42, 29, 42, 180, 0, 93, 3, 46, 182, 1, 224, 154, 0, 6, 167, 0, 121, 42, 180, 0, 147]
abbrev dktX4_refuge_3 : List UInt8 := dkwX4_refuge_3 ++ dktX4_refuge_4
def dkwX4_refuge_2 : List UInt8 := [132, 2, 1, 167, 255, 223, 3, 61, 28, 42, 180, 1, 94, 162, 0, 160, 3, 62, 29, 42, 180, 1, 97]
abbrev dktX4_refuge_2 : List UInt8 := dkwX4_refuge_2 ++ dktX4_refuge_3
def dkwX4_refuge_1 : List UInt8 := [180, 0, 147, 28, 28, 42, 180, 0, 93, 16, 22, 27, 96, 46, 160, 0, 7, 4, 167, 0, 4, 3, 84]
abbrev dktX4_refuge_1 : List UInt8 := dkwX4_refuge_1 ++ dktX4_refuge_2
def dkwX4_refuge_0 : List UInt8 := [42, 3, 181, 0, 168, 42, 27, 182, 1, 212, 154, 0, 5, 3, 172, 3, 61, 28, 16, 8, 162, 0, 33, 42]
abbrev dktX4_refuge_0 : List UInt8 := dkwX4_refuge_0 ++ dktX4_refuge_1
theorem dksX4_refuge_0 : cX4_refuge.data.toList.drop 0 = dktX4_refuge_0 := by decide +kernel
theorem dksX4_refuge_1 : cX4_refuge.data.toList.drop 24 = dktX4_refuge_1 := dk_seg dksX4_refuge_0 24 rfl rfl
theorem dksX4_refuge_2 : cX4_refuge.data.toList.drop 47 = dktX4_refuge_2 := dk_seg dksX4_refuge_1 23 rfl rfl
theorem dksX4_refuge_3 : cX4_refuge.data.toList.drop 70 = dktX4_refuge_3 := dk_seg dksX4_refuge_2 23 rfl rfl
theorem dksX4_refuge_4 : cX4_refuge.data.toList.drop 94 = dktX4_refuge_4 := dk_seg dksX4_refuge_3 24 rfl rfl
theorem dksX4_refuge_5 : cX4_refuge.data.toList.drop 118 = dktX4_refuge_5 := dk_seg dksX4_refuge_4 24 rfl rfl
theorem dksX4_refuge_6 : cX4_refuge.data.toList.drop 140 = dktX4_refuge_6 := dk_seg dksX4_refuge_5 22 rfl rfl
theorem dksX4_refuge_7 : cX4_refuge.data.toList.drop 164 = dktX4_refuge_7 := dk_seg dksX4_refuge_6 24 rfl rfl
theorem dksX4_refuge_8 : cX4_refuge.data.toList.drop 188 = dktX4_refuge_8 := dk_seg dksX4_refuge_7 24 rfl rfl
theorem dksX4_refuge_9 : cX4_refuge.data.toList.drop 211 = dktX4_refuge_9 := dk_seg dksX4_refuge_8 23 rfl rfl
theorem dksX4_refuge_10 : cX4_refuge.data.toList.drop 235 = dktX4_refuge_10 := dk_seg dksX4_refuge_9 24 rfl rfl
theorem dksX4_refuge_11 : cX4_refuge.data.toList.drop 257 = dktX4_refuge_11 := dk_seg dksX4_refuge_10 22 rfl rfl
theorem dX4_refuge_0 : decode cX4_refuge 0 = .ok (.aload_n 0, 1) := dk_42 (dk_at dksX4_refuge_0 0 rfl rfl)
theorem dX4_refuge_1 : decode cX4_refuge 1 = .ok (.iconst 0, 1) := dk_3 (dk_at dksX4_refuge_0 1 rfl rfl)
theorem dX4_refuge_2 : decode cX4_refuge 2 = .ok (.putfield 168, 3) := dk_181 0 168 (dk_at dksX4_refuge_0 2 rfl rfl)
theorem dX4_refuge_5 : decode cX4_refuge 5 = .ok (.aload_n 0, 1) := dk_42 (dk_at dksX4_refuge_0 5 rfl rfl)
theorem dX4_refuge_6 : decode cX4_refuge 6 = .ok (.iload_n 1, 1) := dk_27 (dk_at dksX4_refuge_0 6 rfl rfl)
theorem dX4_refuge_7 : decode cX4_refuge 7 = .ok (.invokevirtual 468, 3) := dk_182 1 212 (dk_at dksX4_refuge_0 7 rfl rfl)
theorem dX4_refuge_10 : decode cX4_refuge 10 = .ok (.ifCond .ne 5, 3) := dk_154 0 5 (dk_at dksX4_refuge_0 10 rfl rfl)
theorem dX4_refuge_13 : decode cX4_refuge 13 = .ok (.iconst 0, 1) := dk_3 (dk_at dksX4_refuge_0 13 rfl rfl)
theorem dX4_refuge_14 : decode cX4_refuge 14 = .ok (.ireturn, 1) := dk_172 (dk_at dksX4_refuge_0 14 rfl rfl)
theorem dX4_refuge_15 : decode cX4_refuge 15 = .ok (.iconst 0, 1) := dk_3 (dk_at dksX4_refuge_0 15 rfl rfl)
theorem dX4_refuge_16 : decode cX4_refuge 16 = .ok (.istore_n 2, 1) := dk_61 (dk_at dksX4_refuge_0 16 rfl rfl)
theorem dX4_refuge_17 : decode cX4_refuge 17 = .ok (.iload_n 2, 1) := dk_28 (dk_at dksX4_refuge_0 17 rfl rfl)
theorem dX4_refuge_18 : decode cX4_refuge 18 = .ok (.bipush 8, 2) := dk_16 8 (dk_at dksX4_refuge_0 18 rfl rfl)
theorem dX4_refuge_20 : decode cX4_refuge 20 = .ok (.if_icmp .ge 33, 3) := dk_162 0 33 (dk_at dksX4_refuge_0 20 rfl rfl)
theorem dX4_refuge_23 : decode cX4_refuge 23 = .ok (.aload_n 0, 1) := dk_42 (dk_at dksX4_refuge_0 23 rfl rfl)
theorem dX4_refuge_24 : decode cX4_refuge 24 = .ok (.getfield 147, 3) := dk_180 0 147 (dk_at dksX4_refuge_1 0 rfl rfl)
theorem dX4_refuge_27 : decode cX4_refuge 27 = .ok (.iload_n 2, 1) := dk_28 (dk_at dksX4_refuge_1 3 rfl rfl)
theorem dX4_refuge_28 : decode cX4_refuge 28 = .ok (.iload_n 2, 1) := dk_28 (dk_at dksX4_refuge_1 4 rfl rfl)
theorem dX4_refuge_29 : decode cX4_refuge 29 = .ok (.aload_n 0, 1) := dk_42 (dk_at dksX4_refuge_1 5 rfl rfl)
theorem dX4_refuge_30 : decode cX4_refuge 30 = .ok (.getfield 93, 3) := dk_180 0 93 (dk_at dksX4_refuge_1 6 rfl rfl)
theorem dX4_refuge_33 : decode cX4_refuge 33 = .ok (.bipush 22, 2) := dk_16 22 (dk_at dksX4_refuge_1 9 rfl rfl)
theorem dX4_refuge_35 : decode cX4_refuge 35 = .ok (.iload_n 1, 1) := dk_27 (dk_at dksX4_refuge_1 11 rfl rfl)
theorem dX4_refuge_36 : decode cX4_refuge 36 = .ok (.iadd, 1) := dk_96 (dk_at dksX4_refuge_1 12 rfl rfl)
theorem dX4_refuge_37 : decode cX4_refuge 37 = .ok (.iaload, 1) := dk_46 (dk_at dksX4_refuge_1 13 rfl rfl)
theorem dX4_refuge_38 : decode cX4_refuge 38 = .ok (.if_icmp .ne 7, 3) := dk_160 0 7 (dk_at dksX4_refuge_1 14 rfl rfl)
theorem dX4_refuge_41 : decode cX4_refuge 41 = .ok (.iconst 1, 1) := dk_4 (dk_at dksX4_refuge_1 17 rfl rfl)
theorem dX4_refuge_42 : decode cX4_refuge 42 = .ok (.goto 4, 3) := dk_167 0 4 (dk_at dksX4_refuge_1 18 rfl rfl)
theorem dX4_refuge_45 : decode cX4_refuge 45 = .ok (.iconst 0, 1) := dk_3 (dk_at dksX4_refuge_1 21 rfl rfl)
theorem dX4_refuge_46 : decode cX4_refuge 46 = .ok (.bastore, 1) := dk_84 (dk_at dksX4_refuge_1 22 rfl rfl)
theorem dX4_refuge_47 : decode cX4_refuge 47 = .ok (.iinc 2 1, 3) := dk_132 2 1 (dk_at dksX4_refuge_2 0 rfl rfl)
theorem dX4_refuge_50 : decode cX4_refuge 50 = .ok (.goto (-33), 3) := dk_167 255 223 (dk_at dksX4_refuge_2 3 rfl rfl)
theorem dX4_refuge_53 : decode cX4_refuge 53 = .ok (.iconst 0, 1) := dk_3 (dk_at dksX4_refuge_2 6 rfl rfl)
theorem dX4_refuge_54 : decode cX4_refuge 54 = .ok (.istore_n 2, 1) := dk_61 (dk_at dksX4_refuge_2 7 rfl rfl)
theorem dX4_refuge_55 : decode cX4_refuge 55 = .ok (.iload_n 2, 1) := dk_28 (dk_at dksX4_refuge_2 8 rfl rfl)
theorem dX4_refuge_56 : decode cX4_refuge 56 = .ok (.aload_n 0, 1) := dk_42 (dk_at dksX4_refuge_2 9 rfl rfl)
theorem dX4_refuge_57 : decode cX4_refuge 57 = .ok (.getfield 350, 3) := dk_180 1 94 (dk_at dksX4_refuge_2 10 rfl rfl)
theorem dX4_refuge_60 : decode cX4_refuge 60 = .ok (.if_icmp .ge 160, 3) := dk_162 0 160 (dk_at dksX4_refuge_2 13 rfl rfl)
theorem dX4_refuge_63 : decode cX4_refuge 63 = .ok (.iconst 0, 1) := dk_3 (dk_at dksX4_refuge_2 16 rfl rfl)
theorem dX4_refuge_64 : decode cX4_refuge 64 = .ok (.istore_n 3, 1) := dk_62 (dk_at dksX4_refuge_2 17 rfl rfl)
theorem dX4_refuge_65 : decode cX4_refuge 65 = .ok (.iload_n 3, 1) := dk_29 (dk_at dksX4_refuge_2 18 rfl rfl)
theorem dX4_refuge_66 : decode cX4_refuge 66 = .ok (.aload_n 0, 1) := dk_42 (dk_at dksX4_refuge_2 19 rfl rfl)
theorem dX4_refuge_67 : decode cX4_refuge 67 = .ok (.getfield 353, 3) := dk_180 1 97 (dk_at dksX4_refuge_2 20 rfl rfl)
theorem dX4_refuge_70 : decode cX4_refuge 70 = .ok (.if_icmp .ge 144, 3) := dk_162 0 144 (dk_at dksX4_refuge_3 0 rfl rfl)
theorem dX4_refuge_73 : decode cX4_refuge 73 = .ok (.aload_n 0, 1) := dk_42 (dk_at dksX4_refuge_3 3 rfl rfl)
theorem dX4_refuge_74 : decode cX4_refuge 74 = .ok (.iload_n 3, 1) := dk_29 (dk_at dksX4_refuge_3 4 rfl rfl)
theorem dX4_refuge_75 : decode cX4_refuge 75 = .ok (.aload_n 0, 1) := dk_42 (dk_at dksX4_refuge_3 5 rfl rfl)
theorem dX4_refuge_76 : decode cX4_refuge 76 = .ok (.getfield 93, 3) := dk_180 0 93 (dk_at dksX4_refuge_3 6 rfl rfl)
theorem dX4_refuge_79 : decode cX4_refuge 79 = .ok (.iconst 0, 1) := dk_3 (dk_at dksX4_refuge_3 9 rfl rfl)
theorem dX4_refuge_80 : decode cX4_refuge 80 = .ok (.iaload, 1) := dk_46 (dk_at dksX4_refuge_3 10 rfl rfl)
theorem dX4_refuge_81 : decode cX4_refuge 81 = .ok (.invokevirtual 480, 3) := dk_182 1 224 (dk_at dksX4_refuge_3 11 rfl rfl)
theorem dX4_refuge_84 : decode cX4_refuge 84 = .ok (.ifCond .ne 6, 3) := dk_154 0 6 (dk_at dksX4_refuge_3 14 rfl rfl)
theorem dX4_refuge_87 : decode cX4_refuge 87 = .ok (.goto 121, 3) := dk_167 0 121 (dk_at dksX4_refuge_3 17 rfl rfl)
theorem dX4_refuge_90 : decode cX4_refuge 90 = .ok (.aload_n 0, 1) := dk_42 (dk_at dksX4_refuge_3 20 rfl rfl)
theorem dX4_refuge_91 : decode cX4_refuge 91 = .ok (.getfield 147, 3) := dk_180 0 147 (dk_at dksX4_refuge_3 21 rfl rfl)
theorem dX4_refuge_94 : decode cX4_refuge 94 = .ok (.aload_n 0, 1) := dk_42 (dk_at dksX4_refuge_4 0 rfl rfl)
theorem dX4_refuge_95 : decode cX4_refuge 95 = .ok (.getfield 20, 3) := dk_180 0 20 (dk_at dksX4_refuge_4 1 rfl rfl)
theorem dX4_refuge_98 : decode cX4_refuge 98 = .ok (.iload_n 3, 1) := dk_29 (dk_at dksX4_refuge_4 4 rfl rfl)
theorem dX4_refuge_99 : decode cX4_refuge 99 = .ok (.iaload, 1) := dk_46 (dk_at dksX4_refuge_4 5 rfl rfl)
theorem dX4_refuge_100 : decode cX4_refuge 100 = .ok (.aload_n 0, 1) := dk_42 (dk_at dksX4_refuge_4 6 rfl rfl)
theorem dX4_refuge_101 : decode cX4_refuge 101 = .ok (.getfield 147, 3) := dk_180 0 147 (dk_at dksX4_refuge_4 7 rfl rfl)
theorem dX4_refuge_104 : decode cX4_refuge 104 = .ok (.aload_n 0, 1) := dk_42 (dk_at dksX4_refuge_4 10 rfl rfl)
theorem dX4_refuge_105 : decode cX4_refuge 105 = .ok (.getfield 20, 3) := dk_180 0 20 (dk_at dksX4_refuge_4 11 rfl rfl)
theorem dX4_refuge_108 : decode cX4_refuge 108 = .ok (.iload_n 3, 1) := dk_29 (dk_at dksX4_refuge_4 14 rfl rfl)
theorem dX4_refuge_109 : decode cX4_refuge 109 = .ok (.iaload, 1) := dk_46 (dk_at dksX4_refuge_4 15 rfl rfl)
theorem dX4_refuge_110 : decode cX4_refuge 110 = .ok (.baload, 1) := dk_51 (dk_at dksX4_refuge_4 16 rfl rfl)
theorem dX4_refuge_111 : decode cX4_refuge 111 = .ok (.ifCond .ne 32, 3) := dk_154 0 32 (dk_at dksX4_refuge_4 17 rfl rfl)
theorem dX4_refuge_114 : decode cX4_refuge 114 = .ok (.aload_n 0, 1) := dk_42 (dk_at dksX4_refuge_4 20 rfl rfl)
theorem dX4_refuge_115 : decode cX4_refuge 115 = .ok (.getfield 147, 3) := dk_180 0 147 (dk_at dksX4_refuge_4 21 rfl rfl)
theorem dX4_refuge_118 : decode cX4_refuge 118 = .ok (.aload_n 0, 1) := dk_42 (dk_at dksX4_refuge_5 0 rfl rfl)
theorem dX4_refuge_119 : decode cX4_refuge 119 = .ok (.getfield 17, 3) := dk_180 0 17 (dk_at dksX4_refuge_5 1 rfl rfl)
theorem dX4_refuge_122 : decode cX4_refuge 122 = .ok (.iload_n 3, 1) := dk_29 (dk_at dksX4_refuge_5 4 rfl rfl)
theorem dX4_refuge_123 : decode cX4_refuge 123 = .ok (.iaload, 1) := dk_46 (dk_at dksX4_refuge_5 5 rfl rfl)
theorem dX4_refuge_124 : decode cX4_refuge 124 = .ok (.baload, 1) := dk_51 (dk_at dksX4_refuge_5 6 rfl rfl)
theorem dX4_refuge_125 : decode cX4_refuge 125 = .ok (.ifCond .eq 22, 3) := dk_153 0 22 (dk_at dksX4_refuge_5 7 rfl rfl)
theorem dX4_refuge_128 : decode cX4_refuge 128 = .ok (.aload_n 0, 1) := dk_42 (dk_at dksX4_refuge_5 10 rfl rfl)
theorem dX4_refuge_129 : decode cX4_refuge 129 = .ok (.getfield 13, 3) := dk_180 0 13 (dk_at dksX4_refuge_5 11 rfl rfl)
theorem dX4_refuge_132 : decode cX4_refuge 132 = .ok (.aload_n 0, 1) := dk_42 (dk_at dksX4_refuge_5 14 rfl rfl)
theorem dX4_refuge_133 : decode cX4_refuge 133 = .ok (.getfield 17, 3) := dk_180 0 17 (dk_at dksX4_refuge_5 15 rfl rfl)
theorem dX4_refuge_136 : decode cX4_refuge 136 = .ok (.iload_n 3, 1) := dk_29 (dk_at dksX4_refuge_5 18 rfl rfl)
theorem dX4_refuge_137 : decode cX4_refuge 137 = .ok (.iaload, 1) := dk_46 (dk_at dksX4_refuge_5 19 rfl rfl)
theorem dX4_refuge_138 : decode cX4_refuge 138 = .ok (.iaload, 1) := dk_46 (dk_at dksX4_refuge_5 20 rfl rfl)
theorem dX4_refuge_139 : decode cX4_refuge 139 = .ok (.iconst (-1), 1) := dk_2 (dk_at dksX4_refuge_5 21 rfl rfl)
theorem dX4_refuge_140 : decode cX4_refuge 140 = .ok (.if_icmp .eq 7, 3) := dk_159 0 7 (dk_at dksX4_refuge_6 0 rfl rfl)
theorem dX4_refuge_143 : decode cX4_refuge 143 = .ok (.iconst 1, 1) := dk_4 (dk_at dksX4_refuge_6 3 rfl rfl)
theorem dX4_refuge_144 : decode cX4_refuge 144 = .ok (.goto 4, 3) := dk_167 0 4 (dk_at dksX4_refuge_6 4 rfl rfl)
theorem dX4_refuge_147 : decode cX4_refuge 147 = .ok (.iconst 0, 1) := dk_3 (dk_at dksX4_refuge_6 7 rfl rfl)
theorem dX4_refuge_148 : decode cX4_refuge 148 = .ok (.bastore, 1) := dk_84 (dk_at dksX4_refuge_6 8 rfl rfl)
theorem dX4_refuge_149 : decode cX4_refuge 149 = .ok (.aload_n 0, 1) := dk_42 (dk_at dksX4_refuge_6 9 rfl rfl)
theorem dX4_refuge_150 : decode cX4_refuge 150 = .ok (.getfield 147, 3) := dk_180 0 147 (dk_at dksX4_refuge_6 10 rfl rfl)
theorem dX4_refuge_153 : decode cX4_refuge 153 = .ok (.aload_n 0, 1) := dk_42 (dk_at dksX4_refuge_6 13 rfl rfl)
theorem dX4_refuge_154 : decode cX4_refuge 154 = .ok (.getfield 17, 3) := dk_180 0 17 (dk_at dksX4_refuge_6 14 rfl rfl)
theorem dX4_refuge_157 : decode cX4_refuge 157 = .ok (.iload_n 3, 1) := dk_29 (dk_at dksX4_refuge_6 17 rfl rfl)
theorem dX4_refuge_158 : decode cX4_refuge 158 = .ok (.iaload, 1) := dk_46 (dk_at dksX4_refuge_6 18 rfl rfl)
theorem dX4_refuge_159 : decode cX4_refuge 159 = .ok (.aload_n 0, 1) := dk_42 (dk_at dksX4_refuge_6 19 rfl rfl)
theorem dX4_refuge_160 : decode cX4_refuge 160 = .ok (.getfield 147, 3) := dk_180 0 147 (dk_at dksX4_refuge_6 20 rfl rfl)
theorem dX4_refuge_163 : decode cX4_refuge 163 = .ok (.aload_n 0, 1) := dk_42 (dk_at dksX4_refuge_6 23 rfl rfl)
theorem dX4_refuge_164 : decode cX4_refuge 164 = .ok (.getfield 17, 3) := dk_180 0 17 (dk_at dksX4_refuge_7 0 rfl rfl)
theorem dX4_refuge_167 : decode cX4_refuge 167 = .ok (.iload_n 3, 1) := dk_29 (dk_at dksX4_refuge_7 3 rfl rfl)
theorem dX4_refuge_168 : decode cX4_refuge 168 = .ok (.iaload, 1) := dk_46 (dk_at dksX4_refuge_7 4 rfl rfl)
theorem dX4_refuge_169 : decode cX4_refuge 169 = .ok (.baload, 1) := dk_51 (dk_at dksX4_refuge_7 5 rfl rfl)
theorem dX4_refuge_170 : decode cX4_refuge 170 = .ok (.ifCond .ne 32, 3) := dk_154 0 32 (dk_at dksX4_refuge_7 6 rfl rfl)
theorem dX4_refuge_173 : decode cX4_refuge 173 = .ok (.aload_n 0, 1) := dk_42 (dk_at dksX4_refuge_7 9 rfl rfl)
theorem dX4_refuge_174 : decode cX4_refuge 174 = .ok (.getfield 147, 3) := dk_180 0 147 (dk_at dksX4_refuge_7 10 rfl rfl)
theorem dX4_refuge_177 : decode cX4_refuge 177 = .ok (.aload_n 0, 1) := dk_42 (dk_at dksX4_refuge_7 13 rfl rfl)
theorem dX4_refuge_178 : decode cX4_refuge 178 = .ok (.getfield 20, 3) := dk_180 0 20 (dk_at dksX4_refuge_7 14 rfl rfl)
theorem dX4_refuge_181 : decode cX4_refuge 181 = .ok (.iload_n 3, 1) := dk_29 (dk_at dksX4_refuge_7 17 rfl rfl)
theorem dX4_refuge_182 : decode cX4_refuge 182 = .ok (.iaload, 1) := dk_46 (dk_at dksX4_refuge_7 18 rfl rfl)
theorem dX4_refuge_183 : decode cX4_refuge 183 = .ok (.baload, 1) := dk_51 (dk_at dksX4_refuge_7 19 rfl rfl)
theorem dX4_refuge_184 : decode cX4_refuge 184 = .ok (.ifCond .eq 22, 3) := dk_153 0 22 (dk_at dksX4_refuge_7 20 rfl rfl)
theorem dX4_refuge_187 : decode cX4_refuge 187 = .ok (.aload_n 0, 1) := dk_42 (dk_at dksX4_refuge_7 23 rfl rfl)
theorem dX4_refuge_188 : decode cX4_refuge 188 = .ok (.getfield 13, 3) := dk_180 0 13 (dk_at dksX4_refuge_8 0 rfl rfl)
theorem dX4_refuge_191 : decode cX4_refuge 191 = .ok (.aload_n 0, 1) := dk_42 (dk_at dksX4_refuge_8 3 rfl rfl)
theorem dX4_refuge_192 : decode cX4_refuge 192 = .ok (.getfield 20, 3) := dk_180 0 20 (dk_at dksX4_refuge_8 4 rfl rfl)
theorem dX4_refuge_195 : decode cX4_refuge 195 = .ok (.iload_n 3, 1) := dk_29 (dk_at dksX4_refuge_8 7 rfl rfl)
theorem dX4_refuge_196 : decode cX4_refuge 196 = .ok (.iaload, 1) := dk_46 (dk_at dksX4_refuge_8 8 rfl rfl)
theorem dX4_refuge_197 : decode cX4_refuge 197 = .ok (.iaload, 1) := dk_46 (dk_at dksX4_refuge_8 9 rfl rfl)
theorem dX4_refuge_198 : decode cX4_refuge 198 = .ok (.iconst (-1), 1) := dk_2 (dk_at dksX4_refuge_8 10 rfl rfl)
theorem dX4_refuge_199 : decode cX4_refuge 199 = .ok (.if_icmp .eq 7, 3) := dk_159 0 7 (dk_at dksX4_refuge_8 11 rfl rfl)
theorem dX4_refuge_202 : decode cX4_refuge 202 = .ok (.iconst 1, 1) := dk_4 (dk_at dksX4_refuge_8 14 rfl rfl)
theorem dX4_refuge_203 : decode cX4_refuge 203 = .ok (.goto 4, 3) := dk_167 0 4 (dk_at dksX4_refuge_8 15 rfl rfl)
theorem dX4_refuge_206 : decode cX4_refuge 206 = .ok (.iconst 0, 1) := dk_3 (dk_at dksX4_refuge_8 18 rfl rfl)
theorem dX4_refuge_207 : decode cX4_refuge 207 = .ok (.bastore, 1) := dk_84 (dk_at dksX4_refuge_8 19 rfl rfl)
theorem dX4_refuge_208 : decode cX4_refuge 208 = .ok (.iinc 3 1, 3) := dk_132 3 1 (dk_at dksX4_refuge_8 20 rfl rfl)
theorem dX4_refuge_211 : decode cX4_refuge 211 = .ok (.goto (-146), 3) := dk_167 255 110 (dk_at dksX4_refuge_9 0 rfl rfl)
theorem dX4_refuge_214 : decode cX4_refuge 214 = .ok (.iinc 2 1, 3) := dk_132 2 1 (dk_at dksX4_refuge_9 3 rfl rfl)
theorem dX4_refuge_217 : decode cX4_refuge 217 = .ok (.goto (-162), 3) := dk_167 255 94 (dk_at dksX4_refuge_9 6 rfl rfl)
theorem dX4_refuge_220 : decode cX4_refuge 220 = .ok (.aload_n 0, 1) := dk_42 (dk_at dksX4_refuge_9 9 rfl rfl)
theorem dX4_refuge_221 : decode cX4_refuge 221 = .ok (.getfield 93, 3) := dk_180 0 93 (dk_at dksX4_refuge_9 10 rfl rfl)
theorem dX4_refuge_224 : decode cX4_refuge 224 = .ok (.bipush 22, 2) := dk_16 22 (dk_at dksX4_refuge_9 13 rfl rfl)
theorem dX4_refuge_226 : decode cX4_refuge 226 = .ok (.iload_n 1, 1) := dk_27 (dk_at dksX4_refuge_9 15 rfl rfl)
theorem dX4_refuge_227 : decode cX4_refuge 227 = .ok (.iadd, 1) := dk_96 (dk_at dksX4_refuge_9 16 rfl rfl)
theorem dX4_refuge_228 : decode cX4_refuge 228 = .ok (.iaload, 1) := dk_46 (dk_at dksX4_refuge_9 17 rfl rfl)
theorem dX4_refuge_229 : decode cX4_refuge 229 = .ok (.istore_n 2, 1) := dk_61 (dk_at dksX4_refuge_9 18 rfl rfl)
theorem dX4_refuge_230 : decode cX4_refuge 230 = .ok (.aload_n 0, 1) := dk_42 (dk_at dksX4_refuge_9 19 rfl rfl)
theorem dX4_refuge_231 : decode cX4_refuge 231 = .ok (.getfield 350, 3) := dk_180 1 94 (dk_at dksX4_refuge_9 20 rfl rfl)
theorem dX4_refuge_234 : decode cX4_refuge 234 = .ok (.iconst 1, 1) := dk_4 (dk_at dksX4_refuge_9 23 rfl rfl)
theorem dX4_refuge_235 : decode cX4_refuge 235 = .ok (.isub, 1) := dk_100 (dk_at dksX4_refuge_10 0 rfl rfl)
theorem dX4_refuge_236 : decode cX4_refuge 236 = .ok (.istore_n 3, 1) := dk_62 (dk_at dksX4_refuge_10 1 rfl rfl)
theorem dX4_refuge_237 : decode cX4_refuge 237 = .ok (.iload_n 3, 1) := dk_29 (dk_at dksX4_refuge_10 2 rfl rfl)
theorem dX4_refuge_238 : decode cX4_refuge 238 = .ok (.ifCond .lt 39, 3) := dk_155 0 39 (dk_at dksX4_refuge_10 3 rfl rfl)
theorem dX4_refuge_241 : decode cX4_refuge 241 = .ok (.aload_n 0, 1) := dk_42 (dk_at dksX4_refuge_10 6 rfl rfl)
theorem dX4_refuge_242 : decode cX4_refuge 242 = .ok (.getfield 147, 3) := dk_180 0 147 (dk_at dksX4_refuge_10 7 rfl rfl)
theorem dX4_refuge_245 : decode cX4_refuge 245 = .ok (.iload_n 3, 1) := dk_29 (dk_at dksX4_refuge_10 10 rfl rfl)
theorem dX4_refuge_246 : decode cX4_refuge 246 = .ok (.baload, 1) := dk_51 (dk_at dksX4_refuge_10 11 rfl rfl)
theorem dX4_refuge_247 : decode cX4_refuge 247 = .ok (.ifCond .eq 22, 3) := dk_153 0 22 (dk_at dksX4_refuge_10 12 rfl rfl)
theorem dX4_refuge_250 : decode cX4_refuge 250 = .ok (.aload_n 0, 1) := dk_42 (dk_at dksX4_refuge_10 15 rfl rfl)
theorem dX4_refuge_251 : decode cX4_refuge 251 = .ok (.getfield 13, 3) := dk_180 0 13 (dk_at dksX4_refuge_10 16 rfl rfl)
theorem dX4_refuge_254 : decode cX4_refuge 254 = .ok (.iload_n 3, 1) := dk_29 (dk_at dksX4_refuge_10 19 rfl rfl)
theorem dX4_refuge_255 : decode cX4_refuge 255 = .ok (.iaload, 1) := dk_46 (dk_at dksX4_refuge_10 20 rfl rfl)
theorem dX4_refuge_256 : decode cX4_refuge 256 = .ok (.aload_n 0, 1) := dk_42 (dk_at dksX4_refuge_10 21 rfl rfl)
theorem dX4_refuge_257 : decode cX4_refuge 257 = .ok (.getfield 13, 3) := dk_180 0 13 (dk_at dksX4_refuge_11 0 rfl rfl)
theorem dX4_refuge_260 : decode cX4_refuge 260 = .ok (.iload_n 2, 1) := dk_28 (dk_at dksX4_refuge_11 3 rfl rfl)
theorem dX4_refuge_261 : decode cX4_refuge 261 = .ok (.iaload, 1) := dk_46 (dk_at dksX4_refuge_11 4 rfl rfl)
theorem dX4_refuge_262 : decode cX4_refuge 262 = .ok (.if_icmp .gt 7, 3) := dk_163 0 7 (dk_at dksX4_refuge_11 5 rfl rfl)
theorem dX4_refuge_265 : decode cX4_refuge 265 = .ok (.iload_n 3, 1) := dk_29 (dk_at dksX4_refuge_11 8 rfl rfl)
theorem dX4_refuge_266 : decode cX4_refuge 266 = .ok (.goto 4, 3) := dk_167 0 4 (dk_at dksX4_refuge_11 9 rfl rfl)
theorem dX4_refuge_269 : decode cX4_refuge 269 = .ok (.iload_n 2, 1) := dk_28 (dk_at dksX4_refuge_11 12 rfl rfl)
theorem dX4_refuge_270 : decode cX4_refuge 270 = .ok (.istore_n 2, 1) := dk_61 (dk_at dksX4_refuge_11 13 rfl rfl)
theorem dX4_refuge_271 : decode cX4_refuge 271 = .ok (.iinc 3 (-1), 3) := dk_132 3 255 (dk_at dksX4_refuge_11 14 rfl rfl)
theorem dX4_refuge_274 : decode cX4_refuge 274 = .ok (.goto (-37), 3) := dk_167 255 219 (dk_at dksX4_refuge_11 17 rfl rfl)
theorem dX4_refuge_277 : decode cX4_refuge 277 = .ok (.iload_n 2, 1) := dk_28 (dk_at dksX4_refuge_11 20 rfl rfl)
theorem dX4_refuge_278 : decode cX4_refuge 278 = .ok (.ireturn, 1) := dk_172 (dk_at dksX4_refuge_11 21 rfl rfl)
abbrev cX4_sought : ByteArray := prog_13_method_118_code
def yX4_sought : MethodName := ⟨RX4, "sought", "()I"⟩
def dkwX4_sought_1 : List UInt8 := [180, 0, 93, 182, 1, 197, 2, 130, 126, 172]
abbrev dktX4_sought_1 : List UInt8 := dkwX4_sought_1 ++ []
def dkwX4_sought_0 : List UInt8 := [42, 3, 181, 0, 168, 42, 42, 180, 0, 93, 182, 1, 127, 42, 180, 0, 93, 4, 46, 2, 130, 126, 42, 42]
abbrev dktX4_sought_0 : List UInt8 := dkwX4_sought_0 ++ dktX4_sought_1
theorem dksX4_sought_0 : cX4_sought.data.toList.drop 0 = dktX4_sought_0 := by decide +kernel
theorem dksX4_sought_1 : cX4_sought.data.toList.drop 24 = dktX4_sought_1 := dk_seg dksX4_sought_0 24 rfl rfl
theorem dX4_sought_0 : decode cX4_sought 0 = .ok (.aload_n 0, 1) := dk_42 (dk_at dksX4_sought_0 0 rfl rfl)
theorem dX4_sought_1 : decode cX4_sought 1 = .ok (.iconst 0, 1) := dk_3 (dk_at dksX4_sought_0 1 rfl rfl)
theorem dX4_sought_2 : decode cX4_sought 2 = .ok (.putfield 168, 3) := dk_181 0 168 (dk_at dksX4_sought_0 2 rfl rfl)
theorem dX4_sought_5 : decode cX4_sought 5 = .ok (.aload_n 0, 1) := dk_42 (dk_at dksX4_sought_0 5 rfl rfl)
theorem dX4_sought_6 : decode cX4_sought 6 = .ok (.aload_n 0, 1) := dk_42 (dk_at dksX4_sought_0 6 rfl rfl)
theorem dX4_sought_7 : decode cX4_sought 7 = .ok (.getfield 93, 3) := dk_180 0 93 (dk_at dksX4_sought_0 7 rfl rfl)
theorem dX4_sought_10 : decode cX4_sought 10 = .ok (.invokevirtual 383, 3) := dk_182 1 127 (dk_at dksX4_sought_0 10 rfl rfl)
theorem dX4_sought_13 : decode cX4_sought 13 = .ok (.aload_n 0, 1) := dk_42 (dk_at dksX4_sought_0 13 rfl rfl)
theorem dX4_sought_14 : decode cX4_sought 14 = .ok (.getfield 93, 3) := dk_180 0 93 (dk_at dksX4_sought_0 14 rfl rfl)
theorem dX4_sought_17 : decode cX4_sought 17 = .ok (.iconst 1, 1) := dk_4 (dk_at dksX4_sought_0 17 rfl rfl)
theorem dX4_sought_18 : decode cX4_sought 18 = .ok (.iaload, 1) := dk_46 (dk_at dksX4_sought_0 18 rfl rfl)
theorem dX4_sought_19 : decode cX4_sought 19 = .ok (.iconst (-1), 1) := dk_2 (dk_at dksX4_sought_0 19 rfl rfl)
theorem dX4_sought_20 : decode cX4_sought 20 = .ok (.ixor, 1) := dk_130 (dk_at dksX4_sought_0 20 rfl rfl)
theorem dX4_sought_21 : decode cX4_sought 21 = .ok (.iand, 1) := dk_126 (dk_at dksX4_sought_0 21 rfl rfl)
theorem dX4_sought_22 : decode cX4_sought 22 = .ok (.aload_n 0, 1) := dk_42 (dk_at dksX4_sought_0 22 rfl rfl)
theorem dX4_sought_23 : decode cX4_sought 23 = .ok (.aload_n 0, 1) := dk_42 (dk_at dksX4_sought_0 23 rfl rfl)
theorem dX4_sought_24 : decode cX4_sought 24 = .ok (.getfield 93, 3) := dk_180 0 93 (dk_at dksX4_sought_1 0 rfl rfl)
theorem dX4_sought_27 : decode cX4_sought 27 = .ok (.invokevirtual 453, 3) := dk_182 1 197 (dk_at dksX4_sought_1 3 rfl rfl)
theorem dX4_sought_30 : decode cX4_sought 30 = .ok (.iconst (-1), 1) := dk_2 (dk_at dksX4_sought_1 6 rfl rfl)
theorem dX4_sought_31 : decode cX4_sought 31 = .ok (.ixor, 1) := dk_130 (dk_at dksX4_sought_1 7 rfl rfl)
theorem dX4_sought_32 : decode cX4_sought 32 = .ok (.iand, 1) := dk_126 (dk_at dksX4_sought_1 8 rfl rfl)
theorem dX4_sought_33 : decode cX4_sought 33 = .ok (.ireturn, 1) := dk_172 (dk_at dksX4_sought_1 9 rfl rfl)
abbrev cX4_steps : ByteArray := prog_13_method_119_code
def yX4_steps : MethodName := ⟨RX4, "steps", "(II)I"⟩
def dkwX4_steps_4 : List UInt8 := [167, 255, 218, 21, 5, 62, 132, 4, 1, 167, 255, 182, 2, 172]
abbrev dktX4_steps_4 : List UInt8 := dkwX4_steps_4 ++ []
def dkwX4_steps_3 : List UInt8 := [4, 126, 4, 160, 0, 13, 42, 180, 0, 29, 21, 6, 46, 167, 0, 4, 3, 128, 54, 5, 132, 6, 1]
abbrev dktX4_steps_3 : List UInt8 := dkwX4_steps_3 ++ dktX4_steps_4
def dkwX4_steps_2 : List UInt8 := [21, 4, 172, 29, 54, 5, 3, 54, 6, 21, 6, 42, 180, 1, 100, 162, 0, 35, 21, 5, 29, 21, 6, 122]
abbrev dktX4_steps_2 : List UInt8 := dkwX4_steps_2 ++ dktX4_steps_3
def dkwX4_steps_1 : List UInt8 := [27, 120, 62, 3, 54, 4, 21, 4, 42, 180, 1, 100, 163, 0, 71, 29, 28, 122, 4, 126, 4, 160, 0, 6]
abbrev dktX4_steps_1 : List UInt8 := dkwX4_steps_1 ++ dktX4_steps_2
def dkwX4_steps_0 : List UInt8 := [42, 3, 181, 0, 168, 42, 27, 182, 1, 212, 153, 0, 11, 42, 28, 182, 1, 212, 154, 0, 5, 3, 172, 4]
abbrev dktX4_steps_0 : List UInt8 := dkwX4_steps_0 ++ dktX4_steps_1
theorem dksX4_steps_0 : cX4_steps.data.toList.drop 0 = dktX4_steps_0 := by decide +kernel
theorem dksX4_steps_1 : cX4_steps.data.toList.drop 24 = dktX4_steps_1 := dk_seg dksX4_steps_0 24 rfl rfl
theorem dksX4_steps_2 : cX4_steps.data.toList.drop 48 = dktX4_steps_2 := dk_seg dksX4_steps_1 24 rfl rfl
theorem dksX4_steps_3 : cX4_steps.data.toList.drop 72 = dktX4_steps_3 := dk_seg dksX4_steps_2 24 rfl rfl
theorem dksX4_steps_4 : cX4_steps.data.toList.drop 95 = dktX4_steps_4 := dk_seg dksX4_steps_3 23 rfl rfl
theorem dX4_steps_0 : decode cX4_steps 0 = .ok (.aload_n 0, 1) := dk_42 (dk_at dksX4_steps_0 0 rfl rfl)
theorem dX4_steps_1 : decode cX4_steps 1 = .ok (.iconst 0, 1) := dk_3 (dk_at dksX4_steps_0 1 rfl rfl)
theorem dX4_steps_2 : decode cX4_steps 2 = .ok (.putfield 168, 3) := dk_181 0 168 (dk_at dksX4_steps_0 2 rfl rfl)
theorem dX4_steps_5 : decode cX4_steps 5 = .ok (.aload_n 0, 1) := dk_42 (dk_at dksX4_steps_0 5 rfl rfl)
theorem dX4_steps_6 : decode cX4_steps 6 = .ok (.iload_n 1, 1) := dk_27 (dk_at dksX4_steps_0 6 rfl rfl)
theorem dX4_steps_7 : decode cX4_steps 7 = .ok (.invokevirtual 468, 3) := dk_182 1 212 (dk_at dksX4_steps_0 7 rfl rfl)
theorem dX4_steps_10 : decode cX4_steps 10 = .ok (.ifCond .eq 11, 3) := dk_153 0 11 (dk_at dksX4_steps_0 10 rfl rfl)
theorem dX4_steps_13 : decode cX4_steps 13 = .ok (.aload_n 0, 1) := dk_42 (dk_at dksX4_steps_0 13 rfl rfl)
theorem dX4_steps_14 : decode cX4_steps 14 = .ok (.iload_n 2, 1) := dk_28 (dk_at dksX4_steps_0 14 rfl rfl)
theorem dX4_steps_15 : decode cX4_steps 15 = .ok (.invokevirtual 468, 3) := dk_182 1 212 (dk_at dksX4_steps_0 15 rfl rfl)
theorem dX4_steps_18 : decode cX4_steps 18 = .ok (.ifCond .ne 5, 3) := dk_154 0 5 (dk_at dksX4_steps_0 18 rfl rfl)
theorem dX4_steps_21 : decode cX4_steps 21 = .ok (.iconst 0, 1) := dk_3 (dk_at dksX4_steps_0 21 rfl rfl)
theorem dX4_steps_22 : decode cX4_steps 22 = .ok (.ireturn, 1) := dk_172 (dk_at dksX4_steps_0 22 rfl rfl)
theorem dX4_steps_23 : decode cX4_steps 23 = .ok (.iconst 1, 1) := dk_4 (dk_at dksX4_steps_0 23 rfl rfl)
theorem dX4_steps_24 : decode cX4_steps 24 = .ok (.iload_n 1, 1) := dk_27 (dk_at dksX4_steps_1 0 rfl rfl)
theorem dX4_steps_25 : decode cX4_steps 25 = .ok (.ishl, 1) := dk_120 (dk_at dksX4_steps_1 1 rfl rfl)
theorem dX4_steps_26 : decode cX4_steps 26 = .ok (.istore_n 3, 1) := dk_62 (dk_at dksX4_steps_1 2 rfl rfl)
theorem dX4_steps_27 : decode cX4_steps 27 = .ok (.iconst 0, 1) := dk_3 (dk_at dksX4_steps_1 3 rfl rfl)
theorem dX4_steps_28 : decode cX4_steps 28 = .ok (.istore 4, 2) := dk_54 4 (dk_at dksX4_steps_1 4 rfl rfl)
theorem dX4_steps_30 : decode cX4_steps 30 = .ok (.iload 4, 2) := dk_21 4 (dk_at dksX4_steps_1 6 rfl rfl)
theorem dX4_steps_32 : decode cX4_steps 32 = .ok (.aload_n 0, 1) := dk_42 (dk_at dksX4_steps_1 8 rfl rfl)
theorem dX4_steps_33 : decode cX4_steps 33 = .ok (.getfield 356, 3) := dk_180 1 100 (dk_at dksX4_steps_1 9 rfl rfl)
theorem dX4_steps_36 : decode cX4_steps 36 = .ok (.if_icmp .gt 71, 3) := dk_163 0 71 (dk_at dksX4_steps_1 12 rfl rfl)
theorem dX4_steps_39 : decode cX4_steps 39 = .ok (.iload_n 3, 1) := dk_29 (dk_at dksX4_steps_1 15 rfl rfl)
theorem dX4_steps_40 : decode cX4_steps 40 = .ok (.iload_n 2, 1) := dk_28 (dk_at dksX4_steps_1 16 rfl rfl)
theorem dX4_steps_41 : decode cX4_steps 41 = .ok (.ishr, 1) := dk_122 (dk_at dksX4_steps_1 17 rfl rfl)
theorem dX4_steps_42 : decode cX4_steps 42 = .ok (.iconst 1, 1) := dk_4 (dk_at dksX4_steps_1 18 rfl rfl)
theorem dX4_steps_43 : decode cX4_steps 43 = .ok (.iand, 1) := dk_126 (dk_at dksX4_steps_1 19 rfl rfl)
theorem dX4_steps_44 : decode cX4_steps 44 = .ok (.iconst 1, 1) := dk_4 (dk_at dksX4_steps_1 20 rfl rfl)
theorem dX4_steps_45 : decode cX4_steps 45 = .ok (.if_icmp .ne 6, 3) := dk_160 0 6 (dk_at dksX4_steps_1 21 rfl rfl)
theorem dX4_steps_48 : decode cX4_steps 48 = .ok (.iload 4, 2) := dk_21 4 (dk_at dksX4_steps_2 0 rfl rfl)
theorem dX4_steps_50 : decode cX4_steps 50 = .ok (.ireturn, 1) := dk_172 (dk_at dksX4_steps_2 2 rfl rfl)
theorem dX4_steps_51 : decode cX4_steps 51 = .ok (.iload_n 3, 1) := dk_29 (dk_at dksX4_steps_2 3 rfl rfl)
theorem dX4_steps_52 : decode cX4_steps 52 = .ok (.istore 5, 2) := dk_54 5 (dk_at dksX4_steps_2 4 rfl rfl)
theorem dX4_steps_54 : decode cX4_steps 54 = .ok (.iconst 0, 1) := dk_3 (dk_at dksX4_steps_2 6 rfl rfl)
theorem dX4_steps_55 : decode cX4_steps 55 = .ok (.istore 6, 2) := dk_54 6 (dk_at dksX4_steps_2 7 rfl rfl)
theorem dX4_steps_57 : decode cX4_steps 57 = .ok (.iload 6, 2) := dk_21 6 (dk_at dksX4_steps_2 9 rfl rfl)
theorem dX4_steps_59 : decode cX4_steps 59 = .ok (.aload_n 0, 1) := dk_42 (dk_at dksX4_steps_2 11 rfl rfl)
theorem dX4_steps_60 : decode cX4_steps 60 = .ok (.getfield 356, 3) := dk_180 1 100 (dk_at dksX4_steps_2 12 rfl rfl)
theorem dX4_steps_63 : decode cX4_steps 63 = .ok (.if_icmp .ge 35, 3) := dk_162 0 35 (dk_at dksX4_steps_2 15 rfl rfl)
theorem dX4_steps_66 : decode cX4_steps 66 = .ok (.iload 5, 2) := dk_21 5 (dk_at dksX4_steps_2 18 rfl rfl)
theorem dX4_steps_68 : decode cX4_steps 68 = .ok (.iload_n 3, 1) := dk_29 (dk_at dksX4_steps_2 20 rfl rfl)
theorem dX4_steps_69 : decode cX4_steps 69 = .ok (.iload 6, 2) := dk_21 6 (dk_at dksX4_steps_2 21 rfl rfl)
theorem dX4_steps_71 : decode cX4_steps 71 = .ok (.ishr, 1) := dk_122 (dk_at dksX4_steps_2 23 rfl rfl)
theorem dX4_steps_72 : decode cX4_steps 72 = .ok (.iconst 1, 1) := dk_4 (dk_at dksX4_steps_3 0 rfl rfl)
theorem dX4_steps_73 : decode cX4_steps 73 = .ok (.iand, 1) := dk_126 (dk_at dksX4_steps_3 1 rfl rfl)
theorem dX4_steps_74 : decode cX4_steps 74 = .ok (.iconst 1, 1) := dk_4 (dk_at dksX4_steps_3 2 rfl rfl)
theorem dX4_steps_75 : decode cX4_steps 75 = .ok (.if_icmp .ne 13, 3) := dk_160 0 13 (dk_at dksX4_steps_3 3 rfl rfl)
theorem dX4_steps_78 : decode cX4_steps 78 = .ok (.aload_n 0, 1) := dk_42 (dk_at dksX4_steps_3 6 rfl rfl)
theorem dX4_steps_79 : decode cX4_steps 79 = .ok (.getfield 29, 3) := dk_180 0 29 (dk_at dksX4_steps_3 7 rfl rfl)
theorem dX4_steps_82 : decode cX4_steps 82 = .ok (.iload 6, 2) := dk_21 6 (dk_at dksX4_steps_3 10 rfl rfl)
theorem dX4_steps_84 : decode cX4_steps 84 = .ok (.iaload, 1) := dk_46 (dk_at dksX4_steps_3 12 rfl rfl)
theorem dX4_steps_85 : decode cX4_steps 85 = .ok (.goto 4, 3) := dk_167 0 4 (dk_at dksX4_steps_3 13 rfl rfl)
theorem dX4_steps_88 : decode cX4_steps 88 = .ok (.iconst 0, 1) := dk_3 (dk_at dksX4_steps_3 16 rfl rfl)
theorem dX4_steps_89 : decode cX4_steps 89 = .ok (.ior, 1) := dk_128 (dk_at dksX4_steps_3 17 rfl rfl)
theorem dX4_steps_90 : decode cX4_steps 90 = .ok (.istore 5, 2) := dk_54 5 (dk_at dksX4_steps_3 18 rfl rfl)
theorem dX4_steps_92 : decode cX4_steps 92 = .ok (.iinc 6 1, 3) := dk_132 6 1 (dk_at dksX4_steps_3 20 rfl rfl)
theorem dX4_steps_95 : decode cX4_steps 95 = .ok (.goto (-38), 3) := dk_167 255 218 (dk_at dksX4_steps_4 0 rfl rfl)
theorem dX4_steps_98 : decode cX4_steps 98 = .ok (.iload 5, 2) := dk_21 5 (dk_at dksX4_steps_4 3 rfl rfl)
theorem dX4_steps_100 : decode cX4_steps 100 = .ok (.istore_n 3, 1) := dk_62 (dk_at dksX4_steps_4 5 rfl rfl)
theorem dX4_steps_101 : decode cX4_steps 101 = .ok (.iinc 4 1, 3) := dk_132 4 1 (dk_at dksX4_steps_4 6 rfl rfl)
theorem dX4_steps_104 : decode cX4_steps 104 = .ok (.goto (-74), 3) := dk_167 255 182 (dk_at dksX4_steps_4 9 rfl rfl)
theorem dX4_steps_107 : decode cX4_steps 107 = .ok (.iconst (-1), 1) := dk_2 (dk_at dksX4_steps_4 12 rfl rfl)
theorem dX4_steps_108 : decode cX4_steps 108 = .ok (.ireturn, 1) := dk_172 (dk_at dksX4_steps_4 13 rfl rfl)
abbrev cX4_image : ByteArray := prog_13_method_120_code
def yX4_image : MethodName := ⟨RX4, "image", "()V"⟩
def dkwX4_image_2 : List UInt8 := [182, 1, 109, 42, 42, 180, 0, 150, 42, 180, 0, 165, 182, 1, 109, 177]
abbrev dktX4_image_2 : List UInt8 := dkwX4_image_2 ++ []
def dkwX4_image_1 : List UInt8 := [181, 2, 19, 42, 42, 180, 0, 93, 42, 180, 0, 159, 182, 1, 109, 42, 42, 180, 0, 96, 42, 180, 0, 162]
abbrev dktX4_image_1 : List UInt8 := dkwX4_image_1 ++ dktX4_image_2
def dkwX4_image_0 : List UInt8 := [42, 3, 181, 0, 168, 42, 4, 181, 1, 119, 42, 42, 180, 1, 113, 181, 2, 16, 42, 42, 180, 1, 116]
abbrev dktX4_image_0 : List UInt8 := dkwX4_image_0 ++ dktX4_image_1
theorem dksX4_image_0 : cX4_image.data.toList.drop 0 = dktX4_image_0 := by decide +kernel
theorem dksX4_image_1 : cX4_image.data.toList.drop 23 = dktX4_image_1 := dk_seg dksX4_image_0 23 rfl rfl
theorem dksX4_image_2 : cX4_image.data.toList.drop 47 = dktX4_image_2 := dk_seg dksX4_image_1 24 rfl rfl
theorem dX4_image_0 : decode cX4_image 0 = .ok (.aload_n 0, 1) := dk_42 (dk_at dksX4_image_0 0 rfl rfl)
theorem dX4_image_1 : decode cX4_image 1 = .ok (.iconst 0, 1) := dk_3 (dk_at dksX4_image_0 1 rfl rfl)
theorem dX4_image_2 : decode cX4_image 2 = .ok (.putfield 168, 3) := dk_181 0 168 (dk_at dksX4_image_0 2 rfl rfl)
theorem dX4_image_5 : decode cX4_image 5 = .ok (.aload_n 0, 1) := dk_42 (dk_at dksX4_image_0 5 rfl rfl)
theorem dX4_image_6 : decode cX4_image 6 = .ok (.iconst 1, 1) := dk_4 (dk_at dksX4_image_0 6 rfl rfl)
theorem dX4_image_7 : decode cX4_image 7 = .ok (.putfield 375, 3) := dk_181 1 119 (dk_at dksX4_image_0 7 rfl rfl)
theorem dX4_image_10 : decode cX4_image 10 = .ok (.aload_n 0, 1) := dk_42 (dk_at dksX4_image_0 10 rfl rfl)
theorem dX4_image_11 : decode cX4_image 11 = .ok (.aload_n 0, 1) := dk_42 (dk_at dksX4_image_0 11 rfl rfl)
theorem dX4_image_12 : decode cX4_image 12 = .ok (.getfield 369, 3) := dk_180 1 113 (dk_at dksX4_image_0 12 rfl rfl)
theorem dX4_image_15 : decode cX4_image 15 = .ok (.putfield 528, 3) := dk_181 2 16 (dk_at dksX4_image_0 15 rfl rfl)
theorem dX4_image_18 : decode cX4_image 18 = .ok (.aload_n 0, 1) := dk_42 (dk_at dksX4_image_0 18 rfl rfl)
theorem dX4_image_19 : decode cX4_image 19 = .ok (.aload_n 0, 1) := dk_42 (dk_at dksX4_image_0 19 rfl rfl)
theorem dX4_image_20 : decode cX4_image 20 = .ok (.getfield 372, 3) := dk_180 1 116 (dk_at dksX4_image_0 20 rfl rfl)
theorem dX4_image_23 : decode cX4_image 23 = .ok (.putfield 531, 3) := dk_181 2 19 (dk_at dksX4_image_1 0 rfl rfl)
theorem dX4_image_26 : decode cX4_image 26 = .ok (.aload_n 0, 1) := dk_42 (dk_at dksX4_image_1 3 rfl rfl)
theorem dX4_image_27 : decode cX4_image 27 = .ok (.aload_n 0, 1) := dk_42 (dk_at dksX4_image_1 4 rfl rfl)
theorem dX4_image_28 : decode cX4_image 28 = .ok (.getfield 93, 3) := dk_180 0 93 (dk_at dksX4_image_1 5 rfl rfl)
theorem dX4_image_31 : decode cX4_image 31 = .ok (.aload_n 0, 1) := dk_42 (dk_at dksX4_image_1 8 rfl rfl)
theorem dX4_image_32 : decode cX4_image 32 = .ok (.getfield 159, 3) := dk_180 0 159 (dk_at dksX4_image_1 9 rfl rfl)
theorem dX4_image_35 : decode cX4_image 35 = .ok (.invokevirtual 365, 3) := dk_182 1 109 (dk_at dksX4_image_1 12 rfl rfl)
theorem dX4_image_38 : decode cX4_image 38 = .ok (.aload_n 0, 1) := dk_42 (dk_at dksX4_image_1 15 rfl rfl)
theorem dX4_image_39 : decode cX4_image 39 = .ok (.aload_n 0, 1) := dk_42 (dk_at dksX4_image_1 16 rfl rfl)
theorem dX4_image_40 : decode cX4_image 40 = .ok (.getfield 96, 3) := dk_180 0 96 (dk_at dksX4_image_1 17 rfl rfl)
theorem dX4_image_43 : decode cX4_image 43 = .ok (.aload_n 0, 1) := dk_42 (dk_at dksX4_image_1 20 rfl rfl)
theorem dX4_image_44 : decode cX4_image 44 = .ok (.getfield 162, 3) := dk_180 0 162 (dk_at dksX4_image_1 21 rfl rfl)
theorem dX4_image_47 : decode cX4_image 47 = .ok (.invokevirtual 365, 3) := dk_182 1 109 (dk_at dksX4_image_2 0 rfl rfl)
theorem dX4_image_50 : decode cX4_image 50 = .ok (.aload_n 0, 1) := dk_42 (dk_at dksX4_image_2 3 rfl rfl)
theorem dX4_image_51 : decode cX4_image 51 = .ok (.aload_n 0, 1) := dk_42 (dk_at dksX4_image_2 4 rfl rfl)
theorem dX4_image_52 : decode cX4_image 52 = .ok (.getfield 150, 3) := dk_180 0 150 (dk_at dksX4_image_2 5 rfl rfl)
theorem dX4_image_55 : decode cX4_image 55 = .ok (.aload_n 0, 1) := dk_42 (dk_at dksX4_image_2 8 rfl rfl)
theorem dX4_image_56 : decode cX4_image 56 = .ok (.getfield 165, 3) := dk_180 0 165 (dk_at dksX4_image_2 9 rfl rfl)
theorem dX4_image_59 : decode cX4_image 59 = .ok (.invokevirtual 365, 3) := dk_182 1 109 (dk_at dksX4_image_2 12 rfl rfl)
theorem dX4_image_62 : decode cX4_image 62 = .ok (.return_, 1) := dk_177 (dk_at dksX4_image_2 15 rfl rfl)
abbrev cX4_restore : ByteArray := prog_13_method_121_code
def yX4_restore : MethodName := ⟨RX4, "restore", "()Z"⟩
def dkwX4_restore_2 : List UInt8 := [180, 0, 96, 182, 1, 109, 42, 42, 180, 0, 165, 42, 180, 0, 150, 182, 1, 109, 4, 172]
abbrev dktX4_restore_2 : List UInt8 := dkwX4_restore_2 ++ []
def dkwX4_restore_1 : List UInt8 := [180, 2, 19, 181, 1, 116, 42, 42, 180, 0, 159, 42, 180, 0, 93, 182, 1, 109, 42, 42, 180, 0, 162, 42]
abbrev dktX4_restore_1 : List UInt8 := dkwX4_restore_1 ++ dktX4_restore_2
def dkwX4_restore_0 : List UInt8 := [42, 3, 181, 0, 168, 42, 180, 1, 119, 154, 0, 5, 3, 172, 42, 42, 180, 2, 16, 181, 1, 113, 42, 42]
abbrev dktX4_restore_0 : List UInt8 := dkwX4_restore_0 ++ dktX4_restore_1
theorem dksX4_restore_0 : cX4_restore.data.toList.drop 0 = dktX4_restore_0 := by decide +kernel
theorem dksX4_restore_1 : cX4_restore.data.toList.drop 24 = dktX4_restore_1 := dk_seg dksX4_restore_0 24 rfl rfl
theorem dksX4_restore_2 : cX4_restore.data.toList.drop 48 = dktX4_restore_2 := dk_seg dksX4_restore_1 24 rfl rfl
theorem dX4_restore_0 : decode cX4_restore 0 = .ok (.aload_n 0, 1) := dk_42 (dk_at dksX4_restore_0 0 rfl rfl)
theorem dX4_restore_1 : decode cX4_restore 1 = .ok (.iconst 0, 1) := dk_3 (dk_at dksX4_restore_0 1 rfl rfl)
theorem dX4_restore_2 : decode cX4_restore 2 = .ok (.putfield 168, 3) := dk_181 0 168 (dk_at dksX4_restore_0 2 rfl rfl)
theorem dX4_restore_5 : decode cX4_restore 5 = .ok (.aload_n 0, 1) := dk_42 (dk_at dksX4_restore_0 5 rfl rfl)
theorem dX4_restore_6 : decode cX4_restore 6 = .ok (.getfield 375, 3) := dk_180 1 119 (dk_at dksX4_restore_0 6 rfl rfl)
theorem dX4_restore_9 : decode cX4_restore 9 = .ok (.ifCond .ne 5, 3) := dk_154 0 5 (dk_at dksX4_restore_0 9 rfl rfl)
theorem dX4_restore_12 : decode cX4_restore 12 = .ok (.iconst 0, 1) := dk_3 (dk_at dksX4_restore_0 12 rfl rfl)
theorem dX4_restore_13 : decode cX4_restore 13 = .ok (.ireturn, 1) := dk_172 (dk_at dksX4_restore_0 13 rfl rfl)
theorem dX4_restore_14 : decode cX4_restore 14 = .ok (.aload_n 0, 1) := dk_42 (dk_at dksX4_restore_0 14 rfl rfl)
theorem dX4_restore_15 : decode cX4_restore 15 = .ok (.aload_n 0, 1) := dk_42 (dk_at dksX4_restore_0 15 rfl rfl)
theorem dX4_restore_16 : decode cX4_restore 16 = .ok (.getfield 528, 3) := dk_180 2 16 (dk_at dksX4_restore_0 16 rfl rfl)
theorem dX4_restore_19 : decode cX4_restore 19 = .ok (.putfield 369, 3) := dk_181 1 113 (dk_at dksX4_restore_0 19 rfl rfl)
theorem dX4_restore_22 : decode cX4_restore 22 = .ok (.aload_n 0, 1) := dk_42 (dk_at dksX4_restore_0 22 rfl rfl)
theorem dX4_restore_23 : decode cX4_restore 23 = .ok (.aload_n 0, 1) := dk_42 (dk_at dksX4_restore_0 23 rfl rfl)
theorem dX4_restore_24 : decode cX4_restore 24 = .ok (.getfield 531, 3) := dk_180 2 19 (dk_at dksX4_restore_1 0 rfl rfl)
theorem dX4_restore_27 : decode cX4_restore 27 = .ok (.putfield 372, 3) := dk_181 1 116 (dk_at dksX4_restore_1 3 rfl rfl)
theorem dX4_restore_30 : decode cX4_restore 30 = .ok (.aload_n 0, 1) := dk_42 (dk_at dksX4_restore_1 6 rfl rfl)
theorem dX4_restore_31 : decode cX4_restore 31 = .ok (.aload_n 0, 1) := dk_42 (dk_at dksX4_restore_1 7 rfl rfl)
theorem dX4_restore_32 : decode cX4_restore 32 = .ok (.getfield 159, 3) := dk_180 0 159 (dk_at dksX4_restore_1 8 rfl rfl)
theorem dX4_restore_35 : decode cX4_restore 35 = .ok (.aload_n 0, 1) := dk_42 (dk_at dksX4_restore_1 11 rfl rfl)
theorem dX4_restore_36 : decode cX4_restore 36 = .ok (.getfield 93, 3) := dk_180 0 93 (dk_at dksX4_restore_1 12 rfl rfl)
theorem dX4_restore_39 : decode cX4_restore 39 = .ok (.invokevirtual 365, 3) := dk_182 1 109 (dk_at dksX4_restore_1 15 rfl rfl)
theorem dX4_restore_42 : decode cX4_restore 42 = .ok (.aload_n 0, 1) := dk_42 (dk_at dksX4_restore_1 18 rfl rfl)
theorem dX4_restore_43 : decode cX4_restore 43 = .ok (.aload_n 0, 1) := dk_42 (dk_at dksX4_restore_1 19 rfl rfl)
theorem dX4_restore_44 : decode cX4_restore 44 = .ok (.getfield 162, 3) := dk_180 0 162 (dk_at dksX4_restore_1 20 rfl rfl)
theorem dX4_restore_47 : decode cX4_restore 47 = .ok (.aload_n 0, 1) := dk_42 (dk_at dksX4_restore_1 23 rfl rfl)
theorem dX4_restore_48 : decode cX4_restore 48 = .ok (.getfield 96, 3) := dk_180 0 96 (dk_at dksX4_restore_2 0 rfl rfl)
theorem dX4_restore_51 : decode cX4_restore 51 = .ok (.invokevirtual 365, 3) := dk_182 1 109 (dk_at dksX4_restore_2 3 rfl rfl)
theorem dX4_restore_54 : decode cX4_restore 54 = .ok (.aload_n 0, 1) := dk_42 (dk_at dksX4_restore_2 6 rfl rfl)
theorem dX4_restore_55 : decode cX4_restore 55 = .ok (.aload_n 0, 1) := dk_42 (dk_at dksX4_restore_2 7 rfl rfl)
theorem dX4_restore_56 : decode cX4_restore 56 = .ok (.getfield 165, 3) := dk_180 0 165 (dk_at dksX4_restore_2 8 rfl rfl)
theorem dX4_restore_59 : decode cX4_restore 59 = .ok (.aload_n 0, 1) := dk_42 (dk_at dksX4_restore_2 11 rfl rfl)
theorem dX4_restore_60 : decode cX4_restore 60 = .ok (.getfield 150, 3) := dk_180 0 150 (dk_at dksX4_restore_2 12 rfl rfl)
theorem dX4_restore_63 : decode cX4_restore 63 = .ok (.invokevirtual 365, 3) := dk_182 1 109 (dk_at dksX4_restore_2 15 rfl rfl)
theorem dX4_restore_66 : decode cX4_restore 66 = .ok (.iconst 1, 1) := dk_4 (dk_at dksX4_restore_2 18 rfl rfl)
theorem dX4_restore_67 : decode cX4_restore 67 = .ok (.ireturn, 1) := dk_172 (dk_at dksX4_restore_2 19 rfl rfl)
theorem q127 : (Jvm.Cond.initialized "WhiteBoardModel") ∈ lw_all := lw_g (lw_at lw_m1 7 rfl) rfl
theorem q431 : (Jvm.Cond.selects "WhiteBoardModel" ({ cls := "java/lang/Object", name := "getClass", desc := "()Ljava/lang/Class;" } : Jvm.MethodName) ({ cls := "java/lang/Object", name := "getClass", desc := "()Ljava/lang/Class;" } : Jvm.MethodName)) ∈ lw_all := lw_g (lw_at lw_m2 71 rfl) rfl
theorem q1610 : (Jvm.Cond.instantiable "WhiteBoardModel" (87 : Nat)) ∈ lw_all := lw_g (lw_at lw_m7 50 rfl) rfl
theorem q1612 : (Jvm.Cond.instanceMethod ({ cls := "WhiteBoardModel", name := "<init>", desc := "()V" } : Jvm.MethodName)) ∈ lw_all := lw_g (lw_at lw_m7 52 rfl) rfl
theorem q1613 : (Jvm.Cond.code ({ cls := "WhiteBoardModel", name := "<init>", desc := "()V" } : Jvm.MethodName) prog_13_method_1_code (1 : Nat) (Option.none : Option Jvm.ClassFile.FieldType)) ∈ lw_all := lw_g (lw_at lw_m7 53 rfl) rfl
theorem q1614 : (Jvm.Cond.methodLink "WhiteBoardModel" (1 : Nat) ({ cls := "java/lang/Object", name := "<init>", desc := "()V" } : Jvm.MethodName)) ∈ lw_all := lw_g (lw_at lw_m7 54 rfl) rfl
theorem q1615 : (Jvm.Cond.fieldLink "WhiteBoardModel" (168 : Nat) "WhiteBoardModel" "thrown" "I") ∈ lw_all := lw_g (lw_at lw_m7 55 rfl) rfl
theorem q1616 : (Jvm.Cond.fieldLink "WhiteBoardModel" (347 : Nat) "WhiteBoardModel" "masters" "I") ∈ lw_all := lw_g (lw_at lw_m7 56 rfl) rfl
theorem q1617 : (Jvm.Cond.fieldLink "WhiteBoardModel" (350 : Nat) "WhiteBoardModel" "places" "I") ∈ lw_all := lw_g (lw_at lw_m7 57 rfl) rfl
theorem q1618 : (Jvm.Cond.fieldLink "WhiteBoardModel" (353 : Nat) "WhiteBoardModel" "ways" "I") ∈ lw_all := lw_g (lw_at lw_m7 58 rfl) rfl
theorem q1619 : (Jvm.Cond.fieldLink "WhiteBoardModel" (356 : Nat) "WhiteBoardModel" "people" "I") ∈ lw_all := lw_g (lw_at lw_m7 59 rfl) rfl
theorem q1620 : (Jvm.Cond.fieldLink "WhiteBoardModel" (359 : Nat) "WhiteBoardModel" "kins" "I") ∈ lw_all := lw_g (lw_at lw_m7 60 rfl) rfl
theorem q1621 : (Jvm.Cond.fieldLink "WhiteBoardModel" (362 : Nat) "WhiteBoardModel" "friends" "I") ∈ lw_all := lw_g (lw_at lw_m7 61 rfl) rfl
theorem q1622 : (Jvm.Cond.fieldLink "WhiteBoardModel" (9 : Nat) "WhiteBoardModel" "writesAt" "I") ∈ lw_all := lw_g (lw_at lw_m7 62 rfl) rfl
theorem q1623 : (Jvm.Cond.fieldLink "WhiteBoardModel" (13 : Nat) "WhiteBoardModel" "danger" "[I") ∈ lw_all := lw_g (lw_at lw_m7 63 rfl) rfl
theorem q1624 : (Jvm.Cond.fieldLink "WhiteBoardModel" (17 : Nat) "WhiteBoardModel" "wayA" "[I") ∈ lw_all := lw_g (lw_at lw_m7 64 rfl) rfl
theorem q1625 : (Jvm.Cond.fieldLink "WhiteBoardModel" (20 : Nat) "WhiteBoardModel" "wayB" "[I") ∈ lw_all := lw_g (lw_at lw_m7 65 rfl) rfl
theorem q1626 : (Jvm.Cond.fieldLink "WhiteBoardModel" (23 : Nat) "WhiteBoardModel" "gate" "[I") ∈ lw_all := lw_g (lw_at lw_m7 66 rfl) rfl
theorem q1627 : (Jvm.Cond.fieldLink "WhiteBoardModel" (26 : Nat) "WhiteBoardModel" "goods" "[I") ∈ lw_all := lw_g (lw_at lw_m7 67 rfl) rfl
theorem q1628 : (Jvm.Cond.fieldLink "WhiteBoardModel" (29 : Nat) "WhiteBoardModel" "kin" "[I") ∈ lw_all := lw_g (lw_at lw_m7 68 rfl) rfl
theorem q1629 : (Jvm.Cond.fieldLink "WhiteBoardModel" (32 : Nat) "WhiteBoardModel" "friendOf" "[I") ∈ lw_all := lw_g (lw_at lw_m7 69 rfl) rfl
theorem q1630 : (Jvm.Cond.fieldLink "WhiteBoardModel" (35 : Nat) "WhiteBoardModel" "friend" "[I") ∈ lw_all := lw_g (lw_at lw_m7 70 rfl) rfl
theorem q1631 : (Jvm.Cond.fieldLink "WhiteBoardModel" (38 : Nat) "WhiteBoardModel" "isFriend" "[I") ∈ lw_all := lw_g (lw_at lw_m7 71 rfl) rfl
theorem q1632 : (Jvm.Cond.fieldLink "WhiteBoardModel" (41 : Nat) "WhiteBoardModel" "code" "[I") ∈ lw_all := lw_g (lw_at lw_m7 72 rfl) rfl
theorem q1633 : (Jvm.Cond.fieldLink "WhiteBoardModel" (44 : Nat) "WhiteBoardModel" "tape" "[I") ∈ lw_all := lw_g (lw_at lw_m7 73 rfl) rfl
theorem q1634 : (Jvm.Cond.fieldLink "WhiteBoardModel" (171 : Nat) "WhiteBoardModel" "taped" "I") ∈ lw_all := lw_g (lw_at lw_m7 74 rfl) rfl
theorem q1635 : (Jvm.Cond.fieldLink "WhiteBoardModel" (224 : Nat) "WhiteBoardModel" "faultKind" "I") ∈ lw_all := lw_g (lw_at lw_m7 75 rfl) rfl
theorem q1636 : (Jvm.Cond.fieldLink "WhiteBoardModel" (47 : Nat) "WhiteBoardModel" "faultPlace" "I") ∈ lw_all := lw_g (lw_at lw_m7 76 rfl) rfl
theorem q1637 : (Jvm.Cond.fieldLink "WhiteBoardModel" (50 : Nat) "WhiteBoardModel" "refused" "[I") ∈ lw_all := lw_g (lw_at lw_m7 77 rfl) rfl
theorem q1638 : (Jvm.Cond.fieldLink "WhiteBoardModel" (178 : Nat) "WhiteBoardModel" "long1" "I") ∈ lw_all := lw_g (lw_at lw_m7 78 rfl) rfl
theorem q1639 : (Jvm.Cond.fieldLink "WhiteBoardModel" (181 : Nat) "WhiteBoardModel" "next0" "I") ∈ lw_all := lw_g (lw_at lw_m7 79 rfl) rfl
theorem q1640 : (Jvm.Cond.fieldLink "WhiteBoardModel" (201 : Nat) "WhiteBoardModel" "sort" "I") ∈ lw_all := lw_g (lw_at lw_m7 80 rfl) rfl
theorem q1641 : (Jvm.Cond.fieldLink "WhiteBoardModel" (188 : Nat) "WhiteBoardModel" "place0" "I") ∈ lw_all := lw_g (lw_at lw_m7 81 rfl) rfl
theorem q1642 : (Jvm.Cond.fieldLink "WhiteBoardModel" (211 : Nat) "WhiteBoardModel" "long0" "I") ∈ lw_all := lw_g (lw_at lw_m7 82 rfl) rfl
theorem q1643 : (Jvm.Cond.fieldLink "WhiteBoardModel" (195 : Nat) "WhiteBoardModel" "value" "I") ∈ lw_all := lw_g (lw_at lw_m7 83 rfl) rfl
theorem q1644 : (Jvm.Cond.fieldLink "WhiteBoardModel" (198 : Nat) "WhiteBoardModel" "sign" "I") ∈ lw_all := lw_g (lw_at lw_m7 84 rfl) rfl
theorem q1645 : (Jvm.Cond.fieldLink "WhiteBoardModel" (191 : Nat) "WhiteBoardModel" "word" "J") ∈ lw_all := lw_g (lw_at lw_m7 85 rfl) rfl
theorem q1646 : (Jvm.Cond.fieldLink "WhiteBoardModel" (313 : Nat) "WhiteBoardModel" "newMasters" "I") ∈ lw_all := lw_g (lw_at lw_m7 86 rfl) rfl
theorem q1647 : (Jvm.Cond.fieldLink "WhiteBoardModel" (287 : Nat) "WhiteBoardModel" "newPlaces" "I") ∈ lw_all := lw_g (lw_at lw_m7 87 rfl) rfl
theorem q1648 : (Jvm.Cond.fieldLink "WhiteBoardModel" (294 : Nat) "WhiteBoardModel" "newWays" "I") ∈ lw_all := lw_g (lw_at lw_m7 88 rfl) rfl
theorem q1649 : (Jvm.Cond.fieldLink "WhiteBoardModel" (304 : Nat) "WhiteBoardModel" "newPeople" "I") ∈ lw_all := lw_g (lw_at lw_m7 89 rfl) rfl
theorem q1650 : (Jvm.Cond.fieldLink "WhiteBoardModel" (307 : Nat) "WhiteBoardModel" "newKins" "I") ∈ lw_all := lw_g (lw_at lw_m7 90 rfl) rfl
theorem q1651 : (Jvm.Cond.fieldLink "WhiteBoardModel" (310 : Nat) "WhiteBoardModel" "newFriends" "I") ∈ lw_all := lw_g (lw_at lw_m7 91 rfl) rfl
theorem q1652 : (Jvm.Cond.fieldLink "WhiteBoardModel" (331 : Nat) "WhiteBoardModel" "newWritesAt" "I") ∈ lw_all := lw_g (lw_at lw_m7 92 rfl) rfl
theorem q1653 : (Jvm.Cond.fieldLink "WhiteBoardModel" (240 : Nat) "WhiteBoardModel" "top" "I") ∈ lw_all := lw_g (lw_at lw_m7 93 rfl) rfl
theorem q1654 : (Jvm.Cond.fieldLink "WhiteBoardModel" (243 : Nat) "WhiteBoardModel" "waiting" "I") ∈ lw_all := lw_g (lw_at lw_m7 94 rfl) rfl
theorem q1655 : (Jvm.Cond.fieldLink "WhiteBoardModel" (259 : Nat) "WhiteBoardModel" "depth" "I") ∈ lw_all := lw_g (lw_at lw_m7 95 rfl) rfl
theorem q1656 : (Jvm.Cond.fieldLink "WhiteBoardModel" (53 : Nat) "WhiteBoardModel" "newDanger" "[I") ∈ lw_all := lw_g (lw_at lw_m7 96 rfl) rfl
theorem q1657 : (Jvm.Cond.fieldLink "WhiteBoardModel" (56 : Nat) "WhiteBoardModel" "newWayA" "[I") ∈ lw_all := lw_g (lw_at lw_m7 97 rfl) rfl
theorem q1658 : (Jvm.Cond.fieldLink "WhiteBoardModel" (59 : Nat) "WhiteBoardModel" "newWayB" "[I") ∈ lw_all := lw_g (lw_at lw_m7 98 rfl) rfl
theorem q1659 : (Jvm.Cond.fieldLink "WhiteBoardModel" (62 : Nat) "WhiteBoardModel" "newGate" "[I") ∈ lw_all := lw_g (lw_at lw_m7 99 rfl) rfl
theorem q1660 : (Jvm.Cond.fieldLink "WhiteBoardModel" (65 : Nat) "WhiteBoardModel" "newGoods" "[I") ∈ lw_all := lw_g (lw_at lw_m7 100 rfl) rfl
theorem q1661 : (Jvm.Cond.fieldLink "WhiteBoardModel" (68 : Nat) "WhiteBoardModel" "newKin" "[I") ∈ lw_all := lw_g (lw_at lw_m7 101 rfl) rfl
theorem q1662 : (Jvm.Cond.fieldLink "WhiteBoardModel" (71 : Nat) "WhiteBoardModel" "newFriendOf" "[I") ∈ lw_all := lw_g (lw_at lw_m7 102 rfl) rfl
theorem q1663 : (Jvm.Cond.fieldLink "WhiteBoardModel" (74 : Nat) "WhiteBoardModel" "newFriend" "[I") ∈ lw_all := lw_g (lw_at lw_m7 103 rfl) rfl
theorem q1664 : (Jvm.Cond.fieldLink "WhiteBoardModel" (77 : Nat) "WhiteBoardModel" "newIsFriend" "[I") ∈ lw_all := lw_g (lw_at lw_m7 104 rfl) rfl
theorem q1665 : (Jvm.Cond.fieldLink "WhiteBoardModel" (80 : Nat) "WhiteBoardModel" "newRow" "[I") ∈ lw_all := lw_g (lw_at lw_m7 105 rfl) rfl
theorem q1666 : (Jvm.Cond.fieldLink "WhiteBoardModel" (83 : Nat) "WhiteBoardModel" "readCode" "[I") ∈ lw_all := lw_g (lw_at lw_m7 106 rfl) rfl
theorem q1667 : (Jvm.Cond.fieldLink "WhiteBoardModel" (86 : Nat) "WhiteBoardModel" "waits" "[I") ∈ lw_all := lw_g (lw_at lw_m7 107 rfl) rfl
theorem q1668 : (Jvm.Cond.fieldLink "WhiteBoardModel" (89 : Nat) "WhiteBoardModel" "tested" "[Z") ∈ lw_all := lw_g (lw_at lw_m7 108 rfl) rfl
theorem q1669 : (Jvm.Cond.fieldLink "WhiteBoardModel" (93 : Nat) "WhiteBoardModel" "now" "[I") ∈ lw_all := lw_g (lw_at lw_m7 109 rfl) rfl
theorem q1670 : (Jvm.Cond.fieldLink "WhiteBoardModel" (96 : Nat) "WhiteBoardModel" "ahead" "[I") ∈ lw_all := lw_g (lw_at lw_m7 110 rfl) rfl
theorem q1671 : (Jvm.Cond.fieldLink "WhiteBoardModel" (369 : Nat) "WhiteBoardModel" "acts" "I") ∈ lw_all := lw_g (lw_at lw_m7 111 rfl) rfl
theorem q1672 : (Jvm.Cond.fieldLink "WhiteBoardModel" (99 : Nat) "WhiteBoardModel" "told" "[I") ∈ lw_all := lw_g (lw_at lw_m7 112 rfl) rfl
theorem q1673 : (Jvm.Cond.fieldLink "WhiteBoardModel" (102 : Nat) "WhiteBoardModel" "pile" "[I") ∈ lw_all := lw_g (lw_at lw_m7 113 rfl) rfl
theorem q1674 : (Jvm.Cond.fieldLink "WhiteBoardModel" (105 : Nat) "WhiteBoardModel" "brought" "[I") ∈ lw_all := lw_g (lw_at lw_m7 114 rfl) rfl
theorem q1675 : (Jvm.Cond.fieldLink "WhiteBoardModel" (403 : Nat) "WhiteBoardModel" "nothing" "I") ∈ lw_all := lw_g (lw_at lw_m7 115 rfl) rfl
theorem q1676 : (Jvm.Cond.fieldLink "WhiteBoardModel" (108 : Nat) "WhiteBoardModel" "spared0" "I") ∈ lw_all := lw_g (lw_at lw_m7 116 rfl) rfl
theorem q1677 : (Jvm.Cond.fieldLink "WhiteBoardModel" (424 : Nat) "WhiteBoardModel" "named" "I") ∈ lw_all := lw_g (lw_at lw_m7 117 rfl) rfl
theorem q1678 : (Jvm.Cond.fieldLink "WhiteBoardModel" (111 : Nat) "WhiteBoardModel" "names" "[I") ∈ lw_all := lw_g (lw_at lw_m7 118 rfl) rfl
theorem q1679 : (Jvm.Cond.fieldLink "WhiteBoardModel" (114 : Nat) "WhiteBoardModel" "foundOn" "[I") ∈ lw_all := lw_g (lw_at lw_m7 119 rfl) rfl
theorem q1680 : (Jvm.Cond.fieldLink "WhiteBoardModel" (117 : Nat) "WhiteBoardModel" "listAt" "[I") ∈ lw_all := lw_g (lw_at lw_m7 120 rfl) rfl
theorem q1681 : (Jvm.Cond.fieldLink "WhiteBoardModel" (120 : Nat) "WhiteBoardModel" "foundMany" "[I") ∈ lw_all := lw_g (lw_at lw_m7 121 rfl) rfl
theorem q1682 : (Jvm.Cond.fieldLink "WhiteBoardModel" (123 : Nat) "WhiteBoardModel" "writtenMany" "[I") ∈ lw_all := lw_g (lw_at lw_m7 122 rfl) rfl
theorem q1683 : (Jvm.Cond.fieldLink "WhiteBoardModel" (126 : Nat) "WhiteBoardModel" "then" "[I") ∈ lw_all := lw_g (lw_at lw_m7 123 rfl) rfl
theorem q1684 : (Jvm.Cond.fieldLink "WhiteBoardModel" (129 : Nat) "WhiteBoardModel" "neverShut" "I") ∈ lw_all := lw_g (lw_at lw_m7 124 rfl) rfl
theorem q1685 : (Jvm.Cond.fieldLink "WhiteBoardModel" (132 : Nat) "WhiteBoardModel" "names2" "[I") ∈ lw_all := lw_g (lw_at lw_m7 125 rfl) rfl
theorem q1686 : (Jvm.Cond.fieldLink "WhiteBoardModel" (135 : Nat) "WhiteBoardModel" "mayBe" "[Z") ∈ lw_all := lw_g (lw_at lw_m7 126 rfl) rfl
theorem q1687 : (Jvm.Cond.fieldLink "WhiteBoardModel" (138 : Nat) "WhiteBoardModel" "mayBe2" "[Z") ∈ lw_all := lw_g (lw_at lw_m7 127 rfl) rfl
theorem q1688 : (Jvm.Cond.fieldLink "WhiteBoardModel" (141 : Nat) "WhiteBoardModel" "chance" "[I") ∈ lw_all := lw_g (lw_at lw_m7 128 rfl) rfl
theorem q1689 : (Jvm.Cond.fieldLink "WhiteBoardModel" (144 : Nat) "WhiteBoardModel" "chance2" "[I") ∈ lw_all := lw_g (lw_at lw_m7 129 rfl) rfl
theorem q1690 : (Jvm.Cond.fieldLink "WhiteBoardModel" (147 : Nat) "WhiteBoardModel" "canBe" "[Z") ∈ lw_all := lw_g (lw_at lw_m7 130 rfl) rfl
theorem q1691 : (Jvm.Cond.fieldLink "WhiteBoardModel" (372 : Nat) "WhiteBoardModel" "seenMany" "I") ∈ lw_all := lw_g (lw_at lw_m7 131 rfl) rfl
theorem q1692 : (Jvm.Cond.fieldLink "WhiteBoardModel" (150 : Nat) "WhiteBoardModel" "seen" "[I") ∈ lw_all := lw_g (lw_at lw_m7 132 rfl) rfl
theorem q1693 : (Jvm.Cond.fieldLink "WhiteBoardModel" (153 : Nat) "WhiteBoardModel" "lists0" "[I") ∈ lw_all := lw_g (lw_at lw_m7 133 rfl) rfl
theorem q1694 : (Jvm.Cond.fieldLink "WhiteBoardModel" (518 : Nat) "WhiteBoardModel" "its" "I") ∈ lw_all := lw_g (lw_at lw_m7 134 rfl) rfl
theorem q1695 : (Jvm.Cond.fieldLink "WhiteBoardModel" (156 : Nat) "WhiteBoardModel" "steps0" "[I") ∈ lw_all := lw_g (lw_at lw_m7 135 rfl) rfl
theorem q1696 : (Jvm.Cond.fieldLink "WhiteBoardModel" (375 : Nat) "WhiteBoardModel" "hasImage" "Z") ∈ lw_all := lw_g (lw_at lw_m7 136 rfl) rfl
theorem q1697 : (Jvm.Cond.fieldLink "WhiteBoardModel" (528 : Nat) "WhiteBoardModel" "imageActs" "I") ∈ lw_all := lw_g (lw_at lw_m7 137 rfl) rfl
theorem q1698 : (Jvm.Cond.fieldLink "WhiteBoardModel" (531 : Nat) "WhiteBoardModel" "imageSeen" "I") ∈ lw_all := lw_g (lw_at lw_m7 138 rfl) rfl
theorem q1699 : (Jvm.Cond.fieldLink "WhiteBoardModel" (159 : Nat) "WhiteBoardModel" "imageNow" "[I") ∈ lw_all := lw_g (lw_at lw_m7 139 rfl) rfl
theorem q1700 : (Jvm.Cond.fieldLink "WhiteBoardModel" (162 : Nat) "WhiteBoardModel" "imageAhead" "[I") ∈ lw_all := lw_g (lw_at lw_m7 140 rfl) rfl
theorem q1701 : (Jvm.Cond.fieldLink "WhiteBoardModel" (165 : Nat) "WhiteBoardModel" "imageSees" "[I") ∈ lw_all := lw_g (lw_at lw_m7 141 rfl) rfl
theorem q1702 : (Jvm.Cond.lays "WhiteBoardModel" "WhiteBoardModel" "thrown" "I") ∈ lw_all := lw_g (lw_at lw_m7 142 rfl) rfl
theorem q1703 : (Jvm.Cond.soleField "WhiteBoardModel" "thrown") ∈ lw_all := lw_g (lw_at lw_m7 143 rfl) rfl
theorem q1704 : (Jvm.Cond.lays "WhiteBoardModel" "WhiteBoardModel" "masters" "I") ∈ lw_all := lw_g (lw_at lw_m7 144 rfl) rfl
theorem q1705 : (Jvm.Cond.soleField "WhiteBoardModel" "masters") ∈ lw_all := lw_g (lw_at lw_m7 145 rfl) rfl
theorem q1706 : (Jvm.Cond.lays "WhiteBoardModel" "WhiteBoardModel" "places" "I") ∈ lw_all := lw_g (lw_at lw_m7 146 rfl) rfl
theorem q1707 : (Jvm.Cond.soleField "WhiteBoardModel" "places") ∈ lw_all := lw_g (lw_at lw_m7 147 rfl) rfl
theorem q1708 : (Jvm.Cond.lays "WhiteBoardModel" "WhiteBoardModel" "ways" "I") ∈ lw_all := lw_g (lw_at lw_m7 148 rfl) rfl
theorem q1709 : (Jvm.Cond.soleField "WhiteBoardModel" "ways") ∈ lw_all := lw_g (lw_at lw_m7 149 rfl) rfl
theorem q1710 : (Jvm.Cond.lays "WhiteBoardModel" "WhiteBoardModel" "people" "I") ∈ lw_all := lw_g (lw_at lw_m7 150 rfl) rfl
theorem q1711 : (Jvm.Cond.soleField "WhiteBoardModel" "people") ∈ lw_all := lw_g (lw_at lw_m7 151 rfl) rfl
theorem q1712 : (Jvm.Cond.lays "WhiteBoardModel" "WhiteBoardModel" "kins" "I") ∈ lw_all := lw_g (lw_at lw_m7 152 rfl) rfl
theorem q1713 : (Jvm.Cond.soleField "WhiteBoardModel" "kins") ∈ lw_all := lw_g (lw_at lw_m7 153 rfl) rfl
theorem q1714 : (Jvm.Cond.lays "WhiteBoardModel" "WhiteBoardModel" "friends" "I") ∈ lw_all := lw_g (lw_at lw_m7 154 rfl) rfl
theorem q1715 : (Jvm.Cond.soleField "WhiteBoardModel" "friends") ∈ lw_all := lw_g (lw_at lw_m7 155 rfl) rfl
theorem q1716 : (Jvm.Cond.lays "WhiteBoardModel" "WhiteBoardModel" "writesAt" "I") ∈ lw_all := lw_g (lw_at lw_m7 156 rfl) rfl
theorem q1717 : (Jvm.Cond.soleField "WhiteBoardModel" "writesAt") ∈ lw_all := lw_g (lw_at lw_m7 157 rfl) rfl
theorem q1718 : (Jvm.Cond.laysFinal "WhiteBoardModel" "WhiteBoardModel" "danger" "[I") ∈ lw_all := lw_g (lw_at lw_m7 158 rfl) rfl
theorem q1719 : (Jvm.Cond.soleField "WhiteBoardModel" "danger") ∈ lw_all := lw_g (lw_at lw_m7 159 rfl) rfl
theorem q1720 : (Jvm.Cond.laysFinal "WhiteBoardModel" "WhiteBoardModel" "wayA" "[I") ∈ lw_all := lw_g (lw_at lw_m7 160 rfl) rfl
theorem q1721 : (Jvm.Cond.soleField "WhiteBoardModel" "wayA") ∈ lw_all := lw_g (lw_at lw_m7 161 rfl) rfl
theorem q1722 : (Jvm.Cond.laysFinal "WhiteBoardModel" "WhiteBoardModel" "wayB" "[I") ∈ lw_all := lw_g (lw_at lw_m7 162 rfl) rfl
theorem q1723 : (Jvm.Cond.soleField "WhiteBoardModel" "wayB") ∈ lw_all := lw_g (lw_at lw_m7 163 rfl) rfl
theorem q1724 : (Jvm.Cond.laysFinal "WhiteBoardModel" "WhiteBoardModel" "gate" "[I") ∈ lw_all := lw_g (lw_at lw_m7 164 rfl) rfl
theorem q1725 : (Jvm.Cond.soleField "WhiteBoardModel" "gate") ∈ lw_all := lw_g (lw_at lw_m7 165 rfl) rfl
theorem q1726 : (Jvm.Cond.laysFinal "WhiteBoardModel" "WhiteBoardModel" "goods" "[I") ∈ lw_all := lw_g (lw_at lw_m7 166 rfl) rfl
theorem q1727 : (Jvm.Cond.soleField "WhiteBoardModel" "goods") ∈ lw_all := lw_g (lw_at lw_m7 167 rfl) rfl
theorem q1728 : (Jvm.Cond.laysFinal "WhiteBoardModel" "WhiteBoardModel" "kin" "[I") ∈ lw_all := lw_g (lw_at lw_m7 168 rfl) rfl
theorem q1729 : (Jvm.Cond.soleField "WhiteBoardModel" "kin") ∈ lw_all := lw_g (lw_at lw_m7 169 rfl) rfl
theorem q1730 : (Jvm.Cond.laysFinal "WhiteBoardModel" "WhiteBoardModel" "friendOf" "[I") ∈ lw_all := lw_g (lw_at lw_m7 170 rfl) rfl
theorem q1731 : (Jvm.Cond.soleField "WhiteBoardModel" "friendOf") ∈ lw_all := lw_g (lw_at lw_m7 171 rfl) rfl
theorem q1732 : (Jvm.Cond.laysFinal "WhiteBoardModel" "WhiteBoardModel" "friend" "[I") ∈ lw_all := lw_g (lw_at lw_m7 172 rfl) rfl
theorem q1733 : (Jvm.Cond.soleField "WhiteBoardModel" "friend") ∈ lw_all := lw_g (lw_at lw_m7 173 rfl) rfl
theorem q1734 : (Jvm.Cond.laysFinal "WhiteBoardModel" "WhiteBoardModel" "isFriend" "[I") ∈ lw_all := lw_g (lw_at lw_m7 174 rfl) rfl
theorem q1735 : (Jvm.Cond.soleField "WhiteBoardModel" "isFriend") ∈ lw_all := lw_g (lw_at lw_m7 175 rfl) rfl
theorem q1736 : (Jvm.Cond.laysFinal "WhiteBoardModel" "WhiteBoardModel" "code" "[I") ∈ lw_all := lw_g (lw_at lw_m7 176 rfl) rfl
theorem q1737 : (Jvm.Cond.soleField "WhiteBoardModel" "code") ∈ lw_all := lw_g (lw_at lw_m7 177 rfl) rfl
theorem q1738 : (Jvm.Cond.laysFinal "WhiteBoardModel" "WhiteBoardModel" "tape" "[I") ∈ lw_all := lw_g (lw_at lw_m7 178 rfl) rfl
theorem q1739 : (Jvm.Cond.soleField "WhiteBoardModel" "tape") ∈ lw_all := lw_g (lw_at lw_m7 179 rfl) rfl
theorem q1740 : (Jvm.Cond.lays "WhiteBoardModel" "WhiteBoardModel" "taped" "I") ∈ lw_all := lw_g (lw_at lw_m7 180 rfl) rfl
theorem q1741 : (Jvm.Cond.soleField "WhiteBoardModel" "taped") ∈ lw_all := lw_g (lw_at lw_m7 181 rfl) rfl
theorem q1742 : (Jvm.Cond.lays "WhiteBoardModel" "WhiteBoardModel" "faultKind" "I") ∈ lw_all := lw_g (lw_at lw_m7 182 rfl) rfl
theorem q1743 : (Jvm.Cond.soleField "WhiteBoardModel" "faultKind") ∈ lw_all := lw_g (lw_at lw_m7 183 rfl) rfl
theorem q1744 : (Jvm.Cond.lays "WhiteBoardModel" "WhiteBoardModel" "faultPlace" "I") ∈ lw_all := lw_g (lw_at lw_m7 184 rfl) rfl
theorem q1745 : (Jvm.Cond.soleField "WhiteBoardModel" "faultPlace") ∈ lw_all := lw_g (lw_at lw_m7 185 rfl) rfl
theorem q1746 : (Jvm.Cond.laysFinal "WhiteBoardModel" "WhiteBoardModel" "refused" "[I") ∈ lw_all := lw_g (lw_at lw_m7 186 rfl) rfl
theorem q1747 : (Jvm.Cond.soleField "WhiteBoardModel" "refused") ∈ lw_all := lw_g (lw_at lw_m7 187 rfl) rfl
theorem q1748 : (Jvm.Cond.lays "WhiteBoardModel" "WhiteBoardModel" "long1" "I") ∈ lw_all := lw_g (lw_at lw_m7 188 rfl) rfl
theorem q1749 : (Jvm.Cond.soleField "WhiteBoardModel" "long1") ∈ lw_all := lw_g (lw_at lw_m7 189 rfl) rfl
theorem q1750 : (Jvm.Cond.lays "WhiteBoardModel" "WhiteBoardModel" "next0" "I") ∈ lw_all := lw_g (lw_at lw_m7 190 rfl) rfl
theorem q1751 : (Jvm.Cond.soleField "WhiteBoardModel" "next0") ∈ lw_all := lw_g (lw_at lw_m7 191 rfl) rfl
theorem q1752 : (Jvm.Cond.lays "WhiteBoardModel" "WhiteBoardModel" "sort" "I") ∈ lw_all := lw_g (lw_at lw_m7 192 rfl) rfl
theorem q1753 : (Jvm.Cond.soleField "WhiteBoardModel" "sort") ∈ lw_all := lw_g (lw_at lw_m7 193 rfl) rfl
theorem q1754 : (Jvm.Cond.lays "WhiteBoardModel" "WhiteBoardModel" "place0" "I") ∈ lw_all := lw_g (lw_at lw_m7 194 rfl) rfl
theorem q1755 : (Jvm.Cond.soleField "WhiteBoardModel" "place0") ∈ lw_all := lw_g (lw_at lw_m7 195 rfl) rfl
theorem q1756 : (Jvm.Cond.lays "WhiteBoardModel" "WhiteBoardModel" "long0" "I") ∈ lw_all := lw_g (lw_at lw_m7 196 rfl) rfl
theorem q1757 : (Jvm.Cond.soleField "WhiteBoardModel" "long0") ∈ lw_all := lw_g (lw_at lw_m7 197 rfl) rfl
theorem q1758 : (Jvm.Cond.lays "WhiteBoardModel" "WhiteBoardModel" "value" "I") ∈ lw_all := lw_g (lw_at lw_m7 198 rfl) rfl
theorem q1759 : (Jvm.Cond.soleField "WhiteBoardModel" "value") ∈ lw_all := lw_g (lw_at lw_m7 199 rfl) rfl
theorem q1760 : (Jvm.Cond.lays "WhiteBoardModel" "WhiteBoardModel" "sign" "I") ∈ lw_all := lw_g (lw_at lw_m7 200 rfl) rfl
theorem q1761 : (Jvm.Cond.soleField "WhiteBoardModel" "sign") ∈ lw_all := lw_g (lw_at lw_m7 201 rfl) rfl
theorem q1762 : (Jvm.Cond.lays "WhiteBoardModel" "WhiteBoardModel" "word" "J") ∈ lw_all := lw_g (lw_at lw_m7 202 rfl) rfl
theorem q1763 : (Jvm.Cond.soleField "WhiteBoardModel" "word") ∈ lw_all := lw_g (lw_at lw_m7 203 rfl) rfl
theorem q1764 : (Jvm.Cond.lays "WhiteBoardModel" "WhiteBoardModel" "newMasters" "I") ∈ lw_all := lw_g (lw_at lw_m7 204 rfl) rfl
theorem q1765 : (Jvm.Cond.soleField "WhiteBoardModel" "newMasters") ∈ lw_all := lw_g (lw_at lw_m7 205 rfl) rfl
theorem q1766 : (Jvm.Cond.lays "WhiteBoardModel" "WhiteBoardModel" "newPlaces" "I") ∈ lw_all := lw_g (lw_at lw_m7 206 rfl) rfl
theorem q1767 : (Jvm.Cond.soleField "WhiteBoardModel" "newPlaces") ∈ lw_all := lw_g (lw_at lw_m7 207 rfl) rfl
theorem q1768 : (Jvm.Cond.lays "WhiteBoardModel" "WhiteBoardModel" "newWays" "I") ∈ lw_all := lw_g (lw_at lw_m7 208 rfl) rfl
theorem q1769 : (Jvm.Cond.soleField "WhiteBoardModel" "newWays") ∈ lw_all := lw_g (lw_at lw_m7 209 rfl) rfl
theorem q1770 : (Jvm.Cond.lays "WhiteBoardModel" "WhiteBoardModel" "newPeople" "I") ∈ lw_all := lw_g (lw_at lw_m7 210 rfl) rfl
theorem q1771 : (Jvm.Cond.soleField "WhiteBoardModel" "newPeople") ∈ lw_all := lw_g (lw_at lw_m7 211 rfl) rfl
theorem q1772 : (Jvm.Cond.lays "WhiteBoardModel" "WhiteBoardModel" "newKins" "I") ∈ lw_all := lw_g (lw_at lw_m7 212 rfl) rfl
theorem q1773 : (Jvm.Cond.soleField "WhiteBoardModel" "newKins") ∈ lw_all := lw_g (lw_at lw_m7 213 rfl) rfl
theorem q1774 : (Jvm.Cond.lays "WhiteBoardModel" "WhiteBoardModel" "newFriends" "I") ∈ lw_all := lw_g (lw_at lw_m7 214 rfl) rfl
theorem q1775 : (Jvm.Cond.soleField "WhiteBoardModel" "newFriends") ∈ lw_all := lw_g (lw_at lw_m7 215 rfl) rfl
theorem q1776 : (Jvm.Cond.lays "WhiteBoardModel" "WhiteBoardModel" "newWritesAt" "I") ∈ lw_all := lw_g (lw_at lw_m7 216 rfl) rfl
theorem q1777 : (Jvm.Cond.soleField "WhiteBoardModel" "newWritesAt") ∈ lw_all := lw_g (lw_at lw_m7 217 rfl) rfl
theorem q1778 : (Jvm.Cond.lays "WhiteBoardModel" "WhiteBoardModel" "top" "I") ∈ lw_all := lw_g (lw_at lw_m7 218 rfl) rfl
theorem q1779 : (Jvm.Cond.soleField "WhiteBoardModel" "top") ∈ lw_all := lw_g (lw_at lw_m7 219 rfl) rfl
theorem q1780 : (Jvm.Cond.lays "WhiteBoardModel" "WhiteBoardModel" "waiting" "I") ∈ lw_all := lw_g (lw_at lw_m7 220 rfl) rfl
theorem q1781 : (Jvm.Cond.soleField "WhiteBoardModel" "waiting") ∈ lw_all := lw_g (lw_at lw_m7 221 rfl) rfl
theorem q1782 : (Jvm.Cond.lays "WhiteBoardModel" "WhiteBoardModel" "depth" "I") ∈ lw_all := lw_g (lw_at lw_m7 222 rfl) rfl
theorem q1783 : (Jvm.Cond.soleField "WhiteBoardModel" "depth") ∈ lw_all := lw_g (lw_at lw_m7 223 rfl) rfl
theorem q1784 : (Jvm.Cond.laysFinal "WhiteBoardModel" "WhiteBoardModel" "newDanger" "[I") ∈ lw_all := lw_g (lw_at lw_m7 224 rfl) rfl
theorem q1785 : (Jvm.Cond.soleField "WhiteBoardModel" "newDanger") ∈ lw_all := lw_g (lw_at lw_m7 225 rfl) rfl
theorem q1786 : (Jvm.Cond.laysFinal "WhiteBoardModel" "WhiteBoardModel" "newWayA" "[I") ∈ lw_all := lw_g (lw_at lw_m7 226 rfl) rfl
theorem q1787 : (Jvm.Cond.soleField "WhiteBoardModel" "newWayA") ∈ lw_all := lw_g (lw_at lw_m7 227 rfl) rfl
theorem q1788 : (Jvm.Cond.laysFinal "WhiteBoardModel" "WhiteBoardModel" "newWayB" "[I") ∈ lw_all := lw_g (lw_at lw_m7 228 rfl) rfl
theorem q1789 : (Jvm.Cond.soleField "WhiteBoardModel" "newWayB") ∈ lw_all := lw_g (lw_at lw_m7 229 rfl) rfl
theorem q1790 : (Jvm.Cond.laysFinal "WhiteBoardModel" "WhiteBoardModel" "newGate" "[I") ∈ lw_all := lw_g (lw_at lw_m7 230 rfl) rfl
theorem q1791 : (Jvm.Cond.soleField "WhiteBoardModel" "newGate") ∈ lw_all := lw_g (lw_at lw_m7 231 rfl) rfl
theorem q1792 : (Jvm.Cond.laysFinal "WhiteBoardModel" "WhiteBoardModel" "newGoods" "[I") ∈ lw_all := lw_g (lw_at lw_m7 232 rfl) rfl
theorem q1793 : (Jvm.Cond.soleField "WhiteBoardModel" "newGoods") ∈ lw_all := lw_g (lw_at lw_m7 233 rfl) rfl
theorem q1794 : (Jvm.Cond.laysFinal "WhiteBoardModel" "WhiteBoardModel" "newKin" "[I") ∈ lw_all := lw_g (lw_at lw_m7 234 rfl) rfl
theorem q1795 : (Jvm.Cond.soleField "WhiteBoardModel" "newKin") ∈ lw_all := lw_g (lw_at lw_m7 235 rfl) rfl
theorem q1796 : (Jvm.Cond.laysFinal "WhiteBoardModel" "WhiteBoardModel" "newFriendOf" "[I") ∈ lw_all := lw_g (lw_at lw_m7 236 rfl) rfl
theorem q1797 : (Jvm.Cond.soleField "WhiteBoardModel" "newFriendOf") ∈ lw_all := lw_g (lw_at lw_m7 237 rfl) rfl
theorem q1798 : (Jvm.Cond.laysFinal "WhiteBoardModel" "WhiteBoardModel" "newFriend" "[I") ∈ lw_all := lw_g (lw_at lw_m7 238 rfl) rfl
theorem q1799 : (Jvm.Cond.soleField "WhiteBoardModel" "newFriend") ∈ lw_all := lw_g (lw_at lw_m7 239 rfl) rfl
theorem q1800 : (Jvm.Cond.laysFinal "WhiteBoardModel" "WhiteBoardModel" "newIsFriend" "[I") ∈ lw_all := lw_g (lw_at lw_m8 0 rfl) rfl
theorem q1801 : (Jvm.Cond.soleField "WhiteBoardModel" "newIsFriend") ∈ lw_all := lw_g (lw_at lw_m8 1 rfl) rfl
theorem q1802 : (Jvm.Cond.laysFinal "WhiteBoardModel" "WhiteBoardModel" "newRow" "[I") ∈ lw_all := lw_g (lw_at lw_m8 2 rfl) rfl
theorem q1803 : (Jvm.Cond.soleField "WhiteBoardModel" "newRow") ∈ lw_all := lw_g (lw_at lw_m8 3 rfl) rfl
theorem q1804 : (Jvm.Cond.laysFinal "WhiteBoardModel" "WhiteBoardModel" "readCode" "[I") ∈ lw_all := lw_g (lw_at lw_m8 4 rfl) rfl
theorem q1805 : (Jvm.Cond.soleField "WhiteBoardModel" "readCode") ∈ lw_all := lw_g (lw_at lw_m8 5 rfl) rfl
theorem q1806 : (Jvm.Cond.laysFinal "WhiteBoardModel" "WhiteBoardModel" "waits" "[I") ∈ lw_all := lw_g (lw_at lw_m8 6 rfl) rfl
theorem q1807 : (Jvm.Cond.soleField "WhiteBoardModel" "waits") ∈ lw_all := lw_g (lw_at lw_m8 7 rfl) rfl
theorem q1808 : (Jvm.Cond.laysFinal "WhiteBoardModel" "WhiteBoardModel" "tested" "[Z") ∈ lw_all := lw_g (lw_at lw_m8 8 rfl) rfl
theorem q1809 : (Jvm.Cond.soleField "WhiteBoardModel" "tested") ∈ lw_all := lw_g (lw_at lw_m8 9 rfl) rfl
theorem q1810 : (Jvm.Cond.laysFinal "WhiteBoardModel" "WhiteBoardModel" "now" "[I") ∈ lw_all := lw_g (lw_at lw_m8 10 rfl) rfl
theorem q1811 : (Jvm.Cond.soleField "WhiteBoardModel" "now") ∈ lw_all := lw_g (lw_at lw_m8 11 rfl) rfl
theorem q1812 : (Jvm.Cond.laysFinal "WhiteBoardModel" "WhiteBoardModel" "ahead" "[I") ∈ lw_all := lw_g (lw_at lw_m8 12 rfl) rfl
theorem q1813 : (Jvm.Cond.soleField "WhiteBoardModel" "ahead") ∈ lw_all := lw_g (lw_at lw_m8 13 rfl) rfl
theorem q1814 : (Jvm.Cond.lays "WhiteBoardModel" "WhiteBoardModel" "acts" "I") ∈ lw_all := lw_g (lw_at lw_m8 14 rfl) rfl
theorem q1815 : (Jvm.Cond.soleField "WhiteBoardModel" "acts") ∈ lw_all := lw_g (lw_at lw_m8 15 rfl) rfl
theorem q1816 : (Jvm.Cond.laysFinal "WhiteBoardModel" "WhiteBoardModel" "told" "[I") ∈ lw_all := lw_g (lw_at lw_m8 16 rfl) rfl
theorem q1817 : (Jvm.Cond.soleField "WhiteBoardModel" "told") ∈ lw_all := lw_g (lw_at lw_m8 17 rfl) rfl
theorem q1818 : (Jvm.Cond.laysFinal "WhiteBoardModel" "WhiteBoardModel" "pile" "[I") ∈ lw_all := lw_g (lw_at lw_m8 18 rfl) rfl
theorem q1819 : (Jvm.Cond.soleField "WhiteBoardModel" "pile") ∈ lw_all := lw_g (lw_at lw_m8 19 rfl) rfl
theorem q1820 : (Jvm.Cond.laysFinal "WhiteBoardModel" "WhiteBoardModel" "brought" "[I") ∈ lw_all := lw_g (lw_at lw_m8 20 rfl) rfl
theorem q1821 : (Jvm.Cond.soleField "WhiteBoardModel" "brought") ∈ lw_all := lw_g (lw_at lw_m8 21 rfl) rfl
theorem q1822 : (Jvm.Cond.lays "WhiteBoardModel" "WhiteBoardModel" "nothing" "I") ∈ lw_all := lw_g (lw_at lw_m8 22 rfl) rfl
theorem q1823 : (Jvm.Cond.soleField "WhiteBoardModel" "nothing") ∈ lw_all := lw_g (lw_at lw_m8 23 rfl) rfl
theorem q1824 : (Jvm.Cond.lays "WhiteBoardModel" "WhiteBoardModel" "spared0" "I") ∈ lw_all := lw_g (lw_at lw_m8 24 rfl) rfl
theorem q1825 : (Jvm.Cond.soleField "WhiteBoardModel" "spared0") ∈ lw_all := lw_g (lw_at lw_m8 25 rfl) rfl
theorem q1826 : (Jvm.Cond.lays "WhiteBoardModel" "WhiteBoardModel" "named" "I") ∈ lw_all := lw_g (lw_at lw_m8 26 rfl) rfl
theorem q1827 : (Jvm.Cond.soleField "WhiteBoardModel" "named") ∈ lw_all := lw_g (lw_at lw_m8 27 rfl) rfl
theorem q1828 : (Jvm.Cond.laysFinal "WhiteBoardModel" "WhiteBoardModel" "names" "[I") ∈ lw_all := lw_g (lw_at lw_m8 28 rfl) rfl
theorem q1829 : (Jvm.Cond.soleField "WhiteBoardModel" "names") ∈ lw_all := lw_g (lw_at lw_m8 29 rfl) rfl
theorem q1830 : (Jvm.Cond.laysFinal "WhiteBoardModel" "WhiteBoardModel" "foundOn" "[I") ∈ lw_all := lw_g (lw_at lw_m8 30 rfl) rfl
theorem q1831 : (Jvm.Cond.soleField "WhiteBoardModel" "foundOn") ∈ lw_all := lw_g (lw_at lw_m8 31 rfl) rfl
theorem q1832 : (Jvm.Cond.laysFinal "WhiteBoardModel" "WhiteBoardModel" "listAt" "[I") ∈ lw_all := lw_g (lw_at lw_m8 32 rfl) rfl
theorem q1833 : (Jvm.Cond.soleField "WhiteBoardModel" "listAt") ∈ lw_all := lw_g (lw_at lw_m8 33 rfl) rfl
theorem q1834 : (Jvm.Cond.laysFinal "WhiteBoardModel" "WhiteBoardModel" "foundMany" "[I") ∈ lw_all := lw_g (lw_at lw_m8 34 rfl) rfl
theorem q1835 : (Jvm.Cond.soleField "WhiteBoardModel" "foundMany") ∈ lw_all := lw_g (lw_at lw_m8 35 rfl) rfl
theorem q1836 : (Jvm.Cond.laysFinal "WhiteBoardModel" "WhiteBoardModel" "writtenMany" "[I") ∈ lw_all := lw_g (lw_at lw_m8 36 rfl) rfl
theorem q1837 : (Jvm.Cond.soleField "WhiteBoardModel" "writtenMany") ∈ lw_all := lw_g (lw_at lw_m8 37 rfl) rfl
theorem q1838 : (Jvm.Cond.laysFinal "WhiteBoardModel" "WhiteBoardModel" "then" "[I") ∈ lw_all := lw_g (lw_at lw_m8 38 rfl) rfl
theorem q1839 : (Jvm.Cond.soleField "WhiteBoardModel" "then") ∈ lw_all := lw_g (lw_at lw_m8 39 rfl) rfl
theorem q1840 : (Jvm.Cond.lays "WhiteBoardModel" "WhiteBoardModel" "neverShut" "I") ∈ lw_all := lw_g (lw_at lw_m8 40 rfl) rfl
theorem q1841 : (Jvm.Cond.soleField "WhiteBoardModel" "neverShut") ∈ lw_all := lw_g (lw_at lw_m8 41 rfl) rfl
theorem q1842 : (Jvm.Cond.laysFinal "WhiteBoardModel" "WhiteBoardModel" "names2" "[I") ∈ lw_all := lw_g (lw_at lw_m8 42 rfl) rfl
theorem q1843 : (Jvm.Cond.soleField "WhiteBoardModel" "names2") ∈ lw_all := lw_g (lw_at lw_m8 43 rfl) rfl
theorem q1844 : (Jvm.Cond.laysFinal "WhiteBoardModel" "WhiteBoardModel" "mayBe" "[Z") ∈ lw_all := lw_g (lw_at lw_m8 44 rfl) rfl
theorem q1845 : (Jvm.Cond.soleField "WhiteBoardModel" "mayBe") ∈ lw_all := lw_g (lw_at lw_m8 45 rfl) rfl
theorem q1846 : (Jvm.Cond.laysFinal "WhiteBoardModel" "WhiteBoardModel" "mayBe2" "[Z") ∈ lw_all := lw_g (lw_at lw_m8 46 rfl) rfl
theorem q1847 : (Jvm.Cond.soleField "WhiteBoardModel" "mayBe2") ∈ lw_all := lw_g (lw_at lw_m8 47 rfl) rfl
theorem q1848 : (Jvm.Cond.laysFinal "WhiteBoardModel" "WhiteBoardModel" "chance" "[I") ∈ lw_all := lw_g (lw_at lw_m8 48 rfl) rfl
theorem q1849 : (Jvm.Cond.soleField "WhiteBoardModel" "chance") ∈ lw_all := lw_g (lw_at lw_m8 49 rfl) rfl
theorem q1850 : (Jvm.Cond.laysFinal "WhiteBoardModel" "WhiteBoardModel" "chance2" "[I") ∈ lw_all := lw_g (lw_at lw_m8 50 rfl) rfl
theorem q1851 : (Jvm.Cond.soleField "WhiteBoardModel" "chance2") ∈ lw_all := lw_g (lw_at lw_m8 51 rfl) rfl
theorem q1852 : (Jvm.Cond.laysFinal "WhiteBoardModel" "WhiteBoardModel" "canBe" "[Z") ∈ lw_all := lw_g (lw_at lw_m8 52 rfl) rfl
theorem q1853 : (Jvm.Cond.soleField "WhiteBoardModel" "canBe") ∈ lw_all := lw_g (lw_at lw_m8 53 rfl) rfl
theorem q1854 : (Jvm.Cond.lays "WhiteBoardModel" "WhiteBoardModel" "seenMany" "I") ∈ lw_all := lw_g (lw_at lw_m8 54 rfl) rfl
theorem q1855 : (Jvm.Cond.soleField "WhiteBoardModel" "seenMany") ∈ lw_all := lw_g (lw_at lw_m8 55 rfl) rfl
theorem q1856 : (Jvm.Cond.laysFinal "WhiteBoardModel" "WhiteBoardModel" "seen" "[I") ∈ lw_all := lw_g (lw_at lw_m8 56 rfl) rfl
theorem q1857 : (Jvm.Cond.soleField "WhiteBoardModel" "seen") ∈ lw_all := lw_g (lw_at lw_m8 57 rfl) rfl
theorem q1858 : (Jvm.Cond.laysFinal "WhiteBoardModel" "WhiteBoardModel" "lists0" "[I") ∈ lw_all := lw_g (lw_at lw_m8 58 rfl) rfl
theorem q1859 : (Jvm.Cond.soleField "WhiteBoardModel" "lists0") ∈ lw_all := lw_g (lw_at lw_m8 59 rfl) rfl
theorem q1860 : (Jvm.Cond.lays "WhiteBoardModel" "WhiteBoardModel" "its" "I") ∈ lw_all := lw_g (lw_at lw_m8 60 rfl) rfl
theorem q1861 : (Jvm.Cond.soleField "WhiteBoardModel" "its") ∈ lw_all := lw_g (lw_at lw_m8 61 rfl) rfl
theorem q1862 : (Jvm.Cond.laysFinal "WhiteBoardModel" "WhiteBoardModel" "steps0" "[I") ∈ lw_all := lw_g (lw_at lw_m8 62 rfl) rfl
theorem q1863 : (Jvm.Cond.soleField "WhiteBoardModel" "steps0") ∈ lw_all := lw_g (lw_at lw_m8 63 rfl) rfl
theorem q1864 : (Jvm.Cond.lays "WhiteBoardModel" "WhiteBoardModel" "hasImage" "Z") ∈ lw_all := lw_g (lw_at lw_m8 64 rfl) rfl
theorem q1865 : (Jvm.Cond.soleField "WhiteBoardModel" "hasImage") ∈ lw_all := lw_g (lw_at lw_m8 65 rfl) rfl
theorem q1866 : (Jvm.Cond.lays "WhiteBoardModel" "WhiteBoardModel" "imageActs" "I") ∈ lw_all := lw_g (lw_at lw_m8 66 rfl) rfl
theorem q1867 : (Jvm.Cond.soleField "WhiteBoardModel" "imageActs") ∈ lw_all := lw_g (lw_at lw_m8 67 rfl) rfl
theorem q1868 : (Jvm.Cond.lays "WhiteBoardModel" "WhiteBoardModel" "imageSeen" "I") ∈ lw_all := lw_g (lw_at lw_m8 68 rfl) rfl
theorem q1869 : (Jvm.Cond.soleField "WhiteBoardModel" "imageSeen") ∈ lw_all := lw_g (lw_at lw_m8 69 rfl) rfl
theorem q1870 : (Jvm.Cond.laysFinal "WhiteBoardModel" "WhiteBoardModel" "imageNow" "[I") ∈ lw_all := lw_g (lw_at lw_m8 70 rfl) rfl
theorem q1871 : (Jvm.Cond.soleField "WhiteBoardModel" "imageNow") ∈ lw_all := lw_g (lw_at lw_m8 71 rfl) rfl
theorem q1872 : (Jvm.Cond.laysFinal "WhiteBoardModel" "WhiteBoardModel" "imageAhead" "[I") ∈ lw_all := lw_g (lw_at lw_m8 72 rfl) rfl
theorem q1873 : (Jvm.Cond.soleField "WhiteBoardModel" "imageAhead") ∈ lw_all := lw_g (lw_at lw_m8 73 rfl) rfl
theorem q1874 : (Jvm.Cond.laysFinal "WhiteBoardModel" "WhiteBoardModel" "imageSees" "[I") ∈ lw_all := lw_g (lw_at lw_m8 74 rfl) rfl
theorem q1875 : (Jvm.Cond.soleField "WhiteBoardModel" "imageSees") ∈ lw_all := lw_g (lw_at lw_m8 75 rfl) rfl
theorem q1876 : (Jvm.Cond.superclass "WhiteBoardModel" "java/lang/Object") ∈ lw_all := lw_g (lw_at lw_m8 76 rfl) rfl
theorem q1879 : (Jvm.Cond.instanceMethod ({ cls := "WhiteBoardModel", name := "thrown", desc := "()I" } : Jvm.MethodName)) ∈ lw_all := lw_g (lw_at lw_m8 79 rfl) rfl
theorem q1880 : (Jvm.Cond.selects "WhiteBoardModel" ({ cls := "WhiteBoardModel", name := "thrown", desc := "()I" } : Jvm.MethodName) ({ cls := "WhiteBoardModel", name := "thrown", desc := "()I" } : Jvm.MethodName)) ∈ lw_all := lw_g (lw_at lw_m8 80 rfl) rfl
theorem q1881 : (Jvm.Cond.code ({ cls := "WhiteBoardModel", name := "thrown", desc := "()I" } : Jvm.MethodName) prog_13_method_2_code (1 : Nat) (Option.some Jvm.ClassFile.FieldType.int)) ∈ lw_all := lw_g (lw_at lw_m8 81 rfl) rfl
theorem q1883 : (Jvm.Cond.instanceMethod ({ cls := "WhiteBoardModel", name := "feed", desc := "(IIIII)I" } : Jvm.MethodName)) ∈ lw_all := lw_g (lw_at lw_m8 83 rfl) rfl
theorem q1884 : (Jvm.Cond.selects "WhiteBoardModel" ({ cls := "WhiteBoardModel", name := "feed", desc := "(IIIII)I" } : Jvm.MethodName) ({ cls := "WhiteBoardModel", name := "feed", desc := "(IIIII)I" } : Jvm.MethodName)) ∈ lw_all := lw_g (lw_at lw_m8 84 rfl) rfl
theorem q1885 : (Jvm.Cond.code ({ cls := "WhiteBoardModel", name := "feed", desc := "(IIIII)I" } : Jvm.MethodName) prog_13_method_8_code (6 : Nat) (Option.some Jvm.ClassFile.FieldType.int)) ∈ lw_all := lw_g (lw_at lw_m8 85 rfl) rfl
theorem q1886 : (Jvm.Cond.methodLink "WhiteBoardModel" (174 : Nat) ({ cls := "WhiteBoardModel", name := "lays", desc := "(I)V" } : Jvm.MethodName)) ∈ lw_all := lw_g (lw_at lw_m8 86 rfl) rfl
theorem q1887 : (Jvm.Cond.privateMethod ({ cls := "WhiteBoardModel", name := "lays", desc := "(I)V" } : Jvm.MethodName)) ∈ lw_tbl := lw_at lw_m8 87 rfl
theorem q1888 : (Jvm.Cond.instanceMethod ({ cls := "WhiteBoardModel", name := "lays", desc := "(I)V" } : Jvm.MethodName)) ∈ lw_all := lw_g (lw_at lw_m8 88 rfl) rfl
theorem q1889 : (Jvm.Cond.code ({ cls := "WhiteBoardModel", name := "lays", desc := "(I)V" } : Jvm.MethodName) prog_13_method_9_code (3 : Nat) (Option.none : Option Jvm.ClassFile.FieldType)) ∈ lw_all := lw_g (lw_at lw_m8 89 rfl) rfl
theorem q1891 : (Jvm.Cond.instanceMethod ({ cls := "WhiteBoardModel", name := "board", desc := "(I)I" } : Jvm.MethodName)) ∈ lw_all := lw_g (lw_at lw_m8 91 rfl) rfl
theorem q1892 : (Jvm.Cond.selects "WhiteBoardModel" ({ cls := "WhiteBoardModel", name := "board", desc := "(I)I" } : Jvm.MethodName) ({ cls := "WhiteBoardModel", name := "board", desc := "(I)I" } : Jvm.MethodName)) ∈ lw_all := lw_g (lw_at lw_m8 92 rfl) rfl
theorem q1893 : (Jvm.Cond.code ({ cls := "WhiteBoardModel", name := "board", desc := "(I)I" } : Jvm.MethodName) prog_13_method_42_code (3 : Nat) (Option.some Jvm.ClassFile.FieldType.int)) ∈ lw_all := lw_g (lw_at lw_m8 93 rfl) rfl
theorem q1894 : (Jvm.Cond.methodLink "WhiteBoardModel" (340 : Nat) ({ cls := "WhiteBoardModel", name := "right", desc := "(ZI)Z" } : Jvm.MethodName)) ∈ lw_all := lw_g (lw_at lw_m8 94 rfl) rfl
theorem q1895 : (Jvm.Cond.privateMethod ({ cls := "WhiteBoardModel", name := "right", desc := "(ZI)Z" } : Jvm.MethodName)) ∈ lw_tbl := lw_at lw_m8 95 rfl
theorem q1896 : (Jvm.Cond.instanceMethod ({ cls := "WhiteBoardModel", name := "right", desc := "(ZI)Z" } : Jvm.MethodName)) ∈ lw_all := lw_g (lw_at lw_m8 96 rfl) rfl
theorem q1897 : (Jvm.Cond.code ({ cls := "WhiteBoardModel", name := "right", desc := "(ZI)Z" } : Jvm.MethodName) prog_13_method_3_code (3 : Nat) (Option.some Jvm.ClassFile.FieldType.boolean)) ∈ lw_all := lw_g (lw_at lw_m8 97 rfl) rfl
theorem q1898 : (Jvm.Cond.methodLink "WhiteBoardModel" (231 : Nat) ({ cls := "WhiteBoardModel", name := "goes", desc := "()V" } : Jvm.MethodName)) ∈ lw_all := lw_g (lw_at lw_m8 98 rfl) rfl
theorem q1899 : (Jvm.Cond.privateMethod ({ cls := "WhiteBoardModel", name := "goes", desc := "()V" } : Jvm.MethodName)) ∈ lw_tbl := lw_at lw_m8 99 rfl
theorem q1900 : (Jvm.Cond.instanceMethod ({ cls := "WhiteBoardModel", name := "goes", desc := "()V" } : Jvm.MethodName)) ∈ lw_all := lw_g (lw_at lw_m8 100 rfl) rfl
theorem q1901 : (Jvm.Cond.code ({ cls := "WhiteBoardModel", name := "goes", desc := "()V" } : Jvm.MethodName) prog_13_method_13_code (2 : Nat) (Option.none : Option Jvm.ClassFile.FieldType)) ∈ lw_all := lw_g (lw_at lw_m8 101 rfl) rfl
theorem q1902 : (Jvm.Cond.methodLink "WhiteBoardModel" (184 : Nat) ({ cls := "WhiteBoardModel", name := "byteAt", desc := "(I)I" } : Jvm.MethodName)) ∈ lw_all := lw_g (lw_at lw_m8 102 rfl) rfl
theorem q1903 : (Jvm.Cond.privateMethod ({ cls := "WhiteBoardModel", name := "byteAt", desc := "(I)I" } : Jvm.MethodName)) ∈ lw_tbl := lw_at lw_m8 103 rfl
theorem q1904 : (Jvm.Cond.instanceMethod ({ cls := "WhiteBoardModel", name := "byteAt", desc := "(I)I" } : Jvm.MethodName)) ∈ lw_all := lw_g (lw_at lw_m8 104 rfl) rfl
theorem q1905 : (Jvm.Cond.code ({ cls := "WhiteBoardModel", name := "byteAt", desc := "(I)I" } : Jvm.MethodName) prog_13_method_10_code (2 : Nat) (Option.some Jvm.ClassFile.FieldType.int)) ∈ lw_all := lw_g (lw_at lw_m8 105 rfl) rfl
theorem q1906 : (Jvm.Cond.methodLink "WhiteBoardModel" (204 : Nat) ({ cls := "WhiteBoardModel", name := "isLetter", desc := "(I)Z" } : Jvm.MethodName)) ∈ lw_all := lw_g (lw_at lw_m8 106 rfl) rfl
theorem q1907 : (Jvm.Cond.static ({ cls := "WhiteBoardModel", name := "isLetter", desc := "(I)Z" } : Jvm.MethodName)) ∈ lw_all := lw_g (lw_at lw_m8 107 rfl) rfl
theorem q1908 : (Jvm.Cond.code ({ cls := "WhiteBoardModel", name := "isLetter", desc := "(I)Z" } : Jvm.MethodName) prog_13_method_11_code (1 : Nat) (Option.some Jvm.ClassFile.FieldType.boolean)) ∈ lw_all := lw_g (lw_at lw_m8 108 rfl) rfl
theorem q1909 : (Jvm.Cond.methodLink "WhiteBoardModel" (208 : Nat) ({ cls := "WhiteBoardModel", name := "isDigit", desc := "(I)Z" } : Jvm.MethodName)) ∈ lw_all := lw_g (lw_at lw_m8 109 rfl) rfl
theorem q1910 : (Jvm.Cond.static ({ cls := "WhiteBoardModel", name := "isDigit", desc := "(I)Z" } : Jvm.MethodName)) ∈ lw_all := lw_g (lw_at lw_m8 110 rfl) rfl
theorem q1911 : (Jvm.Cond.code ({ cls := "WhiteBoardModel", name := "isDigit", desc := "(I)Z" } : Jvm.MethodName) prog_13_method_12_code (1 : Nat) (Option.some Jvm.ClassFile.FieldType.boolean)) ∈ lw_all := lw_g (lw_at lw_m8 111 rfl) rfl
theorem q1912 : (Jvm.Cond.methodLink "WhiteBoardModel" (227 : Nat) ({ cls := "WhiteBoardModel", name := "isGood", desc := "()Z" } : Jvm.MethodName)) ∈ lw_all := lw_g (lw_at lw_m8 112 rfl) rfl
theorem q1913 : (Jvm.Cond.privateMethod ({ cls := "WhiteBoardModel", name := "isGood", desc := "()Z" } : Jvm.MethodName)) ∈ lw_tbl := lw_at lw_m8 113 rfl
theorem q1914 : (Jvm.Cond.instanceMethod ({ cls := "WhiteBoardModel", name := "isGood", desc := "()Z" } : Jvm.MethodName)) ∈ lw_all := lw_g (lw_at lw_m8 114 rfl) rfl
theorem q1915 : (Jvm.Cond.code ({ cls := "WhiteBoardModel", name := "isGood", desc := "()Z" } : Jvm.MethodName) prog_13_method_18_code (1 : Nat) (Option.some Jvm.ClassFile.FieldType.boolean)) ∈ lw_all := lw_g (lw_at lw_m8 115 rfl) rfl
theorem q1916 : (Jvm.Cond.methodLink "WhiteBoardModel" (344 : Nat) ({ cls := "WhiteBoardModel", name := "line", desc := "()V" } : Jvm.MethodName)) ∈ lw_all := lw_g (lw_at lw_m8 116 rfl) rfl
theorem q1917 : (Jvm.Cond.privateMethod ({ cls := "WhiteBoardModel", name := "line", desc := "()V" } : Jvm.MethodName)) ∈ lw_tbl := lw_at lw_m8 117 rfl
theorem q1918 : (Jvm.Cond.instanceMethod ({ cls := "WhiteBoardModel", name := "line", desc := "()V" } : Jvm.MethodName)) ∈ lw_all := lw_g (lw_at lw_m8 118 rfl) rfl
theorem q1919 : (Jvm.Cond.code ({ cls := "WhiteBoardModel", name := "line", desc := "()V" } : Jvm.MethodName) prog_13_method_41_code (2 : Nat) (Option.none : Option Jvm.ClassFile.FieldType)) ∈ lw_all := lw_g (lw_at lw_m8 119 rfl) rfl
theorem q1920 : (Jvm.Cond.methodLink "WhiteBoardModel" (255 : Nat) ({ cls := "WhiteBoardModel", name := "knownWord", desc := "()I" } : Jvm.MethodName)) ∈ lw_all := lw_g (lw_at lw_m8 120 rfl) rfl
theorem q1921 : (Jvm.Cond.privateMethod ({ cls := "WhiteBoardModel", name := "knownWord", desc := "()I" } : Jvm.MethodName)) ∈ lw_tbl := lw_at lw_m8 121 rfl
theorem q1922 : (Jvm.Cond.instanceMethod ({ cls := "WhiteBoardModel", name := "knownWord", desc := "()I" } : Jvm.MethodName)) ∈ lw_all := lw_g (lw_at lw_m8 122 rfl) rfl
theorem q1923 : (Jvm.Cond.code ({ cls := "WhiteBoardModel", name := "knownWord", desc := "()I" } : Jvm.MethodName) prog_13_method_16_code (2 : Nat) (Option.some Jvm.ClassFile.FieldType.int)) ∈ lw_all := lw_g (lw_at lw_m8 123 rfl) rfl
theorem q1924 : (Jvm.Cond.methodLink "WhiteBoardModel" (220 : Nat) ({ cls := "WhiteBoardModel", name := "letters", desc := "(I)J" } : Jvm.MethodName)) ∈ lw_all := lw_g (lw_at lw_m8 124 rfl) rfl
theorem q1925 : (Jvm.Cond.static ({ cls := "WhiteBoardModel", name := "letters", desc := "(I)J" } : Jvm.MethodName)) ∈ lw_all := lw_g (lw_at lw_m8 125 rfl) rfl
theorem q1926 : (Jvm.Cond.code ({ cls := "WhiteBoardModel", name := "letters", desc := "(I)J" } : Jvm.MethodName) prog_13_method_15_code (1 : Nat) (Option.some Jvm.ClassFile.FieldType.long)) ∈ lw_all := lw_g (lw_at lw_m8 126 rfl) rfl
theorem q1927 : (Jvm.Cond.methodLink "WhiteBoardModel" (216 : Nat) ({ cls := "WhiteBoardModel", name := "spelled", desc := "(IIIIII)J" } : Jvm.MethodName)) ∈ lw_all := lw_g (lw_at lw_m8 127 rfl) rfl
theorem q1928 : (Jvm.Cond.static ({ cls := "WhiteBoardModel", name := "spelled", desc := "(IIIIII)J" } : Jvm.MethodName)) ∈ lw_all := lw_g (lw_at lw_m8 128 rfl) rfl
theorem q1929 : (Jvm.Cond.code ({ cls := "WhiteBoardModel", name := "spelled", desc := "(IIIIII)J" } : Jvm.MethodName) prog_13_method_14_code (8 : Nat) (Option.some Jvm.ClassFile.FieldType.long)) ∈ lw_all := lw_g (lw_at lw_m8 129 rfl) rfl
theorem q1930 : (Jvm.Cond.constantLong "WhiteBoardModel" (214 : Nat) (96 : Int64)) ∈ lw_all := lw_g (lw_at lw_m8 130 rfl) rfl
theorem q1931 : (Jvm.Cond.methodLink "WhiteBoardModel" (234 : Nat) ({ cls := "WhiteBoardModel", name := "wrong", desc := "(I)V" } : Jvm.MethodName)) ∈ lw_all := lw_g (lw_at lw_m8 131 rfl) rfl
theorem q1932 : (Jvm.Cond.privateMethod ({ cls := "WhiteBoardModel", name := "wrong", desc := "(I)V" } : Jvm.MethodName)) ∈ lw_tbl := lw_at lw_m8 132 rfl
theorem q1933 : (Jvm.Cond.instanceMethod ({ cls := "WhiteBoardModel", name := "wrong", desc := "(I)V" } : Jvm.MethodName)) ∈ lw_all := lw_g (lw_at lw_m8 133 rfl) rfl
theorem q1934 : (Jvm.Cond.code ({ cls := "WhiteBoardModel", name := "wrong", desc := "(I)V" } : Jvm.MethodName) prog_13_method_17_code (2 : Nat) (Option.none : Option Jvm.ClassFile.FieldType)) ∈ lw_all := lw_g (lw_at lw_m8 134 rfl) rfl
theorem q1935 : (Jvm.Cond.methodLink "WhiteBoardModel" (290 : Nat) ({ cls := "WhiteBoardModel", name := "number", desc := "(II)I" } : Jvm.MethodName)) ∈ lw_all := lw_g (lw_at lw_m8 135 rfl) rfl
theorem q1936 : (Jvm.Cond.privateMethod ({ cls := "WhiteBoardModel", name := "number", desc := "(II)I" } : Jvm.MethodName)) ∈ lw_tbl := lw_at lw_m8 136 rfl
theorem q1937 : (Jvm.Cond.instanceMethod ({ cls := "WhiteBoardModel", name := "number", desc := "(II)I" } : Jvm.MethodName)) ∈ lw_all := lw_g (lw_at lw_m8 137 rfl) rfl
theorem q1938 : (Jvm.Cond.code ({ cls := "WhiteBoardModel", name := "number", desc := "(II)I" } : Jvm.MethodName) prog_13_method_21_code (4 : Nat) (Option.some Jvm.ClassFile.FieldType.int)) ∈ lw_all := lw_g (lw_at lw_m8 138 rfl) rfl
theorem q1939 : (Jvm.Cond.methodLink "WhiteBoardModel" (316 : Nat) ({ cls := "WhiteBoardModel", name := "readsPlace", desc := "(Z)V" } : Jvm.MethodName)) ∈ lw_all := lw_g (lw_at lw_m8 139 rfl) rfl
theorem q1940 : (Jvm.Cond.privateMethod ({ cls := "WhiteBoardModel", name := "readsPlace", desc := "(Z)V" } : Jvm.MethodName)) ∈ lw_tbl := lw_at lw_m8 140 rfl
theorem q1941 : (Jvm.Cond.instanceMethod ({ cls := "WhiteBoardModel", name := "readsPlace", desc := "(Z)V" } : Jvm.MethodName)) ∈ lw_all := lw_g (lw_at lw_m8 141 rfl) rfl
theorem q1942 : (Jvm.Cond.code ({ cls := "WhiteBoardModel", name := "readsPlace", desc := "(Z)V" } : Jvm.MethodName) prog_13_method_35_code (2 : Nat) (Option.none : Option Jvm.ClassFile.FieldType)) ∈ lw_all := lw_g (lw_at lw_m8 142 rfl) rfl
theorem q1943 : (Jvm.Cond.methodLink "WhiteBoardModel" (319 : Nat) ({ cls := "WhiteBoardModel", name := "readsWay", desc := "()V" } : Jvm.MethodName)) ∈ lw_all := lw_g (lw_at lw_m8 143 rfl) rfl
theorem q1944 : (Jvm.Cond.privateMethod ({ cls := "WhiteBoardModel", name := "readsWay", desc := "()V" } : Jvm.MethodName)) ∈ lw_tbl := lw_at lw_m8 144 rfl
theorem q1945 : (Jvm.Cond.instanceMethod ({ cls := "WhiteBoardModel", name := "readsWay", desc := "()V" } : Jvm.MethodName)) ∈ lw_all := lw_g (lw_at lw_m8 145 rfl) rfl
theorem q1946 : (Jvm.Cond.code ({ cls := "WhiteBoardModel", name := "readsWay", desc := "()V" } : Jvm.MethodName) prog_13_method_37_code (2 : Nat) (Option.none : Option Jvm.ClassFile.FieldType)) ∈ lw_all := lw_g (lw_at lw_m8 146 rfl) rfl
theorem q1947 : (Jvm.Cond.methodLink "WhiteBoardModel" (297 : Nat) ({ cls := "WhiteBoardModel", name := "among", desc := "(I)I" } : Jvm.MethodName)) ∈ lw_all := lw_g (lw_at lw_m8 147 rfl) rfl
theorem q1948 : (Jvm.Cond.privateMethod ({ cls := "WhiteBoardModel", name := "among", desc := "(I)I" } : Jvm.MethodName)) ∈ lw_tbl := lw_at lw_m8 148 rfl
theorem q1949 : (Jvm.Cond.instanceMethod ({ cls := "WhiteBoardModel", name := "among", desc := "(I)I" } : Jvm.MethodName)) ∈ lw_all := lw_g (lw_at lw_m8 149 rfl) rfl
theorem q1950 : (Jvm.Cond.code ({ cls := "WhiteBoardModel", name := "among", desc := "(I)I" } : Jvm.MethodName) prog_13_method_23_code (3 : Nat) (Option.some Jvm.ClassFile.FieldType.int)) ∈ lw_all := lw_g (lw_at lw_m8 150 rfl) rfl
theorem q1951 : (Jvm.Cond.methodLink "WhiteBoardModel" (237 : Nat) ({ cls := "WhiteBoardModel", name := "amongHere", desc := "(I)Z" } : Jvm.MethodName)) ∈ lw_all := lw_g (lw_at lw_m8 151 rfl) rfl
theorem q1952 : (Jvm.Cond.privateMethod ({ cls := "WhiteBoardModel", name := "amongHere", desc := "(I)Z" } : Jvm.MethodName)) ∈ lw_tbl := lw_at lw_m8 152 rfl
theorem q1953 : (Jvm.Cond.instanceMethod ({ cls := "WhiteBoardModel", name := "amongHere", desc := "(I)Z" } : Jvm.MethodName)) ∈ lw_all := lw_g (lw_at lw_m8 153 rfl) rfl
theorem q1954 : (Jvm.Cond.code ({ cls := "WhiteBoardModel", name := "amongHere", desc := "(I)Z" } : Jvm.MethodName) prog_13_method_22_code (2 : Nat) (Option.some Jvm.ClassFile.FieldType.boolean)) ∈ lw_all := lw_g (lw_at lw_m8 154 rfl) rfl
theorem q1955 : (Jvm.Cond.methodLink "WhiteBoardModel" (300 : Nat) ({ cls := "WhiteBoardModel", name := "hasWay", desc := "(II)Z" } : Jvm.MethodName)) ∈ lw_all := lw_g (lw_at lw_m8 155 rfl) rfl
theorem q1956 : (Jvm.Cond.privateMethod ({ cls := "WhiteBoardModel", name := "hasWay", desc := "(II)Z" } : Jvm.MethodName)) ∈ lw_tbl := lw_at lw_m8 156 rfl
theorem q1957 : (Jvm.Cond.instanceMethod ({ cls := "WhiteBoardModel", name := "hasWay", desc := "(II)Z" } : Jvm.MethodName)) ∈ lw_all := lw_g (lw_at lw_m8 157 rfl) rfl
theorem q1958 : (Jvm.Cond.code ({ cls := "WhiteBoardModel", name := "hasWay", desc := "(II)Z" } : Jvm.MethodName) prog_13_method_36_code (4 : Nat) (Option.some Jvm.ClassFile.FieldType.boolean)) ∈ lw_all := lw_g (lw_at lw_m8 158 rfl) rfl
theorem q1959 : (Jvm.Cond.methodLink "WhiteBoardModel" (322 : Nat) ({ cls := "WhiteBoardModel", name := "readsPerson", desc := "()V" } : Jvm.MethodName)) ∈ lw_all := lw_g (lw_at lw_m8 159 rfl) rfl
theorem q1960 : (Jvm.Cond.privateMethod ({ cls := "WhiteBoardModel", name := "readsPerson", desc := "()V" } : Jvm.MethodName)) ∈ lw_tbl := lw_at lw_m8 160 rfl
theorem q1961 : (Jvm.Cond.instanceMethod ({ cls := "WhiteBoardModel", name := "readsPerson", desc := "()V" } : Jvm.MethodName)) ∈ lw_all := lw_g (lw_at lw_m8 161 rfl) rfl
theorem q1962 : (Jvm.Cond.code ({ cls := "WhiteBoardModel", name := "readsPerson", desc := "()V" } : Jvm.MethodName) prog_13_method_38_code (1 : Nat) (Option.none : Option Jvm.ClassFile.FieldType)) ∈ lw_all := lw_g (lw_at lw_m8 162 rfl) rfl
theorem q1963 : (Jvm.Cond.methodLink "WhiteBoardModel" (325 : Nat) ({ cls := "WhiteBoardModel", name := "readsKin", desc := "()V" } : Jvm.MethodName)) ∈ lw_all := lw_g (lw_at lw_m8 163 rfl) rfl
theorem q1964 : (Jvm.Cond.privateMethod ({ cls := "WhiteBoardModel", name := "readsKin", desc := "()V" } : Jvm.MethodName)) ∈ lw_tbl := lw_at lw_m8 164 rfl
theorem q1965 : (Jvm.Cond.instanceMethod ({ cls := "WhiteBoardModel", name := "readsKin", desc := "()V" } : Jvm.MethodName)) ∈ lw_all := lw_g (lw_at lw_m8 165 rfl) rfl
theorem q1966 : (Jvm.Cond.code ({ cls := "WhiteBoardModel", name := "readsKin", desc := "()V" } : Jvm.MethodName) prog_13_method_39_code (2 : Nat) (Option.none : Option Jvm.ClassFile.FieldType)) ∈ lw_all := lw_g (lw_at lw_m8 166 rfl) rfl
theorem q1967 : (Jvm.Cond.methodLink "WhiteBoardModel" (328 : Nat) ({ cls := "WhiteBoardModel", name := "readsFriend", desc := "(I)V" } : Jvm.MethodName)) ∈ lw_all := lw_g (lw_at lw_m8 167 rfl) rfl
theorem q1968 : (Jvm.Cond.privateMethod ({ cls := "WhiteBoardModel", name := "readsFriend", desc := "(I)V" } : Jvm.MethodName)) ∈ lw_tbl := lw_at lw_m8 168 rfl
theorem q1969 : (Jvm.Cond.instanceMethod ({ cls := "WhiteBoardModel", name := "readsFriend", desc := "(I)V" } : Jvm.MethodName)) ∈ lw_all := lw_g (lw_at lw_m8 169 rfl) rfl
theorem q1970 : (Jvm.Cond.code ({ cls := "WhiteBoardModel", name := "readsFriend", desc := "(I)V" } : Jvm.MethodName) prog_13_method_40_code (4 : Nat) (Option.none : Option Jvm.ClassFile.FieldType)) ∈ lw_all := lw_g (lw_at lw_m8 170 rfl) rfl
theorem q1971 : (Jvm.Cond.methodLink "WhiteBoardModel" (334 : Nat) ({ cls := "WhiteBoardModel", name := "expression", desc := "()V" } : Jvm.MethodName)) ∈ lw_all := lw_g (lw_at lw_m8 171 rfl) rfl
theorem q1972 : (Jvm.Cond.privateMethod ({ cls := "WhiteBoardModel", name := "expression", desc := "()V" } : Jvm.MethodName)) ∈ lw_tbl := lw_at lw_m8 172 rfl
theorem q1973 : (Jvm.Cond.instanceMethod ({ cls := "WhiteBoardModel", name := "expression", desc := "()V" } : Jvm.MethodName)) ∈ lw_all := lw_g (lw_at lw_m8 173 rfl) rfl
theorem q1974 : (Jvm.Cond.code ({ cls := "WhiteBoardModel", name := "expression", desc := "()V" } : Jvm.MethodName) prog_13_method_34_code (3 : Nat) (Option.none : Option Jvm.ClassFile.FieldType)) ∈ lw_all := lw_g (lw_at lw_m8 174 rfl) rfl
theorem q1975 : (Jvm.Cond.methodLink "WhiteBoardModel" (268 : Nat) ({ cls := "WhiteBoardModel", name := "deeper", desc := "()V" } : Jvm.MethodName)) ∈ lw_all := lw_g (lw_at lw_m8 175 rfl) rfl
theorem q1976 : (Jvm.Cond.privateMethod ({ cls := "WhiteBoardModel", name := "deeper", desc := "()V" } : Jvm.MethodName)) ∈ lw_tbl := lw_at lw_m8 176 rfl
theorem q1977 : (Jvm.Cond.instanceMethod ({ cls := "WhiteBoardModel", name := "deeper", desc := "()V" } : Jvm.MethodName)) ∈ lw_all := lw_g (lw_at lw_m8 177 rfl) rfl
theorem q1978 : (Jvm.Cond.code ({ cls := "WhiteBoardModel", name := "deeper", desc := "()V" } : Jvm.MethodName) prog_13_method_30_code (1 : Nat) (Option.none : Option Jvm.ClassFile.FieldType)) ∈ lw_all := lw_g (lw_at lw_m8 178 rfl) rfl
theorem q1979 : (Jvm.Cond.methodLink "WhiteBoardModel" (262 : Nat) ({ cls := "WhiteBoardModel", name := "isSign", desc := "(I)Z" } : Jvm.MethodName)) ∈ lw_all := lw_g (lw_at lw_m8 179 rfl) rfl
theorem q1980 : (Jvm.Cond.privateMethod ({ cls := "WhiteBoardModel", name := "isSign", desc := "(I)Z" } : Jvm.MethodName)) ∈ lw_tbl := lw_at lw_m8 180 rfl
theorem q1981 : (Jvm.Cond.instanceMethod ({ cls := "WhiteBoardModel", name := "isSign", desc := "(I)Z" } : Jvm.MethodName)) ∈ lw_all := lw_g (lw_at lw_m8 181 rfl) rfl
theorem q1982 : (Jvm.Cond.code ({ cls := "WhiteBoardModel", name := "isSign", desc := "(I)Z" } : Jvm.MethodName) prog_13_method_19_code (2 : Nat) (Option.some Jvm.ClassFile.FieldType.boolean)) ∈ lw_all := lw_g (lw_at lw_m8 182 rfl) rfl
theorem q1983 : (Jvm.Cond.methodLink "WhiteBoardModel" (277 : Nat) ({ cls := "WhiteBoardModel", name := "operand", desc := "(Z)V" } : Jvm.MethodName)) ∈ lw_all := lw_g (lw_at lw_m8 183 rfl) rfl
theorem q1984 : (Jvm.Cond.privateMethod ({ cls := "WhiteBoardModel", name := "operand", desc := "(Z)V" } : Jvm.MethodName)) ∈ lw_tbl := lw_at lw_m8 184 rfl
theorem q1985 : (Jvm.Cond.instanceMethod ({ cls := "WhiteBoardModel", name := "operand", desc := "(Z)V" } : Jvm.MethodName)) ∈ lw_all := lw_g (lw_at lw_m8 185 rfl) rfl
theorem q1986 : (Jvm.Cond.code ({ cls := "WhiteBoardModel", name := "operand", desc := "(Z)V" } : Jvm.MethodName) prog_13_method_31_code (5 : Nat) (Option.none : Option Jvm.ClassFile.FieldType)) ∈ lw_all := lw_g (lw_at lw_m8 186 rfl) rfl
theorem q1987 : (Jvm.Cond.methodLink "WhiteBoardModel" (265 : Nat) ({ cls := "WhiteBoardModel", name := "waitsFor", desc := "(I)V" } : Jvm.MethodName)) ∈ lw_all := lw_g (lw_at lw_m8 187 rfl) rfl
theorem q1988 : (Jvm.Cond.privateMethod ({ cls := "WhiteBoardModel", name := "waitsFor", desc := "(I)V" } : Jvm.MethodName)) ∈ lw_tbl := lw_at lw_m8 188 rfl
theorem q1989 : (Jvm.Cond.instanceMethod ({ cls := "WhiteBoardModel", name := "waitsFor", desc := "(I)V" } : Jvm.MethodName)) ∈ lw_all := lw_g (lw_at lw_m8 189 rfl) rfl
theorem q1990 : (Jvm.Cond.code ({ cls := "WhiteBoardModel", name := "waitsFor", desc := "(I)V" } : Jvm.MethodName) prog_13_method_28_code (2 : Nat) (Option.none : Option Jvm.ClassFile.FieldType)) ∈ lw_all := lw_g (lw_at lw_m8 190 rfl) rfl
theorem q1991 : (Jvm.Cond.methodLink "WhiteBoardModel" (271 : Nat) ({ cls := "WhiteBoardModel", name := "part", desc := "()V" } : Jvm.MethodName)) ∈ lw_all := lw_g (lw_at lw_m8 191 rfl) rfl
theorem q1992 : (Jvm.Cond.privateMethod ({ cls := "WhiteBoardModel", name := "part", desc := "()V" } : Jvm.MethodName)) ∈ lw_tbl := lw_at lw_m8 192 rfl
theorem q1993 : (Jvm.Cond.instanceMethod ({ cls := "WhiteBoardModel", name := "part", desc := "()V" } : Jvm.MethodName)) ∈ lw_all := lw_g (lw_at lw_m8 193 rfl) rfl
theorem q1994 : (Jvm.Cond.code ({ cls := "WhiteBoardModel", name := "part", desc := "()V" } : Jvm.MethodName) prog_13_method_29_code (2 : Nat) (Option.none : Option Jvm.ClassFile.FieldType)) ∈ lw_all := lw_g (lw_at lw_m8 194 rfl) rfl
theorem q1995 : (Jvm.Cond.methodLink "WhiteBoardModel" (252 : Nat) ({ cls := "WhiteBoardModel", name := "puts", desc := "(I)V" } : Jvm.MethodName)) ∈ lw_all := lw_g (lw_at lw_m8 195 rfl) rfl
theorem q1996 : (Jvm.Cond.privateMethod ({ cls := "WhiteBoardModel", name := "puts", desc := "(I)V" } : Jvm.MethodName)) ∈ lw_tbl := lw_at lw_m8 196 rfl
theorem q1997 : (Jvm.Cond.instanceMethod ({ cls := "WhiteBoardModel", name := "puts", desc := "(I)V" } : Jvm.MethodName)) ∈ lw_all := lw_g (lw_at lw_m8 197 rfl) rfl
theorem q1998 : (Jvm.Cond.code ({ cls := "WhiteBoardModel", name := "puts", desc := "(I)V" } : Jvm.MethodName) prog_13_method_24_code (2 : Nat) (Option.none : Option Jvm.ClassFile.FieldType)) ∈ lw_all := lw_g (lw_at lw_m8 198 rfl) rfl
theorem q1999 : (Jvm.Cond.methodLink "WhiteBoardModel" (274 : Nat) ({ cls := "WhiteBoardModel", name := "drops", desc := "(I)V" } : Jvm.MethodName)) ∈ lw_all := lw_g (lw_at lw_m8 199 rfl) rfl
theorem q2000 : (Jvm.Cond.privateMethod ({ cls := "WhiteBoardModel", name := "drops", desc := "(I)V" } : Jvm.MethodName)) ∈ lw_tbl := lw_at lw_m8 200 rfl
theorem q2001 : (Jvm.Cond.instanceMethod ({ cls := "WhiteBoardModel", name := "drops", desc := "(I)V" } : Jvm.MethodName)) ∈ lw_all := lw_g (lw_at lw_m8 201 rfl) rfl
theorem q2002 : (Jvm.Cond.code ({ cls := "WhiteBoardModel", name := "drops", desc := "(I)V" } : Jvm.MethodName) prog_13_method_27_code (2 : Nat) (Option.none : Option Jvm.ClassFile.FieldType)) ∈ lw_all := lw_g (lw_at lw_m8 202 rfl) rfl
theorem q2003 : (Jvm.Cond.methodLink "WhiteBoardModel" (246 : Nat) ({ cls := "WhiteBoardModel", name := "isOpen", desc := "(I)Z" } : Jvm.MethodName)) ∈ lw_all := lw_g (lw_at lw_m8 203 rfl) rfl
theorem q2004 : (Jvm.Cond.static ({ cls := "WhiteBoardModel", name := "isOpen", desc := "(I)Z" } : Jvm.MethodName)) ∈ lw_all := lw_g (lw_at lw_m8 204 rfl) rfl
theorem q2005 : (Jvm.Cond.code ({ cls := "WhiteBoardModel", name := "isOpen", desc := "(I)Z" } : Jvm.MethodName) prog_13_method_25_code (1 : Nat) (Option.some Jvm.ClassFile.FieldType.boolean)) ∈ lw_all := lw_g (lw_at lw_m8 205 rfl) rfl
theorem q2006 : (Jvm.Cond.methodLink "WhiteBoardModel" (249 : Nat) ({ cls := "WhiteBoardModel", name := "strength", desc := "(I)I" } : Jvm.MethodName)) ∈ lw_all := lw_g (lw_at lw_m8 206 rfl) rfl
theorem q2007 : (Jvm.Cond.static ({ cls := "WhiteBoardModel", name := "strength", desc := "(I)I" } : Jvm.MethodName)) ∈ lw_all := lw_g (lw_at lw_m8 207 rfl) rfl
theorem q2008 : (Jvm.Cond.code ({ cls := "WhiteBoardModel", name := "strength", desc := "(I)I" } : Jvm.MethodName) prog_13_method_26_code (1 : Nat) (Option.some Jvm.ClassFile.FieldType.int)) ∈ lw_all := lw_g (lw_at lw_m8 208 rfl) rfl
theorem q2009 : (Jvm.Cond.methodLink "WhiteBoardModel" (281 : Nat) ({ cls := "WhiteBoardModel", name := "isOpened", desc := "()Z" } : Jvm.MethodName)) ∈ lw_all := lw_g (lw_at lw_m8 209 rfl) rfl
theorem q2010 : (Jvm.Cond.privateMethod ({ cls := "WhiteBoardModel", name := "isOpened", desc := "()Z" } : Jvm.MethodName)) ∈ lw_tbl := lw_at lw_m8 210 rfl
theorem q2011 : (Jvm.Cond.instanceMethod ({ cls := "WhiteBoardModel", name := "isOpened", desc := "()Z" } : Jvm.MethodName)) ∈ lw_all := lw_g (lw_at lw_m8 211 rfl) rfl
theorem q2012 : (Jvm.Cond.code ({ cls := "WhiteBoardModel", name := "isOpened", desc := "()Z" } : Jvm.MethodName) prog_13_method_32_code (2 : Nat) (Option.some Jvm.ClassFile.FieldType.boolean)) ∈ lw_all := lw_g (lw_at lw_m8 212 rfl) rfl
theorem q2013 : (Jvm.Cond.methodLink "WhiteBoardModel" (284 : Nat) ({ cls := "WhiteBoardModel", name := "closes", desc := "()V" } : Jvm.MethodName)) ∈ lw_all := lw_g (lw_at lw_m8 213 rfl) rfl
theorem q2014 : (Jvm.Cond.privateMethod ({ cls := "WhiteBoardModel", name := "closes", desc := "()V" } : Jvm.MethodName)) ∈ lw_tbl := lw_at lw_m8 214 rfl
theorem q2015 : (Jvm.Cond.instanceMethod ({ cls := "WhiteBoardModel", name := "closes", desc := "()V" } : Jvm.MethodName)) ∈ lw_all := lw_g (lw_at lw_m8 215 rfl) rfl
theorem q2016 : (Jvm.Cond.code ({ cls := "WhiteBoardModel", name := "closes", desc := "()V" } : Jvm.MethodName) prog_13_method_33_code (1 : Nat) (Option.none : Option Jvm.ClassFile.FieldType)) ∈ lw_all := lw_g (lw_at lw_m8 216 rfl) rfl
theorem q2017 : (Jvm.Cond.methodLink "WhiteBoardModel" (337 : Nat) ({ cls := "WhiteBoardModel", name := "need", desc := "(Z)V" } : Jvm.MethodName)) ∈ lw_all := lw_g (lw_at lw_m8 217 rfl) rfl
theorem q2018 : (Jvm.Cond.privateMethod ({ cls := "WhiteBoardModel", name := "need", desc := "(Z)V" } : Jvm.MethodName)) ∈ lw_tbl := lw_at lw_m8 218 rfl
theorem q2019 : (Jvm.Cond.instanceMethod ({ cls := "WhiteBoardModel", name := "need", desc := "(Z)V" } : Jvm.MethodName)) ∈ lw_all := lw_g (lw_at lw_m8 219 rfl) rfl
theorem q2020 : (Jvm.Cond.code ({ cls := "WhiteBoardModel", name := "need", desc := "(Z)V" } : Jvm.MethodName) prog_13_method_20_code (2 : Nat) (Option.none : Option Jvm.ClassFile.FieldType)) ∈ lw_all := lw_g (lw_at lw_m8 220 rfl) rfl
theorem q2021 : (Jvm.Cond.methodLink "WhiteBoardModel" (365 : Nat) ({ cls := "WhiteBoardModel", name := "copies", desc := "([I[I)V" } : Jvm.MethodName)) ∈ lw_all := lw_g (lw_at lw_m8 221 rfl) rfl
theorem q2022 : (Jvm.Cond.privateMethod ({ cls := "WhiteBoardModel", name := "copies", desc := "([I[I)V" } : Jvm.MethodName)) ∈ lw_tbl := lw_at lw_m8 222 rfl
theorem q2023 : (Jvm.Cond.instanceMethod ({ cls := "WhiteBoardModel", name := "copies", desc := "([I[I)V" } : Jvm.MethodName)) ∈ lw_all := lw_g (lw_at lw_m8 223 rfl) rfl
theorem q2024 : (Jvm.Cond.code ({ cls := "WhiteBoardModel", name := "copies", desc := "([I[I)V" } : Jvm.MethodName) prog_13_method_6_code (4 : Nat) (Option.none : Option Jvm.ClassFile.FieldType)) ∈ lw_all := lw_g (lw_at lw_m8 224 rfl) rfl
theorem q2026 : (Jvm.Cond.instanceMethod ({ cls := "WhiteBoardModel", name := "fault", desc := "()I" } : Jvm.MethodName)) ∈ lw_all := lw_g (lw_at lw_m8 226 rfl) rfl
theorem q2027 : (Jvm.Cond.selects "WhiteBoardModel" ({ cls := "WhiteBoardModel", name := "fault", desc := "()I" } : Jvm.MethodName) ({ cls := "WhiteBoardModel", name := "fault", desc := "()I" } : Jvm.MethodName)) ∈ lw_all := lw_g (lw_at lw_m8 227 rfl) rfl
theorem q2028 : (Jvm.Cond.code ({ cls := "WhiteBoardModel", name := "fault", desc := "()I" } : Jvm.MethodName) prog_13_method_43_code (1 : Nat) (Option.some Jvm.ClassFile.FieldType.int)) ∈ lw_all := lw_g (lw_at lw_m8 228 rfl) rfl
theorem q2030 : (Jvm.Cond.instanceMethod ({ cls := "WhiteBoardModel", name := "undo", desc := "()I" } : Jvm.MethodName)) ∈ lw_all := lw_g (lw_at lw_m8 230 rfl) rfl
theorem q2031 : (Jvm.Cond.selects "WhiteBoardModel" ({ cls := "WhiteBoardModel", name := "undo", desc := "()I" } : Jvm.MethodName) ({ cls := "WhiteBoardModel", name := "undo", desc := "()I" } : Jvm.MethodName)) ∈ lw_all := lw_g (lw_at lw_m8 231 rfl) rfl
theorem q2032 : (Jvm.Cond.code ({ cls := "WhiteBoardModel", name := "undo", desc := "()I" } : Jvm.MethodName) prog_13_method_46_code (2 : Nat) (Option.some Jvm.ClassFile.FieldType.int)) ∈ lw_all := lw_g (lw_at lw_m8 232 rfl) rfl
theorem q2034 : (Jvm.Cond.instanceMethod ({ cls := "WhiteBoardModel", name := "count", desc := "(I)I" } : Jvm.MethodName)) ∈ lw_all := lw_g (lw_at lw_m8 234 rfl) rfl
theorem q2035 : (Jvm.Cond.selects "WhiteBoardModel" ({ cls := "WhiteBoardModel", name := "count", desc := "(I)I" } : Jvm.MethodName) ({ cls := "WhiteBoardModel", name := "count", desc := "(I)I" } : Jvm.MethodName)) ∈ lw_all := lw_g (lw_at lw_m8 235 rfl) rfl
theorem q2036 : (Jvm.Cond.code ({ cls := "WhiteBoardModel", name := "count", desc := "(I)I" } : Jvm.MethodName) prog_13_method_68_code (2 : Nat) (Option.some Jvm.ClassFile.FieldType.int)) ∈ lw_all := lw_g (lw_at lw_m8 236 rfl) rfl
theorem q2037 : (Jvm.Cond.methodLink "WhiteBoardModel" (449 : Nat) ({ cls := "WhiteBoardModel", name := "within", desc := "(III)Z" } : Jvm.MethodName)) ∈ lw_all := lw_g (lw_at lw_m8 237 rfl) rfl
theorem q2038 : (Jvm.Cond.static ({ cls := "WhiteBoardModel", name := "within", desc := "(III)Z" } : Jvm.MethodName)) ∈ lw_all := lw_g (lw_at lw_m8 238 rfl) rfl
theorem q2039 : (Jvm.Cond.code ({ cls := "WhiteBoardModel", name := "within", desc := "(III)Z" } : Jvm.MethodName) prog_13_method_4_code (3 : Nat) (Option.some Jvm.ClassFile.FieldType.boolean)) ∈ lw_all := lw_g (lw_at lw_m8 239 rfl) rfl
theorem q2040 : (Jvm.Cond.methodLink "WhiteBoardModel" (383 : Nat) ({ cls := "WhiteBoardModel", name := "listOf", desc := "([I)I" } : Jvm.MethodName)) ∈ lw_all := lw_g (lw_at lw_m9 0 rfl) rfl
theorem q2041 : (Jvm.Cond.privateMethod ({ cls := "WhiteBoardModel", name := "listOf", desc := "([I)I" } : Jvm.MethodName)) ∈ lw_tbl := lw_at lw_m9 1 rfl
theorem q2042 : (Jvm.Cond.instanceMethod ({ cls := "WhiteBoardModel", name := "listOf", desc := "([I)I" } : Jvm.MethodName)) ∈ lw_all := lw_g (lw_at lw_m9 2 rfl) rfl
theorem q2043 : (Jvm.Cond.code ({ cls := "WhiteBoardModel", name := "listOf", desc := "([I)I" } : Jvm.MethodName) prog_13_method_49_code (4 : Nat) (Option.some Jvm.ClassFile.FieldType.int)) ∈ lw_all := lw_g (lw_at lw_m9 3 rfl) rfl
theorem q2044 : (Jvm.Cond.methodLink "WhiteBoardModel" (453 : Nat) ({ cls := "WhiteBoardModel", name := "awayOf", desc := "([I)I" } : Jvm.MethodName)) ∈ lw_all := lw_g (lw_at lw_m9 4 rfl) rfl
theorem q2045 : (Jvm.Cond.privateMethod ({ cls := "WhiteBoardModel", name := "awayOf", desc := "([I)I" } : Jvm.MethodName)) ∈ lw_tbl := lw_at lw_m9 5 rfl
theorem q2046 : (Jvm.Cond.instanceMethod ({ cls := "WhiteBoardModel", name := "awayOf", desc := "([I)I" } : Jvm.MethodName)) ∈ lw_all := lw_g (lw_at lw_m9 6 rfl) rfl
theorem q2047 : (Jvm.Cond.code ({ cls := "WhiteBoardModel", name := "awayOf", desc := "([I)I" } : Jvm.MethodName) prog_13_method_66_code (4 : Nat) (Option.some Jvm.ClassFile.FieldType.int)) ∈ lw_all := lw_g (lw_at lw_m9 7 rfl) rfl
theorem q2048 : (Jvm.Cond.methodLink "WhiteBoardModel" (410 : Nat) ({ cls := "WhiteBoardModel", name := "isAway", desc := "([II)Z" } : Jvm.MethodName)) ∈ lw_all := lw_g (lw_at lw_m9 8 rfl) rfl
theorem q2049 : (Jvm.Cond.privateMethod ({ cls := "WhiteBoardModel", name := "isAway", desc := "([II)Z" } : Jvm.MethodName)) ∈ lw_tbl := lw_at lw_m9 9 rfl
theorem q2050 : (Jvm.Cond.instanceMethod ({ cls := "WhiteBoardModel", name := "isAway", desc := "([II)Z" } : Jvm.MethodName)) ∈ lw_all := lw_g (lw_at lw_m9 10 rfl) rfl
theorem q2051 : (Jvm.Cond.code ({ cls := "WhiteBoardModel", name := "isAway", desc := "([II)Z" } : Jvm.MethodName) prog_13_method_51_code (3 : Nat) (Option.some Jvm.ClassFile.FieldType.boolean)) ∈ lw_all := lw_g (lw_at lw_m9 11 rfl) rfl
theorem q2052 : (Jvm.Cond.methodLink "WhiteBoardModel" (456 : Nat) ({ cls := "WhiteBoardModel", name := "barred", desc := "()I" } : Jvm.MethodName)) ∈ lw_all := lw_g (lw_at lw_m9 12 rfl) rfl
theorem q2053 : (Jvm.Cond.privateMethod ({ cls := "WhiteBoardModel", name := "barred", desc := "()I" } : Jvm.MethodName)) ∈ lw_tbl := lw_at lw_m9 13 rfl
theorem q2054 : (Jvm.Cond.instanceMethod ({ cls := "WhiteBoardModel", name := "barred", desc := "()I" } : Jvm.MethodName)) ∈ lw_all := lw_g (lw_at lw_m9 14 rfl) rfl
theorem q2055 : (Jvm.Cond.code ({ cls := "WhiteBoardModel", name := "barred", desc := "()I" } : Jvm.MethodName) prog_13_method_67_code (5 : Nat) (Option.some Jvm.ClassFile.FieldType.int)) ∈ lw_all := lw_g (lw_at lw_m9 15 rfl) rfl
theorem q2057 : (Jvm.Cond.instanceMethod ({ cls := "WhiteBoardModel", name := "master", desc := "(II)I" } : Jvm.MethodName)) ∈ lw_all := lw_g (lw_at lw_m9 17 rfl) rfl
theorem q2058 : (Jvm.Cond.selects "WhiteBoardModel" ({ cls := "WhiteBoardModel", name := "master", desc := "(II)I" } : Jvm.MethodName) ({ cls := "WhiteBoardModel", name := "master", desc := "(II)I" } : Jvm.MethodName)) ∈ lw_all := lw_g (lw_at lw_m9 18 rfl) rfl
theorem q2059 : (Jvm.Cond.code ({ cls := "WhiteBoardModel", name := "master", desc := "(II)I" } : Jvm.MethodName) prog_13_method_73_code (5 : Nat) (Option.some Jvm.ClassFile.FieldType.int)) ∈ lw_all := lw_g (lw_at lw_m9 19 rfl) rfl
theorem q2060 : (Jvm.Cond.methodLink "WhiteBoardModel" (459 : Nat) ({ cls := "WhiteBoardModel", name := "isMaster", desc := "(I)Z" } : Jvm.MethodName)) ∈ lw_all := lw_g (lw_at lw_m9 20 rfl) rfl
theorem q2061 : (Jvm.Cond.privateMethod ({ cls := "WhiteBoardModel", name := "isMaster", desc := "(I)Z" } : Jvm.MethodName)) ∈ lw_tbl := lw_at lw_m9 21 rfl
theorem q2062 : (Jvm.Cond.instanceMethod ({ cls := "WhiteBoardModel", name := "isMaster", desc := "(I)Z" } : Jvm.MethodName)) ∈ lw_all := lw_g (lw_at lw_m9 22 rfl) rfl
theorem q2063 : (Jvm.Cond.code ({ cls := "WhiteBoardModel", name := "isMaster", desc := "(I)Z" } : Jvm.MethodName) prog_13_method_69_code (2 : Nat) (Option.some Jvm.ClassFile.FieldType.boolean)) ∈ lw_all := lw_g (lw_at lw_m9 23 rfl) rfl
theorem q2064 : (Jvm.Cond.methodLink "WhiteBoardModel" (462 : Nat) ({ cls := "WhiteBoardModel", name := "isWhat", desc := "(II)Z" } : Jvm.MethodName)) ∈ lw_all := lw_g (lw_at lw_m9 24 rfl) rfl
theorem q2065 : (Jvm.Cond.privateMethod ({ cls := "WhiteBoardModel", name := "isWhat", desc := "(II)Z" } : Jvm.MethodName)) ∈ lw_tbl := lw_at lw_m9 25 rfl
theorem q2066 : (Jvm.Cond.instanceMethod ({ cls := "WhiteBoardModel", name := "isWhat", desc := "(II)Z" } : Jvm.MethodName)) ∈ lw_all := lw_g (lw_at lw_m9 26 rfl) rfl
theorem q2067 : (Jvm.Cond.code ({ cls := "WhiteBoardModel", name := "isWhat", desc := "(II)Z" } : Jvm.MethodName) prog_13_method_72_code (3 : Nat) (Option.some Jvm.ClassFile.FieldType.boolean)) ∈ lw_all := lw_g (lw_at lw_m9 27 rfl) rfl
theorem q2068 : (Jvm.Cond.methodLink "WhiteBoardModel" (387 : Nat) ({ cls := "WhiteBoardModel", name := "those", desc := "(II)I" } : Jvm.MethodName)) ∈ lw_all := lw_g (lw_at lw_m9 28 rfl) rfl
theorem q2069 : (Jvm.Cond.privateMethod ({ cls := "WhiteBoardModel", name := "those", desc := "(II)I" } : Jvm.MethodName)) ∈ lw_tbl := lw_at lw_m9 29 rfl
theorem q2070 : (Jvm.Cond.instanceMethod ({ cls := "WhiteBoardModel", name := "those", desc := "(II)I" } : Jvm.MethodName)) ∈ lw_all := lw_g (lw_at lw_m9 30 rfl) rfl
theorem q2071 : (Jvm.Cond.code ({ cls := "WhiteBoardModel", name := "those", desc := "(II)I" } : Jvm.MethodName) prog_13_method_52_code (5 : Nat) (Option.some Jvm.ClassFile.FieldType.int)) ∈ lw_all := lw_g (lw_at lw_m9 31 rfl) rfl
theorem q2073 : (Jvm.Cond.instanceMethod ({ cls := "WhiteBoardModel", name := "place", desc := "(II)I" } : Jvm.MethodName)) ∈ lw_all := lw_g (lw_at lw_m9 33 rfl) rfl
theorem q2074 : (Jvm.Cond.selects "WhiteBoardModel" ({ cls := "WhiteBoardModel", name := "place", desc := "(II)I" } : Jvm.MethodName) ({ cls := "WhiteBoardModel", name := "place", desc := "(II)I" } : Jvm.MethodName)) ∈ lw_all := lw_g (lw_at lw_m9 34 rfl) rfl
theorem q2075 : (Jvm.Cond.code ({ cls := "WhiteBoardModel", name := "place", desc := "(II)I" } : Jvm.MethodName) prog_13_method_74_code (5 : Nat) (Option.some Jvm.ClassFile.FieldType.int)) ∈ lw_all := lw_g (lw_at lw_m9 35 rfl) rfl
theorem q2076 : (Jvm.Cond.methodLink "WhiteBoardModel" (465 : Nat) ({ cls := "WhiteBoardModel", name := "isPlace", desc := "(I)Z" } : Jvm.MethodName)) ∈ lw_all := lw_g (lw_at lw_m9 36 rfl) rfl
theorem q2077 : (Jvm.Cond.privateMethod ({ cls := "WhiteBoardModel", name := "isPlace", desc := "(I)Z" } : Jvm.MethodName)) ∈ lw_tbl := lw_at lw_m9 37 rfl
theorem q2078 : (Jvm.Cond.instanceMethod ({ cls := "WhiteBoardModel", name := "isPlace", desc := "(I)Z" } : Jvm.MethodName)) ∈ lw_all := lw_g (lw_at lw_m9 38 rfl) rfl
theorem q2079 : (Jvm.Cond.code ({ cls := "WhiteBoardModel", name := "isPlace", desc := "(I)Z" } : Jvm.MethodName) prog_13_method_70_code (2 : Nat) (Option.some Jvm.ClassFile.FieldType.boolean)) ∈ lw_all := lw_g (lw_at lw_m9 39 rfl) rfl
theorem q2081 : (Jvm.Cond.instanceMethod ({ cls := "WhiteBoardModel", name := "person", desc := "(II)I" } : Jvm.MethodName)) ∈ lw_all := lw_g (lw_at lw_m9 41 rfl) rfl
theorem q2082 : (Jvm.Cond.selects "WhiteBoardModel" ({ cls := "WhiteBoardModel", name := "person", desc := "(II)I" } : Jvm.MethodName) ({ cls := "WhiteBoardModel", name := "person", desc := "(II)I" } : Jvm.MethodName)) ∈ lw_all := lw_g (lw_at lw_m9 42 rfl) rfl
theorem q2083 : (Jvm.Cond.code ({ cls := "WhiteBoardModel", name := "person", desc := "(II)I" } : Jvm.MethodName) prog_13_method_75_code (3 : Nat) (Option.some Jvm.ClassFile.FieldType.int)) ∈ lw_all := lw_g (lw_at lw_m9 43 rfl) rfl
theorem q2084 : (Jvm.Cond.methodLink "WhiteBoardModel" (468 : Nat) ({ cls := "WhiteBoardModel", name := "isPerson", desc := "(I)Z" } : Jvm.MethodName)) ∈ lw_all := lw_g (lw_at lw_m9 44 rfl) rfl
theorem q2085 : (Jvm.Cond.privateMethod ({ cls := "WhiteBoardModel", name := "isPerson", desc := "(I)Z" } : Jvm.MethodName)) ∈ lw_tbl := lw_at lw_m9 45 rfl
theorem q2086 : (Jvm.Cond.instanceMethod ({ cls := "WhiteBoardModel", name := "isPerson", desc := "(I)Z" } : Jvm.MethodName)) ∈ lw_all := lw_g (lw_at lw_m9 46 rfl) rfl
theorem q2087 : (Jvm.Cond.code ({ cls := "WhiteBoardModel", name := "isPerson", desc := "(I)Z" } : Jvm.MethodName) prog_13_method_71_code (2 : Nat) (Option.some Jvm.ClassFile.FieldType.boolean)) ∈ lw_all := lw_g (lw_at lw_m9 47 rfl) rfl
theorem q2088 : (Jvm.Cond.methodLink "WhiteBoardModel" (399 : Nat) ({ cls := "WhiteBoardModel", name := "saleOf", desc := "([II)I" } : Jvm.MethodName)) ∈ lw_all := lw_g (lw_at lw_m9 48 rfl) rfl
theorem q2089 : (Jvm.Cond.privateMethod ({ cls := "WhiteBoardModel", name := "saleOf", desc := "([II)I" } : Jvm.MethodName)) ∈ lw_tbl := lw_at lw_m9 49 rfl
theorem q2090 : (Jvm.Cond.instanceMethod ({ cls := "WhiteBoardModel", name := "saleOf", desc := "([II)I" } : Jvm.MethodName)) ∈ lw_all := lw_g (lw_at lw_m9 50 rfl) rfl
theorem q2091 : (Jvm.Cond.code ({ cls := "WhiteBoardModel", name := "saleOf", desc := "([II)I" } : Jvm.MethodName) prog_13_method_55_code (3 : Nat) (Option.some Jvm.ClassFile.FieldType.int)) ∈ lw_all := lw_g (lw_at lw_m9 51 rfl) rfl
theorem q2092 : (Jvm.Cond.methodLink "WhiteBoardModel" (396 : Nat) ({ cls := "WhiteBoardModel", name := "lesser", desc := "(II)I" } : Jvm.MethodName)) ∈ lw_all := lw_g (lw_at lw_m9 52 rfl) rfl
theorem q2093 : (Jvm.Cond.static ({ cls := "WhiteBoardModel", name := "lesser", desc := "(II)I" } : Jvm.MethodName)) ∈ lw_all := lw_g (lw_at lw_m9 53 rfl) rfl
theorem q2094 : (Jvm.Cond.code ({ cls := "WhiteBoardModel", name := "lesser", desc := "(II)I" } : Jvm.MethodName) prog_13_method_5_code (2 : Nat) (Option.some Jvm.ClassFile.FieldType.int)) ∈ lw_all := lw_g (lw_at lw_m9 54 rfl) rfl
theorem q2096 : (Jvm.Cond.instanceMethod ({ cls := "WhiteBoardModel", name := "grudge", desc := "(II)I" } : Jvm.MethodName)) ∈ lw_all := lw_g (lw_at lw_m9 56 rfl) rfl
theorem q2097 : (Jvm.Cond.selects "WhiteBoardModel" ({ cls := "WhiteBoardModel", name := "grudge", desc := "(II)I" } : Jvm.MethodName) ({ cls := "WhiteBoardModel", name := "grudge", desc := "(II)I" } : Jvm.MethodName)) ∈ lw_all := lw_g (lw_at lw_m9 57 rfl) rfl
theorem q2098 : (Jvm.Cond.code ({ cls := "WhiteBoardModel", name := "grudge", desc := "(II)I" } : Jvm.MethodName) prog_13_method_76_code (3 : Nat) (Option.some Jvm.ClassFile.FieldType.int)) ∈ lw_all := lw_g (lw_at lw_m9 58 rfl) rfl
theorem q2099 : (Jvm.Cond.methodLink "WhiteBoardModel" (413 : Nat) ({ cls := "WhiteBoardModel", name := "grudgeOf", desc := "([III)I" } : Jvm.MethodName)) ∈ lw_all := lw_g (lw_at lw_m9 59 rfl) rfl
theorem q2100 : (Jvm.Cond.privateMethod ({ cls := "WhiteBoardModel", name := "grudgeOf", desc := "([III)I" } : Jvm.MethodName)) ∈ lw_tbl := lw_at lw_m9 60 rfl
theorem q2101 : (Jvm.Cond.instanceMethod ({ cls := "WhiteBoardModel", name := "grudgeOf", desc := "([III)I" } : Jvm.MethodName)) ∈ lw_all := lw_g (lw_at lw_m9 61 rfl) rfl
theorem q2102 : (Jvm.Cond.code ({ cls := "WhiteBoardModel", name := "grudgeOf", desc := "([III)I" } : Jvm.MethodName) prog_13_method_53_code (5 : Nat) (Option.some Jvm.ClassFile.FieldType.int)) ∈ lw_all := lw_g (lw_at lw_m9 62 rfl) rfl
theorem q2103 : (Jvm.Cond.methodLink "WhiteBoardModel" (390 : Nat) ({ cls := "WhiteBoardModel", name := "bits", desc := "(I)I" } : Jvm.MethodName)) ∈ lw_all := lw_g (lw_at lw_m9 63 rfl) rfl
theorem q2104 : (Jvm.Cond.static ({ cls := "WhiteBoardModel", name := "bits", desc := "(I)I" } : Jvm.MethodName)) ∈ lw_all := lw_g (lw_at lw_m9 64 rfl) rfl
theorem q2105 : (Jvm.Cond.code ({ cls := "WhiteBoardModel", name := "bits", desc := "(I)I" } : Jvm.MethodName) prog_13_method_7_code (3 : Nat) (Option.some Jvm.ClassFile.FieldType.int)) ∈ lw_all := lw_g (lw_at lw_m9 65 rfl) rfl
theorem q2106 : (Jvm.Cond.methodLink "WhiteBoardModel" (393 : Nat) ({ cls := "WhiteBoardModel", name := "reckons", desc := "(I)I" } : Jvm.MethodName)) ∈ lw_all := lw_g (lw_at lw_m9 66 rfl) rfl
theorem q2107 : (Jvm.Cond.privateMethod ({ cls := "WhiteBoardModel", name := "reckons", desc := "(I)I" } : Jvm.MethodName)) ∈ lw_tbl := lw_at lw_m9 67 rfl
theorem q2108 : (Jvm.Cond.instanceMethod ({ cls := "WhiteBoardModel", name := "reckons", desc := "(I)I" } : Jvm.MethodName)) ∈ lw_all := lw_g (lw_at lw_m9 68 rfl) rfl
theorem q2109 : (Jvm.Cond.code ({ cls := "WhiteBoardModel", name := "reckons", desc := "(I)I" } : Jvm.MethodName) prog_13_method_48_code (5 : Nat) (Option.some Jvm.ClassFile.FieldType.int)) ∈ lw_all := lw_g (lw_at lw_m9 69 rfl) rfl
theorem q2110 : (Jvm.Cond.methodLink "WhiteBoardModel" (379 : Nat) ({ cls := "WhiteBoardModel", name := "works", desc := "(III)I" } : Jvm.MethodName)) ∈ lw_all := lw_g (lw_at lw_m9 70 rfl) rfl
theorem q2111 : (Jvm.Cond.static ({ cls := "WhiteBoardModel", name := "works", desc := "(III)I" } : Jvm.MethodName)) ∈ lw_all := lw_g (lw_at lw_m9 71 rfl) rfl
theorem q2112 : (Jvm.Cond.code ({ cls := "WhiteBoardModel", name := "works", desc := "(III)I" } : Jvm.MethodName) prog_13_method_47_code (3 : Nat) (Option.some Jvm.ClassFile.FieldType.int)) ∈ lw_all := lw_g (lw_at lw_m9 72 rfl) rfl
theorem q2114 : (Jvm.Cond.instanceMethod ({ cls := "WhiteBoardModel", name := "mornings", desc := "(I)I" } : Jvm.MethodName)) ∈ lw_all := lw_g (lw_at lw_m9 74 rfl) rfl
theorem q2115 : (Jvm.Cond.selects "WhiteBoardModel" ({ cls := "WhiteBoardModel", name := "mornings", desc := "(I)I" } : Jvm.MethodName) ({ cls := "WhiteBoardModel", name := "mornings", desc := "(I)I" } : Jvm.MethodName)) ∈ lw_all := lw_g (lw_at lw_m9 75 rfl) rfl
theorem q2116 : (Jvm.Cond.code ({ cls := "WhiteBoardModel", name := "mornings", desc := "(I)I" } : Jvm.MethodName) prog_13_method_77_code (2 : Nat) (Option.some Jvm.ClassFile.FieldType.int)) ∈ lw_all := lw_g (lw_at lw_m9 76 rfl) rfl
theorem q2117 : (Jvm.Cond.methodLink "WhiteBoardModel" (471 : Nat) ({ cls := "WhiteBoardModel", name := "refuses", desc := "(I)I" } : Jvm.MethodName)) ∈ lw_all := lw_g (lw_at lw_m9 77 rfl) rfl
theorem q2118 : (Jvm.Cond.privateMethod ({ cls := "WhiteBoardModel", name := "refuses", desc := "(I)I" } : Jvm.MethodName)) ∈ lw_tbl := lw_at lw_m9 78 rfl
theorem q2119 : (Jvm.Cond.instanceMethod ({ cls := "WhiteBoardModel", name := "refuses", desc := "(I)I" } : Jvm.MethodName)) ∈ lw_all := lw_g (lw_at lw_m9 79 rfl) rfl
theorem q2120 : (Jvm.Cond.code ({ cls := "WhiteBoardModel", name := "refuses", desc := "(I)I" } : Jvm.MethodName) prog_13_method_45_code (2 : Nat) (Option.some Jvm.ClassFile.FieldType.int)) ∈ lw_all := lw_g (lw_at lw_m9 80 rfl) rfl
theorem q2121 : (Jvm.Cond.methodLink "WhiteBoardModel" (474 : Nat) ({ cls := "WhiteBoardModel", name := "keeps", desc := "()V" } : Jvm.MethodName)) ∈ lw_all := lw_g (lw_at lw_m9 81 rfl) rfl
theorem q2122 : (Jvm.Cond.privateMethod ({ cls := "WhiteBoardModel", name := "keeps", desc := "()V" } : Jvm.MethodName)) ∈ lw_tbl := lw_at lw_m9 82 rfl
theorem q2123 : (Jvm.Cond.instanceMethod ({ cls := "WhiteBoardModel", name := "keeps", desc := "()V" } : Jvm.MethodName)) ∈ lw_all := lw_g (lw_at lw_m9 83 rfl) rfl
theorem q2124 : (Jvm.Cond.code ({ cls := "WhiteBoardModel", name := "keeps", desc := "()V" } : Jvm.MethodName) prog_13_method_44_code (2 : Nat) (Option.none : Option Jvm.ClassFile.FieldType)) ∈ lw_all := lw_g (lw_at lw_m9 84 rfl) rfl
theorem q2125 : (Jvm.Cond.methodLink "WhiteBoardModel" (446 : Nat) ({ cls := "WhiteBoardModel", name := "plays", desc := "([III)V" } : Jvm.MethodName)) ∈ lw_all := lw_g (lw_at lw_m9 85 rfl) rfl
theorem q2126 : (Jvm.Cond.privateMethod ({ cls := "WhiteBoardModel", name := "plays", desc := "([III)V" } : Jvm.MethodName)) ∈ lw_tbl := lw_at lw_m9 86 rfl
theorem q2127 : (Jvm.Cond.instanceMethod ({ cls := "WhiteBoardModel", name := "plays", desc := "([III)V" } : Jvm.MethodName)) ∈ lw_all := lw_g (lw_at lw_m9 87 rfl) rfl
theorem q2128 : (Jvm.Cond.code ({ cls := "WhiteBoardModel", name := "plays", desc := "([III)V" } : Jvm.MethodName) prog_13_method_63_code (7 : Nat) (Option.none : Option Jvm.ClassFile.FieldType)) ∈ lw_all := lw_g (lw_at lw_m9 88 rfl) rfl
theorem q2129 : (Jvm.Cond.methodLink "WhiteBoardModel" (434 : Nat) ({ cls := "WhiteBoardModel", name := "writing", desc := "([I)I" } : Jvm.MethodName)) ∈ lw_all := lw_g (lw_at lw_m9 89 rfl) rfl
theorem q2130 : (Jvm.Cond.privateMethod ({ cls := "WhiteBoardModel", name := "writing", desc := "([I)I" } : Jvm.MethodName)) ∈ lw_tbl := lw_at lw_m9 90 rfl
theorem q2131 : (Jvm.Cond.instanceMethod ({ cls := "WhiteBoardModel", name := "writing", desc := "([I)I" } : Jvm.MethodName)) ∈ lw_all := lw_g (lw_at lw_m9 91 rfl) rfl
theorem q2132 : (Jvm.Cond.code ({ cls := "WhiteBoardModel", name := "writing", desc := "([I)I" } : Jvm.MethodName) prog_13_method_59_code (5 : Nat) (Option.some Jvm.ClassFile.FieldType.int)) ∈ lw_all := lw_g (lw_at lw_m9 92 rfl) rfl
theorem q2133 : (Jvm.Cond.methodLink "WhiteBoardModel" (417 : Nat) ({ cls := "WhiteBoardModel", name := "choice", desc := "([II)I" } : Jvm.MethodName)) ∈ lw_all := lw_g (lw_at lw_m9 93 rfl) rfl
theorem q2134 : (Jvm.Cond.privateMethod ({ cls := "WhiteBoardModel", name := "choice", desc := "([II)I" } : Jvm.MethodName)) ∈ lw_tbl := lw_at lw_m9 94 rfl
theorem q2135 : (Jvm.Cond.instanceMethod ({ cls := "WhiteBoardModel", name := "choice", desc := "([II)I" } : Jvm.MethodName)) ∈ lw_all := lw_g (lw_at lw_m9 95 rfl) rfl
theorem q2136 : (Jvm.Cond.code ({ cls := "WhiteBoardModel", name := "choice", desc := "([II)I" } : Jvm.MethodName) prog_13_method_58_code (7 : Nat) (Option.some Jvm.ClassFile.FieldType.int)) ∈ lw_all := lw_g (lw_at lw_m9 96 rfl) rfl
theorem q2137 : (Jvm.Cond.methodLink "WhiteBoardModel" (420 : Nat) ({ cls := "WhiteBoardModel", name := "writes0", desc := "([III)V" } : Jvm.MethodName)) ∈ lw_all := lw_g (lw_at lw_m9 97 rfl) rfl
theorem q2138 : (Jvm.Cond.privateMethod ({ cls := "WhiteBoardModel", name := "writes0", desc := "([III)V" } : Jvm.MethodName)) ∈ lw_tbl := lw_at lw_m9 98 rfl
theorem q2139 : (Jvm.Cond.instanceMethod ({ cls := "WhiteBoardModel", name := "writes0", desc := "([III)V" } : Jvm.MethodName)) ∈ lw_all := lw_g (lw_at lw_m9 99 rfl) rfl
theorem q2140 : (Jvm.Cond.code ({ cls := "WhiteBoardModel", name := "writes0", desc := "([III)V" } : Jvm.MethodName) prog_13_method_54_code (4 : Nat) (Option.none : Option Jvm.ClassFile.FieldType)) ∈ lw_all := lw_g (lw_at lw_m9 100 rfl) rfl
theorem q2141 : (Jvm.Cond.methodLink "WhiteBoardModel" (437 : Nat) ({ cls := "WhiteBoardModel", name := "finding", desc := "([I)I" } : Jvm.MethodName)) ∈ lw_all := lw_g (lw_at lw_m9 101 rfl) rfl
theorem q2142 : (Jvm.Cond.privateMethod ({ cls := "WhiteBoardModel", name := "finding", desc := "([I)I" } : Jvm.MethodName)) ∈ lw_tbl := lw_at lw_m9 102 rfl
theorem q2143 : (Jvm.Cond.instanceMethod ({ cls := "WhiteBoardModel", name := "finding", desc := "([I)I" } : Jvm.MethodName)) ∈ lw_all := lw_g (lw_at lw_m9 103 rfl) rfl
theorem q2144 : (Jvm.Cond.code ({ cls := "WhiteBoardModel", name := "finding", desc := "([I)I" } : Jvm.MethodName) prog_13_method_60_code (4 : Nat) (Option.some Jvm.ClassFile.FieldType.int)) ∈ lw_all := lw_g (lw_at lw_m9 104 rfl) rfl
theorem q2145 : (Jvm.Cond.methodLink "WhiteBoardModel" (427 : Nat) ({ cls := "WhiteBoardModel", name := "isFound", desc := "([II)Z" } : Jvm.MethodName)) ∈ lw_all := lw_g (lw_at lw_m9 105 rfl) rfl
theorem q2146 : (Jvm.Cond.privateMethod ({ cls := "WhiteBoardModel", name := "isFound", desc := "([II)Z" } : Jvm.MethodName)) ∈ lw_tbl := lw_at lw_m9 106 rfl
theorem q2147 : (Jvm.Cond.instanceMethod ({ cls := "WhiteBoardModel", name := "isFound", desc := "([II)Z" } : Jvm.MethodName)) ∈ lw_all := lw_g (lw_at lw_m9 107 rfl) rfl
theorem q2148 : (Jvm.Cond.code ({ cls := "WhiteBoardModel", name := "isFound", desc := "([II)Z" } : Jvm.MethodName) prog_13_method_57_code (3 : Nat) (Option.some Jvm.ClassFile.FieldType.boolean)) ∈ lw_all := lw_g (lw_at lw_m9 108 rfl) rfl
theorem q2149 : (Jvm.Cond.methodLink "WhiteBoardModel" (406 : Nat) ({ cls := "WhiteBoardModel", name := "isDead", desc := "([II)Z" } : Jvm.MethodName)) ∈ lw_all := lw_g (lw_at lw_m9 109 rfl) rfl
theorem q2150 : (Jvm.Cond.static ({ cls := "WhiteBoardModel", name := "isDead", desc := "([II)Z" } : Jvm.MethodName)) ∈ lw_all := lw_g (lw_at lw_m9 110 rfl) rfl
theorem q2151 : (Jvm.Cond.code ({ cls := "WhiteBoardModel", name := "isDead", desc := "([II)Z" } : Jvm.MethodName) prog_13_method_50_code (2 : Nat) (Option.some Jvm.ClassFile.FieldType.boolean)) ∈ lw_all := lw_g (lw_at lw_m9 111 rfl) rfl
theorem q2152 : (Jvm.Cond.methodLink "WhiteBoardModel" (430 : Nat) ({ cls := "WhiteBoardModel", name := "dies", desc := "([II)V" } : Jvm.MethodName)) ∈ lw_all := lw_g (lw_at lw_m9 112 rfl) rfl
theorem q2153 : (Jvm.Cond.privateMethod ({ cls := "WhiteBoardModel", name := "dies", desc := "([II)V" } : Jvm.MethodName)) ∈ lw_tbl := lw_at lw_m9 113 rfl
theorem q2154 : (Jvm.Cond.instanceMethod ({ cls := "WhiteBoardModel", name := "dies", desc := "([II)V" } : Jvm.MethodName)) ∈ lw_all := lw_g (lw_at lw_m9 114 rfl) rfl
theorem q2155 : (Jvm.Cond.code ({ cls := "WhiteBoardModel", name := "dies", desc := "([II)V" } : Jvm.MethodName) prog_13_method_56_code (5 : Nat) (Option.none : Option Jvm.ClassFile.FieldType)) ∈ lw_all := lw_g (lw_at lw_m9 115 rfl) rfl
theorem q2157 : (Jvm.Cond.instanceMethod ({ cls := "WhiteBoardModel", name := "go", desc := "(II)I" } : Jvm.MethodName)) ∈ lw_all := lw_g (lw_at lw_m9 117 rfl) rfl
theorem q2158 : (Jvm.Cond.selects "WhiteBoardModel" ({ cls := "WhiteBoardModel", name := "go", desc := "(II)I" } : Jvm.MethodName) ({ cls := "WhiteBoardModel", name := "go", desc := "(II)I" } : Jvm.MethodName)) ∈ lw_all := lw_g (lw_at lw_m9 118 rfl) rfl
theorem q2159 : (Jvm.Cond.code ({ cls := "WhiteBoardModel", name := "go", desc := "(II)I" } : Jvm.MethodName) prog_13_method_80_code (4 : Nat) (Option.some Jvm.ClassFile.FieldType.int)) ∈ lw_all := lw_g (lw_at lw_m9 119 rfl) rfl
theorem q2160 : (Jvm.Cond.methodLink "WhiteBoardModel" (477 : Nat) ({ cls := "WhiteBoardModel", name := "leads", desc := "(II)I" } : Jvm.MethodName)) ∈ lw_all := lw_g (lw_at lw_m9 120 rfl) rfl
theorem q2161 : (Jvm.Cond.privateMethod ({ cls := "WhiteBoardModel", name := "leads", desc := "(II)I" } : Jvm.MethodName)) ∈ lw_tbl := lw_at lw_m9 121 rfl
theorem q2162 : (Jvm.Cond.instanceMethod ({ cls := "WhiteBoardModel", name := "leads", desc := "(II)I" } : Jvm.MethodName)) ∈ lw_all := lw_g (lw_at lw_m9 122 rfl) rfl
theorem q2163 : (Jvm.Cond.code ({ cls := "WhiteBoardModel", name := "leads", desc := "(II)I" } : Jvm.MethodName) prog_13_method_78_code (3 : Nat) (Option.some Jvm.ClassFile.FieldType.int)) ∈ lw_all := lw_g (lw_at lw_m9 123 rfl) rfl
theorem q2164 : (Jvm.Cond.methodLink "WhiteBoardModel" (480 : Nat) ({ cls := "WhiteBoardModel", name := "isPassable", desc := "(II)Z" } : Jvm.MethodName)) ∈ lw_all := lw_g (lw_at lw_m9 124 rfl) rfl
theorem q2165 : (Jvm.Cond.privateMethod ({ cls := "WhiteBoardModel", name := "isPassable", desc := "(II)Z" } : Jvm.MethodName)) ∈ lw_tbl := lw_at lw_m9 125 rfl
theorem q2166 : (Jvm.Cond.instanceMethod ({ cls := "WhiteBoardModel", name := "isPassable", desc := "(II)Z" } : Jvm.MethodName)) ∈ lw_all := lw_g (lw_at lw_m9 126 rfl) rfl
theorem q2167 : (Jvm.Cond.code ({ cls := "WhiteBoardModel", name := "isPassable", desc := "(II)Z" } : Jvm.MethodName) prog_13_method_79_code (3 : Nat) (Option.some Jvm.ClassFile.FieldType.boolean)) ∈ lw_all := lw_g (lw_at lw_m9 127 rfl) rfl
theorem q2169 : (Jvm.Cond.instanceMethod ({ cls := "WhiteBoardModel", name := "write", desc := "(I)Z" } : Jvm.MethodName)) ∈ lw_all := lw_g (lw_at lw_m9 129 rfl) rfl
theorem q2170 : (Jvm.Cond.selects "WhiteBoardModel" ({ cls := "WhiteBoardModel", name := "write", desc := "(I)Z" } : Jvm.MethodName) ({ cls := "WhiteBoardModel", name := "write", desc := "(I)Z" } : Jvm.MethodName)) ∈ lw_all := lw_g (lw_at lw_m9 130 rfl) rfl
theorem q2171 : (Jvm.Cond.code ({ cls := "WhiteBoardModel", name := "write", desc := "(I)Z" } : Jvm.MethodName) prog_13_method_81_code (2 : Nat) (Option.some Jvm.ClassFile.FieldType.boolean)) ∈ lw_all := lw_g (lw_at lw_m9 131 rfl) rfl
theorem q2173 : (Jvm.Cond.instanceMethod ({ cls := "WhiteBoardModel", name := "strike", desc := "(I)I" } : Jvm.MethodName)) ∈ lw_all := lw_g (lw_at lw_m9 133 rfl) rfl
theorem q2174 : (Jvm.Cond.selects "WhiteBoardModel" ({ cls := "WhiteBoardModel", name := "strike", desc := "(I)I" } : Jvm.MethodName) ({ cls := "WhiteBoardModel", name := "strike", desc := "(I)I" } : Jvm.MethodName)) ∈ lw_all := lw_g (lw_at lw_m9 134 rfl) rfl
theorem q2175 : (Jvm.Cond.code ({ cls := "WhiteBoardModel", name := "strike", desc := "(I)I" } : Jvm.MethodName) prog_13_method_82_code (3 : Nat) (Option.some Jvm.ClassFile.FieldType.int)) ∈ lw_all := lw_g (lw_at lw_m9 135 rfl) rfl
theorem q2177 : (Jvm.Cond.instanceMethod ({ cls := "WhiteBoardModel", name := "open", desc := "(Z)Z" } : Jvm.MethodName)) ∈ lw_all := lw_g (lw_at lw_m9 137 rfl) rfl
theorem q2178 : (Jvm.Cond.selects "WhiteBoardModel" ({ cls := "WhiteBoardModel", name := "open", desc := "(Z)Z" } : Jvm.MethodName) ({ cls := "WhiteBoardModel", name := "open", desc := "(Z)Z" } : Jvm.MethodName)) ∈ lw_all := lw_g (lw_at lw_m9 138 rfl) rfl
theorem q2179 : (Jvm.Cond.code ({ cls := "WhiteBoardModel", name := "open", desc := "(Z)Z" } : Jvm.MethodName) prog_13_method_83_code (2 : Nat) (Option.some Jvm.ClassFile.FieldType.boolean)) ∈ lw_all := lw_g (lw_at lw_m9 139 rfl) rfl
theorem q2181 : (Jvm.Cond.instanceMethod ({ cls := "WhiteBoardModel", name := "when", desc := "(II)I" } : Jvm.MethodName)) ∈ lw_all := lw_g (lw_at lw_m9 141 rfl) rfl
theorem q2182 : (Jvm.Cond.selects "WhiteBoardModel" ({ cls := "WhiteBoardModel", name := "when", desc := "(II)I" } : Jvm.MethodName) ({ cls := "WhiteBoardModel", name := "when", desc := "(II)I" } : Jvm.MethodName)) ∈ lw_all := lw_g (lw_at lw_m9 142 rfl) rfl
theorem q2183 : (Jvm.Cond.code ({ cls := "WhiteBoardModel", name := "when", desc := "(II)I" } : Jvm.MethodName) prog_13_method_84_code (3 : Nat) (Option.some Jvm.ClassFile.FieldType.int)) ∈ lw_all := lw_g (lw_at lw_m9 143 rfl) rfl
theorem q2184 : (Jvm.Cond.methodLink "WhiteBoardModel" (483 : Nat) ({ cls := "WhiteBoardModel", name := "playsAll", desc := "()V" } : Jvm.MethodName)) ∈ lw_all := lw_g (lw_at lw_m9 144 rfl) rfl
theorem q2185 : (Jvm.Cond.privateMethod ({ cls := "WhiteBoardModel", name := "playsAll", desc := "()V" } : Jvm.MethodName)) ∈ lw_tbl := lw_at lw_m9 145 rfl
theorem q2186 : (Jvm.Cond.instanceMethod ({ cls := "WhiteBoardModel", name := "playsAll", desc := "()V" } : Jvm.MethodName)) ∈ lw_all := lw_g (lw_at lw_m9 146 rfl) rfl
theorem q2187 : (Jvm.Cond.code ({ cls := "WhiteBoardModel", name := "playsAll", desc := "()V" } : Jvm.MethodName) prog_13_method_64_code (1 : Nat) (Option.none : Option Jvm.ClassFile.FieldType)) ∈ lw_all := lw_g (lw_at lw_m9 147 rfl) rfl
theorem q2188 : (Jvm.Cond.methodLink "WhiteBoardModel" (440 : Nat) ({ cls := "WhiteBoardModel", name := "begins", desc := "()V" } : Jvm.MethodName)) ∈ lw_all := lw_g (lw_at lw_m9 148 rfl) rfl
theorem q2189 : (Jvm.Cond.privateMethod ({ cls := "WhiteBoardModel", name := "begins", desc := "()V" } : Jvm.MethodName)) ∈ lw_tbl := lw_at lw_m9 149 rfl
theorem q2190 : (Jvm.Cond.instanceMethod ({ cls := "WhiteBoardModel", name := "begins", desc := "()V" } : Jvm.MethodName)) ∈ lw_all := lw_g (lw_at lw_m9 150 rfl) rfl
theorem q2191 : (Jvm.Cond.code ({ cls := "WhiteBoardModel", name := "begins", desc := "()V" } : Jvm.MethodName) prog_13_method_61_code (2 : Nat) (Option.none : Option Jvm.ClassFile.FieldType)) ∈ lw_all := lw_g (lw_at lw_m9 151 rfl) rfl
theorem q2192 : (Jvm.Cond.methodLink "WhiteBoardModel" (443 : Nat) ({ cls := "WhiteBoardModel", name := "mornings0", desc := "()I" } : Jvm.MethodName)) ∈ lw_all := lw_g (lw_at lw_m9 152 rfl) rfl
theorem q2193 : (Jvm.Cond.privateMethod ({ cls := "WhiteBoardModel", name := "mornings0", desc := "()I" } : Jvm.MethodName)) ∈ lw_tbl := lw_at lw_m9 153 rfl
theorem q2194 : (Jvm.Cond.instanceMethod ({ cls := "WhiteBoardModel", name := "mornings0", desc := "()I" } : Jvm.MethodName)) ∈ lw_all := lw_g (lw_at lw_m9 154 rfl) rfl
theorem q2195 : (Jvm.Cond.code ({ cls := "WhiteBoardModel", name := "mornings0", desc := "()I" } : Jvm.MethodName) prog_13_method_62_code (1 : Nat) (Option.some Jvm.ClassFile.FieldType.int)) ∈ lw_all := lw_g (lw_at lw_m9 155 rfl) rfl
theorem q2197 : (Jvm.Cond.instanceMethod ({ cls := "WhiteBoardModel", name := "found", desc := "(I)I" } : Jvm.MethodName)) ∈ lw_all := lw_g (lw_at lw_m9 157 rfl) rfl
theorem q2198 : (Jvm.Cond.selects "WhiteBoardModel" ({ cls := "WhiteBoardModel", name := "found", desc := "(I)I" } : Jvm.MethodName) ({ cls := "WhiteBoardModel", name := "found", desc := "(I)I" } : Jvm.MethodName)) ∈ lw_all := lw_g (lw_at lw_m9 158 rfl) rfl
theorem q2199 : (Jvm.Cond.code ({ cls := "WhiteBoardModel", name := "found", desc := "(I)I" } : Jvm.MethodName) prog_13_method_85_code (2 : Nat) (Option.some Jvm.ClassFile.FieldType.int)) ∈ lw_all := lw_g (lw_at lw_m9 159 rfl) rfl
theorem q2201 : (Jvm.Cond.instanceMethod ({ cls := "WhiteBoardModel", name := "next", desc := "(I)I" } : Jvm.MethodName)) ∈ lw_all := lw_g (lw_at lw_m9 161 rfl) rfl
theorem q2202 : (Jvm.Cond.selects "WhiteBoardModel" ({ cls := "WhiteBoardModel", name := "next", desc := "(I)I" } : Jvm.MethodName) ({ cls := "WhiteBoardModel", name := "next", desc := "(I)I" } : Jvm.MethodName)) ∈ lw_all := lw_g (lw_at lw_m9 162 rfl) rfl
theorem q2203 : (Jvm.Cond.code ({ cls := "WhiteBoardModel", name := "next", desc := "(I)I" } : Jvm.MethodName) prog_13_method_86_code (2 : Nat) (Option.some Jvm.ClassFile.FieldType.int)) ∈ lw_all := lw_g (lw_at lw_m9 163 rfl) rfl
theorem q2205 : (Jvm.Cond.instanceMethod ({ cls := "WhiteBoardModel", name := "owes", desc := "(II)I" } : Jvm.MethodName)) ∈ lw_all := lw_g (lw_at lw_m9 165 rfl) rfl
theorem q2206 : (Jvm.Cond.selects "WhiteBoardModel" ({ cls := "WhiteBoardModel", name := "owes", desc := "(II)I" } : Jvm.MethodName) ({ cls := "WhiteBoardModel", name := "owes", desc := "(II)I" } : Jvm.MethodName)) ∈ lw_all := lw_g (lw_at lw_m9 166 rfl) rfl
theorem q2207 : (Jvm.Cond.code ({ cls := "WhiteBoardModel", name := "owes", desc := "(II)I" } : Jvm.MethodName) prog_13_method_87_code (3 : Nat) (Option.some Jvm.ClassFile.FieldType.int)) ∈ lw_all := lw_g (lw_at lw_m9 167 rfl) rfl
theorem q2209 : (Jvm.Cond.instanceMethod ({ cls := "WhiteBoardModel", name := "instead", desc := "(I)I" } : Jvm.MethodName)) ∈ lw_all := lw_g (lw_at lw_m9 169 rfl) rfl
theorem q2210 : (Jvm.Cond.selects "WhiteBoardModel" ({ cls := "WhiteBoardModel", name := "instead", desc := "(I)I" } : Jvm.MethodName) ({ cls := "WhiteBoardModel", name := "instead", desc := "(I)I" } : Jvm.MethodName)) ∈ lw_all := lw_g (lw_at lw_m9 170 rfl) rfl
theorem q2211 : (Jvm.Cond.code ({ cls := "WhiteBoardModel", name := "instead", desc := "(I)I" } : Jvm.MethodName) prog_13_method_88_code (4 : Nat) (Option.some Jvm.ClassFile.FieldType.int)) ∈ lw_all := lw_g (lw_at lw_m9 171 rfl) rfl
theorem q2212 : (Jvm.Cond.methodLink "WhiteBoardModel" (486 : Nat) ({ cls := "WhiteBoardModel", name := "orThrown", desc := "()I" } : Jvm.MethodName)) ∈ lw_all := lw_g (lw_at lw_m9 172 rfl) rfl
theorem q2213 : (Jvm.Cond.privateMethod ({ cls := "WhiteBoardModel", name := "orThrown", desc := "()I" } : Jvm.MethodName)) ∈ lw_tbl := lw_at lw_m9 173 rfl
theorem q2214 : (Jvm.Cond.instanceMethod ({ cls := "WhiteBoardModel", name := "orThrown", desc := "()I" } : Jvm.MethodName)) ∈ lw_all := lw_g (lw_at lw_m9 174 rfl) rfl
theorem q2215 : (Jvm.Cond.code ({ cls := "WhiteBoardModel", name := "orThrown", desc := "()I" } : Jvm.MethodName) prog_13_method_89_code (1 : Nat) (Option.some Jvm.ClassFile.FieldType.int)) ∈ lw_all := lw_g (lw_at lw_m9 175 rfl) rfl
theorem q2217 : (Jvm.Cond.instanceMethod ({ cls := "WhiteBoardModel", name := "worst", desc := "(I)I" } : Jvm.MethodName)) ∈ lw_all := lw_g (lw_at lw_m9 177 rfl) rfl
theorem q2218 : (Jvm.Cond.selects "WhiteBoardModel" ({ cls := "WhiteBoardModel", name := "worst", desc := "(I)I" } : Jvm.MethodName) ({ cls := "WhiteBoardModel", name := "worst", desc := "(I)I" } : Jvm.MethodName)) ∈ lw_all := lw_g (lw_at lw_m9 178 rfl) rfl
theorem q2219 : (Jvm.Cond.code ({ cls := "WhiteBoardModel", name := "worst", desc := "(I)I" } : Jvm.MethodName) prog_13_method_90_code (5 : Nat) (Option.some Jvm.ClassFile.FieldType.int)) ∈ lw_all := lw_g (lw_at lw_m9 179 rfl) rfl
theorem q2221 : (Jvm.Cond.instanceMethod ({ cls := "WhiteBoardModel", name := "idle", desc := "()I" } : Jvm.MethodName)) ∈ lw_all := lw_g (lw_at lw_m9 181 rfl) rfl
theorem q2222 : (Jvm.Cond.selects "WhiteBoardModel" ({ cls := "WhiteBoardModel", name := "idle", desc := "()I" } : Jvm.MethodName) ({ cls := "WhiteBoardModel", name := "idle", desc := "()I" } : Jvm.MethodName)) ∈ lw_all := lw_g (lw_at lw_m9 182 rfl) rfl
theorem q2223 : (Jvm.Cond.code ({ cls := "WhiteBoardModel", name := "idle", desc := "()I" } : Jvm.MethodName) prog_13_method_91_code (2 : Nat) (Option.some Jvm.ClassFile.FieldType.int)) ∈ lw_all := lw_g (lw_at lw_m9 183 rfl) rfl
theorem q2225 : (Jvm.Cond.instanceMethod ({ cls := "WhiteBoardModel", name := "richest", desc := "()I" } : Jvm.MethodName)) ∈ lw_all := lw_g (lw_at lw_m9 185 rfl) rfl
theorem q2226 : (Jvm.Cond.selects "WhiteBoardModel" ({ cls := "WhiteBoardModel", name := "richest", desc := "()I" } : Jvm.MethodName) ({ cls := "WhiteBoardModel", name := "richest", desc := "()I" } : Jvm.MethodName)) ∈ lw_all := lw_g (lw_at lw_m9 186 rfl) rfl
theorem q2227 : (Jvm.Cond.code ({ cls := "WhiteBoardModel", name := "richest", desc := "()I" } : Jvm.MethodName) prog_13_method_92_code (4 : Nat) (Option.some Jvm.ClassFile.FieldType.int)) ∈ lw_all := lw_g (lw_at lw_m9 187 rfl) rfl
theorem q2229 : (Jvm.Cond.instanceMethod ({ cls := "WhiteBoardModel", name := "stay", desc := "(II)I" } : Jvm.MethodName)) ∈ lw_all := lw_g (lw_at lw_m9 189 rfl) rfl
theorem q2230 : (Jvm.Cond.selects "WhiteBoardModel" ({ cls := "WhiteBoardModel", name := "stay", desc := "(II)I" } : Jvm.MethodName) ({ cls := "WhiteBoardModel", name := "stay", desc := "(II)I" } : Jvm.MethodName)) ∈ lw_all := lw_g (lw_at lw_m9 190 rfl) rfl
theorem q2231 : (Jvm.Cond.code ({ cls := "WhiteBoardModel", name := "stay", desc := "(II)I" } : Jvm.MethodName) prog_13_method_93_code (5 : Nat) (Option.some Jvm.ClassFile.FieldType.int)) ∈ lw_all := lw_g (lw_at lw_m9 191 rfl) rfl
theorem q2233 : (Jvm.Cond.instanceMethod ({ cls := "WhiteBoardModel", name := "out", desc := "(I)I" } : Jvm.MethodName)) ∈ lw_all := lw_g (lw_at lw_m9 193 rfl) rfl
theorem q2234 : (Jvm.Cond.selects "WhiteBoardModel" ({ cls := "WhiteBoardModel", name := "out", desc := "(I)I" } : Jvm.MethodName) ({ cls := "WhiteBoardModel", name := "out", desc := "(I)I" } : Jvm.MethodName)) ∈ lw_all := lw_g (lw_at lw_m9 194 rfl) rfl
theorem q2235 : (Jvm.Cond.code ({ cls := "WhiteBoardModel", name := "out", desc := "(I)I" } : Jvm.MethodName) prog_13_method_96_code (2 : Nat) (Option.some Jvm.ClassFile.FieldType.int)) ∈ lw_all := lw_g (lw_at lw_m9 195 rfl) rfl
theorem q2236 : (Jvm.Cond.methodLink "WhiteBoardModel" (492 : Nat) ({ cls := "WhiteBoardModel", name := "outOf", desc := "(II)I" } : Jvm.MethodName)) ∈ lw_all := lw_g (lw_at lw_m9 196 rfl) rfl
theorem q2237 : (Jvm.Cond.privateMethod ({ cls := "WhiteBoardModel", name := "outOf", desc := "(II)I" } : Jvm.MethodName)) ∈ lw_tbl := lw_at lw_m9 197 rfl
theorem q2238 : (Jvm.Cond.instanceMethod ({ cls := "WhiteBoardModel", name := "outOf", desc := "(II)I" } : Jvm.MethodName)) ∈ lw_all := lw_g (lw_at lw_m9 198 rfl) rfl
theorem q2239 : (Jvm.Cond.code ({ cls := "WhiteBoardModel", name := "outOf", desc := "(II)I" } : Jvm.MethodName) prog_13_method_95_code (6 : Nat) (Option.some Jvm.ClassFile.FieldType.int)) ∈ lw_all := lw_g (lw_at lw_m9 199 rfl) rfl
theorem q2240 : (Jvm.Cond.methodLink "WhiteBoardModel" (489 : Nat) ({ cls := "WhiteBoardModel", name := "stepsOn", desc := "(I)V" } : Jvm.MethodName)) ∈ lw_all := lw_g (lw_at lw_m9 200 rfl) rfl
theorem q2241 : (Jvm.Cond.privateMethod ({ cls := "WhiteBoardModel", name := "stepsOn", desc := "(I)V" } : Jvm.MethodName)) ∈ lw_tbl := lw_at lw_m9 201 rfl
theorem q2242 : (Jvm.Cond.instanceMethod ({ cls := "WhiteBoardModel", name := "stepsOn", desc := "(I)V" } : Jvm.MethodName)) ∈ lw_all := lw_g (lw_at lw_m9 202 rfl) rfl
theorem q2243 : (Jvm.Cond.code ({ cls := "WhiteBoardModel", name := "stepsOn", desc := "(I)V" } : Jvm.MethodName) prog_13_method_94_code (3 : Nat) (Option.none : Option Jvm.ClassFile.FieldType)) ∈ lw_all := lw_g (lw_at lw_m9 203 rfl) rfl
theorem q2245 : (Jvm.Cond.instanceMethod ({ cls := "WhiteBoardModel", name := "gate", desc := "(I)I" } : Jvm.MethodName)) ∈ lw_all := lw_g (lw_at lw_m9 205 rfl) rfl
theorem q2246 : (Jvm.Cond.selects "WhiteBoardModel" ({ cls := "WhiteBoardModel", name := "gate", desc := "(I)I" } : Jvm.MethodName) ({ cls := "WhiteBoardModel", name := "gate", desc := "(I)I" } : Jvm.MethodName)) ∈ lw_all := lw_g (lw_at lw_m9 206 rfl) rfl
theorem q2247 : (Jvm.Cond.code ({ cls := "WhiteBoardModel", name := "gate", desc := "(I)I" } : Jvm.MethodName) prog_13_method_97_code (5 : Nat) (Option.some Jvm.ClassFile.FieldType.int)) ∈ lw_all := lw_g (lw_at lw_m9 207 rfl) rfl
theorem q2249 : (Jvm.Cond.instanceMethod ({ cls := "WhiteBoardModel", name := "surest", desc := "(II)I" } : Jvm.MethodName)) ∈ lw_all := lw_g (lw_at lw_m9 209 rfl) rfl
theorem q2250 : (Jvm.Cond.selects "WhiteBoardModel" ({ cls := "WhiteBoardModel", name := "surest", desc := "(II)I" } : Jvm.MethodName) ({ cls := "WhiteBoardModel", name := "surest", desc := "(II)I" } : Jvm.MethodName)) ∈ lw_all := lw_g (lw_at lw_m9 210 rfl) rfl
theorem q2251 : (Jvm.Cond.code ({ cls := "WhiteBoardModel", name := "surest", desc := "(II)I" } : Jvm.MethodName) prog_13_method_99_code (7 : Nat) (Option.some Jvm.ClassFile.FieldType.int)) ∈ lw_all := lw_g (lw_at lw_m9 211 rfl) rfl
theorem q2252 : (Jvm.Cond.methodLink "WhiteBoardModel" (495 : Nat) ({ cls := "WhiteBoardModel", name := "surer", desc := "(II)V" } : Jvm.MethodName)) ∈ lw_all := lw_g (lw_at lw_m9 212 rfl) rfl
theorem q2253 : (Jvm.Cond.privateMethod ({ cls := "WhiteBoardModel", name := "surer", desc := "(II)V" } : Jvm.MethodName)) ∈ lw_tbl := lw_at lw_m9 213 rfl
theorem q2254 : (Jvm.Cond.instanceMethod ({ cls := "WhiteBoardModel", name := "surer", desc := "(II)V" } : Jvm.MethodName)) ∈ lw_all := lw_g (lw_at lw_m9 214 rfl) rfl
theorem q2255 : (Jvm.Cond.code ({ cls := "WhiteBoardModel", name := "surer", desc := "(II)V" } : Jvm.MethodName) prog_13_method_98_code (3 : Nat) (Option.none : Option Jvm.ClassFile.FieldType)) ∈ lw_all := lw_g (lw_at lw_m9 215 rfl) rfl
theorem q2257 : (Jvm.Cond.instanceMethod ({ cls := "WhiteBoardModel", name := "close", desc := "(I)I" } : Jvm.MethodName)) ∈ lw_all := lw_g (lw_at lw_m9 217 rfl) rfl
theorem q2258 : (Jvm.Cond.selects "WhiteBoardModel" ({ cls := "WhiteBoardModel", name := "close", desc := "(I)I" } : Jvm.MethodName) ({ cls := "WhiteBoardModel", name := "close", desc := "(I)I" } : Jvm.MethodName)) ∈ lw_all := lw_g (lw_at lw_m9 218 rfl) rfl
theorem q2259 : (Jvm.Cond.code ({ cls := "WhiteBoardModel", name := "close", desc := "(I)I" } : Jvm.MethodName) prog_13_method_101_code (3 : Nat) (Option.some Jvm.ClassFile.FieldType.int)) ∈ lw_all := lw_g (lw_at lw_m9 219 rfl) rfl
theorem q2260 : (Jvm.Cond.methodLink "WhiteBoardModel" (499 : Nat) ({ cls := "WhiteBoardModel", name := "deadBy", desc := "(I)I" } : Jvm.MethodName)) ∈ lw_all := lw_g (lw_at lw_m9 220 rfl) rfl
theorem q2261 : (Jvm.Cond.privateMethod ({ cls := "WhiteBoardModel", name := "deadBy", desc := "(I)I" } : Jvm.MethodName)) ∈ lw_tbl := lw_at lw_m9 221 rfl
theorem q2262 : (Jvm.Cond.instanceMethod ({ cls := "WhiteBoardModel", name := "deadBy", desc := "(I)I" } : Jvm.MethodName)) ∈ lw_all := lw_g (lw_at lw_m9 222 rfl) rfl
theorem q2263 : (Jvm.Cond.code ({ cls := "WhiteBoardModel", name := "deadBy", desc := "(I)I" } : Jvm.MethodName) prog_13_method_100_code (3 : Nat) (Option.some Jvm.ClassFile.FieldType.int)) ∈ lw_all := lw_g (lw_at lw_m9 223 rfl) rfl
theorem q2265 : (Jvm.Cond.instanceMethod ({ cls := "WhiteBoardModel", name := "spared", desc := "()I" } : Jvm.MethodName)) ∈ lw_all := lw_g (lw_at lw_m9 225 rfl) rfl
theorem q2266 : (Jvm.Cond.selects "WhiteBoardModel" ({ cls := "WhiteBoardModel", name := "spared", desc := "()I" } : Jvm.MethodName) ({ cls := "WhiteBoardModel", name := "spared", desc := "()I" } : Jvm.MethodName)) ∈ lw_all := lw_g (lw_at lw_m9 226 rfl) rfl
theorem q2267 : (Jvm.Cond.code ({ cls := "WhiteBoardModel", name := "spared", desc := "()I" } : Jvm.MethodName) prog_13_method_102_code (2 : Nat) (Option.some Jvm.ClassFile.FieldType.int)) ∈ lw_all := lw_g (lw_at lw_m9 227 rfl) rfl
theorem q2269 : (Jvm.Cond.instanceMethod ({ cls := "WhiteBoardModel", name := "see", desc := "(IIZ)I" } : Jvm.MethodName)) ∈ lw_all := lw_g (lw_at lw_m9 229 rfl) rfl
theorem q2270 : (Jvm.Cond.selects "WhiteBoardModel" ({ cls := "WhiteBoardModel", name := "see", desc := "(IIZ)I" } : Jvm.MethodName) ({ cls := "WhiteBoardModel", name := "see", desc := "(IIZ)I" } : Jvm.MethodName)) ∈ lw_all := lw_g (lw_at lw_m9 230 rfl) rfl
theorem q2271 : (Jvm.Cond.code ({ cls := "WhiteBoardModel", name := "see", desc := "(IIZ)I" } : Jvm.MethodName) prog_13_method_103_code (4 : Nat) (Option.some Jvm.ClassFile.FieldType.int)) ∈ lw_all := lw_g (lw_at lw_m9 231 rfl) rfl
theorem q2273 : (Jvm.Cond.instanceMethod ({ cls := "WhiteBoardModel", name := "forget", desc := "()V" } : Jvm.MethodName)) ∈ lw_all := lw_g (lw_at lw_m9 233 rfl) rfl
theorem q2274 : (Jvm.Cond.selects "WhiteBoardModel" ({ cls := "WhiteBoardModel", name := "forget", desc := "()V" } : Jvm.MethodName) ({ cls := "WhiteBoardModel", name := "forget", desc := "()V" } : Jvm.MethodName)) ∈ lw_all := lw_g (lw_at lw_m9 234 rfl) rfl
theorem q2275 : (Jvm.Cond.code ({ cls := "WhiteBoardModel", name := "forget", desc := "()V" } : Jvm.MethodName) prog_13_method_104_code (1 : Nat) (Option.none : Option Jvm.ClassFile.FieldType)) ∈ lw_all := lw_g (lw_at lw_m9 235 rfl) rfl
theorem q2277 : (Jvm.Cond.instanceMethod ({ cls := "WhiteBoardModel", name := "scribe", desc := "(I)I" } : Jvm.MethodName)) ∈ lw_all := lw_g (lw_at lw_m9 237 rfl) rfl
theorem q2278 : (Jvm.Cond.selects "WhiteBoardModel" ({ cls := "WhiteBoardModel", name := "scribe", desc := "(I)I" } : Jvm.MethodName) ({ cls := "WhiteBoardModel", name := "scribe", desc := "(I)I" } : Jvm.MethodName)) ∈ lw_all := lw_g (lw_at lw_m9 238 rfl) rfl
theorem q2279 : (Jvm.Cond.code ({ cls := "WhiteBoardModel", name := "scribe", desc := "(I)I" } : Jvm.MethodName) prog_13_method_107_code (6 : Nat) (Option.some Jvm.ClassFile.FieldType.int)) ∈ lw_all := lw_g (lw_at lw_m9 239 rfl) rfl
theorem q2280 : (Jvm.Cond.methodLink "WhiteBoardModel" (505 : Nat) ({ cls := "WhiteBoardModel", name := "isSeen", desc := "()Z" } : Jvm.MethodName)) ∈ lw_all := lw_g (lw_at lw_m10 0 rfl) rfl
theorem q2281 : (Jvm.Cond.privateMethod ({ cls := "WhiteBoardModel", name := "isSeen", desc := "()Z" } : Jvm.MethodName)) ∈ lw_tbl := lw_at lw_m10 1 rfl
theorem q2282 : (Jvm.Cond.instanceMethod ({ cls := "WhiteBoardModel", name := "isSeen", desc := "()Z" } : Jvm.MethodName)) ∈ lw_all := lw_g (lw_at lw_m10 2 rfl) rfl
theorem q2283 : (Jvm.Cond.code ({ cls := "WhiteBoardModel", name := "isSeen", desc := "()Z" } : Jvm.MethodName) prog_13_method_105_code (2 : Nat) (Option.some Jvm.ClassFile.FieldType.boolean)) ∈ lw_all := lw_g (lw_at lw_m10 3 rfl) rfl
theorem q2284 : (Jvm.Cond.methodLink "WhiteBoardModel" (502 : Nat) ({ cls := "WhiteBoardModel", name := "listBehind", desc := "(I)I" } : Jvm.MethodName)) ∈ lw_all := lw_g (lw_at lw_m10 4 rfl) rfl
theorem q2285 : (Jvm.Cond.privateMethod ({ cls := "WhiteBoardModel", name := "listBehind", desc := "(I)I" } : Jvm.MethodName)) ∈ lw_tbl := lw_at lw_m10 5 rfl
theorem q2286 : (Jvm.Cond.instanceMethod ({ cls := "WhiteBoardModel", name := "listBehind", desc := "(I)I" } : Jvm.MethodName)) ∈ lw_all := lw_g (lw_at lw_m10 6 rfl) rfl
theorem q2287 : (Jvm.Cond.code ({ cls := "WhiteBoardModel", name := "listBehind", desc := "(I)I" } : Jvm.MethodName) prog_13_method_65_code (3 : Nat) (Option.some Jvm.ClassFile.FieldType.int)) ∈ lw_all := lw_g (lw_at lw_m10 7 rfl) rfl
theorem q2288 : (Jvm.Cond.methodLink "WhiteBoardModel" (508 : Nat) ({ cls := "WhiteBoardModel", name := "playsWith", desc := "(II)Z" } : Jvm.MethodName)) ∈ lw_all := lw_g (lw_at lw_m10 8 rfl) rfl
theorem q2289 : (Jvm.Cond.privateMethod ({ cls := "WhiteBoardModel", name := "playsWith", desc := "(II)Z" } : Jvm.MethodName)) ∈ lw_tbl := lw_at lw_m10 9 rfl
theorem q2290 : (Jvm.Cond.instanceMethod ({ cls := "WhiteBoardModel", name := "playsWith", desc := "(II)Z" } : Jvm.MethodName)) ∈ lw_all := lw_g (lw_at lw_m10 10 rfl) rfl
theorem q2291 : (Jvm.Cond.code ({ cls := "WhiteBoardModel", name := "playsWith", desc := "(II)Z" } : Jvm.MethodName) prog_13_method_106_code (4 : Nat) (Option.some Jvm.ClassFile.FieldType.boolean)) ∈ lw_all := lw_g (lw_at lw_m10 11 rfl) rfl
theorem q2293 : (Jvm.Cond.instanceMethod ({ cls := "WhiteBoardModel", name := "tells", desc := "(I)I" } : Jvm.MethodName)) ∈ lw_all := lw_g (lw_at lw_m10 13 rfl) rfl
theorem q2294 : (Jvm.Cond.selects "WhiteBoardModel" ({ cls := "WhiteBoardModel", name := "tells", desc := "(I)I" } : Jvm.MethodName) ({ cls := "WhiteBoardModel", name := "tells", desc := "(I)I" } : Jvm.MethodName)) ∈ lw_all := lw_g (lw_at lw_m10 14 rfl) rfl
theorem q2295 : (Jvm.Cond.code ({ cls := "WhiteBoardModel", name := "tells", desc := "(I)I" } : Jvm.MethodName) prog_13_method_108_code (10 : Nat) (Option.some Jvm.ClassFile.FieldType.int)) ∈ lw_all := lw_g (lw_at lw_m10 15 rfl) rfl
theorem q2297 : (Jvm.Cond.instanceMethod ({ cls := "WhiteBoardModel", name := "roll", desc := "(I)I" } : Jvm.MethodName)) ∈ lw_all := lw_g (lw_at lw_m10 17 rfl) rfl
theorem q2298 : (Jvm.Cond.selects "WhiteBoardModel" ({ cls := "WhiteBoardModel", name := "roll", desc := "(I)I" } : Jvm.MethodName) ({ cls := "WhiteBoardModel", name := "roll", desc := "(I)I" } : Jvm.MethodName)) ∈ lw_all := lw_g (lw_at lw_m10 18 rfl) rfl
theorem q2299 : (Jvm.Cond.code ({ cls := "WhiteBoardModel", name := "roll", desc := "(I)I" } : Jvm.MethodName) prog_13_method_109_code (6 : Nat) (Option.some Jvm.ClassFile.FieldType.int)) ∈ lw_all := lw_g (lw_at lw_m10 19 rfl) rfl
theorem q2301 : (Jvm.Cond.instanceMethod ({ cls := "WhiteBoardModel", name := "bargain", desc := "(III)I" } : Jvm.MethodName)) ∈ lw_all := lw_g (lw_at lw_m10 21 rfl) rfl
theorem q2302 : (Jvm.Cond.selects "WhiteBoardModel" ({ cls := "WhiteBoardModel", name := "bargain", desc := "(III)I" } : Jvm.MethodName) ({ cls := "WhiteBoardModel", name := "bargain", desc := "(III)I" } : Jvm.MethodName)) ∈ lw_all := lw_g (lw_at lw_m10 22 rfl) rfl
theorem q2303 : (Jvm.Cond.code ({ cls := "WhiteBoardModel", name := "bargain", desc := "(III)I" } : Jvm.MethodName) prog_13_method_112_code (11 : Nat) (Option.some Jvm.ClassFile.FieldType.int)) ∈ lw_all := lw_g (lw_at lw_m10 23 rfl) rfl
theorem q2304 : (Jvm.Cond.methodLink "WhiteBoardModel" (511 : Nat) ({ cls := "WhiteBoardModel", name := "friendOf0", desc := "(I)I" } : Jvm.MethodName)) ∈ lw_all := lw_g (lw_at lw_m10 24 rfl) rfl
theorem q2305 : (Jvm.Cond.privateMethod ({ cls := "WhiteBoardModel", name := "friendOf0", desc := "(I)I" } : Jvm.MethodName)) ∈ lw_tbl := lw_at lw_m10 25 rfl
theorem q2306 : (Jvm.Cond.instanceMethod ({ cls := "WhiteBoardModel", name := "friendOf0", desc := "(I)I" } : Jvm.MethodName)) ∈ lw_all := lw_g (lw_at lw_m10 26 rfl) rfl
theorem q2307 : (Jvm.Cond.code ({ cls := "WhiteBoardModel", name := "friendOf0", desc := "(I)I" } : Jvm.MethodName) prog_13_method_110_code (3 : Nat) (Option.some Jvm.ClassFile.FieldType.int)) ∈ lw_all := lw_g (lw_at lw_m10 27 rfl) rfl
theorem q2308 : (Jvm.Cond.methodLink "WhiteBoardModel" (514 : Nat) ({ cls := "WhiteBoardModel", name := "gains", desc := "(IIII)I" } : Jvm.MethodName)) ∈ lw_all := lw_g (lw_at lw_m10 28 rfl) rfl
theorem q2309 : (Jvm.Cond.privateMethod ({ cls := "WhiteBoardModel", name := "gains", desc := "(IIII)I" } : Jvm.MethodName)) ∈ lw_tbl := lw_at lw_m10 29 rfl
theorem q2310 : (Jvm.Cond.instanceMethod ({ cls := "WhiteBoardModel", name := "gains", desc := "(IIII)I" } : Jvm.MethodName)) ∈ lw_all := lw_g (lw_at lw_m10 30 rfl) rfl
theorem q2311 : (Jvm.Cond.code ({ cls := "WhiteBoardModel", name := "gains", desc := "(IIII)I" } : Jvm.MethodName) prog_13_method_111_code (7 : Nat) (Option.some Jvm.ClassFile.FieldType.int)) ∈ lw_all := lw_g (lw_at lw_m10 31 rfl) rfl
theorem q2313 : (Jvm.Cond.instanceMethod ({ cls := "WhiteBoardModel", name := "lists", desc := "(III)I" } : Jvm.MethodName)) ∈ lw_all := lw_g (lw_at lw_m10 33 rfl) rfl
theorem q2314 : (Jvm.Cond.selects "WhiteBoardModel" ({ cls := "WhiteBoardModel", name := "lists", desc := "(III)I" } : Jvm.MethodName) ({ cls := "WhiteBoardModel", name := "lists", desc := "(III)I" } : Jvm.MethodName)) ∈ lw_all := lw_g (lw_at lw_m10 34 rfl) rfl
theorem q2315 : (Jvm.Cond.code ({ cls := "WhiteBoardModel", name := "lists", desc := "(III)I" } : Jvm.MethodName) prog_13_method_115_code (6 : Nat) (Option.some Jvm.ClassFile.FieldType.int)) ∈ lw_all := lw_g (lw_at lw_m10 35 rfl) rfl
theorem q2316 : (Jvm.Cond.methodLink "WhiteBoardModel" (525 : Nat) ({ cls := "WhiteBoardModel", name := "drawsMorning", desc := "()V" } : Jvm.MethodName)) ∈ lw_all := lw_g (lw_at lw_m10 36 rfl) rfl
theorem q2317 : (Jvm.Cond.privateMethod ({ cls := "WhiteBoardModel", name := "drawsMorning", desc := "()V" } : Jvm.MethodName)) ∈ lw_tbl := lw_at lw_m10 37 rfl
theorem q2318 : (Jvm.Cond.instanceMethod ({ cls := "WhiteBoardModel", name := "drawsMorning", desc := "()V" } : Jvm.MethodName)) ∈ lw_all := lw_g (lw_at lw_m10 38 rfl) rfl
theorem q2319 : (Jvm.Cond.code ({ cls := "WhiteBoardModel", name := "drawsMorning", desc := "()V" } : Jvm.MethodName) prog_13_method_114_code (4 : Nat) (Option.none : Option Jvm.ClassFile.FieldType)) ∈ lw_all := lw_g (lw_at lw_m10 39 rfl) rfl
theorem q2320 : (Jvm.Cond.methodLink "WhiteBoardModel" (522 : Nat) ({ cls := "WhiteBoardModel", name := "draw", desc := "(I)I" } : Jvm.MethodName)) ∈ lw_all := lw_g (lw_at lw_m10 40 rfl) rfl
theorem q2321 : (Jvm.Cond.privateMethod ({ cls := "WhiteBoardModel", name := "draw", desc := "(I)I" } : Jvm.MethodName)) ∈ lw_tbl := lw_at lw_m10 41 rfl
theorem q2322 : (Jvm.Cond.instanceMethod ({ cls := "WhiteBoardModel", name := "draw", desc := "(I)I" } : Jvm.MethodName)) ∈ lw_all := lw_g (lw_at lw_m10 42 rfl) rfl
theorem q2323 : (Jvm.Cond.code ({ cls := "WhiteBoardModel", name := "draw", desc := "(I)I" } : Jvm.MethodName) prog_13_method_113_code (2 : Nat) (Option.some Jvm.ClassFile.FieldType.int)) ∈ lw_all := lw_g (lw_at lw_m10 43 rfl) rfl
theorem q2324 : (Jvm.Cond.constant "WhiteBoardModel" (521 : Nat) (1103515245 : Int32)) ∈ lw_all := lw_g (lw_at lw_m10 44 rfl) rfl
theorem q2326 : (Jvm.Cond.instanceMethod ({ cls := "WhiteBoardModel", name := "far", desc := "(II)I" } : Jvm.MethodName)) ∈ lw_all := lw_g (lw_at lw_m10 46 rfl) rfl
theorem q2327 : (Jvm.Cond.selects "WhiteBoardModel" ({ cls := "WhiteBoardModel", name := "far", desc := "(II)I" } : Jvm.MethodName) ({ cls := "WhiteBoardModel", name := "far", desc := "(II)I" } : Jvm.MethodName)) ∈ lw_all := lw_g (lw_at lw_m10 47 rfl) rfl
theorem q2328 : (Jvm.Cond.code ({ cls := "WhiteBoardModel", name := "far", desc := "(II)I" } : Jvm.MethodName) prog_13_method_116_code (5 : Nat) (Option.some Jvm.ClassFile.FieldType.int)) ∈ lw_all := lw_g (lw_at lw_m10 48 rfl) rfl
theorem q2330 : (Jvm.Cond.instanceMethod ({ cls := "WhiteBoardModel", name := "refuge", desc := "(I)I" } : Jvm.MethodName)) ∈ lw_all := lw_g (lw_at lw_m10 50 rfl) rfl
theorem q2331 : (Jvm.Cond.selects "WhiteBoardModel" ({ cls := "WhiteBoardModel", name := "refuge", desc := "(I)I" } : Jvm.MethodName) ({ cls := "WhiteBoardModel", name := "refuge", desc := "(I)I" } : Jvm.MethodName)) ∈ lw_all := lw_g (lw_at lw_m10 51 rfl) rfl
theorem q2332 : (Jvm.Cond.code ({ cls := "WhiteBoardModel", name := "refuge", desc := "(I)I" } : Jvm.MethodName) prog_13_method_117_code (4 : Nat) (Option.some Jvm.ClassFile.FieldType.int)) ∈ lw_all := lw_g (lw_at lw_m10 52 rfl) rfl
theorem q2334 : (Jvm.Cond.instanceMethod ({ cls := "WhiteBoardModel", name := "sought", desc := "()I" } : Jvm.MethodName)) ∈ lw_all := lw_g (lw_at lw_m10 54 rfl) rfl
theorem q2335 : (Jvm.Cond.selects "WhiteBoardModel" ({ cls := "WhiteBoardModel", name := "sought", desc := "()I" } : Jvm.MethodName) ({ cls := "WhiteBoardModel", name := "sought", desc := "()I" } : Jvm.MethodName)) ∈ lw_all := lw_g (lw_at lw_m10 55 rfl) rfl
theorem q2336 : (Jvm.Cond.code ({ cls := "WhiteBoardModel", name := "sought", desc := "()I" } : Jvm.MethodName) prog_13_method_118_code (1 : Nat) (Option.some Jvm.ClassFile.FieldType.int)) ∈ lw_all := lw_g (lw_at lw_m10 56 rfl) rfl
theorem q2338 : (Jvm.Cond.instanceMethod ({ cls := "WhiteBoardModel", name := "steps", desc := "(II)I" } : Jvm.MethodName)) ∈ lw_all := lw_g (lw_at lw_m10 58 rfl) rfl
theorem q2339 : (Jvm.Cond.selects "WhiteBoardModel" ({ cls := "WhiteBoardModel", name := "steps", desc := "(II)I" } : Jvm.MethodName) ({ cls := "WhiteBoardModel", name := "steps", desc := "(II)I" } : Jvm.MethodName)) ∈ lw_all := lw_g (lw_at lw_m10 59 rfl) rfl
theorem q2340 : (Jvm.Cond.code ({ cls := "WhiteBoardModel", name := "steps", desc := "(II)I" } : Jvm.MethodName) prog_13_method_119_code (7 : Nat) (Option.some Jvm.ClassFile.FieldType.int)) ∈ lw_all := lw_g (lw_at lw_m10 60 rfl) rfl
theorem q2342 : (Jvm.Cond.instanceMethod ({ cls := "WhiteBoardModel", name := "image", desc := "()V" } : Jvm.MethodName)) ∈ lw_all := lw_g (lw_at lw_m10 62 rfl) rfl
theorem q2343 : (Jvm.Cond.selects "WhiteBoardModel" ({ cls := "WhiteBoardModel", name := "image", desc := "()V" } : Jvm.MethodName) ({ cls := "WhiteBoardModel", name := "image", desc := "()V" } : Jvm.MethodName)) ∈ lw_all := lw_g (lw_at lw_m10 63 rfl) rfl
theorem q2344 : (Jvm.Cond.code ({ cls := "WhiteBoardModel", name := "image", desc := "()V" } : Jvm.MethodName) prog_13_method_120_code (1 : Nat) (Option.none : Option Jvm.ClassFile.FieldType)) ∈ lw_all := lw_g (lw_at lw_m10 64 rfl) rfl
theorem q2346 : (Jvm.Cond.instanceMethod ({ cls := "WhiteBoardModel", name := "restore", desc := "()Z" } : Jvm.MethodName)) ∈ lw_all := lw_g (lw_at lw_m10 66 rfl) rfl
theorem q2347 : (Jvm.Cond.selects "WhiteBoardModel" ({ cls := "WhiteBoardModel", name := "restore", desc := "()Z" } : Jvm.MethodName) ({ cls := "WhiteBoardModel", name := "restore", desc := "()Z" } : Jvm.MethodName)) ∈ lw_all := lw_g (lw_at lw_m10 67 rfl) rfl
theorem q2348 : (Jvm.Cond.code ({ cls := "WhiteBoardModel", name := "restore", desc := "()Z" } : Jvm.MethodName) prog_13_method_121_code (1 : Nat) (Option.some Jvm.ClassFile.FieldType.boolean)) ∈ lw_all := lw_g (lw_at lw_m10 68 rfl) rfl
theorem q2362 : (Jvm.Cond.castable "WhiteBoardModel" "java/lang/Object") ∈ lw_tbl := lw_at lw_m10 82 rfl
theorem in_X4 : ∀ w ∈ wsX40, w ∈ lw_all := lw_in wsX40 [1702, 1704, 1706, 1708, 1710, 1712, 1714, 1716, 1718, 1720, 1722, 1724, 1726, 1728, 1730, 1732, 1734, 1736, 1738, 1740, 1742, 1744, 1746, 1748, 1750, 1752, 1754, 1756, 1758, 1760, 1762, 1764, 1766, 1768, 1770, 1772, 1774, 1776, 1778, 1780, 1782, 1784, 1786, 1788, 1790, 1792, 1794, 1796, 1798, 1800, 1802, 1804, 1806, 1808, 1810, 1812, 1814, 1816, 1818, 1820, 1822, 1824, 1826, 1828, 1830, 1832, 1834, 1836, 1838, 1840, 1842, 1844, 1846, 1848, 1850, 1852, 1854, 1856, 1858, 1860, 1862, 1864, 1866, 1868, 1870, 1872, 1874] (by decide +kernel) (by decide +kernel)
