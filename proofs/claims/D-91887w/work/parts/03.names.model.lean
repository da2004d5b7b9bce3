/-! HotIronModel -/
set_option maxRecDepth 100000
def RX6 : String := "HotIronModel"
def TX6 : u_T := fun k => match k with
  | 0 => ("HotIronModel", "thrown", "I", false)
  | 1 => ("HotIronModel", "status", "I", false)
  | 2 => ("HotIronModel", "refusals", "[I", true)
  | 3 => ("HotIronModel", "row", "[I", true)
  | 4 => ("HotIronModel", "images", "[I", true)
  | 5 => ("HotIronModel", "isKept", "[Z", true)
  | 6 => ("HotIronModel", "tape", "[I", true)
  | 7 => ("HotIronModel", "taped", "I", false)
  | 8 => ("HotIronModel", "from", "I", false)
  | 9 => ("HotIronModel", "to", "I", false)
  | 10 => ("HotIronModel", "sort", "I", false)
  | 11 => ("HotIronModel", "worth", "J", false)
  | 12 => ("HotIronModel", "fault", "I", false)
  | 13 => ("HotIronModel", "bad", "Z", false)
  | 14 => ("HotIronModel", "nParts", "I", false)
  | 15 => ("HotIronModel", "nCode", "I", false)
  | 16 => ("HotIronModel", "nOp", "[I", true)
  | 17 => ("HotIronModel", "nArg", "[I", true)
  | 18 => ("HotIronModel", "pile", "[I", true)
  | 19 => ("HotIronModel", "piled", "I", false)
  | 20 => ("HotIronModel", "opened", "I", false)
  | 21 => ("HotIronModel", "nStep", "[I", true)
  | 22 => ("HotIronModel", "nSteps", "I", false)
  | 23 => ("HotIronModel", "iron", "[I", true)
  | 24 => ("HotIronModel", "punched", "[I", true)
  | 25 => ("HotIronModel", "weldWorth", "[I", true)
  | 26 => ("HotIronModel", "hot", "I", false)
  | 27 => ("HotIronModel", "left", "I", false)
  | 28 => ("HotIronModel", "latest", "I", false)
  | 29 => ("HotIronModel", "heated", "I", false)
  | 30 => ("HotIronModel", "struck", "I", false)
  | 31 => ("HotIronModel", "moves", "I", false)
  | 32 => ("HotIronModel", "duds", "I", false)
  | 33 => ("HotIronModel", "colds", "I", false)
  | 34 => ("HotIronModel", "scale", "I", false)
  | 35 => ("HotIronModel", "dropped", "I", false)
  | 36 => ("HotIronModel", "shoulders", "I", false)
  | 37 => ("HotIronModel", "holes", "I", false)
  | 38 => ("HotIronModel", "welded", "I", false)
  | 39 => ("HotIronModel", "folds", "I", false)
  | 40 => ("HotIronModel", "cracks", "I", false)
  | 41 => ("HotIronModel", "gone", "I", false)
  | 42 => ("HotIronModel", "slip", "I", false)
  | 43 => ("HotIronModel", "state", "J", false)
  | 44 => ("HotIronModel", "rest", "[I", true)
  | 45 => ("HotIronModel", "ranCells", "I", false)
  | 46 => ("HotIronModel", "ranIron", "[I", true)
  | 47 => ("HotIronModel", "ran", "[I", true)
  | 48 => ("HotIronModel", "ranWelds", "[I", true)
  | 49 => ("HotIronModel", "kept", "[I", true)
  | 50 => ("HotIronModel", "weight", "[I", true)
  | 51 => ("HotIronModel", "level", "[I", true)
  | 52 => ("HotIronModel", "toGo", "[I", true)
  | 53 => ("HotIronModel", "onWay", "[I", true)
  | 54 => ("HotIronModel", "goal", "[I", true)
  | 55 => ("HotIronModel", "stamp", "[I", true)
  | 56 => ("HotIronModel", "stamped", "I", false)
  | 57 => ("HotIronModel", "spread", "[I", true)
  | 58 => ("HotIronModel", "spreadMany", "I", false)
  | 59 => ("HotIronModel", "levels", "I", false)
  | 60 => ("HotIronModel", "planHeats", "I", false)
  | 61 => ("HotIronModel", "planCell", "[I", true)
  | 62 => ("HotIronModel", "planRow", "[I", true)
  | 63 => ("HotIronModel", "order", "[I", true)
  | 64 => ("HotIronModel", "begins", "[I", true)
  | 65 => ("HotIronModel", "free", "[I", true)
  | _ => ("HotIronModel", "best", "[I", true)
def tyX6 : Nat → FieldType := fun k => match k with
  | 0 => .int
  | 1 => .int
  | 2 => .array .int
  | 3 => .array .int
  | 4 => .array .int
  | 5 => .array .boolean
  | 6 => .array .int
  | 7 => .int
  | 8 => .int
  | 9 => .int
  | 10 => .int
  | 11 => .long
  | 12 => .int
  | 13 => .boolean
  | 14 => .int
  | 15 => .int
  | 16 => .array .int
  | 17 => .array .int
  | 18 => .array .int
  | 19 => .int
  | 20 => .int
  | 21 => .array .int
  | 22 => .int
  | 23 => .array .int
  | 24 => .array .int
  | 25 => .array .int
  | 26 => .int
  | 27 => .int
  | 28 => .int
  | 29 => .int
  | 30 => .int
  | 31 => .int
  | 32 => .int
  | 33 => .int
  | 34 => .int
  | 35 => .int
  | 36 => .int
  | 37 => .int
  | 38 => .int
  | 39 => .int
  | 40 => .int
  | 41 => .int
  | 42 => .int
  | 43 => .long
  | 44 => .array .int
  | 45 => .int
  | 46 => .array .int
  | 47 => .array .int
  | 48 => .array .int
  | 49 => .array .int
  | 50 => .array .int
  | 51 => .array .int
  | 52 => .array .int
  | 53 => .array .int
  | 54 => .array .int
  | 55 => .array .int
  | 56 => .int
  | 57 => .array .int
  | 58 => .int
  | 59 => .int
  | 60 => .int
  | 61 => .array .int
  | 62 => .array .int
  | 63 => .array .int
  | 64 => .array .int
  | 65 => .array .int
  | _ => .array .int
abbrev wsX60 : List Cond := u_ws RX6 TX6 67
set_option maxRecDepth 100000 in
theorem nmX6 : ∀ a, a < 67 → ∀ b, b < 67 → a ≠ b → (TX6 a).2.1 ≠ (TX6 b).2.1 := by decide +kernel
set_option maxRecDepth 100000 in
theorem tyX6_ok : ∀ k, k < 67 → parseFieldDescriptor (TX6 k).2.2.1 = some (tyX6 k) := by decide +kernel
abbrev cX6_init : ByteArray := prog_28_method_1_code
def yX6_init : MethodName := ⟨RX6, "<init>", "()V"⟩
def dkwX6_init_14 : List UInt8 := [79, 42, 180, 0, 13, 16, 30, 27, 96, 6, 79, 132, 1, 1, 167, 255, 228, 177]
abbrev dktX6_init_14 : List UInt8 := dkwX6_init_14 ++ []
def dkwX6_init_13 : List UInt8 := [180, 0, 13, 16, 14, 16, 20, 79, 3, 60, 27, 8, 162, 0, 29, 42, 180, 0, 13, 16, 20, 27, 96, 6]
abbrev dktX6_init_13 : List UInt8 := dkwX6_init_13 ++ dktX6_init_14
def dkwX6_init_12 : List UInt8 := [180, 0, 13, 16, 11, 6, 79, 42, 180, 0, 13, 16, 12, 8, 79, 42, 180, 0, 13, 16, 13, 4, 79, 42]
abbrev dktX6_init_12 : List UInt8 := dkwX6_init_12 ++ dktX6_init_13
def dkwX6_init_11 : List UInt8 := [180, 0, 13, 3, 7, 79, 42, 180, 0, 13, 6, 17, 3, 254, 79, 42, 180, 0, 13, 16, 10, 6, 79, 42]
abbrev dktX6_init_11 : List UInt8 := dkwX6_init_11 ++ dktX6_init_12
def dkwX6_init_10 : List UInt8 := [42, 16, 8, 188, 10, 181, 0, 103, 42, 6, 188, 10, 181, 0, 106, 42, 16, 8, 188, 10, 181, 0, 109, 42]
abbrev dktX6_init_10 : List UInt8 := dkwX6_init_10 ++ dktX6_init_11
def dkwX6_init_9 : List UInt8 := [42, 16, 7, 188, 10, 181, 0, 94, 42, 16, 7, 188, 10, 181, 0, 97, 42, 16, 8, 188, 10, 181, 0, 100]
abbrev dktX6_init_9 : List UInt8 := dkwX6_init_9 ++ dktX6_init_10
def dkwX6_init_8 : List UInt8 := [188, 10, 181, 0, 82, 42, 18, 69, 188, 10, 181, 0, 85, 42, 2, 181, 0, 88, 42, 16, 254, 181, 0, 91]
abbrev dktX6_init_8 : List UInt8 := dkwX6_init_8 ++ dktX6_init_9
def dkwX6_init_7 : List UInt8 := [188, 10, 181, 0, 73, 42, 18, 69, 188, 10, 181, 0, 76, 42, 18, 69, 188, 10, 181, 0, 79, 42, 18, 69]
abbrev dktX6_init_7 : List UInt8 := dkwX6_init_7 ++ dktX6_init_8
def dkwX6_init_6 : List UInt8 := [188, 10, 181, 0, 63, 42, 8, 188, 10, 181, 0, 66, 42, 18, 69, 188, 10, 181, 0, 70, 42, 18, 69]
abbrev dktX6_init_6 : List UInt8 := dkwX6_init_6 ++ dktX6_init_7
def dkwX6_init_5 : List UInt8 := [8, 188, 10, 181, 0, 54, 42, 16, 12, 188, 10, 181, 0, 57, 42, 8, 188, 10, 181, 0, 60, 42, 16, 60]
abbrev dktX6_init_5 : List UInt8 := dkwX6_init_5 ++ dktX6_init_6
def dkwX6_init_4 : List UInt8 := [42, 8, 188, 10, 181, 0, 45, 42, 8, 188, 10, 181, 0, 48, 42, 17, 1, 144, 188, 10, 181, 0, 51, 42]
abbrev dktX6_init_4 : List UInt8 := dkwX6_init_4 ++ dktX6_init_5
def dkwX6_init_3 : List UInt8 := [17, 1, 144, 188, 10, 181, 0, 36, 42, 17, 0, 160, 188, 10, 181, 0, 39, 42, 8, 188, 10, 181, 0, 42]
abbrev dktX6_init_3 : List UInt8 := dkwX6_init_3 ++ dktX6_init_4
def dkwX6_init_2 : List UInt8 := [42, 2, 181, 0, 26, 42, 17, 1, 144, 188, 10, 181, 0, 30, 42, 17, 1, 144, 188, 10, 181, 0, 33, 42]
abbrev dktX6_init_2 : List UInt8 := dkwX6_init_2 ++ dktX6_init_3
def dkwX6_init_1 : List UInt8 := [17, 62, 248, 188, 10, 181, 0, 16, 42, 5, 188, 4, 181, 0, 19, 42, 17, 1, 144, 188, 10, 181, 0, 23]
abbrev dktX6_init_1 : List UInt8 := dkwX6_init_1 ++ dktX6_init_2
def dkwX6_init_0 : List UInt8 := [42, 183, 0, 1, 42, 16, 7, 188, 10, 181, 0, 7, 42, 17, 31, 124, 188, 10, 181, 0, 13, 42]
abbrev dktX6_init_0 : List UInt8 := dkwX6_init_0 ++ dktX6_init_1
theorem dksX6_init_0 : cX6_init.data.toList.drop 0 = dktX6_init_0 := by decide +kernel
theorem dksX6_init_1 : cX6_init.data.toList.drop 22 = dktX6_init_1 := dk_seg dksX6_init_0 22 rfl rfl
theorem dksX6_init_2 : cX6_init.data.toList.drop 46 = dktX6_init_2 := dk_seg dksX6_init_1 24 rfl rfl
theorem dksX6_init_3 : cX6_init.data.toList.drop 70 = dktX6_init_3 := dk_seg dksX6_init_2 24 rfl rfl
theorem dksX6_init_4 : cX6_init.data.toList.drop 94 = dktX6_init_4 := dk_seg dksX6_init_3 24 rfl rfl
theorem dksX6_init_5 : cX6_init.data.toList.drop 118 = dktX6_init_5 := dk_seg dksX6_init_4 24 rfl rfl
theorem dksX6_init_6 : cX6_init.data.toList.drop 142 = dktX6_init_6 := dk_seg dksX6_init_5 24 rfl rfl
theorem dksX6_init_7 : cX6_init.data.toList.drop 165 = dktX6_init_7 := dk_seg dksX6_init_6 23 rfl rfl
theorem dksX6_init_8 : cX6_init.data.toList.drop 189 = dktX6_init_8 := dk_seg dksX6_init_7 24 rfl rfl
theorem dksX6_init_9 : cX6_init.data.toList.drop 213 = dktX6_init_9 := dk_seg dksX6_init_8 24 rfl rfl
theorem dksX6_init_10 : cX6_init.data.toList.drop 237 = dktX6_init_10 := dk_seg dksX6_init_9 24 rfl rfl
theorem dksX6_init_11 : cX6_init.data.toList.drop 261 = dktX6_init_11 := dk_seg dksX6_init_10 24 rfl rfl
theorem dksX6_init_12 : cX6_init.data.toList.drop 285 = dktX6_init_12 := dk_seg dksX6_init_11 24 rfl rfl
theorem dksX6_init_13 : cX6_init.data.toList.drop 309 = dktX6_init_13 := dk_seg dksX6_init_12 24 rfl rfl
theorem dksX6_init_14 : cX6_init.data.toList.drop 333 = dktX6_init_14 := dk_seg dksX6_init_13 24 rfl rfl
theorem dX6_init_0 : decode cX6_init 0 = .ok (.aload_n 0, 1) := dk_42 (dk_at dksX6_init_0 0 rfl rfl)
theorem dX6_init_1 : decode cX6_init 1 = .ok (.invokespecial 1, 3) := dk_183 0 1 (dk_at dksX6_init_0 1 rfl rfl)
theorem dX6_init_4 : decode cX6_init 4 = .ok (.aload_n 0, 1) := dk_42 (dk_at dksX6_init_0 4 rfl rfl)
theorem dX6_init_5 : decode cX6_init 5 = .ok (.bipush 7, 2) := dk_16 7 (dk_at dksX6_init_0 5 rfl rfl)
theorem dX6_init_7 : decode cX6_init 7 = .ok (.newarray .int, 2) := dk_188_10 (dk_at dksX6_init_0 7 rfl rfl)
theorem dX6_init_9 : decode cX6_init 9 = .ok (.putfield 7, 3) := dk_181 0 7 (dk_at dksX6_init_0 9 rfl rfl)
theorem dX6_init_12 : decode cX6_init 12 = .ok (.aload_n 0, 1) := dk_42 (dk_at dksX6_init_0 12 rfl rfl)
theorem dX6_init_13 : decode cX6_init 13 = .ok (.sipush 8060, 3) := dk_17 31 124 (dk_at dksX6_init_0 13 rfl rfl)
theorem dX6_init_16 : decode cX6_init 16 = .ok (.newarray .int, 2) := dk_188_10 (dk_at dksX6_init_0 16 rfl rfl)
theorem dX6_init_18 : decode cX6_init 18 = .ok (.putfield 13, 3) := dk_181 0 13 (dk_at dksX6_init_0 18 rfl rfl)
theorem dX6_init_21 : decode cX6_init 21 = .ok (.aload_n 0, 1) := dk_42 (dk_at dksX6_init_0 21 rfl rfl)
theorem dX6_init_22 : decode cX6_init 22 = .ok (.sipush 16120, 3) := dk_17 62 248 (dk_at dksX6_init_1 0 rfl rfl)
theorem dX6_init_25 : decode cX6_init 25 = .ok (.newarray .int, 2) := dk_188_10 (dk_at dksX6_init_1 3 rfl rfl)
theorem dX6_init_27 : decode cX6_init 27 = .ok (.putfield 16, 3) := dk_181 0 16 (dk_at dksX6_init_1 5 rfl rfl)
theorem dX6_init_30 : decode cX6_init 30 = .ok (.aload_n 0, 1) := dk_42 (dk_at dksX6_init_1 8 rfl rfl)
theorem dX6_init_31 : decode cX6_init 31 = .ok (.iconst 2, 1) := dk_5 (dk_at dksX6_init_1 9 rfl rfl)
theorem dX6_init_32 : decode cX6_init 32 = .ok (.newarray .boolean, 2) := dk_188_4 (dk_at dksX6_init_1 10 rfl rfl)
theorem dX6_init_34 : decode cX6_init 34 = .ok (.putfield 19, 3) := dk_181 0 19 (dk_at dksX6_init_1 12 rfl rfl)
theorem dX6_init_37 : decode cX6_init 37 = .ok (.aload_n 0, 1) := dk_42 (dk_at dksX6_init_1 15 rfl rfl)
theorem dX6_init_38 : decode cX6_init 38 = .ok (.sipush 400, 3) := dk_17 1 144 (dk_at dksX6_init_1 16 rfl rfl)
theorem dX6_init_41 : decode cX6_init 41 = .ok (.newarray .int, 2) := dk_188_10 (dk_at dksX6_init_1 19 rfl rfl)
theorem dX6_init_43 : decode cX6_init 43 = .ok (.putfield 23, 3) := dk_181 0 23 (dk_at dksX6_init_1 21 rfl rfl)
theorem dX6_init_46 : decode cX6_init 46 = .ok (.aload_n 0, 1) := dk_42 (dk_at dksX6_init_2 0 rfl rfl)
theorem dX6_init_47 : decode cX6_init 47 = .ok (.iconst (-1), 1) := dk_2 (dk_at dksX6_init_2 1 rfl rfl)
theorem dX6_init_48 : decode cX6_init 48 = .ok (.putfield 26, 3) := dk_181 0 26 (dk_at dksX6_init_2 2 rfl rfl)
theorem dX6_init_51 : decode cX6_init 51 = .ok (.aload_n 0, 1) := dk_42 (dk_at dksX6_init_2 5 rfl rfl)
theorem dX6_init_52 : decode cX6_init 52 = .ok (.sipush 400, 3) := dk_17 1 144 (dk_at dksX6_init_2 6 rfl rfl)
theorem dX6_init_55 : decode cX6_init 55 = .ok (.newarray .int, 2) := dk_188_10 (dk_at dksX6_init_2 9 rfl rfl)
theorem dX6_init_57 : decode cX6_init 57 = .ok (.putfield 30, 3) := dk_181 0 30 (dk_at dksX6_init_2 11 rfl rfl)
theorem dX6_init_60 : decode cX6_init 60 = .ok (.aload_n 0, 1) := dk_42 (dk_at dksX6_init_2 14 rfl rfl)
theorem dX6_init_61 : decode cX6_init 61 = .ok (.sipush 400, 3) := dk_17 1 144 (dk_at dksX6_init_2 15 rfl rfl)
theorem dX6_init_64 : decode cX6_init 64 = .ok (.newarray .int, 2) := dk_188_10 (dk_at dksX6_init_2 18 rfl rfl)
theorem dX6_init_66 : decode cX6_init 66 = .ok (.putfield 33, 3) := dk_181 0 33 (dk_at dksX6_init_2 20 rfl rfl)
theorem dX6_init_69 : decode cX6_init 69 = .ok (.aload_n 0, 1) := dk_42 (dk_at dksX6_init_2 23 rfl rfl)
theorem dX6_init_70 : decode cX6_init 70 = .ok (.sipush 400, 3) := dk_17 1 144 (dk_at dksX6_init_3 0 rfl rfl)
theorem dX6_init_73 : decode cX6_init 73 = .ok (.newarray .int, 2) := dk_188_10 (dk_at dksX6_init_3 3 rfl rfl)
theorem dX6_init_75 : decode cX6_init 75 = .ok (.putfield 36, 3) := dk_181 0 36 (dk_at dksX6_init_3 5 rfl rfl)
theorem dX6_init_78 : decode cX6_init 78 = .ok (.aload_n 0, 1) := dk_42 (dk_at dksX6_init_3 8 rfl rfl)
theorem dX6_init_79 : decode cX6_init 79 = .ok (.sipush 160, 3) := dk_17 0 160 (dk_at dksX6_init_3 9 rfl rfl)
theorem dX6_init_82 : decode cX6_init 82 = .ok (.newarray .int, 2) := dk_188_10 (dk_at dksX6_init_3 12 rfl rfl)
theorem dX6_init_84 : decode cX6_init 84 = .ok (.putfield 39, 3) := dk_181 0 39 (dk_at dksX6_init_3 14 rfl rfl)
theorem dX6_init_87 : decode cX6_init 87 = .ok (.aload_n 0, 1) := dk_42 (dk_at dksX6_init_3 17 rfl rfl)
theorem dX6_init_88 : decode cX6_init 88 = .ok (.iconst 5, 1) := dk_8 (dk_at dksX6_init_3 18 rfl rfl)
theorem dX6_init_89 : decode cX6_init 89 = .ok (.newarray .int, 2) := dk_188_10 (dk_at dksX6_init_3 19 rfl rfl)
theorem dX6_init_91 : decode cX6_init 91 = .ok (.putfield 42, 3) := dk_181 0 42 (dk_at dksX6_init_3 21 rfl rfl)
theorem dX6_init_94 : decode cX6_init 94 = .ok (.aload_n 0, 1) := dk_42 (dk_at dksX6_init_4 0 rfl rfl)
theorem dX6_init_95 : decode cX6_init 95 = .ok (.iconst 5, 1) := dk_8 (dk_at dksX6_init_4 1 rfl rfl)
theorem dX6_init_96 : decode cX6_init 96 = .ok (.newarray .int, 2) := dk_188_10 (dk_at dksX6_init_4 2 rfl rfl)
theorem dX6_init_98 : decode cX6_init 98 = .ok (.putfield 45, 3) := dk_181 0 45 (dk_at dksX6_init_4 4 rfl rfl)
theorem dX6_init_101 : decode cX6_init 101 = .ok (.aload_n 0, 1) := dk_42 (dk_at dksX6_init_4 7 rfl rfl)
theorem dX6_init_102 : decode cX6_init 102 = .ok (.iconst 5, 1) := dk_8 (dk_at dksX6_init_4 8 rfl rfl)
theorem dX6_init_103 : decode cX6_init 103 = .ok (.newarray .int, 2) := dk_188_10 (dk_at dksX6_init_4 9 rfl rfl)
theorem dX6_init_105 : decode cX6_init 105 = .ok (.putfield 48, 3) := dk_181 0 48 (dk_at dksX6_init_4 11 rfl rfl)
theorem dX6_init_108 : decode cX6_init 108 = .ok (.aload_n 0, 1) := dk_42 (dk_at dksX6_init_4 14 rfl rfl)
theorem dX6_init_109 : decode cX6_init 109 = .ok (.sipush 400, 3) := dk_17 1 144 (dk_at dksX6_init_4 15 rfl rfl)
theorem dX6_init_112 : decode cX6_init 112 = .ok (.newarray .int, 2) := dk_188_10 (dk_at dksX6_init_4 18 rfl rfl)
theorem dX6_init_114 : decode cX6_init 114 = .ok (.putfield 51, 3) := dk_181 0 51 (dk_at dksX6_init_4 20 rfl rfl)
theorem dX6_init_117 : decode cX6_init 117 = .ok (.aload_n 0, 1) := dk_42 (dk_at dksX6_init_4 23 rfl rfl)
theorem dX6_init_118 : decode cX6_init 118 = .ok (.iconst 5, 1) := dk_8 (dk_at dksX6_init_5 0 rfl rfl)
theorem dX6_init_119 : decode cX6_init 119 = .ok (.newarray .int, 2) := dk_188_10 (dk_at dksX6_init_5 1 rfl rfl)
theorem dX6_init_121 : decode cX6_init 121 = .ok (.putfield 54, 3) := dk_181 0 54 (dk_at dksX6_init_5 3 rfl rfl)
theorem dX6_init_124 : decode cX6_init 124 = .ok (.aload_n 0, 1) := dk_42 (dk_at dksX6_init_5 6 rfl rfl)
theorem dX6_init_125 : decode cX6_init 125 = .ok (.bipush 12, 2) := dk_16 12 (dk_at dksX6_init_5 7 rfl rfl)
theorem dX6_init_127 : decode cX6_init 127 = .ok (.newarray .int, 2) := dk_188_10 (dk_at dksX6_init_5 9 rfl rfl)
theorem dX6_init_129 : decode cX6_init 129 = .ok (.putfield 57, 3) := dk_181 0 57 (dk_at dksX6_init_5 11 rfl rfl)
theorem dX6_init_132 : decode cX6_init 132 = .ok (.aload_n 0, 1) := dk_42 (dk_at dksX6_init_5 14 rfl rfl)
theorem dX6_init_133 : decode cX6_init 133 = .ok (.iconst 5, 1) := dk_8 (dk_at dksX6_init_5 15 rfl rfl)
theorem dX6_init_134 : decode cX6_init 134 = .ok (.newarray .int, 2) := dk_188_10 (dk_at dksX6_init_5 16 rfl rfl)
theorem dX6_init_136 : decode cX6_init 136 = .ok (.putfield 60, 3) := dk_181 0 60 (dk_at dksX6_init_5 18 rfl rfl)
theorem dX6_init_139 : decode cX6_init 139 = .ok (.aload_n 0, 1) := dk_42 (dk_at dksX6_init_5 21 rfl rfl)
theorem dX6_init_140 : decode cX6_init 140 = .ok (.bipush 60, 2) := dk_16 60 (dk_at dksX6_init_5 22 rfl rfl)
theorem dX6_init_142 : decode cX6_init 142 = .ok (.newarray .int, 2) := dk_188_10 (dk_at dksX6_init_6 0 rfl rfl)
theorem dX6_init_144 : decode cX6_init 144 = .ok (.putfield 63, 3) := dk_181 0 63 (dk_at dksX6_init_6 2 rfl rfl)
theorem dX6_init_147 : decode cX6_init 147 = .ok (.aload_n 0, 1) := dk_42 (dk_at dksX6_init_6 5 rfl rfl)
theorem dX6_init_148 : decode cX6_init 148 = .ok (.iconst 5, 1) := dk_8 (dk_at dksX6_init_6 6 rfl rfl)
theorem dX6_init_149 : decode cX6_init 149 = .ok (.newarray .int, 2) := dk_188_10 (dk_at dksX6_init_6 7 rfl rfl)
theorem dX6_init_151 : decode cX6_init 151 = .ok (.putfield 66, 3) := dk_181 0 66 (dk_at dksX6_init_6 9 rfl rfl)
theorem dX6_init_154 : decode cX6_init 154 = .ok (.aload_n 0, 1) := dk_42 (dk_at dksX6_init_6 12 rfl rfl)
theorem dX6_init_155 : decode cX6_init 155 = .ok (.ldc 69, 2) := dk_18 69 (dk_at dksX6_init_6 13 rfl rfl)
theorem dX6_init_157 : decode cX6_init 157 = .ok (.newarray .int, 2) := dk_188_10 (dk_at dksX6_init_6 15 rfl rfl)
theorem dX6_init_159 : decode cX6_init 159 = .ok (.putfield 70, 3) := dk_181 0 70 (dk_at dksX6_init_6 17 rfl rfl)
theorem dX6_init_162 : decode cX6_init 162 = .ok (.aload_n 0, 1) := dk_42 (dk_at dksX6_init_6 20 rfl rfl)
theorem dX6_init_163 : decode cX6_init 163 = .ok (.ldc 69, 2) := dk_18 69 (dk_at dksX6_init_6 21 rfl rfl)
theorem dX6_init_165 : decode cX6_init 165 = .ok (.newarray .int, 2) := dk_188_10 (dk_at dksX6_init_7 0 rfl rfl)
theorem dX6_init_167 : decode cX6_init 167 = .ok (.putfield 73, 3) := dk_181 0 73 (dk_at dksX6_init_7 2 rfl rfl)
theorem dX6_init_170 : decode cX6_init 170 = .ok (.aload_n 0, 1) := dk_42 (dk_at dksX6_init_7 5 rfl rfl)
theorem dX6_init_171 : decode cX6_init 171 = .ok (.ldc 69, 2) := dk_18 69 (dk_at dksX6_init_7 6 rfl rfl)
theorem dX6_init_173 : decode cX6_init 173 = .ok (.newarray .int, 2) := dk_188_10 (dk_at dksX6_init_7 8 rfl rfl)
theorem dX6_init_175 : decode cX6_init 175 = .ok (.putfield 76, 3) := dk_181 0 76 (dk_at dksX6_init_7 10 rfl rfl)
theorem dX6_init_178 : decode cX6_init 178 = .ok (.aload_n 0, 1) := dk_42 (dk_at dksX6_init_7 13 rfl rfl)
theorem dX6_init_179 : decode cX6_init 179 = .ok (.ldc 69, 2) := dk_18 69 (dk_at dksX6_init_7 14 rfl rfl)
theorem dX6_init_181 : decode cX6_init 181 = .ok (.newarray .int, 2) := dk_188_10 (dk_at dksX6_init_7 16 rfl rfl)
theorem dX6_init_183 : decode cX6_init 183 = .ok (.putfield 79, 3) := dk_181 0 79 (dk_at dksX6_init_7 18 rfl rfl)
theorem dX6_init_186 : decode cX6_init 186 = .ok (.aload_n 0, 1) := dk_42 (dk_at dksX6_init_7 21 rfl rfl)
theorem dX6_init_187 : decode cX6_init 187 = .ok (.ldc 69, 2) := dk_18 69 (dk_at dksX6_init_7 22 rfl rfl)
theorem dX6_init_189 : decode cX6_init 189 = .ok (.newarray .int, 2) := dk_188_10 (dk_at dksX6_init_8 0 rfl rfl)
theorem dX6_init_191 : decode cX6_init 191 = .ok (.putfield 82, 3) := dk_181 0 82 (dk_at dksX6_init_8 2 rfl rfl)
theorem dX6_init_194 : decode cX6_init 194 = .ok (.aload_n 0, 1) := dk_42 (dk_at dksX6_init_8 5 rfl rfl)
theorem dX6_init_195 : decode cX6_init 195 = .ok (.ldc 69, 2) := dk_18 69 (dk_at dksX6_init_8 6 rfl rfl)
theorem dX6_init_197 : decode cX6_init 197 = .ok (.newarray .int, 2) := dk_188_10 (dk_at dksX6_init_8 8 rfl rfl)
theorem dX6_init_199 : decode cX6_init 199 = .ok (.putfield 85, 3) := dk_181 0 85 (dk_at dksX6_init_8 10 rfl rfl)
theorem dX6_init_202 : decode cX6_init 202 = .ok (.aload_n 0, 1) := dk_42 (dk_at dksX6_init_8 13 rfl rfl)
theorem dX6_init_203 : decode cX6_init 203 = .ok (.iconst (-1), 1) := dk_2 (dk_at dksX6_init_8 14 rfl rfl)
theorem dX6_init_204 : decode cX6_init 204 = .ok (.putfield 88, 3) := dk_181 0 88 (dk_at dksX6_init_8 15 rfl rfl)
theorem dX6_init_207 : decode cX6_init 207 = .ok (.aload_n 0, 1) := dk_42 (dk_at dksX6_init_8 18 rfl rfl)
theorem dX6_init_208 : decode cX6_init 208 = .ok (.bipush (-2), 2) := dk_16 254 (dk_at dksX6_init_8 19 rfl rfl)
theorem dX6_init_210 : decode cX6_init 210 = .ok (.putfield 91, 3) := dk_181 0 91 (dk_at dksX6_init_8 21 rfl rfl)
theorem dX6_init_213 : decode cX6_init 213 = .ok (.aload_n 0, 1) := dk_42 (dk_at dksX6_init_9 0 rfl rfl)
theorem dX6_init_214 : decode cX6_init 214 = .ok (.bipush 7, 2) := dk_16 7 (dk_at dksX6_init_9 1 rfl rfl)
theorem dX6_init_216 : decode cX6_init 216 = .ok (.newarray .int, 2) := dk_188_10 (dk_at dksX6_init_9 3 rfl rfl)
theorem dX6_init_218 : decode cX6_init 218 = .ok (.putfield 94, 3) := dk_181 0 94 (dk_at dksX6_init_9 5 rfl rfl)
theorem dX6_init_221 : decode cX6_init 221 = .ok (.aload_n 0, 1) := dk_42 (dk_at dksX6_init_9 8 rfl rfl)
theorem dX6_init_222 : decode cX6_init 222 = .ok (.bipush 7, 2) := dk_16 7 (dk_at dksX6_init_9 9 rfl rfl)
theorem dX6_init_224 : decode cX6_init 224 = .ok (.newarray .int, 2) := dk_188_10 (dk_at dksX6_init_9 11 rfl rfl)
theorem dX6_init_226 : decode cX6_init 226 = .ok (.putfield 97, 3) := dk_181 0 97 (dk_at dksX6_init_9 13 rfl rfl)
theorem dX6_init_229 : decode cX6_init 229 = .ok (.aload_n 0, 1) := dk_42 (dk_at dksX6_init_9 16 rfl rfl)
theorem dX6_init_230 : decode cX6_init 230 = .ok (.bipush 8, 2) := dk_16 8 (dk_at dksX6_init_9 17 rfl rfl)
theorem dX6_init_232 : decode cX6_init 232 = .ok (.newarray .int, 2) := dk_188_10 (dk_at dksX6_init_9 19 rfl rfl)
theorem dX6_init_234 : decode cX6_init 234 = .ok (.putfield 100, 3) := dk_181 0 100 (dk_at dksX6_init_9 21 rfl rfl)
theorem dX6_init_237 : decode cX6_init 237 = .ok (.aload_n 0, 1) := dk_42 (dk_at dksX6_init_10 0 rfl rfl)
theorem dX6_init_238 : decode cX6_init 238 = .ok (.bipush 8, 2) := dk_16 8 (dk_at dksX6_init_10 1 rfl rfl)
theorem dX6_init_240 : decode cX6_init 240 = .ok (.newarray .int, 2) := dk_188_10 (dk_at dksX6_init_10 3 rfl rfl)
theorem dX6_init_242 : decode cX6_init 242 = .ok (.putfield 103, 3) := dk_181 0 103 (dk_at dksX6_init_10 5 rfl rfl)
theorem dX6_init_245 : decode cX6_init 245 = .ok (.aload_n 0, 1) := dk_42 (dk_at dksX6_init_10 8 rfl rfl)
theorem dX6_init_246 : decode cX6_init 246 = .ok (.iconst 3, 1) := dk_6 (dk_at dksX6_init_10 9 rfl rfl)
theorem dX6_init_247 : decode cX6_init 247 = .ok (.newarray .int, 2) := dk_188_10 (dk_at dksX6_init_10 10 rfl rfl)
theorem dX6_init_249 : decode cX6_init 249 = .ok (.putfield 106, 3) := dk_181 0 106 (dk_at dksX6_init_10 12 rfl rfl)
theorem dX6_init_252 : decode cX6_init 252 = .ok (.aload_n 0, 1) := dk_42 (dk_at dksX6_init_10 15 rfl rfl)
theorem dX6_init_253 : decode cX6_init 253 = .ok (.bipush 8, 2) := dk_16 8 (dk_at dksX6_init_10 16 rfl rfl)
theorem dX6_init_255 : decode cX6_init 255 = .ok (.newarray .int, 2) := dk_188_10 (dk_at dksX6_init_10 18 rfl rfl)
theorem dX6_init_257 : decode cX6_init 257 = .ok (.putfield 109, 3) := dk_181 0 109 (dk_at dksX6_init_10 20 rfl rfl)
theorem dX6_init_260 : decode cX6_init 260 = .ok (.aload_n 0, 1) := dk_42 (dk_at dksX6_init_10 23 rfl rfl)
theorem dX6_init_261 : decode cX6_init 261 = .ok (.getfield 13, 3) := dk_180 0 13 (dk_at dksX6_init_11 0 rfl rfl)
theorem dX6_init_264 : decode cX6_init 264 = .ok (.iconst 0, 1) := dk_3 (dk_at dksX6_init_11 3 rfl rfl)
theorem dX6_init_265 : decode cX6_init 265 = .ok (.iconst 4, 1) := dk_7 (dk_at dksX6_init_11 4 rfl rfl)
theorem dX6_init_266 : decode cX6_init 266 = .ok (.iastore, 1) := dk_79 (dk_at dksX6_init_11 5 rfl rfl)
theorem dX6_init_267 : decode cX6_init 267 = .ok (.aload_n 0, 1) := dk_42 (dk_at dksX6_init_11 6 rfl rfl)
theorem dX6_init_268 : decode cX6_init 268 = .ok (.getfield 13, 3) := dk_180 0 13 (dk_at dksX6_init_11 7 rfl rfl)
theorem dX6_init_271 : decode cX6_init 271 = .ok (.iconst 3, 1) := dk_6 (dk_at dksX6_init_11 10 rfl rfl)
theorem dX6_init_272 : decode cX6_init 272 = .ok (.sipush 1022, 3) := dk_17 3 254 (dk_at dksX6_init_11 11 rfl rfl)
theorem dX6_init_275 : decode cX6_init 275 = .ok (.iastore, 1) := dk_79 (dk_at dksX6_init_11 14 rfl rfl)
theorem dX6_init_276 : decode cX6_init 276 = .ok (.aload_n 0, 1) := dk_42 (dk_at dksX6_init_11 15 rfl rfl)
theorem dX6_init_277 : decode cX6_init 277 = .ok (.getfield 13, 3) := dk_180 0 13 (dk_at dksX6_init_11 16 rfl rfl)
theorem dX6_init_280 : decode cX6_init 280 = .ok (.bipush 10, 2) := dk_16 10 (dk_at dksX6_init_11 19 rfl rfl)
theorem dX6_init_282 : decode cX6_init 282 = .ok (.iconst 3, 1) := dk_6 (dk_at dksX6_init_11 21 rfl rfl)
theorem dX6_init_283 : decode cX6_init 283 = .ok (.iastore, 1) := dk_79 (dk_at dksX6_init_11 22 rfl rfl)
theorem dX6_init_284 : decode cX6_init 284 = .ok (.aload_n 0, 1) := dk_42 (dk_at dksX6_init_11 23 rfl rfl)
theorem dX6_init_285 : decode cX6_init 285 = .ok (.getfield 13, 3) := dk_180 0 13 (dk_at dksX6_init_12 0 rfl rfl)
theorem dX6_init_288 : decode cX6_init 288 = .ok (.bipush 11, 2) := dk_16 11 (dk_at dksX6_init_12 3 rfl rfl)
theorem dX6_init_290 : decode cX6_init 290 = .ok (.iconst 3, 1) := dk_6 (dk_at dksX6_init_12 5 rfl rfl)
theorem dX6_init_291 : decode cX6_init 291 = .ok (.iastore, 1) := dk_79 (dk_at dksX6_init_12 6 rfl rfl)
theorem dX6_init_292 : decode cX6_init 292 = .ok (.aload_n 0, 1) := dk_42 (dk_at dksX6_init_12 7 rfl rfl)
theorem dX6_init_293 : decode cX6_init 293 = .ok (.getfield 13, 3) := dk_180 0 13 (dk_at dksX6_init_12 8 rfl rfl)
theorem dX6_init_296 : decode cX6_init 296 = .ok (.bipush 12, 2) := dk_16 12 (dk_at dksX6_init_12 11 rfl rfl)
theorem dX6_init_298 : decode cX6_init 298 = .ok (.iconst 5, 1) := dk_8 (dk_at dksX6_init_12 13 rfl rfl)
theorem dX6_init_299 : decode cX6_init 299 = .ok (.iastore, 1) := dk_79 (dk_at dksX6_init_12 14 rfl rfl)
theorem dX6_init_300 : decode cX6_init 300 = .ok (.aload_n 0, 1) := dk_42 (dk_at dksX6_init_12 15 rfl rfl)
theorem dX6_init_301 : decode cX6_init 301 = .ok (.getfield 13, 3) := dk_180 0 13 (dk_at dksX6_init_12 16 rfl rfl)
theorem dX6_init_304 : decode cX6_init 304 = .ok (.bipush 13, 2) := dk_16 13 (dk_at dksX6_init_12 19 rfl rfl)
theorem dX6_init_306 : decode cX6_init 306 = .ok (.iconst 1, 1) := dk_4 (dk_at dksX6_init_12 21 rfl rfl)
theorem dX6_init_307 : decode cX6_init 307 = .ok (.iastore, 1) := dk_79 (dk_at dksX6_init_12 22 rfl rfl)
theorem dX6_init_308 : decode cX6_init 308 = .ok (.aload_n 0, 1) := dk_42 (dk_at dksX6_init_12 23 rfl rfl)
theorem dX6_init_309 : decode cX6_init 309 = .ok (.getfield 13, 3) := dk_180 0 13 (dk_at dksX6_init_13 0 rfl rfl)
theorem dX6_init_312 : decode cX6_init 312 = .ok (.bipush 14, 2) := dk_16 14 (dk_at dksX6_init_13 3 rfl rfl)
theorem dX6_init_314 : decode cX6_init 314 = .ok (.bipush 20, 2) := dk_16 20 (dk_at dksX6_init_13 5 rfl rfl)
theorem dX6_init_316 : decode cX6_init 316 = .ok (.iastore, 1) := dk_79 (dk_at dksX6_init_13 7 rfl rfl)
theorem dX6_init_317 : decode cX6_init 317 = .ok (.iconst 0, 1) := dk_3 (dk_at dksX6_init_13 8 rfl rfl)
theorem dX6_init_318 : decode cX6_init 318 = .ok (.istore_n 1, 1) := dk_60 (dk_at dksX6_init_13 9 rfl rfl)
theorem dX6_init_319 : decode cX6_init 319 = .ok (.iload_n 1, 1) := dk_27 (dk_at dksX6_init_13 10 rfl rfl)
theorem dX6_init_320 : decode cX6_init 320 = .ok (.iconst 5, 1) := dk_8 (dk_at dksX6_init_13 11 rfl rfl)
theorem dX6_init_321 : decode cX6_init 321 = .ok (.if_icmp .ge 29, 3) := dk_162 0 29 (dk_at dksX6_init_13 12 rfl rfl)
theorem dX6_init_324 : decode cX6_init 324 = .ok (.aload_n 0, 1) := dk_42 (dk_at dksX6_init_13 15 rfl rfl)
theorem dX6_init_325 : decode cX6_init 325 = .ok (.getfield 13, 3) := dk_180 0 13 (dk_at dksX6_init_13 16 rfl rfl)
theorem dX6_init_328 : decode cX6_init 328 = .ok (.bipush 20, 2) := dk_16 20 (dk_at dksX6_init_13 19 rfl rfl)
theorem dX6_init_330 : decode cX6_init 330 = .ok (.iload_n 1, 1) := dk_27 (dk_at dksX6_init_13 21 rfl rfl)
theorem dX6_init_331 : decode cX6_init 331 = .ok (.iadd, 1) := dk_96 (dk_at dksX6_init_13 22 rfl rfl)
theorem dX6_init_332 : decode cX6_init 332 = .ok (.iconst 3, 1) := dk_6 (dk_at dksX6_init_13 23 rfl rfl)
theorem dX6_init_333 : decode cX6_init 333 = .ok (.iastore, 1) := dk_79 (dk_at dksX6_init_14 0 rfl rfl)
theorem dX6_init_334 : decode cX6_init 334 = .ok (.aload_n 0, 1) := dk_42 (dk_at dksX6_init_14 1 rfl rfl)
theorem dX6_init_335 : decode cX6_init 335 = .ok (.getfield 13, 3) := dk_180 0 13 (dk_at dksX6_init_14 2 rfl rfl)
theorem dX6_init_338 : decode cX6_init 338 = .ok (.bipush 30, 2) := dk_16 30 (dk_at dksX6_init_14 5 rfl rfl)
theorem dX6_init_340 : decode cX6_init 340 = .ok (.iload_n 1, 1) := dk_27 (dk_at dksX6_init_14 7 rfl rfl)
theorem dX6_init_341 : decode cX6_init 341 = .ok (.iadd, 1) := dk_96 (dk_at dksX6_init_14 8 rfl rfl)
theorem dX6_init_342 : decode cX6_init 342 = .ok (.iconst 3, 1) := dk_6 (dk_at dksX6_init_14 9 rfl rfl)
theorem dX6_init_343 : decode cX6_init 343 = .ok (.iastore, 1) := dk_79 (dk_at dksX6_init_14 10 rfl rfl)
theorem dX6_init_344 : decode cX6_init 344 = .ok (.iinc 1 1, 3) := dk_132 1 1 (dk_at dksX6_init_14 11 rfl rfl)
theorem dX6_init_347 : decode cX6_init 347 = .ok (.goto (-28), 3) := dk_167 255 228 (dk_at dksX6_init_14 14 rfl rfl)
theorem dX6_init_350 : decode cX6_init 350 = .ok (.return_, 1) := dk_177 (dk_at dksX6_init_14 17 rfl rfl)
abbrev cX6_image : ByteArray := prog_28_method_5_code
def yX6_image : MethodName := ⟨RX6, "image", "(I)I"⟩
def dkwX6_image_2 : List UInt8 := [132, 2, 1, 167, 255, 228, 42, 180, 0, 19, 27, 4, 84, 42, 3, 182, 0, 122, 172]
abbrev dktX6_image_2 : List UInt8 := dkwX6_image_2 ++ []
def dkwX6_image_1 : List UInt8 := [17, 31, 124, 162, 0, 27, 42, 180, 0, 16, 17, 31, 124, 27, 104, 28, 96, 42, 180, 0, 13, 28, 46, 79]
abbrev dktX6_image_1 : List UInt8 := dkwX6_image_1 ++ dktX6_image_2
def dkwX6_image_0 : List UInt8 := [42, 3, 181, 0, 112, 27, 133, 9, 10, 184, 0, 118, 154, 0, 9, 42, 2, 182, 0, 122, 172, 3, 61, 28]
abbrev dktX6_image_0 : List UInt8 := dkwX6_image_0 ++ dktX6_image_1
theorem dksX6_image_0 : cX6_image.data.toList.drop 0 = dktX6_image_0 := by decide +kernel
theorem dksX6_image_1 : cX6_image.data.toList.drop 24 = dktX6_image_1 := dk_seg dksX6_image_0 24 rfl rfl
theorem dksX6_image_2 : cX6_image.data.toList.drop 48 = dktX6_image_2 := dk_seg dksX6_image_1 24 rfl rfl
theorem dX6_image_0 : decode cX6_image 0 = .ok (.aload_n 0, 1) := dk_42 (dk_at dksX6_image_0 0 rfl rfl)
theorem dX6_image_1 : decode cX6_image 1 = .ok (.iconst 0, 1) := dk_3 (dk_at dksX6_image_0 1 rfl rfl)
theorem dX6_image_2 : decode cX6_image 2 = .ok (.putfield 112, 3) := dk_181 0 112 (dk_at dksX6_image_0 2 rfl rfl)
theorem dX6_image_5 : decode cX6_image 5 = .ok (.iload_n 1, 1) := dk_27 (dk_at dksX6_image_0 5 rfl rfl)
theorem dX6_image_6 : decode cX6_image 6 = .ok (.i2l, 1) := dk_133 (dk_at dksX6_image_0 6 rfl rfl)
theorem dX6_image_7 : decode cX6_image 7 = .ok (.lconst 0, 1) := dk_9 (dk_at dksX6_image_0 7 rfl rfl)
theorem dX6_image_8 : decode cX6_image 8 = .ok (.lconst 1, 1) := dk_10 (dk_at dksX6_image_0 8 rfl rfl)
theorem dX6_image_9 : decode cX6_image 9 = .ok (.invokestatic 118, 3) := dk_184 0 118 (dk_at dksX6_image_0 9 rfl rfl)
theorem dX6_image_12 : decode cX6_image 12 = .ok (.ifCond .ne 9, 3) := dk_154 0 9 (dk_at dksX6_image_0 12 rfl rfl)
theorem dX6_image_15 : decode cX6_image 15 = .ok (.aload_n 0, 1) := dk_42 (dk_at dksX6_image_0 15 rfl rfl)
theorem dX6_image_16 : decode cX6_image 16 = .ok (.iconst (-1), 1) := dk_2 (dk_at dksX6_image_0 16 rfl rfl)
theorem dX6_image_17 : decode cX6_image 17 = .ok (.invokevirtual 122, 3) := dk_182 0 122 (dk_at dksX6_image_0 17 rfl rfl)
theorem dX6_image_20 : decode cX6_image 20 = .ok (.ireturn, 1) := dk_172 (dk_at dksX6_image_0 20 rfl rfl)
theorem dX6_image_21 : decode cX6_image 21 = .ok (.iconst 0, 1) := dk_3 (dk_at dksX6_image_0 21 rfl rfl)
theorem dX6_image_22 : decode cX6_image 22 = .ok (.istore_n 2, 1) := dk_61 (dk_at dksX6_image_0 22 rfl rfl)
theorem dX6_image_23 : decode cX6_image 23 = .ok (.iload_n 2, 1) := dk_28 (dk_at dksX6_image_0 23 rfl rfl)
theorem dX6_image_24 : decode cX6_image 24 = .ok (.sipush 8060, 3) := dk_17 31 124 (dk_at dksX6_image_1 0 rfl rfl)
theorem dX6_image_27 : decode cX6_image 27 = .ok (.if_icmp .ge 27, 3) := dk_162 0 27 (dk_at dksX6_image_1 3 rfl rfl)
theorem dX6_image_30 : decode cX6_image 30 = .ok (.aload_n 0, 1) := dk_42 (dk_at dksX6_image_1 6 rfl rfl)
theorem dX6_image_31 : decode cX6_image 31 = .ok (.getfield 16, 3) := dk_180 0 16 (dk_at dksX6_image_1 7 rfl rfl)
theorem dX6_image_34 : decode cX6_image 34 = .ok (.sipush 8060, 3) := dk_17 31 124 (dk_at dksX6_image_1 10 rfl rfl)
theorem dX6_image_37 : decode cX6_image 37 = .ok (.iload_n 1, 1) := dk_27 (dk_at dksX6_image_1 13 rfl rfl)
theorem dX6_image_38 : decode cX6_image 38 = .ok (.imul, 1) := dk_104 (dk_at dksX6_image_1 14 rfl rfl)
theorem dX6_image_39 : decode cX6_image 39 = .ok (.iload_n 2, 1) := dk_28 (dk_at dksX6_image_1 15 rfl rfl)
theorem dX6_image_40 : decode cX6_image 40 = .ok (.iadd, 1) := dk_96 (dk_at dksX6_image_1 16 rfl rfl)
theorem dX6_image_41 : decode cX6_image 41 = .ok (.aload_n 0, 1) := dk_42 (dk_at dksX6_image_1 17 rfl rfl)
theorem dX6_image_42 : decode cX6_image 42 = .ok (.getfield 13, 3) := dk_180 0 13 (dk_at dksX6_image_1 18 rfl rfl)
theorem dX6_image_45 : decode cX6_image 45 = .ok (.iload_n 2, 1) := dk_28 (dk_at dksX6_image_1 21 rfl rfl)
theorem dX6_image_46 : decode cX6_image 46 = .ok (.iaload, 1) := dk_46 (dk_at dksX6_image_1 22 rfl rfl)
theorem dX6_image_47 : decode cX6_image 47 = .ok (.iastore, 1) := dk_79 (dk_at dksX6_image_1 23 rfl rfl)
theorem dX6_image_48 : decode cX6_image 48 = .ok (.iinc 2 1, 3) := dk_132 2 1 (dk_at dksX6_image_2 0 rfl rfl)
theorem dX6_image_51 : decode cX6_image 51 = .ok (.goto (-28), 3) := dk_167 255 228 (dk_at dksX6_image_2 3 rfl rfl)
theorem dX6_image_54 : decode cX6_image 54 = .ok (.aload_n 0, 1) := dk_42 (dk_at dksX6_image_2 6 rfl rfl)
theorem dX6_image_55 : decode cX6_image 55 = .ok (.getfield 19, 3) := dk_180 0 19 (dk_at dksX6_image_2 7 rfl rfl)
theorem dX6_image_58 : decode cX6_image 58 = .ok (.iload_n 1, 1) := dk_27 (dk_at dksX6_image_2 10 rfl rfl)
theorem dX6_image_59 : decode cX6_image 59 = .ok (.iconst 1, 1) := dk_4 (dk_at dksX6_image_2 11 rfl rfl)
theorem dX6_image_60 : decode cX6_image 60 = .ok (.bastore, 1) := dk_84 (dk_at dksX6_image_2 12 rfl rfl)
theorem dX6_image_61 : decode cX6_image 61 = .ok (.aload_n 0, 1) := dk_42 (dk_at dksX6_image_2 13 rfl rfl)
theorem dX6_image_62 : decode cX6_image 62 = .ok (.iconst 0, 1) := dk_3 (dk_at dksX6_image_2 14 rfl rfl)
theorem dX6_image_63 : decode cX6_image 63 = .ok (.invokevirtual 122, 3) := dk_182 0 122 (dk_at dksX6_image_2 15 rfl rfl)
theorem dX6_image_66 : decode cX6_image 66 = .ok (.ireturn, 1) := dk_172 (dk_at dksX6_image_2 18 rfl rfl)
abbrev cX6_in : ByteArray := prog_28_method_3_code
def yX6_in : MethodName := ⟨RX6, "in", "(JJJ)Z"⟩
def dkwX6_in_0 : List UInt8 := [30, 32, 148, 155, 0, 14, 30, 22, 4, 148, 157, 0, 7, 4, 167, 0, 4, 3, 172]
abbrev dktX6_in_0 : List UInt8 := dkwX6_in_0 ++ []
theorem dksX6_in_0 : cX6_in.data.toList.drop 0 = dktX6_in_0 := by decide +kernel
theorem dX6_in_0 : decode cX6_in 0 = .ok (.lload_n 0, 1) := dk_30 (dk_at dksX6_in_0 0 rfl rfl)
theorem dX6_in_1 : decode cX6_in 1 = .ok (.lload_n 2, 1) := dk_32 (dk_at dksX6_in_0 1 rfl rfl)
theorem dX6_in_2 : decode cX6_in 2 = .ok (.lcmp, 1) := dk_148 (dk_at dksX6_in_0 2 rfl rfl)
theorem dX6_in_3 : decode cX6_in 3 = .ok (.ifCond .lt 14, 3) := dk_155 0 14 (dk_at dksX6_in_0 3 rfl rfl)
theorem dX6_in_6 : decode cX6_in 6 = .ok (.lload_n 0, 1) := dk_30 (dk_at dksX6_in_0 6 rfl rfl)
theorem dX6_in_7 : decode cX6_in 7 = .ok (.lload 4, 2) := dk_22 4 (dk_at dksX6_in_0 7 rfl rfl)
theorem dX6_in_9 : decode cX6_in 9 = .ok (.lcmp, 1) := dk_148 (dk_at dksX6_in_0 9 rfl rfl)
theorem dX6_in_10 : decode cX6_in 10 = .ok (.ifCond .gt 7, 3) := dk_157 0 7 (dk_at dksX6_in_0 10 rfl rfl)
theorem dX6_in_13 : decode cX6_in 13 = .ok (.iconst 1, 1) := dk_4 (dk_at dksX6_in_0 13 rfl rfl)
theorem dX6_in_14 : decode cX6_in 14 = .ok (.goto 4, 3) := dk_167 0 4 (dk_at dksX6_in_0 14 rfl rfl)
theorem dX6_in_17 : decode cX6_in 17 = .ok (.iconst 0, 1) := dk_3 (dk_at dksX6_in_0 17 rfl rfl)
theorem dX6_in_18 : decode cX6_in 18 = .ok (.ireturn, 1) := dk_172 (dk_at dksX6_in_0 18 rfl rfl)
abbrev cX6_tell : ByteArray := prog_28_method_4_code
def yX6_tell : MethodName := ⟨RX6, "tell", "(I)I"⟩
def dkwX6_tell_1 : List UInt8 := [46, 4, 96, 79, 27, 172]
abbrev dktX6_tell_1 : List UInt8 := dkwX6_tell_1 ++ []
def dkwX6_tell_0 : List UInt8 := [42, 27, 156, 0, 7, 27, 167, 0, 4, 3, 181, 0, 115, 27, 156, 0, 14, 42, 180, 0, 7, 27, 116, 92]
abbrev dktX6_tell_0 : List UInt8 := dkwX6_tell_0 ++ dktX6_tell_1
theorem dksX6_tell_0 : cX6_tell.data.toList.drop 0 = dktX6_tell_0 := by decide +kernel
theorem dksX6_tell_1 : cX6_tell.data.toList.drop 24 = dktX6_tell_1 := dk_seg dksX6_tell_0 24 rfl rfl
theorem dX6_tell_0 : decode cX6_tell 0 = .ok (.aload_n 0, 1) := dk_42 (dk_at dksX6_tell_0 0 rfl rfl)
theorem dX6_tell_1 : decode cX6_tell 1 = .ok (.iload_n 1, 1) := dk_27 (dk_at dksX6_tell_0 1 rfl rfl)
theorem dX6_tell_2 : decode cX6_tell 2 = .ok (.ifCond .ge 7, 3) := dk_156 0 7 (dk_at dksX6_tell_0 2 rfl rfl)
theorem dX6_tell_5 : decode cX6_tell 5 = .ok (.iload_n 1, 1) := dk_27 (dk_at dksX6_tell_0 5 rfl rfl)
theorem dX6_tell_6 : decode cX6_tell 6 = .ok (.goto 4, 3) := dk_167 0 4 (dk_at dksX6_tell_0 6 rfl rfl)
theorem dX6_tell_9 : decode cX6_tell 9 = .ok (.iconst 0, 1) := dk_3 (dk_at dksX6_tell_0 9 rfl rfl)
theorem dX6_tell_10 : decode cX6_tell 10 = .ok (.putfield 115, 3) := dk_181 0 115 (dk_at dksX6_tell_0 10 rfl rfl)
theorem dX6_tell_13 : decode cX6_tell 13 = .ok (.iload_n 1, 1) := dk_27 (dk_at dksX6_tell_0 13 rfl rfl)
theorem dX6_tell_14 : decode cX6_tell 14 = .ok (.ifCond .ge 14, 3) := dk_156 0 14 (dk_at dksX6_tell_0 14 rfl rfl)
theorem dX6_tell_17 : decode cX6_tell 17 = .ok (.aload_n 0, 1) := dk_42 (dk_at dksX6_tell_0 17 rfl rfl)
theorem dX6_tell_18 : decode cX6_tell 18 = .ok (.getfield 7, 3) := dk_180 0 7 (dk_at dksX6_tell_0 18 rfl rfl)
theorem dX6_tell_21 : decode cX6_tell 21 = .ok (.iload_n 1, 1) := dk_27 (dk_at dksX6_tell_0 21 rfl rfl)
theorem dX6_tell_22 : decode cX6_tell 22 = .ok (.ineg, 1) := dk_116 (dk_at dksX6_tell_0 22 rfl rfl)
theorem dX6_tell_23 : decode cX6_tell 23 = .ok (.dup2, 1) := dk_92 (dk_at dksX6_tell_0 23 rfl rfl)
theorem dX6_tell_24 : decode cX6_tell 24 = .ok (.iaload, 1) := dk_46 (dk_at dksX6_tell_1 0 rfl rfl)
theorem dX6_tell_25 : decode cX6_tell 25 = .ok (.iconst 1, 1) := dk_4 (dk_at dksX6_tell_1 1 rfl rfl)
theorem dX6_tell_26 : decode cX6_tell 26 = .ok (.iadd, 1) := dk_96 (dk_at dksX6_tell_1 2 rfl rfl)
theorem dX6_tell_27 : decode cX6_tell 27 = .ok (.iastore, 1) := dk_79 (dk_at dksX6_tell_1 3 rfl rfl)
theorem dX6_tell_28 : decode cX6_tell 28 = .ok (.iload_n 1, 1) := dk_27 (dk_at dksX6_tell_1 4 rfl rfl)
theorem dX6_tell_29 : decode cX6_tell 29 = .ok (.ireturn, 1) := dk_172 (dk_at dksX6_tell_1 5 rfl rfl)
abbrev cX6_back : ByteArray := prog_28_method_6_code
def yX6_back : MethodName := ⟨RX6, "back", "(I)I"⟩
def dkwX6_back_3 : List UInt8 := [42, 182, 0, 126, 42, 3, 182, 0, 122, 172]
abbrev dktX6_back_3 : List UInt8 := dkwX6_back_3 ++ []
def dkwX6_back_2 : List UInt8 := [42, 180, 0, 13, 28, 42, 180, 0, 16, 17, 31, 124, 27, 104, 28, 96, 46, 79, 132, 2, 1, 167, 255, 228]
abbrev dktX6_back_2 : List UInt8 := dkwX6_back_2 ++ dktX6_back_3
def dkwX6_back_1 : List UInt8 := [180, 0, 19, 27, 51, 154, 0, 10, 42, 16, 254, 182, 0, 122, 172, 3, 61, 28, 17, 31, 124, 162, 0, 27]
abbrev dktX6_back_1 : List UInt8 := dkwX6_back_1 ++ dktX6_back_2
def dkwX6_back_0 : List UInt8 := [42, 3, 181, 0, 112, 27, 133, 9, 10, 184, 0, 118, 154, 0, 9, 42, 2, 182, 0, 122, 172, 42]
abbrev dktX6_back_0 : List UInt8 := dkwX6_back_0 ++ dktX6_back_1
theorem dksX6_back_0 : cX6_back.data.toList.drop 0 = dktX6_back_0 := by decide +kernel
theorem dksX6_back_1 : cX6_back.data.toList.drop 22 = dktX6_back_1 := dk_seg dksX6_back_0 22 rfl rfl
theorem dksX6_back_2 : cX6_back.data.toList.drop 46 = dktX6_back_2 := dk_seg dksX6_back_1 24 rfl rfl
theorem dksX6_back_3 : cX6_back.data.toList.drop 70 = dktX6_back_3 := dk_seg dksX6_back_2 24 rfl rfl
theorem dX6_back_0 : decode cX6_back 0 = .ok (.aload_n 0, 1) := dk_42 (dk_at dksX6_back_0 0 rfl rfl)
theorem dX6_back_1 : decode cX6_back 1 = .ok (.iconst 0, 1) := dk_3 (dk_at dksX6_back_0 1 rfl rfl)
theorem dX6_back_2 : decode cX6_back 2 = .ok (.putfield 112, 3) := dk_181 0 112 (dk_at dksX6_back_0 2 rfl rfl)
theorem dX6_back_5 : decode cX6_back 5 = .ok (.iload_n 1, 1) := dk_27 (dk_at dksX6_back_0 5 rfl rfl)
theorem dX6_back_6 : decode cX6_back 6 = .ok (.i2l, 1) := dk_133 (dk_at dksX6_back_0 6 rfl rfl)
theorem dX6_back_7 : decode cX6_back 7 = .ok (.lconst 0, 1) := dk_9 (dk_at dksX6_back_0 7 rfl rfl)
theorem dX6_back_8 : decode cX6_back 8 = .ok (.lconst 1, 1) := dk_10 (dk_at dksX6_back_0 8 rfl rfl)
theorem dX6_back_9 : decode cX6_back 9 = .ok (.invokestatic 118, 3) := dk_184 0 118 (dk_at dksX6_back_0 9 rfl rfl)
theorem dX6_back_12 : decode cX6_back 12 = .ok (.ifCond .ne 9, 3) := dk_154 0 9 (dk_at dksX6_back_0 12 rfl rfl)
theorem dX6_back_15 : decode cX6_back 15 = .ok (.aload_n 0, 1) := dk_42 (dk_at dksX6_back_0 15 rfl rfl)
theorem dX6_back_16 : decode cX6_back 16 = .ok (.iconst (-1), 1) := dk_2 (dk_at dksX6_back_0 16 rfl rfl)
theorem dX6_back_17 : decode cX6_back 17 = .ok (.invokevirtual 122, 3) := dk_182 0 122 (dk_at dksX6_back_0 17 rfl rfl)
theorem dX6_back_20 : decode cX6_back 20 = .ok (.ireturn, 1) := dk_172 (dk_at dksX6_back_0 20 rfl rfl)
theorem dX6_back_21 : decode cX6_back 21 = .ok (.aload_n 0, 1) := dk_42 (dk_at dksX6_back_0 21 rfl rfl)
theorem dX6_back_22 : decode cX6_back 22 = .ok (.getfield 19, 3) := dk_180 0 19 (dk_at dksX6_back_1 0 rfl rfl)
theorem dX6_back_25 : decode cX6_back 25 = .ok (.iload_n 1, 1) := dk_27 (dk_at dksX6_back_1 3 rfl rfl)
theorem dX6_back_26 : decode cX6_back 26 = .ok (.baload, 1) := dk_51 (dk_at dksX6_back_1 4 rfl rfl)
theorem dX6_back_27 : decode cX6_back 27 = .ok (.ifCond .ne 10, 3) := dk_154 0 10 (dk_at dksX6_back_1 5 rfl rfl)
theorem dX6_back_30 : decode cX6_back 30 = .ok (.aload_n 0, 1) := dk_42 (dk_at dksX6_back_1 8 rfl rfl)
theorem dX6_back_31 : decode cX6_back 31 = .ok (.bipush (-2), 2) := dk_16 254 (dk_at dksX6_back_1 9 rfl rfl)
theorem dX6_back_33 : decode cX6_back 33 = .ok (.invokevirtual 122, 3) := dk_182 0 122 (dk_at dksX6_back_1 11 rfl rfl)
theorem dX6_back_36 : decode cX6_back 36 = .ok (.ireturn, 1) := dk_172 (dk_at dksX6_back_1 14 rfl rfl)
theorem dX6_back_37 : decode cX6_back 37 = .ok (.iconst 0, 1) := dk_3 (dk_at dksX6_back_1 15 rfl rfl)
theorem dX6_back_38 : decode cX6_back 38 = .ok (.istore_n 2, 1) := dk_61 (dk_at dksX6_back_1 16 rfl rfl)
theorem dX6_back_39 : decode cX6_back 39 = .ok (.iload_n 2, 1) := dk_28 (dk_at dksX6_back_1 17 rfl rfl)
theorem dX6_back_40 : decode cX6_back 40 = .ok (.sipush 8060, 3) := dk_17 31 124 (dk_at dksX6_back_1 18 rfl rfl)
theorem dX6_back_43 : decode cX6_back 43 = .ok (.if_icmp .ge 27, 3) := dk_162 0 27 (dk_at dksX6_back_1 21 rfl rfl)
theorem dX6_back_46 : decode cX6_back 46 = .ok (.aload_n 0, 1) := dk_42 (dk_at dksX6_back_2 0 rfl rfl)
theorem dX6_back_47 : decode cX6_back 47 = .ok (.getfield 13, 3) := dk_180 0 13 (dk_at dksX6_back_2 1 rfl rfl)
theorem dX6_back_50 : decode cX6_back 50 = .ok (.iload_n 2, 1) := dk_28 (dk_at dksX6_back_2 4 rfl rfl)
theorem dX6_back_51 : decode cX6_back 51 = .ok (.aload_n 0, 1) := dk_42 (dk_at dksX6_back_2 5 rfl rfl)
theorem dX6_back_52 : decode cX6_back 52 = .ok (.getfield 16, 3) := dk_180 0 16 (dk_at dksX6_back_2 6 rfl rfl)
theorem dX6_back_55 : decode cX6_back 55 = .ok (.sipush 8060, 3) := dk_17 31 124 (dk_at dksX6_back_2 9 rfl rfl)
theorem dX6_back_58 : decode cX6_back 58 = .ok (.iload_n 1, 1) := dk_27 (dk_at dksX6_back_2 12 rfl rfl)
theorem dX6_back_59 : decode cX6_back 59 = .ok (.imul, 1) := dk_104 (dk_at dksX6_back_2 13 rfl rfl)
theorem dX6_back_60 : decode cX6_back 60 = .ok (.iload_n 2, 1) := dk_28 (dk_at dksX6_back_2 14 rfl rfl)
theorem dX6_back_61 : decode cX6_back 61 = .ok (.iadd, 1) := dk_96 (dk_at dksX6_back_2 15 rfl rfl)
theorem dX6_back_62 : decode cX6_back 62 = .ok (.iaload, 1) := dk_46 (dk_at dksX6_back_2 16 rfl rfl)
theorem dX6_back_63 : decode cX6_back 63 = .ok (.iastore, 1) := dk_79 (dk_at dksX6_back_2 17 rfl rfl)
theorem dX6_back_64 : decode cX6_back 64 = .ok (.iinc 2 1, 3) := dk_132 2 1 (dk_at dksX6_back_2 18 rfl rfl)
theorem dX6_back_67 : decode cX6_back 67 = .ok (.goto (-28), 3) := dk_167 255 228 (dk_at dksX6_back_2 21 rfl rfl)
theorem dX6_back_70 : decode cX6_back 70 = .ok (.aload_n 0, 1) := dk_42 (dk_at dksX6_back_3 0 rfl rfl)
theorem dX6_back_71 : decode cX6_back 71 = .ok (.invokevirtual 126, 3) := dk_182 0 126 (dk_at dksX6_back_3 1 rfl rfl)
theorem dX6_back_74 : decode cX6_back 74 = .ok (.aload_n 0, 1) := dk_42 (dk_at dksX6_back_3 4 rfl rfl)
theorem dX6_back_75 : decode cX6_back 75 = .ok (.iconst 0, 1) := dk_3 (dk_at dksX6_back_3 5 rfl rfl)
theorem dX6_back_76 : decode cX6_back 76 = .ok (.invokevirtual 122, 3) := dk_182 0 122 (dk_at dksX6_back_3 6 rfl rfl)
theorem dX6_back_79 : decode cX6_back 79 = .ok (.ireturn, 1) := dk_172 (dk_at dksX6_back_3 9 rfl rfl)
abbrev cX6_forget : ByteArray := prog_28_method_69_code
def yX6_forget : MethodName := ⟨RX6, "forget", "()V"⟩
def dkwX6_forget_0 : List UInt8 := [42, 2, 181, 0, 88, 42, 16, 254, 181, 0, 91, 177]
abbrev dktX6_forget_0 : List UInt8 := dkwX6_forget_0 ++ []
theorem dksX6_forget_0 : cX6_forget.data.toList.drop 0 = dktX6_forget_0 := by decide +kernel
theorem dX6_forget_0 : decode cX6_forget 0 = .ok (.aload_n 0, 1) := dk_42 (dk_at dksX6_forget_0 0 rfl rfl)
theorem dX6_forget_1 : decode cX6_forget 1 = .ok (.iconst (-1), 1) := dk_2 (dk_at dksX6_forget_0 1 rfl rfl)
theorem dX6_forget_2 : decode cX6_forget 2 = .ok (.putfield 88, 3) := dk_181 0 88 (dk_at dksX6_forget_0 2 rfl rfl)
theorem dX6_forget_5 : decode cX6_forget 5 = .ok (.aload_n 0, 1) := dk_42 (dk_at dksX6_forget_0 5 rfl rfl)
theorem dX6_forget_6 : decode cX6_forget 6 = .ok (.bipush (-2), 2) := dk_16 254 (dk_at dksX6_forget_0 6 rfl rfl)
theorem dX6_forget_8 : decode cX6_forget 8 = .ok (.putfield 91, 3) := dk_181 0 91 (dk_at dksX6_forget_0 8 rfl rfl)
theorem dX6_forget_11 : decode cX6_forget 11 = .ok (.return_, 1) := dk_177 (dk_at dksX6_forget_0 11 rfl rfl)
abbrev cX6_wide : ByteArray := prog_28_method_9_code
def yX6_wide : MethodName := ⟨RX6, "wide", "(I)I"⟩
def dkwX6_wide_3 : List UInt8 := [167, 255, 228, 42, 182, 0, 126, 42, 28, 182, 0, 122, 172]
abbrev dktX6_wide_3 : List UInt8 := dkwX6_wide_3 ++ []
def dkwX6_wide_2 : List UInt8 := [180, 0, 13, 16, 20, 29, 96, 6, 79, 42, 180, 0, 13, 16, 30, 29, 96, 6, 79, 132, 3, 1]
abbrev dktX6_wide_2 : List UInt8 := dkwX6_wide_2 ++ dktX6_wide_3
def dkwX6_wide_1 : List UInt8 := [172, 42, 180, 0, 13, 3, 46, 61, 42, 180, 0, 13, 3, 27, 79, 3, 62, 29, 8, 162, 0, 29, 42]
abbrev dktX6_wide_1 : List UInt8 := dkwX6_wide_1 ++ dktX6_wide_2
def dkwX6_wide_0 : List UInt8 := [42, 3, 181, 0, 112, 27, 133, 20, 0, 129, 20, 0, 131, 184, 0, 118, 154, 0, 9, 42, 2, 182, 0, 122]
abbrev dktX6_wide_0 : List UInt8 := dkwX6_wide_0 ++ dktX6_wide_1
theorem dksX6_wide_0 : cX6_wide.data.toList.drop 0 = dktX6_wide_0 := by decide +kernel
theorem dksX6_wide_1 : cX6_wide.data.toList.drop 24 = dktX6_wide_1 := dk_seg dksX6_wide_0 24 rfl rfl
theorem dksX6_wide_2 : cX6_wide.data.toList.drop 47 = dktX6_wide_2 := dk_seg dksX6_wide_1 23 rfl rfl
theorem dksX6_wide_3 : cX6_wide.data.toList.drop 69 = dktX6_wide_3 := dk_seg dksX6_wide_2 22 rfl rfl
theorem dX6_wide_0 : decode cX6_wide 0 = .ok (.aload_n 0, 1) := dk_42 (dk_at dksX6_wide_0 0 rfl rfl)
theorem dX6_wide_1 : decode cX6_wide 1 = .ok (.iconst 0, 1) := dk_3 (dk_at dksX6_wide_0 1 rfl rfl)
theorem dX6_wide_2 : decode cX6_wide 2 = .ok (.putfield 112, 3) := dk_181 0 112 (dk_at dksX6_wide_0 2 rfl rfl)
theorem dX6_wide_5 : decode cX6_wide 5 = .ok (.iload_n 1, 1) := dk_27 (dk_at dksX6_wide_0 5 rfl rfl)
theorem dX6_wide_6 : decode cX6_wide 6 = .ok (.i2l, 1) := dk_133 (dk_at dksX6_wide_0 6 rfl rfl)
theorem dX6_wide_7 : decode cX6_wide 7 = .ok (.ldc2_w 129, 3) := dk_20 0 129 (dk_at dksX6_wide_0 7 rfl rfl)
theorem dX6_wide_10 : decode cX6_wide 10 = .ok (.ldc2_w 131, 3) := dk_20 0 131 (dk_at dksX6_wide_0 10 rfl rfl)
theorem dX6_wide_13 : decode cX6_wide 13 = .ok (.invokestatic 118, 3) := dk_184 0 118 (dk_at dksX6_wide_0 13 rfl rfl)
theorem dX6_wide_16 : decode cX6_wide 16 = .ok (.ifCond .ne 9, 3) := dk_154 0 9 (dk_at dksX6_wide_0 16 rfl rfl)
theorem dX6_wide_19 : decode cX6_wide 19 = .ok (.aload_n 0, 1) := dk_42 (dk_at dksX6_wide_0 19 rfl rfl)
theorem dX6_wide_20 : decode cX6_wide 20 = .ok (.iconst (-1), 1) := dk_2 (dk_at dksX6_wide_0 20 rfl rfl)
theorem dX6_wide_21 : decode cX6_wide 21 = .ok (.invokevirtual 122, 3) := dk_182 0 122 (dk_at dksX6_wide_0 21 rfl rfl)
theorem dX6_wide_24 : decode cX6_wide 24 = .ok (.ireturn, 1) := dk_172 (dk_at dksX6_wide_1 0 rfl rfl)
theorem dX6_wide_25 : decode cX6_wide 25 = .ok (.aload_n 0, 1) := dk_42 (dk_at dksX6_wide_1 1 rfl rfl)
theorem dX6_wide_26 : decode cX6_wide 26 = .ok (.getfield 13, 3) := dk_180 0 13 (dk_at dksX6_wide_1 2 rfl rfl)
theorem dX6_wide_29 : decode cX6_wide 29 = .ok (.iconst 0, 1) := dk_3 (dk_at dksX6_wide_1 5 rfl rfl)
theorem dX6_wide_30 : decode cX6_wide 30 = .ok (.iaload, 1) := dk_46 (dk_at dksX6_wide_1 6 rfl rfl)
theorem dX6_wide_31 : decode cX6_wide 31 = .ok (.istore_n 2, 1) := dk_61 (dk_at dksX6_wide_1 7 rfl rfl)
theorem dX6_wide_32 : decode cX6_wide 32 = .ok (.aload_n 0, 1) := dk_42 (dk_at dksX6_wide_1 8 rfl rfl)
theorem dX6_wide_33 : decode cX6_wide 33 = .ok (.getfield 13, 3) := dk_180 0 13 (dk_at dksX6_wide_1 9 rfl rfl)
theorem dX6_wide_36 : decode cX6_wide 36 = .ok (.iconst 0, 1) := dk_3 (dk_at dksX6_wide_1 12 rfl rfl)
theorem dX6_wide_37 : decode cX6_wide 37 = .ok (.iload_n 1, 1) := dk_27 (dk_at dksX6_wide_1 13 rfl rfl)
theorem dX6_wide_38 : decode cX6_wide 38 = .ok (.iastore, 1) := dk_79 (dk_at dksX6_wide_1 14 rfl rfl)
theorem dX6_wide_39 : decode cX6_wide 39 = .ok (.iconst 0, 1) := dk_3 (dk_at dksX6_wide_1 15 rfl rfl)
theorem dX6_wide_40 : decode cX6_wide 40 = .ok (.istore_n 3, 1) := dk_62 (dk_at dksX6_wide_1 16 rfl rfl)
theorem dX6_wide_41 : decode cX6_wide 41 = .ok (.iload_n 3, 1) := dk_29 (dk_at dksX6_wide_1 17 rfl rfl)
theorem dX6_wide_42 : decode cX6_wide 42 = .ok (.iconst 5, 1) := dk_8 (dk_at dksX6_wide_1 18 rfl rfl)
theorem dX6_wide_43 : decode cX6_wide 43 = .ok (.if_icmp .ge 29, 3) := dk_162 0 29 (dk_at dksX6_wide_1 19 rfl rfl)
theorem dX6_wide_46 : decode cX6_wide 46 = .ok (.aload_n 0, 1) := dk_42 (dk_at dksX6_wide_1 22 rfl rfl)
theorem dX6_wide_47 : decode cX6_wide 47 = .ok (.getfield 13, 3) := dk_180 0 13 (dk_at dksX6_wide_2 0 rfl rfl)
theorem dX6_wide_50 : decode cX6_wide 50 = .ok (.bipush 20, 2) := dk_16 20 (dk_at dksX6_wide_2 3 rfl rfl)
theorem dX6_wide_52 : decode cX6_wide 52 = .ok (.iload_n 3, 1) := dk_29 (dk_at dksX6_wide_2 5 rfl rfl)
theorem dX6_wide_53 : decode cX6_wide 53 = .ok (.iadd, 1) := dk_96 (dk_at dksX6_wide_2 6 rfl rfl)
theorem dX6_wide_54 : decode cX6_wide 54 = .ok (.iconst 3, 1) := dk_6 (dk_at dksX6_wide_2 7 rfl rfl)
theorem dX6_wide_55 : decode cX6_wide 55 = .ok (.iastore, 1) := dk_79 (dk_at dksX6_wide_2 8 rfl rfl)
theorem dX6_wide_56 : decode cX6_wide 56 = .ok (.aload_n 0, 1) := dk_42 (dk_at dksX6_wide_2 9 rfl rfl)
theorem dX6_wide_57 : decode cX6_wide 57 = .ok (.getfield 13, 3) := dk_180 0 13 (dk_at dksX6_wide_2 10 rfl rfl)
theorem dX6_wide_60 : decode cX6_wide 60 = .ok (.bipush 30, 2) := dk_16 30 (dk_at dksX6_wide_2 13 rfl rfl)
theorem dX6_wide_62 : decode cX6_wide 62 = .ok (.iload_n 3, 1) := dk_29 (dk_at dksX6_wide_2 15 rfl rfl)
theorem dX6_wide_63 : decode cX6_wide 63 = .ok (.iadd, 1) := dk_96 (dk_at dksX6_wide_2 16 rfl rfl)
theorem dX6_wide_64 : decode cX6_wide 64 = .ok (.iconst 3, 1) := dk_6 (dk_at dksX6_wide_2 17 rfl rfl)
theorem dX6_wide_65 : decode cX6_wide 65 = .ok (.iastore, 1) := dk_79 (dk_at dksX6_wide_2 18 rfl rfl)
theorem dX6_wide_66 : decode cX6_wide 66 = .ok (.iinc 3 1, 3) := dk_132 3 1 (dk_at dksX6_wide_2 19 rfl rfl)
theorem dX6_wide_69 : decode cX6_wide 69 = .ok (.goto (-28), 3) := dk_167 255 228 (dk_at dksX6_wide_3 0 rfl rfl)
theorem dX6_wide_72 : decode cX6_wide 72 = .ok (.aload_n 0, 1) := dk_42 (dk_at dksX6_wide_3 3 rfl rfl)
theorem dX6_wide_73 : decode cX6_wide 73 = .ok (.invokevirtual 126, 3) := dk_182 0 126 (dk_at dksX6_wide_3 4 rfl rfl)
theorem dX6_wide_76 : decode cX6_wide 76 = .ok (.aload_n 0, 1) := dk_42 (dk_at dksX6_wide_3 7 rfl rfl)
theorem dX6_wide_77 : decode cX6_wide 77 = .ok (.iload_n 2, 1) := dk_28 (dk_at dksX6_wide_3 8 rfl rfl)
theorem dX6_wide_78 : decode cX6_wide 78 = .ok (.invokevirtual 122, 3) := dk_182 0 122 (dk_at dksX6_wide_3 9 rfl rfl)
theorem dX6_wide_81 : decode cX6_wide 81 = .ok (.ireturn, 1) := dk_172 (dk_at dksX6_wide_3 12 rfl rfl)
abbrev cX6_bar : ByteArray := prog_28_method_11_code
def yX6_bar : MethodName := ⟨RX6, "bar", "(II)I"⟩
def dkwX6_bar_0 : List UInt8 := [42, 3, 181, 0, 112, 42, 16, 20, 27, 28, 182, 0, 139, 172]
abbrev dktX6_bar_0 : List UInt8 := dkwX6_bar_0 ++ []
theorem dksX6_bar_0 : cX6_bar.data.toList.drop 0 = dktX6_bar_0 := by decide +kernel
theorem dX6_bar_0 : decode cX6_bar 0 = .ok (.aload_n 0, 1) := dk_42 (dk_at dksX6_bar_0 0 rfl rfl)
theorem dX6_bar_1 : decode cX6_bar 1 = .ok (.iconst 0, 1) := dk_3 (dk_at dksX6_bar_0 1 rfl rfl)
theorem dX6_bar_2 : decode cX6_bar 2 = .ok (.putfield 112, 3) := dk_181 0 112 (dk_at dksX6_bar_0 2 rfl rfl)
theorem dX6_bar_5 : decode cX6_bar 5 = .ok (.aload_n 0, 1) := dk_42 (dk_at dksX6_bar_0 5 rfl rfl)
theorem dX6_bar_6 : decode cX6_bar 6 = .ok (.bipush 20, 2) := dk_16 20 (dk_at dksX6_bar_0 6 rfl rfl)
theorem dX6_bar_8 : decode cX6_bar 8 = .ok (.iload_n 1, 1) := dk_27 (dk_at dksX6_bar_0 8 rfl rfl)
theorem dX6_bar_9 : decode cX6_bar 9 = .ok (.iload_n 2, 1) := dk_28 (dk_at dksX6_bar_0 9 rfl rfl)
theorem dX6_bar_10 : decode cX6_bar 10 = .ok (.invokevirtual 139, 3) := dk_182 0 139 (dk_at dksX6_bar_0 10 rfl rfl)
theorem dX6_bar_13 : decode cX6_bar 13 = .ok (.ireturn, 1) := dk_172 (dk_at dksX6_bar_0 13 rfl rfl)
abbrev cX6_put : ByteArray := prog_28_method_10_code
def yX6_put : MethodName := ⟨RX6, "put", "(III)I"⟩
def dkwX6_put_2 : List UInt8 := [182, 0, 126, 42, 21, 4, 182, 0, 122, 172]
abbrev dktX6_put_2 : List UInt8 := dkwX6_put_2 ++ []
def dkwX6_put_1 : List UInt8 := [182, 0, 122, 172, 42, 180, 0, 13, 27, 28, 96, 46, 54, 4, 42, 180, 0, 13, 27, 28, 96, 29, 79, 42]
abbrev dktX6_put_1 : List UInt8 := dkwX6_put_1 ++ dktX6_put_2
def dkwX6_put_0 : List UInt8 := [42, 28, 133, 182, 0, 133, 153, 0, 15, 29, 133, 10, 20, 0, 137, 184, 0, 118, 154, 0, 9, 42, 2]
abbrev dktX6_put_0 : List UInt8 := dkwX6_put_0 ++ dktX6_put_1
theorem dksX6_put_0 : cX6_put.data.toList.drop 0 = dktX6_put_0 := by decide +kernel
theorem dksX6_put_1 : cX6_put.data.toList.drop 23 = dktX6_put_1 := dk_seg dksX6_put_0 23 rfl rfl
theorem dksX6_put_2 : cX6_put.data.toList.drop 47 = dktX6_put_2 := dk_seg dksX6_put_1 24 rfl rfl
theorem dX6_put_0 : decode cX6_put 0 = .ok (.aload_n 0, 1) := dk_42 (dk_at dksX6_put_0 0 rfl rfl)
theorem dX6_put_1 : decode cX6_put 1 = .ok (.iload_n 2, 1) := dk_28 (dk_at dksX6_put_0 1 rfl rfl)
theorem dX6_put_2 : decode cX6_put 2 = .ok (.i2l, 1) := dk_133 (dk_at dksX6_put_0 2 rfl rfl)
theorem dX6_put_3 : decode cX6_put 3 = .ok (.invokevirtual 133, 3) := dk_182 0 133 (dk_at dksX6_put_0 3 rfl rfl)
theorem dX6_put_6 : decode cX6_put 6 = .ok (.ifCond .eq 15, 3) := dk_153 0 15 (dk_at dksX6_put_0 6 rfl rfl)
theorem dX6_put_9 : decode cX6_put 9 = .ok (.iload_n 3, 1) := dk_29 (dk_at dksX6_put_0 9 rfl rfl)
theorem dX6_put_10 : decode cX6_put 10 = .ok (.i2l, 1) := dk_133 (dk_at dksX6_put_0 10 rfl rfl)
theorem dX6_put_11 : decode cX6_put 11 = .ok (.lconst 1, 1) := dk_10 (dk_at dksX6_put_0 11 rfl rfl)
theorem dX6_put_12 : decode cX6_put 12 = .ok (.ldc2_w 137, 3) := dk_20 0 137 (dk_at dksX6_put_0 12 rfl rfl)
theorem dX6_put_15 : decode cX6_put 15 = .ok (.invokestatic 118, 3) := dk_184 0 118 (dk_at dksX6_put_0 15 rfl rfl)
theorem dX6_put_18 : decode cX6_put 18 = .ok (.ifCond .ne 9, 3) := dk_154 0 9 (dk_at dksX6_put_0 18 rfl rfl)
theorem dX6_put_21 : decode cX6_put 21 = .ok (.aload_n 0, 1) := dk_42 (dk_at dksX6_put_0 21 rfl rfl)
theorem dX6_put_22 : decode cX6_put 22 = .ok (.iconst (-1), 1) := dk_2 (dk_at dksX6_put_0 22 rfl rfl)
theorem dX6_put_23 : decode cX6_put 23 = .ok (.invokevirtual 122, 3) := dk_182 0 122 (dk_at dksX6_put_1 0 rfl rfl)
theorem dX6_put_26 : decode cX6_put 26 = .ok (.ireturn, 1) := dk_172 (dk_at dksX6_put_1 3 rfl rfl)
theorem dX6_put_27 : decode cX6_put 27 = .ok (.aload_n 0, 1) := dk_42 (dk_at dksX6_put_1 4 rfl rfl)
theorem dX6_put_28 : decode cX6_put 28 = .ok (.getfield 13, 3) := dk_180 0 13 (dk_at dksX6_put_1 5 rfl rfl)
theorem dX6_put_31 : decode cX6_put 31 = .ok (.iload_n 1, 1) := dk_27 (dk_at dksX6_put_1 8 rfl rfl)
theorem dX6_put_32 : decode cX6_put 32 = .ok (.iload_n 2, 1) := dk_28 (dk_at dksX6_put_1 9 rfl rfl)
theorem dX6_put_33 : decode cX6_put 33 = .ok (.iadd, 1) := dk_96 (dk_at dksX6_put_1 10 rfl rfl)
theorem dX6_put_34 : decode cX6_put 34 = .ok (.iaload, 1) := dk_46 (dk_at dksX6_put_1 11 rfl rfl)
theorem dX6_put_35 : decode cX6_put 35 = .ok (.istore 4, 2) := dk_54 4 (dk_at dksX6_put_1 12 rfl rfl)
theorem dX6_put_37 : decode cX6_put 37 = .ok (.aload_n 0, 1) := dk_42 (dk_at dksX6_put_1 14 rfl rfl)
theorem dX6_put_38 : decode cX6_put 38 = .ok (.getfield 13, 3) := dk_180 0 13 (dk_at dksX6_put_1 15 rfl rfl)
theorem dX6_put_41 : decode cX6_put 41 = .ok (.iload_n 1, 1) := dk_27 (dk_at dksX6_put_1 18 rfl rfl)
theorem dX6_put_42 : decode cX6_put 42 = .ok (.iload_n 2, 1) := dk_28 (dk_at dksX6_put_1 19 rfl rfl)
theorem dX6_put_43 : decode cX6_put 43 = .ok (.iadd, 1) := dk_96 (dk_at dksX6_put_1 20 rfl rfl)
theorem dX6_put_44 : decode cX6_put 44 = .ok (.iload_n 3, 1) := dk_29 (dk_at dksX6_put_1 21 rfl rfl)
theorem dX6_put_45 : decode cX6_put 45 = .ok (.iastore, 1) := dk_79 (dk_at dksX6_put_1 22 rfl rfl)
theorem dX6_put_46 : decode cX6_put 46 = .ok (.aload_n 0, 1) := dk_42 (dk_at dksX6_put_1 23 rfl rfl)
theorem dX6_put_47 : decode cX6_put 47 = .ok (.invokevirtual 126, 3) := dk_182 0 126 (dk_at dksX6_put_2 0 rfl rfl)
theorem dX6_put_50 : decode cX6_put 50 = .ok (.aload_n 0, 1) := dk_42 (dk_at dksX6_put_2 3 rfl rfl)
theorem dX6_put_51 : decode cX6_put 51 = .ok (.iload 4, 2) := dk_21 4 (dk_at dksX6_put_2 4 rfl rfl)
theorem dX6_put_53 : decode cX6_put 53 = .ok (.invokevirtual 122, 3) := dk_182 0 122 (dk_at dksX6_put_2 6 rfl rfl)
theorem dX6_put_56 : decode cX6_put 56 = .ok (.ireturn, 1) := dk_172 (dk_at dksX6_put_2 9 rfl rfl)
abbrev cX6_isCell : ByteArray := prog_28_method_7_code
def yX6_isCell : MethodName := ⟨RX6, "isCell", "(J)Z"⟩
def dkwX6_isCell_0 : List UInt8 := [31, 9, 42, 180, 0, 13, 3, 46, 133, 10, 101, 184, 0, 118, 172]
abbrev dktX6_isCell_0 : List UInt8 := dkwX6_isCell_0 ++ []
theorem dksX6_isCell_0 : cX6_isCell.data.toList.drop 0 = dktX6_isCell_0 := by decide +kernel
theorem dX6_isCell_0 : decode cX6_isCell 0 = .ok (.lload_n 1, 1) := dk_31 (dk_at dksX6_isCell_0 0 rfl rfl)
theorem dX6_isCell_1 : decode cX6_isCell 1 = .ok (.lconst 0, 1) := dk_9 (dk_at dksX6_isCell_0 1 rfl rfl)
theorem dX6_isCell_2 : decode cX6_isCell 2 = .ok (.aload_n 0, 1) := dk_42 (dk_at dksX6_isCell_0 2 rfl rfl)
theorem dX6_isCell_3 : decode cX6_isCell 3 = .ok (.getfield 13, 3) := dk_180 0 13 (dk_at dksX6_isCell_0 3 rfl rfl)
theorem dX6_isCell_6 : decode cX6_isCell 6 = .ok (.iconst 0, 1) := dk_3 (dk_at dksX6_isCell_0 6 rfl rfl)
theorem dX6_isCell_7 : decode cX6_isCell 7 = .ok (.iaload, 1) := dk_46 (dk_at dksX6_isCell_0 7 rfl rfl)
theorem dX6_isCell_8 : decode cX6_isCell 8 = .ok (.i2l, 1) := dk_133 (dk_at dksX6_isCell_0 8 rfl rfl)
theorem dX6_isCell_9 : decode cX6_isCell 9 = .ok (.lconst 1, 1) := dk_10 (dk_at dksX6_isCell_0 9 rfl rfl)
theorem dX6_isCell_10 : decode cX6_isCell 10 = .ok (.lsub, 1) := dk_101 (dk_at dksX6_isCell_0 10 rfl rfl)
theorem dX6_isCell_11 : decode cX6_isCell 11 = .ok (.invokestatic 118, 3) := dk_184 0 118 (dk_at dksX6_isCell_0 11 rfl rfl)
theorem dX6_isCell_14 : decode cX6_isCell 14 = .ok (.ireturn, 1) := dk_172 (dk_at dksX6_isCell_0 14 rfl rfl)
abbrev cX6_shape : ByteArray := prog_28_method_12_code
def yX6_shape : MethodName := ⟨RX6, "shape", "(II)I"⟩
def dkwX6_shape_0 : List UInt8 := [42, 3, 181, 0, 112, 42, 16, 30, 27, 28, 182, 0, 139, 172]
abbrev dktX6_shape_0 : List UInt8 := dkwX6_shape_0 ++ []
theorem dksX6_shape_0 : cX6_shape.data.toList.drop 0 = dktX6_shape_0 := by decide +kernel
theorem dX6_shape_0 : decode cX6_shape 0 = .ok (.aload_n 0, 1) := dk_42 (dk_at dksX6_shape_0 0 rfl rfl)
theorem dX6_shape_1 : decode cX6_shape 1 = .ok (.iconst 0, 1) := dk_3 (dk_at dksX6_shape_0 1 rfl rfl)
theorem dX6_shape_2 : decode cX6_shape 2 = .ok (.putfield 112, 3) := dk_181 0 112 (dk_at dksX6_shape_0 2 rfl rfl)
theorem dX6_shape_5 : decode cX6_shape 5 = .ok (.aload_n 0, 1) := dk_42 (dk_at dksX6_shape_0 5 rfl rfl)
theorem dX6_shape_6 : decode cX6_shape 6 = .ok (.bipush 30, 2) := dk_16 30 (dk_at dksX6_shape_0 6 rfl rfl)
theorem dX6_shape_8 : decode cX6_shape 8 = .ok (.iload_n 1, 1) := dk_27 (dk_at dksX6_shape_0 8 rfl rfl)
theorem dX6_shape_9 : decode cX6_shape 9 = .ok (.iload_n 2, 1) := dk_28 (dk_at dksX6_shape_0 9 rfl rfl)
theorem dX6_shape_10 : decode cX6_shape 10 = .ok (.invokevirtual 139, 3) := dk_182 0 139 (dk_at dksX6_shape_0 10 rfl rfl)
theorem dX6_shape_13 : decode cX6_shape 13 = .ok (.ireturn, 1) := dk_172 (dk_at dksX6_shape_0 13 rfl rfl)
abbrev cX6_tongs : ByteArray := prog_28_method_13_code
def yX6_tongs : MethodName := ⟨RX6, "tongs", "(I)I"⟩
def dkwX6_tongs_2 : List UInt8 := [182, 0, 126, 42, 28, 182, 0, 122, 172]
abbrev dktX6_tongs_2 : List UInt8 := dkwX6_tongs_2 ++ []
def dkwX6_tongs_1 : List UInt8 := [160, 0, 9, 42, 2, 182, 0, 122, 172, 42, 180, 0, 13, 6, 46, 61, 42, 180, 0, 13, 6, 27, 79, 42]
abbrev dktX6_tongs_1 : List UInt8 := dkwX6_tongs_1 ++ dktX6_tongs_2
def dkwX6_tongs_0 : List UInt8 := [42, 3, 181, 0, 112, 27, 133, 20, 0, 143, 20, 0, 145, 184, 0, 118, 153, 0, 10, 27, 4, 126, 4]
abbrev dktX6_tongs_0 : List UInt8 := dkwX6_tongs_0 ++ dktX6_tongs_1
theorem dksX6_tongs_0 : cX6_tongs.data.toList.drop 0 = dktX6_tongs_0 := by decide +kernel
theorem dksX6_tongs_1 : cX6_tongs.data.toList.drop 23 = dktX6_tongs_1 := dk_seg dksX6_tongs_0 23 rfl rfl
theorem dksX6_tongs_2 : cX6_tongs.data.toList.drop 47 = dktX6_tongs_2 := dk_seg dksX6_tongs_1 24 rfl rfl
theorem dX6_tongs_0 : decode cX6_tongs 0 = .ok (.aload_n 0, 1) := dk_42 (dk_at dksX6_tongs_0 0 rfl rfl)
theorem dX6_tongs_1 : decode cX6_tongs 1 = .ok (.iconst 0, 1) := dk_3 (dk_at dksX6_tongs_0 1 rfl rfl)
theorem dX6_tongs_2 : decode cX6_tongs 2 = .ok (.putfield 112, 3) := dk_181 0 112 (dk_at dksX6_tongs_0 2 rfl rfl)
theorem dX6_tongs_5 : decode cX6_tongs 5 = .ok (.iload_n 1, 1) := dk_27 (dk_at dksX6_tongs_0 5 rfl rfl)
theorem dX6_tongs_6 : decode cX6_tongs 6 = .ok (.i2l, 1) := dk_133 (dk_at dksX6_tongs_0 6 rfl rfl)
theorem dX6_tongs_7 : decode cX6_tongs 7 = .ok (.ldc2_w 143, 3) := dk_20 0 143 (dk_at dksX6_tongs_0 7 rfl rfl)
theorem dX6_tongs_10 : decode cX6_tongs 10 = .ok (.ldc2_w 145, 3) := dk_20 0 145 (dk_at dksX6_tongs_0 10 rfl rfl)
theorem dX6_tongs_13 : decode cX6_tongs 13 = .ok (.invokestatic 118, 3) := dk_184 0 118 (dk_at dksX6_tongs_0 13 rfl rfl)
theorem dX6_tongs_16 : decode cX6_tongs 16 = .ok (.ifCond .eq 10, 3) := dk_153 0 10 (dk_at dksX6_tongs_0 16 rfl rfl)
theorem dX6_tongs_19 : decode cX6_tongs 19 = .ok (.iload_n 1, 1) := dk_27 (dk_at dksX6_tongs_0 19 rfl rfl)
theorem dX6_tongs_20 : decode cX6_tongs 20 = .ok (.iconst 1, 1) := dk_4 (dk_at dksX6_tongs_0 20 rfl rfl)
theorem dX6_tongs_21 : decode cX6_tongs 21 = .ok (.iand, 1) := dk_126 (dk_at dksX6_tongs_0 21 rfl rfl)
theorem dX6_tongs_22 : decode cX6_tongs 22 = .ok (.iconst 1, 1) := dk_4 (dk_at dksX6_tongs_0 22 rfl rfl)
theorem dX6_tongs_23 : decode cX6_tongs 23 = .ok (.if_icmp .ne 9, 3) := dk_160 0 9 (dk_at dksX6_tongs_1 0 rfl rfl)
theorem dX6_tongs_26 : decode cX6_tongs 26 = .ok (.aload_n 0, 1) := dk_42 (dk_at dksX6_tongs_1 3 rfl rfl)
theorem dX6_tongs_27 : decode cX6_tongs 27 = .ok (.iconst (-1), 1) := dk_2 (dk_at dksX6_tongs_1 4 rfl rfl)
theorem dX6_tongs_28 : decode cX6_tongs 28 = .ok (.invokevirtual 122, 3) := dk_182 0 122 (dk_at dksX6_tongs_1 5 rfl rfl)
theorem dX6_tongs_31 : decode cX6_tongs 31 = .ok (.ireturn, 1) := dk_172 (dk_at dksX6_tongs_1 8 rfl rfl)
theorem dX6_tongs_32 : decode cX6_tongs 32 = .ok (.aload_n 0, 1) := dk_42 (dk_at dksX6_tongs_1 9 rfl rfl)
theorem dX6_tongs_33 : decode cX6_tongs 33 = .ok (.getfield 13, 3) := dk_180 0 13 (dk_at dksX6_tongs_1 10 rfl rfl)
theorem dX6_tongs_36 : decode cX6_tongs 36 = .ok (.iconst 3, 1) := dk_6 (dk_at dksX6_tongs_1 13 rfl rfl)
theorem dX6_tongs_37 : decode cX6_tongs 37 = .ok (.iaload, 1) := dk_46 (dk_at dksX6_tongs_1 14 rfl rfl)
theorem dX6_tongs_38 : decode cX6_tongs 38 = .ok (.istore_n 2, 1) := dk_61 (dk_at dksX6_tongs_1 15 rfl rfl)
theorem dX6_tongs_39 : decode cX6_tongs 39 = .ok (.aload_n 0, 1) := dk_42 (dk_at dksX6_tongs_1 16 rfl rfl)
theorem dX6_tongs_40 : decode cX6_tongs 40 = .ok (.getfield 13, 3) := dk_180 0 13 (dk_at dksX6_tongs_1 17 rfl rfl)
theorem dX6_tongs_43 : decode cX6_tongs 43 = .ok (.iconst 3, 1) := dk_6 (dk_at dksX6_tongs_1 20 rfl rfl)
theorem dX6_tongs_44 : decode cX6_tongs 44 = .ok (.iload_n 1, 1) := dk_27 (dk_at dksX6_tongs_1 21 rfl rfl)
theorem dX6_tongs_45 : decode cX6_tongs 45 = .ok (.iastore, 1) := dk_79 (dk_at dksX6_tongs_1 22 rfl rfl)
theorem dX6_tongs_46 : decode cX6_tongs 46 = .ok (.aload_n 0, 1) := dk_42 (dk_at dksX6_tongs_1 23 rfl rfl)
theorem dX6_tongs_47 : decode cX6_tongs 47 = .ok (.invokevirtual 126, 3) := dk_182 0 126 (dk_at dksX6_tongs_2 0 rfl rfl)
theorem dX6_tongs_50 : decode cX6_tongs 50 = .ok (.aload_n 0, 1) := dk_42 (dk_at dksX6_tongs_2 3 rfl rfl)
theorem dX6_tongs_51 : decode cX6_tongs 51 = .ok (.iload_n 2, 1) := dk_28 (dk_at dksX6_tongs_2 4 rfl rfl)
theorem dX6_tongs_52 : decode cX6_tongs 52 = .ok (.invokevirtual 122, 3) := dk_182 0 122 (dk_at dksX6_tongs_2 5 rfl rfl)
theorem dX6_tongs_55 : decode cX6_tongs 55 = .ok (.ireturn, 1) := dk_172 (dk_at dksX6_tongs_2 8 rfl rfl)
abbrev cX6_terms : ByteArray := prog_28_method_14_code
def yX6_terms : MethodName := ⟨RX6, "terms", "(II)I"⟩
def dkwX6_terms_4 : List UInt8 := [79, 42, 182, 0, 126, 42, 29, 182, 0, 122, 172]
abbrev dktX6_terms_4 : List UInt8 := dkwX6_terms_4 ++ []
def dkwX6_terms_3 : List UInt8 := [2, 182, 0, 122, 172, 42, 180, 0, 13, 16, 10, 27, 96, 46, 62, 42, 180, 0, 13, 16, 10, 27, 96, 28]
abbrev dktX6_terms_3 : List UInt8 := dkwX6_terms_3 ++ dktX6_terms_4
def dkwX6_terms_2 : List UInt8 := [167, 0, 17, 27, 7, 160, 0, 9, 20, 0, 151, 167, 0, 6, 20, 0, 153, 184, 0, 118, 154, 0, 9, 42]
abbrev dktX6_terms_2 : List UInt8 := dkwX6_terms_2 ++ dktX6_terms_3
def dkwX6_terms_1 : List UInt8 := [167, 0, 4, 9, 27, 154, 0, 9, 20, 0, 147, 167, 0, 28, 27, 4, 160, 0, 9, 20, 0, 149]
abbrev dktX6_terms_1 : List UInt8 := dkwX6_terms_1 ++ dktX6_terms_2
def dkwX6_terms_0 : List UInt8 := [42, 3, 181, 0, 112, 27, 133, 9, 20, 0, 147, 184, 0, 118, 153, 0, 55, 28, 133, 27, 154, 0, 7, 10]
abbrev dktX6_terms_0 : List UInt8 := dkwX6_terms_0 ++ dktX6_terms_1
theorem dksX6_terms_0 : cX6_terms.data.toList.drop 0 = dktX6_terms_0 := by decide +kernel
theorem dksX6_terms_1 : cX6_terms.data.toList.drop 24 = dktX6_terms_1 := dk_seg dksX6_terms_0 24 rfl rfl
theorem dksX6_terms_2 : cX6_terms.data.toList.drop 46 = dktX6_terms_2 := dk_seg dksX6_terms_1 22 rfl rfl
theorem dksX6_terms_3 : cX6_terms.data.toList.drop 70 = dktX6_terms_3 := dk_seg dksX6_terms_2 24 rfl rfl
theorem dksX6_terms_4 : cX6_terms.data.toList.drop 94 = dktX6_terms_4 := dk_seg dksX6_terms_3 24 rfl rfl
theorem dX6_terms_0 : decode cX6_terms 0 = .ok (.aload_n 0, 1) := dk_42 (dk_at dksX6_terms_0 0 rfl rfl)
theorem dX6_terms_1 : decode cX6_terms 1 = .ok (.iconst 0, 1) := dk_3 (dk_at dksX6_terms_0 1 rfl rfl)
theorem dX6_terms_2 : decode cX6_terms 2 = .ok (.putfield 112, 3) := dk_181 0 112 (dk_at dksX6_terms_0 2 rfl rfl)
theorem dX6_terms_5 : decode cX6_terms 5 = .ok (.iload_n 1, 1) := dk_27 (dk_at dksX6_terms_0 5 rfl rfl)
theorem dX6_terms_6 : decode cX6_terms 6 = .ok (.i2l, 1) := dk_133 (dk_at dksX6_terms_0 6 rfl rfl)
theorem dX6_terms_7 : decode cX6_terms 7 = .ok (.lconst 0, 1) := dk_9 (dk_at dksX6_terms_0 7 rfl rfl)
theorem dX6_terms_8 : decode cX6_terms 8 = .ok (.ldc2_w 147, 3) := dk_20 0 147 (dk_at dksX6_terms_0 8 rfl rfl)
theorem dX6_terms_11 : decode cX6_terms 11 = .ok (.invokestatic 118, 3) := dk_184 0 118 (dk_at dksX6_terms_0 11 rfl rfl)
theorem dX6_terms_14 : decode cX6_terms 14 = .ok (.ifCond .eq 55, 3) := dk_153 0 55 (dk_at dksX6_terms_0 14 rfl rfl)
theorem dX6_terms_17 : decode cX6_terms 17 = .ok (.iload_n 2, 1) := dk_28 (dk_at dksX6_terms_0 17 rfl rfl)
theorem dX6_terms_18 : decode cX6_terms 18 = .ok (.i2l, 1) := dk_133 (dk_at dksX6_terms_0 18 rfl rfl)
theorem dX6_terms_19 : decode cX6_terms 19 = .ok (.iload_n 1, 1) := dk_27 (dk_at dksX6_terms_0 19 rfl rfl)
theorem dX6_terms_20 : decode cX6_terms 20 = .ok (.ifCond .ne 7, 3) := dk_154 0 7 (dk_at dksX6_terms_0 20 rfl rfl)
theorem dX6_terms_23 : decode cX6_terms 23 = .ok (.lconst 1, 1) := dk_10 (dk_at dksX6_terms_0 23 rfl rfl)
theorem dX6_terms_24 : decode cX6_terms 24 = .ok (.goto 4, 3) := dk_167 0 4 (dk_at dksX6_terms_1 0 rfl rfl)
theorem dX6_terms_27 : decode cX6_terms 27 = .ok (.lconst 0, 1) := dk_9 (dk_at dksX6_terms_1 3 rfl rfl)
theorem dX6_terms_28 : decode cX6_terms 28 = .ok (.iload_n 1, 1) := dk_27 (dk_at dksX6_terms_1 4 rfl rfl)
theorem dX6_terms_29 : decode cX6_terms 29 = .ok (.ifCond .ne 9, 3) := dk_154 0 9 (dk_at dksX6_terms_1 5 rfl rfl)
theorem dX6_terms_32 : decode cX6_terms 32 = .ok (.ldc2_w 147, 3) := dk_20 0 147 (dk_at dksX6_terms_1 8 rfl rfl)
theorem dX6_terms_35 : decode cX6_terms 35 = .ok (.goto 28, 3) := dk_167 0 28 (dk_at dksX6_terms_1 11 rfl rfl)
theorem dX6_terms_38 : decode cX6_terms 38 = .ok (.iload_n 1, 1) := dk_27 (dk_at dksX6_terms_1 14 rfl rfl)
theorem dX6_terms_39 : decode cX6_terms 39 = .ok (.iconst 1, 1) := dk_4 (dk_at dksX6_terms_1 15 rfl rfl)
theorem dX6_terms_40 : decode cX6_terms 40 = .ok (.if_icmp .ne 9, 3) := dk_160 0 9 (dk_at dksX6_terms_1 16 rfl rfl)
theorem dX6_terms_43 : decode cX6_terms 43 = .ok (.ldc2_w 149, 3) := dk_20 0 149 (dk_at dksX6_terms_1 19 rfl rfl)
theorem dX6_terms_46 : decode cX6_terms 46 = .ok (.goto 17, 3) := dk_167 0 17 (dk_at dksX6_terms_2 0 rfl rfl)
theorem dX6_terms_49 : decode cX6_terms 49 = .ok (.iload_n 1, 1) := dk_27 (dk_at dksX6_terms_2 3 rfl rfl)
theorem dX6_terms_50 : decode cX6_terms 50 = .ok (.iconst 4, 1) := dk_7 (dk_at dksX6_terms_2 4 rfl rfl)
theorem dX6_terms_51 : decode cX6_terms 51 = .ok (.if_icmp .ne 9, 3) := dk_160 0 9 (dk_at dksX6_terms_2 5 rfl rfl)
theorem dX6_terms_54 : decode cX6_terms 54 = .ok (.ldc2_w 151, 3) := dk_20 0 151 (dk_at dksX6_terms_2 8 rfl rfl)
theorem dX6_terms_57 : decode cX6_terms 57 = .ok (.goto 6, 3) := dk_167 0 6 (dk_at dksX6_terms_2 11 rfl rfl)
theorem dX6_terms_60 : decode cX6_terms 60 = .ok (.ldc2_w 153, 3) := dk_20 0 153 (dk_at dksX6_terms_2 14 rfl rfl)
theorem dX6_terms_63 : decode cX6_terms 63 = .ok (.invokestatic 118, 3) := dk_184 0 118 (dk_at dksX6_terms_2 17 rfl rfl)
theorem dX6_terms_66 : decode cX6_terms 66 = .ok (.ifCond .ne 9, 3) := dk_154 0 9 (dk_at dksX6_terms_2 20 rfl rfl)
theorem dX6_terms_69 : decode cX6_terms 69 = .ok (.aload_n 0, 1) := dk_42 (dk_at dksX6_terms_2 23 rfl rfl)
theorem dX6_terms_70 : decode cX6_terms 70 = .ok (.iconst (-1), 1) := dk_2 (dk_at dksX6_terms_3 0 rfl rfl)
theorem dX6_terms_71 : decode cX6_terms 71 = .ok (.invokevirtual 122, 3) := dk_182 0 122 (dk_at dksX6_terms_3 1 rfl rfl)
theorem dX6_terms_74 : decode cX6_terms 74 = .ok (.ireturn, 1) := dk_172 (dk_at dksX6_terms_3 4 rfl rfl)
theorem dX6_terms_75 : decode cX6_terms 75 = .ok (.aload_n 0, 1) := dk_42 (dk_at dksX6_terms_3 5 rfl rfl)
theorem dX6_terms_76 : decode cX6_terms 76 = .ok (.getfield 13, 3) := dk_180 0 13 (dk_at dksX6_terms_3 6 rfl rfl)
theorem dX6_terms_79 : decode cX6_terms 79 = .ok (.bipush 10, 2) := dk_16 10 (dk_at dksX6_terms_3 9 rfl rfl)
theorem dX6_terms_81 : decode cX6_terms 81 = .ok (.iload_n 1, 1) := dk_27 (dk_at dksX6_terms_3 11 rfl rfl)
theorem dX6_terms_82 : decode cX6_terms 82 = .ok (.iadd, 1) := dk_96 (dk_at dksX6_terms_3 12 rfl rfl)
theorem dX6_terms_83 : decode cX6_terms 83 = .ok (.iaload, 1) := dk_46 (dk_at dksX6_terms_3 13 rfl rfl)
theorem dX6_terms_84 : decode cX6_terms 84 = .ok (.istore_n 3, 1) := dk_62 (dk_at dksX6_terms_3 14 rfl rfl)
theorem dX6_terms_85 : decode cX6_terms 85 = .ok (.aload_n 0, 1) := dk_42 (dk_at dksX6_terms_3 15 rfl rfl)
theorem dX6_terms_86 : decode cX6_terms 86 = .ok (.getfield 13, 3) := dk_180 0 13 (dk_at dksX6_terms_3 16 rfl rfl)
theorem dX6_terms_89 : decode cX6_terms 89 = .ok (.bipush 10, 2) := dk_16 10 (dk_at dksX6_terms_3 19 rfl rfl)
theorem dX6_terms_91 : decode cX6_terms 91 = .ok (.iload_n 1, 1) := dk_27 (dk_at dksX6_terms_3 21 rfl rfl)
theorem dX6_terms_92 : decode cX6_terms 92 = .ok (.iadd, 1) := dk_96 (dk_at dksX6_terms_3 22 rfl rfl)
theorem dX6_terms_93 : decode cX6_terms 93 = .ok (.iload_n 2, 1) := dk_28 (dk_at dksX6_terms_3 23 rfl rfl)
theorem dX6_terms_94 : decode cX6_terms 94 = .ok (.iastore, 1) := dk_79 (dk_at dksX6_terms_4 0 rfl rfl)
theorem dX6_terms_95 : decode cX6_terms 95 = .ok (.aload_n 0, 1) := dk_42 (dk_at dksX6_terms_4 1 rfl rfl)
theorem dX6_terms_96 : decode cX6_terms 96 = .ok (.invokevirtual 126, 3) := dk_182 0 126 (dk_at dksX6_terms_4 2 rfl rfl)
theorem dX6_terms_99 : decode cX6_terms 99 = .ok (.aload_n 0, 1) := dk_42 (dk_at dksX6_terms_4 5 rfl rfl)
theorem dX6_terms_100 : decode cX6_terms 100 = .ok (.iload_n 3, 1) := dk_29 (dk_at dksX6_terms_4 6 rfl rfl)
theorem dX6_terms_101 : decode cX6_terms 101 = .ok (.invokevirtual 122, 3) := dk_182 0 122 (dk_at dksX6_terms_4 7 rfl rfl)
theorem dX6_terms_104 : decode cX6_terms 104 = .ok (.ireturn, 1) := dk_172 (dk_at dksX6_terms_4 10 rfl rfl)
abbrev cX6_row : ByteArray := prog_28_method_15_code
def yX6_row : MethodName := ⟨RX6, "row", "()I"⟩
def dkwX6_row_6 : List UInt8 := [182, 0, 122, 172]
abbrev dktX6_row_6 : List UInt8 := dkwX6_row_6 ++ []
def dkwX6_row_5 : List UInt8 := [153, 0, 7, 29, 167, 0, 4, 4, 79, 132, 2, 1, 167, 255, 169, 42, 182, 0, 126, 42, 27, 7, 108]
abbrev dktX6_row_5 : List UInt8 := dkwX6_row_5 ++ dktX6_row_6
def dkwX6_row_4 : List UInt8 := [104, 6, 96, 46, 128, 62, 42, 180, 0, 13, 16, 20, 28, 96, 29, 133, 10, 20, 0, 137, 184, 0, 118]
abbrev dktX6_row_4 : List UInt8 := dkwX6_row_4 ++ dktX6_row_5
def dkwX6_row_3 : List UInt8 := [16, 16, 120, 128, 42, 180, 0, 23, 7, 28, 104, 5, 96, 46, 16, 8, 120, 128, 42, 180, 0, 23, 7, 28]
abbrev dktX6_row_3 : List UInt8 := dkwX6_row_3 ++ dktX6_row_4
def dkwX6_row_2 : List UInt8 := [162, 0, 86, 42, 180, 0, 23, 7, 28, 104, 46, 16, 24, 120, 42, 180, 0, 23, 7, 28, 104, 4, 96, 46]
abbrev dktX6_row_2 : List UInt8 := dkwX6_row_2 ++ dktX6_row_3
def dkwX6_row_1 : List UInt8 := [42, 180, 0, 13, 3, 46, 164, 0, 10, 42, 16, 250, 182, 0, 122, 172, 3, 61, 28, 27, 7, 108]
abbrev dktX6_row_1 : List UInt8 := dkwX6_row_1 ++ dktX6_row_2
def dkwX6_row_0 : List UInt8 := [42, 3, 181, 0, 112, 42, 180, 0, 155, 60, 42, 3, 181, 0, 155, 27, 153, 0, 17, 27, 6, 96, 7, 108]
abbrev dktX6_row_0 : List UInt8 := dkwX6_row_0 ++ dktX6_row_1
theorem dksX6_row_0 : cX6_row.data.toList.drop 0 = dktX6_row_0 := by decide +kernel
theorem dksX6_row_1 : cX6_row.data.toList.drop 24 = dktX6_row_1 := dk_seg dksX6_row_0 24 rfl rfl
theorem dksX6_row_2 : cX6_row.data.toList.drop 46 = dktX6_row_2 := dk_seg dksX6_row_1 22 rfl rfl
theorem dksX6_row_3 : cX6_row.data.toList.drop 70 = dktX6_row_3 := dk_seg dksX6_row_2 24 rfl rfl
theorem dksX6_row_4 : cX6_row.data.toList.drop 94 = dktX6_row_4 := dk_seg dksX6_row_3 24 rfl rfl
theorem dksX6_row_5 : cX6_row.data.toList.drop 117 = dktX6_row_5 := dk_seg dksX6_row_4 23 rfl rfl
theorem dksX6_row_6 : cX6_row.data.toList.drop 140 = dktX6_row_6 := dk_seg dksX6_row_5 23 rfl rfl
theorem dX6_row_0 : decode cX6_row 0 = .ok (.aload_n 0, 1) := dk_42 (dk_at dksX6_row_0 0 rfl rfl)
theorem dX6_row_1 : decode cX6_row 1 = .ok (.iconst 0, 1) := dk_3 (dk_at dksX6_row_0 1 rfl rfl)
theorem dX6_row_2 : decode cX6_row 2 = .ok (.putfield 112, 3) := dk_181 0 112 (dk_at dksX6_row_0 2 rfl rfl)
theorem dX6_row_5 : decode cX6_row 5 = .ok (.aload_n 0, 1) := dk_42 (dk_at dksX6_row_0 5 rfl rfl)
theorem dX6_row_6 : decode cX6_row 6 = .ok (.getfield 155, 3) := dk_180 0 155 (dk_at dksX6_row_0 6 rfl rfl)
theorem dX6_row_9 : decode cX6_row 9 = .ok (.istore_n 1, 1) := dk_60 (dk_at dksX6_row_0 9 rfl rfl)
theorem dX6_row_10 : decode cX6_row 10 = .ok (.aload_n 0, 1) := dk_42 (dk_at dksX6_row_0 10 rfl rfl)
theorem dX6_row_11 : decode cX6_row 11 = .ok (.iconst 0, 1) := dk_3 (dk_at dksX6_row_0 11 rfl rfl)
theorem dX6_row_12 : decode cX6_row 12 = .ok (.putfield 155, 3) := dk_181 0 155 (dk_at dksX6_row_0 12 rfl rfl)
theorem dX6_row_15 : decode cX6_row 15 = .ok (.iload_n 1, 1) := dk_27 (dk_at dksX6_row_0 15 rfl rfl)
theorem dX6_row_16 : decode cX6_row 16 = .ok (.ifCond .eq 17, 3) := dk_153 0 17 (dk_at dksX6_row_0 16 rfl rfl)
theorem dX6_row_19 : decode cX6_row 19 = .ok (.iload_n 1, 1) := dk_27 (dk_at dksX6_row_0 19 rfl rfl)
theorem dX6_row_20 : decode cX6_row 20 = .ok (.iconst 3, 1) := dk_6 (dk_at dksX6_row_0 20 rfl rfl)
theorem dX6_row_21 : decode cX6_row 21 = .ok (.iadd, 1) := dk_96 (dk_at dksX6_row_0 21 rfl rfl)
theorem dX6_row_22 : decode cX6_row 22 = .ok (.iconst 4, 1) := dk_7 (dk_at dksX6_row_0 22 rfl rfl)
theorem dX6_row_23 : decode cX6_row 23 = .ok (.idiv, 1) := dk_108 (dk_at dksX6_row_0 23 rfl rfl)
theorem dX6_row_24 : decode cX6_row 24 = .ok (.aload_n 0, 1) := dk_42 (dk_at dksX6_row_1 0 rfl rfl)
theorem dX6_row_25 : decode cX6_row 25 = .ok (.getfield 13, 3) := dk_180 0 13 (dk_at dksX6_row_1 1 rfl rfl)
theorem dX6_row_28 : decode cX6_row 28 = .ok (.iconst 0, 1) := dk_3 (dk_at dksX6_row_1 4 rfl rfl)
theorem dX6_row_29 : decode cX6_row 29 = .ok (.iaload, 1) := dk_46 (dk_at dksX6_row_1 5 rfl rfl)
theorem dX6_row_30 : decode cX6_row 30 = .ok (.if_icmp .le 10, 3) := dk_164 0 10 (dk_at dksX6_row_1 6 rfl rfl)
theorem dX6_row_33 : decode cX6_row 33 = .ok (.aload_n 0, 1) := dk_42 (dk_at dksX6_row_1 9 rfl rfl)
theorem dX6_row_34 : decode cX6_row 34 = .ok (.bipush (-6), 2) := dk_16 250 (dk_at dksX6_row_1 10 rfl rfl)
theorem dX6_row_36 : decode cX6_row 36 = .ok (.invokevirtual 122, 3) := dk_182 0 122 (dk_at dksX6_row_1 12 rfl rfl)
theorem dX6_row_39 : decode cX6_row 39 = .ok (.ireturn, 1) := dk_172 (dk_at dksX6_row_1 15 rfl rfl)
theorem dX6_row_40 : decode cX6_row 40 = .ok (.iconst 0, 1) := dk_3 (dk_at dksX6_row_1 16 rfl rfl)
theorem dX6_row_41 : decode cX6_row 41 = .ok (.istore_n 2, 1) := dk_61 (dk_at dksX6_row_1 17 rfl rfl)
theorem dX6_row_42 : decode cX6_row 42 = .ok (.iload_n 2, 1) := dk_28 (dk_at dksX6_row_1 18 rfl rfl)
theorem dX6_row_43 : decode cX6_row 43 = .ok (.iload_n 1, 1) := dk_27 (dk_at dksX6_row_1 19 rfl rfl)
theorem dX6_row_44 : decode cX6_row 44 = .ok (.iconst 4, 1) := dk_7 (dk_at dksX6_row_1 20 rfl rfl)
theorem dX6_row_45 : decode cX6_row 45 = .ok (.idiv, 1) := dk_108 (dk_at dksX6_row_1 21 rfl rfl)
theorem dX6_row_46 : decode cX6_row 46 = .ok (.if_icmp .ge 86, 3) := dk_162 0 86 (dk_at dksX6_row_2 0 rfl rfl)
theorem dX6_row_49 : decode cX6_row 49 = .ok (.aload_n 0, 1) := dk_42 (dk_at dksX6_row_2 3 rfl rfl)
theorem dX6_row_50 : decode cX6_row 50 = .ok (.getfield 23, 3) := dk_180 0 23 (dk_at dksX6_row_2 4 rfl rfl)
theorem dX6_row_53 : decode cX6_row 53 = .ok (.iconst 4, 1) := dk_7 (dk_at dksX6_row_2 7 rfl rfl)
theorem dX6_row_54 : decode cX6_row 54 = .ok (.iload_n 2, 1) := dk_28 (dk_at dksX6_row_2 8 rfl rfl)
theorem dX6_row_55 : decode cX6_row 55 = .ok (.imul, 1) := dk_104 (dk_at dksX6_row_2 9 rfl rfl)
theorem dX6_row_56 : decode cX6_row 56 = .ok (.iaload, 1) := dk_46 (dk_at dksX6_row_2 10 rfl rfl)
theorem dX6_row_57 : decode cX6_row 57 = .ok (.bipush 24, 2) := dk_16 24 (dk_at dksX6_row_2 11 rfl rfl)
theorem dX6_row_59 : decode cX6_row 59 = .ok (.ishl, 1) := dk_120 (dk_at dksX6_row_2 13 rfl rfl)
theorem dX6_row_60 : decode cX6_row 60 = .ok (.aload_n 0, 1) := dk_42 (dk_at dksX6_row_2 14 rfl rfl)
theorem dX6_row_61 : decode cX6_row 61 = .ok (.getfield 23, 3) := dk_180 0 23 (dk_at dksX6_row_2 15 rfl rfl)
theorem dX6_row_64 : decode cX6_row 64 = .ok (.iconst 4, 1) := dk_7 (dk_at dksX6_row_2 18 rfl rfl)
theorem dX6_row_65 : decode cX6_row 65 = .ok (.iload_n 2, 1) := dk_28 (dk_at dksX6_row_2 19 rfl rfl)
theorem dX6_row_66 : decode cX6_row 66 = .ok (.imul, 1) := dk_104 (dk_at dksX6_row_2 20 rfl rfl)
theorem dX6_row_67 : decode cX6_row 67 = .ok (.iconst 1, 1) := dk_4 (dk_at dksX6_row_2 21 rfl rfl)
theorem dX6_row_68 : decode cX6_row 68 = .ok (.iadd, 1) := dk_96 (dk_at dksX6_row_2 22 rfl rfl)
theorem dX6_row_69 : decode cX6_row 69 = .ok (.iaload, 1) := dk_46 (dk_at dksX6_row_2 23 rfl rfl)
theorem dX6_row_70 : decode cX6_row 70 = .ok (.bipush 16, 2) := dk_16 16 (dk_at dksX6_row_3 0 rfl rfl)
theorem dX6_row_72 : decode cX6_row 72 = .ok (.ishl, 1) := dk_120 (dk_at dksX6_row_3 2 rfl rfl)
theorem dX6_row_73 : decode cX6_row 73 = .ok (.ior, 1) := dk_128 (dk_at dksX6_row_3 3 rfl rfl)
theorem dX6_row_74 : decode cX6_row 74 = .ok (.aload_n 0, 1) := dk_42 (dk_at dksX6_row_3 4 rfl rfl)
theorem dX6_row_75 : decode cX6_row 75 = .ok (.getfield 23, 3) := dk_180 0 23 (dk_at dksX6_row_3 5 rfl rfl)
theorem dX6_row_78 : decode cX6_row 78 = .ok (.iconst 4, 1) := dk_7 (dk_at dksX6_row_3 8 rfl rfl)
theorem dX6_row_79 : decode cX6_row 79 = .ok (.iload_n 2, 1) := dk_28 (dk_at dksX6_row_3 9 rfl rfl)
theorem dX6_row_80 : decode cX6_row 80 = .ok (.imul, 1) := dk_104 (dk_at dksX6_row_3 10 rfl rfl)
theorem dX6_row_81 : decode cX6_row 81 = .ok (.iconst 2, 1) := dk_5 (dk_at dksX6_row_3 11 rfl rfl)
theorem dX6_row_82 : decode cX6_row 82 = .ok (.iadd, 1) := dk_96 (dk_at dksX6_row_3 12 rfl rfl)
theorem dX6_row_83 : decode cX6_row 83 = .ok (.iaload, 1) := dk_46 (dk_at dksX6_row_3 13 rfl rfl)
theorem dX6_row_84 : decode cX6_row 84 = .ok (.bipush 8, 2) := dk_16 8 (dk_at dksX6_row_3 14 rfl rfl)
theorem dX6_row_86 : decode cX6_row 86 = .ok (.ishl, 1) := dk_120 (dk_at dksX6_row_3 16 rfl rfl)
theorem dX6_row_87 : decode cX6_row 87 = .ok (.ior, 1) := dk_128 (dk_at dksX6_row_3 17 rfl rfl)
theorem dX6_row_88 : decode cX6_row 88 = .ok (.aload_n 0, 1) := dk_42 (dk_at dksX6_row_3 18 rfl rfl)
theorem dX6_row_89 : decode cX6_row 89 = .ok (.getfield 23, 3) := dk_180 0 23 (dk_at dksX6_row_3 19 rfl rfl)
theorem dX6_row_92 : decode cX6_row 92 = .ok (.iconst 4, 1) := dk_7 (dk_at dksX6_row_3 22 rfl rfl)
theorem dX6_row_93 : decode cX6_row 93 = .ok (.iload_n 2, 1) := dk_28 (dk_at dksX6_row_3 23 rfl rfl)
theorem dX6_row_94 : decode cX6_row 94 = .ok (.imul, 1) := dk_104 (dk_at dksX6_row_4 0 rfl rfl)
theorem dX6_row_95 : decode cX6_row 95 = .ok (.iconst 3, 1) := dk_6 (dk_at dksX6_row_4 1 rfl rfl)
theorem dX6_row_96 : decode cX6_row 96 = .ok (.iadd, 1) := dk_96 (dk_at dksX6_row_4 2 rfl rfl)
theorem dX6_row_97 : decode cX6_row 97 = .ok (.iaload, 1) := dk_46 (dk_at dksX6_row_4 3 rfl rfl)
theorem dX6_row_98 : decode cX6_row 98 = .ok (.ior, 1) := dk_128 (dk_at dksX6_row_4 4 rfl rfl)
theorem dX6_row_99 : decode cX6_row 99 = .ok (.istore_n 3, 1) := dk_62 (dk_at dksX6_row_4 5 rfl rfl)
theorem dX6_row_100 : decode cX6_row 100 = .ok (.aload_n 0, 1) := dk_42 (dk_at dksX6_row_4 6 rfl rfl)
theorem dX6_row_101 : decode cX6_row 101 = .ok (.getfield 13, 3) := dk_180 0 13 (dk_at dksX6_row_4 7 rfl rfl)
theorem dX6_row_104 : decode cX6_row 104 = .ok (.bipush 20, 2) := dk_16 20 (dk_at dksX6_row_4 10 rfl rfl)
theorem dX6_row_106 : decode cX6_row 106 = .ok (.iload_n 2, 1) := dk_28 (dk_at dksX6_row_4 12 rfl rfl)
theorem dX6_row_107 : decode cX6_row 107 = .ok (.iadd, 1) := dk_96 (dk_at dksX6_row_4 13 rfl rfl)
theorem dX6_row_108 : decode cX6_row 108 = .ok (.iload_n 3, 1) := dk_29 (dk_at dksX6_row_4 14 rfl rfl)
theorem dX6_row_109 : decode cX6_row 109 = .ok (.i2l, 1) := dk_133 (dk_at dksX6_row_4 15 rfl rfl)
theorem dX6_row_110 : decode cX6_row 110 = .ok (.lconst 1, 1) := dk_10 (dk_at dksX6_row_4 16 rfl rfl)
theorem dX6_row_111 : decode cX6_row 111 = .ok (.ldc2_w 137, 3) := dk_20 0 137 (dk_at dksX6_row_4 17 rfl rfl)
theorem dX6_row_114 : decode cX6_row 114 = .ok (.invokestatic 118, 3) := dk_184 0 118 (dk_at dksX6_row_4 20 rfl rfl)
theorem dX6_row_117 : decode cX6_row 117 = .ok (.ifCond .eq 7, 3) := dk_153 0 7 (dk_at dksX6_row_5 0 rfl rfl)
theorem dX6_row_120 : decode cX6_row 120 = .ok (.iload_n 3, 1) := dk_29 (dk_at dksX6_row_5 3 rfl rfl)
theorem dX6_row_121 : decode cX6_row 121 = .ok (.goto 4, 3) := dk_167 0 4 (dk_at dksX6_row_5 4 rfl rfl)
theorem dX6_row_124 : decode cX6_row 124 = .ok (.iconst 1, 1) := dk_4 (dk_at dksX6_row_5 7 rfl rfl)
theorem dX6_row_125 : decode cX6_row 125 = .ok (.iastore, 1) := dk_79 (dk_at dksX6_row_5 8 rfl rfl)
theorem dX6_row_126 : decode cX6_row 126 = .ok (.iinc 2 1, 3) := dk_132 2 1 (dk_at dksX6_row_5 9 rfl rfl)
theorem dX6_row_129 : decode cX6_row 129 = .ok (.goto (-87), 3) := dk_167 255 169 (dk_at dksX6_row_5 12 rfl rfl)
theorem dX6_row_132 : decode cX6_row 132 = .ok (.aload_n 0, 1) := dk_42 (dk_at dksX6_row_5 15 rfl rfl)
theorem dX6_row_133 : decode cX6_row 133 = .ok (.invokevirtual 126, 3) := dk_182 0 126 (dk_at dksX6_row_5 16 rfl rfl)
theorem dX6_row_136 : decode cX6_row 136 = .ok (.aload_n 0, 1) := dk_42 (dk_at dksX6_row_5 19 rfl rfl)
theorem dX6_row_137 : decode cX6_row 137 = .ok (.iload_n 1, 1) := dk_27 (dk_at dksX6_row_5 20 rfl rfl)
theorem dX6_row_138 : decode cX6_row 138 = .ok (.iconst 4, 1) := dk_7 (dk_at dksX6_row_5 21 rfl rfl)
theorem dX6_row_139 : decode cX6_row 139 = .ok (.idiv, 1) := dk_108 (dk_at dksX6_row_5 22 rfl rfl)
theorem dX6_row_140 : decode cX6_row 140 = .ok (.invokevirtual 122, 3) := dk_182 0 122 (dk_at dksX6_row_6 0 rfl rfl)
theorem dX6_row_143 : decode cX6_row 143 = .ok (.ireturn, 1) := dk_172 (dk_at dksX6_row_6 3 rfl rfl)
abbrev cX6_feed : ByteArray := prog_28_method_17_code
def yX6_feed : MethodName := ⟨RX6, "feed", "(IIIII)I"⟩
def dkwX6_feed_2 : List UInt8 := [182, 0, 158, 42, 180, 0, 155, 172]
abbrev dktX6_feed_2 : List UInt8 := dkwX6_feed_2 ++ []
def dkwX6_feed_1 : List UInt8 := [182, 0, 158, 42, 28, 182, 0, 158, 42, 29, 182, 0, 158, 42, 21, 4, 182, 0, 158, 42, 21, 5]
abbrev dktX6_feed_1 : List UInt8 := dkwX6_feed_1 ++ dktX6_feed_2
def dkwX6_feed_0 : List UInt8 := [42, 3, 181, 0, 112, 42, 180, 0, 155, 16, 20, 96, 17, 1, 144, 164, 0, 5, 2, 172, 42, 27]
abbrev dktX6_feed_0 : List UInt8 := dkwX6_feed_0 ++ dktX6_feed_1
theorem dksX6_feed_0 : cX6_feed.data.toList.drop 0 = dktX6_feed_0 := by decide +kernel
theorem dksX6_feed_1 : cX6_feed.data.toList.drop 22 = dktX6_feed_1 := dk_seg dksX6_feed_0 22 rfl rfl
theorem dksX6_feed_2 : cX6_feed.data.toList.drop 44 = dktX6_feed_2 := dk_seg dksX6_feed_1 22 rfl rfl
theorem dX6_feed_0 : decode cX6_feed 0 = .ok (.aload_n 0, 1) := dk_42 (dk_at dksX6_feed_0 0 rfl rfl)
theorem dX6_feed_1 : decode cX6_feed 1 = .ok (.iconst 0, 1) := dk_3 (dk_at dksX6_feed_0 1 rfl rfl)
theorem dX6_feed_2 : decode cX6_feed 2 = .ok (.putfield 112, 3) := dk_181 0 112 (dk_at dksX6_feed_0 2 rfl rfl)
theorem dX6_feed_5 : decode cX6_feed 5 = .ok (.aload_n 0, 1) := dk_42 (dk_at dksX6_feed_0 5 rfl rfl)
theorem dX6_feed_6 : decode cX6_feed 6 = .ok (.getfield 155, 3) := dk_180 0 155 (dk_at dksX6_feed_0 6 rfl rfl)
theorem dX6_feed_9 : decode cX6_feed 9 = .ok (.bipush 20, 2) := dk_16 20 (dk_at dksX6_feed_0 9 rfl rfl)
theorem dX6_feed_11 : decode cX6_feed 11 = .ok (.iadd, 1) := dk_96 (dk_at dksX6_feed_0 11 rfl rfl)
theorem dX6_feed_12 : decode cX6_feed 12 = .ok (.sipush 400, 3) := dk_17 1 144 (dk_at dksX6_feed_0 12 rfl rfl)
theorem dX6_feed_15 : decode cX6_feed 15 = .ok (.if_icmp .le 5, 3) := dk_164 0 5 (dk_at dksX6_feed_0 15 rfl rfl)
theorem dX6_feed_18 : decode cX6_feed 18 = .ok (.iconst (-1), 1) := dk_2 (dk_at dksX6_feed_0 18 rfl rfl)
theorem dX6_feed_19 : decode cX6_feed 19 = .ok (.ireturn, 1) := dk_172 (dk_at dksX6_feed_0 19 rfl rfl)
theorem dX6_feed_20 : decode cX6_feed 20 = .ok (.aload_n 0, 1) := dk_42 (dk_at dksX6_feed_0 20 rfl rfl)
theorem dX6_feed_21 : decode cX6_feed 21 = .ok (.iload_n 1, 1) := dk_27 (dk_at dksX6_feed_0 21 rfl rfl)
theorem dX6_feed_22 : decode cX6_feed 22 = .ok (.invokevirtual 158, 3) := dk_182 0 158 (dk_at dksX6_feed_1 0 rfl rfl)
theorem dX6_feed_25 : decode cX6_feed 25 = .ok (.aload_n 0, 1) := dk_42 (dk_at dksX6_feed_1 3 rfl rfl)
theorem dX6_feed_26 : decode cX6_feed 26 = .ok (.iload_n 2, 1) := dk_28 (dk_at dksX6_feed_1 4 rfl rfl)
theorem dX6_feed_27 : decode cX6_feed 27 = .ok (.invokevirtual 158, 3) := dk_182 0 158 (dk_at dksX6_feed_1 5 rfl rfl)
theorem dX6_feed_30 : decode cX6_feed 30 = .ok (.aload_n 0, 1) := dk_42 (dk_at dksX6_feed_1 8 rfl rfl)
theorem dX6_feed_31 : decode cX6_feed 31 = .ok (.iload_n 3, 1) := dk_29 (dk_at dksX6_feed_1 9 rfl rfl)
theorem dX6_feed_32 : decode cX6_feed 32 = .ok (.invokevirtual 158, 3) := dk_182 0 158 (dk_at dksX6_feed_1 10 rfl rfl)
theorem dX6_feed_35 : decode cX6_feed 35 = .ok (.aload_n 0, 1) := dk_42 (dk_at dksX6_feed_1 13 rfl rfl)
theorem dX6_feed_36 : decode cX6_feed 36 = .ok (.iload 4, 2) := dk_21 4 (dk_at dksX6_feed_1 14 rfl rfl)
theorem dX6_feed_38 : decode cX6_feed 38 = .ok (.invokevirtual 158, 3) := dk_182 0 158 (dk_at dksX6_feed_1 16 rfl rfl)
theorem dX6_feed_41 : decode cX6_feed 41 = .ok (.aload_n 0, 1) := dk_42 (dk_at dksX6_feed_1 19 rfl rfl)
theorem dX6_feed_42 : decode cX6_feed 42 = .ok (.iload 5, 2) := dk_21 5 (dk_at dksX6_feed_1 20 rfl rfl)
theorem dX6_feed_44 : decode cX6_feed 44 = .ok (.invokevirtual 158, 3) := dk_182 0 158 (dk_at dksX6_feed_2 0 rfl rfl)
theorem dX6_feed_47 : decode cX6_feed 47 = .ok (.aload_n 0, 1) := dk_42 (dk_at dksX6_feed_2 3 rfl rfl)
theorem dX6_feed_48 : decode cX6_feed 48 = .ok (.getfield 155, 3) := dk_180 0 155 (dk_at dksX6_feed_2 4 rfl rfl)
theorem dX6_feed_51 : decode cX6_feed 51 = .ok (.ireturn, 1) := dk_172 (dk_at dksX6_feed_2 7 rfl rfl)
abbrev cX6_four : ByteArray := prog_28_method_16_code
def yX6_four : MethodName := ⟨RX6, "four", "(I)V"⟩
def dkwX6_four_1 : List UInt8 := [89, 180, 0, 155, 4, 96, 181, 0, 155, 132, 2, 248, 167, 255, 223, 177]
abbrev dktX6_four_1 : List UInt8 := dkwX6_four_1 ++ []
def dkwX6_four_0 : List UInt8 := [16, 24, 61, 28, 155, 0, 35, 42, 180, 0, 23, 42, 180, 0, 155, 27, 28, 122, 17, 0, 255, 126, 79, 42]
abbrev dktX6_four_0 : List UInt8 := dkwX6_four_0 ++ dktX6_four_1
theorem dksX6_four_0 : cX6_four.data.toList.drop 0 = dktX6_four_0 := by decide +kernel
theorem dksX6_four_1 : cX6_four.data.toList.drop 24 = dktX6_four_1 := dk_seg dksX6_four_0 24 rfl rfl
theorem dX6_four_0 : decode cX6_four 0 = .ok (.bipush 24, 2) := dk_16 24 (dk_at dksX6_four_0 0 rfl rfl)
theorem dX6_four_2 : decode cX6_four 2 = .ok (.istore_n 2, 1) := dk_61 (dk_at dksX6_four_0 2 rfl rfl)
theorem dX6_four_3 : decode cX6_four 3 = .ok (.iload_n 2, 1) := dk_28 (dk_at dksX6_four_0 3 rfl rfl)
theorem dX6_four_4 : decode cX6_four 4 = .ok (.ifCond .lt 35, 3) := dk_155 0 35 (dk_at dksX6_four_0 4 rfl rfl)
theorem dX6_four_7 : decode cX6_four 7 = .ok (.aload_n 0, 1) := dk_42 (dk_at dksX6_four_0 7 rfl rfl)
theorem dX6_four_8 : decode cX6_four 8 = .ok (.getfield 23, 3) := dk_180 0 23 (dk_at dksX6_four_0 8 rfl rfl)
theorem dX6_four_11 : decode cX6_four 11 = .ok (.aload_n 0, 1) := dk_42 (dk_at dksX6_four_0 11 rfl rfl)
theorem dX6_four_12 : decode cX6_four 12 = .ok (.getfield 155, 3) := dk_180 0 155 (dk_at dksX6_four_0 12 rfl rfl)
theorem dX6_four_15 : decode cX6_four 15 = .ok (.iload_n 1, 1) := dk_27 (dk_at dksX6_four_0 15 rfl rfl)
theorem dX6_four_16 : decode cX6_four 16 = .ok (.iload_n 2, 1) := dk_28 (dk_at dksX6_four_0 16 rfl rfl)
theorem dX6_four_17 : decode cX6_four 17 = .ok (.ishr, 1) := dk_122 (dk_at dksX6_four_0 17 rfl rfl)
theorem dX6_four_18 : decode cX6_four 18 = .ok (.sipush 255, 3) := dk_17 0 255 (dk_at dksX6_four_0 18 rfl rfl)
theorem dX6_four_21 : decode cX6_four 21 = .ok (.iand, 1) := dk_126 (dk_at dksX6_four_0 21 rfl rfl)
theorem dX6_four_22 : decode cX6_four 22 = .ok (.iastore, 1) := dk_79 (dk_at dksX6_four_0 22 rfl rfl)
theorem dX6_four_23 : decode cX6_four 23 = .ok (.aload_n 0, 1) := dk_42 (dk_at dksX6_four_0 23 rfl rfl)
theorem dX6_four_24 : decode cX6_four 24 = .ok (.dup, 1) := dk_89 (dk_at dksX6_four_1 0 rfl rfl)
theorem dX6_four_25 : decode cX6_four 25 = .ok (.getfield 155, 3) := dk_180 0 155 (dk_at dksX6_four_1 1 rfl rfl)
theorem dX6_four_28 : decode cX6_four 28 = .ok (.iconst 1, 1) := dk_4 (dk_at dksX6_four_1 4 rfl rfl)
theorem dX6_four_29 : decode cX6_four 29 = .ok (.iadd, 1) := dk_96 (dk_at dksX6_four_1 5 rfl rfl)
theorem dX6_four_30 : decode cX6_four 30 = .ok (.putfield 155, 3) := dk_181 0 155 (dk_at dksX6_four_1 6 rfl rfl)
theorem dX6_four_33 : decode cX6_four 33 = .ok (.iinc 2 (-8), 3) := dk_132 2 248 (dk_at dksX6_four_1 9 rfl rfl)
theorem dX6_four_36 : decode cX6_four 36 = .ok (.goto (-33), 3) := dk_167 255 223 (dk_at dksX6_four_1 12 rfl rfl)
theorem dX6_four_39 : decode cX6_four 39 = .ok (.return_, 1) := dk_177 (dk_at dksX6_four_1 15 rfl rfl)
abbrev cX6_end : ByteArray := prog_28_method_18_code
def yX6_end : MethodName := ⟨RX6, "end", "(I)I"⟩
def dkwX6_end_1 : List UInt8 := [27, 172]
abbrev dktX6_end_1 : List UInt8 := dkwX6_end_1 ++ []
def dkwX6_end_0 : List UInt8 := [42, 3, 181, 0, 112, 27, 155, 0, 11, 27, 42, 180, 0, 155, 164, 0, 5, 2, 172, 42, 27, 181, 0, 155]
abbrev dktX6_end_0 : List UInt8 := dkwX6_end_0 ++ dktX6_end_1
theorem dksX6_end_0 : cX6_end.data.toList.drop 0 = dktX6_end_0 := by decide +kernel
theorem dksX6_end_1 : cX6_end.data.toList.drop 24 = dktX6_end_1 := dk_seg dksX6_end_0 24 rfl rfl
theorem dX6_end_0 : decode cX6_end 0 = .ok (.aload_n 0, 1) := dk_42 (dk_at dksX6_end_0 0 rfl rfl)
theorem dX6_end_1 : decode cX6_end 1 = .ok (.iconst 0, 1) := dk_3 (dk_at dksX6_end_0 1 rfl rfl)
theorem dX6_end_2 : decode cX6_end 2 = .ok (.putfield 112, 3) := dk_181 0 112 (dk_at dksX6_end_0 2 rfl rfl)
theorem dX6_end_5 : decode cX6_end 5 = .ok (.iload_n 1, 1) := dk_27 (dk_at dksX6_end_0 5 rfl rfl)
theorem dX6_end_6 : decode cX6_end 6 = .ok (.ifCond .lt 11, 3) := dk_155 0 11 (dk_at dksX6_end_0 6 rfl rfl)
theorem dX6_end_9 : decode cX6_end 9 = .ok (.iload_n 1, 1) := dk_27 (dk_at dksX6_end_0 9 rfl rfl)
theorem dX6_end_10 : decode cX6_end 10 = .ok (.aload_n 0, 1) := dk_42 (dk_at dksX6_end_0 10 rfl rfl)
theorem dX6_end_11 : decode cX6_end 11 = .ok (.getfield 155, 3) := dk_180 0 155 (dk_at dksX6_end_0 11 rfl rfl)
theorem dX6_end_14 : decode cX6_end 14 = .ok (.if_icmp .le 5, 3) := dk_164 0 5 (dk_at dksX6_end_0 14 rfl rfl)
theorem dX6_end_17 : decode cX6_end 17 = .ok (.iconst (-1), 1) := dk_2 (dk_at dksX6_end_0 17 rfl rfl)
theorem dX6_end_18 : decode cX6_end 18 = .ok (.ireturn, 1) := dk_172 (dk_at dksX6_end_0 18 rfl rfl)
theorem dX6_end_19 : decode cX6_end 19 = .ok (.aload_n 0, 1) := dk_42 (dk_at dksX6_end_0 19 rfl rfl)
theorem dX6_end_20 : decode cX6_end 20 = .ok (.iload_n 1, 1) := dk_27 (dk_at dksX6_end_0 20 rfl rfl)
theorem dX6_end_21 : decode cX6_end 21 = .ok (.putfield 155, 3) := dk_181 0 155 (dk_at dksX6_end_0 21 rfl rfl)
theorem dX6_end_24 : decode cX6_end 24 = .ok (.iload_n 1, 1) := dk_27 (dk_at dksX6_end_1 0 rfl rfl)
theorem dX6_end_25 : decode cX6_end 25 = .ok (.ireturn, 1) := dk_172 (dk_at dksX6_end_1 1 rfl rfl)
abbrev cX6_fault : ByteArray := prog_28_method_28_code
def yX6_fault : MethodName := ⟨RX6, "fault", "()I"⟩
def dkwX6_fault_0 : List UInt8 := [42, 3, 181, 0, 112, 42, 180, 0, 26, 172]
abbrev dktX6_fault_0 : List UInt8 := dkwX6_fault_0 ++ []
theorem dksX6_fault_0 : cX6_fault.data.toList.drop 0 = dktX6_fault_0 := by decide +kernel
theorem dX6_fault_0 : decode cX6_fault 0 = .ok (.aload_n 0, 1) := dk_42 (dk_at dksX6_fault_0 0 rfl rfl)
theorem dX6_fault_1 : decode cX6_fault 1 = .ok (.iconst 0, 1) := dk_3 (dk_at dksX6_fault_0 1 rfl rfl)
theorem dX6_fault_2 : decode cX6_fault 2 = .ok (.putfield 112, 3) := dk_181 0 112 (dk_at dksX6_fault_0 2 rfl rfl)
theorem dX6_fault_5 : decode cX6_fault 5 = .ok (.aload_n 0, 1) := dk_42 (dk_at dksX6_fault_0 5 rfl rfl)
theorem dX6_fault_6 : decode cX6_fault 6 = .ok (.getfield 26, 3) := dk_180 0 26 (dk_at dksX6_fault_0 6 rfl rfl)
theorem dX6_fault_9 : decode cX6_fault 9 = .ok (.ireturn, 1) := dk_172 (dk_at dksX6_fault_0 9 rfl rfl)
abbrev cX6_recipe : ByteArray := prog_28_method_44_code
def yX6_recipe : MethodName := ⟨RX6, "recipe", "()I"⟩
def dkwX6_recipe_10 : List UInt8 := [92, 46, 4, 96, 79, 42, 42, 180, 0, 13, 4, 46, 4, 100, 182, 0, 122, 172]
abbrev dktX6_recipe_10 : List UInt8 := dkwX6_recipe_10 ++ []
def dkwX6_recipe_9 : List UInt8 := [5, 28, 104, 96, 4, 96, 42, 180, 0, 33, 28, 46, 79, 132, 2, 1, 167, 255, 203, 42, 180, 0, 13, 4]
abbrev dktX6_recipe_9 : List UInt8 := dkwX6_recipe_9 ++ dktX6_recipe_10
def dkwX6_recipe_8 : List UInt8 := [17, 0, 180, 96, 5, 28, 104, 96, 42, 180, 0, 30, 28, 46, 79, 42, 180, 0, 13, 27, 17, 0, 180, 96]
abbrev dktX6_recipe_8 : List UInt8 := dkwX6_recipe_8 ++ dktX6_recipe_9
def dkwX6_recipe_7 : List UInt8 := [79, 132, 2, 1, 167, 255, 225, 3, 61, 28, 42, 180, 0, 208, 162, 0, 51, 42, 180, 0, 13, 27]
abbrev dktX6_recipe_7 : List UInt8 := dkwX6_recipe_7 ++ dktX6_recipe_8
def dkwX6_recipe_6 : List UInt8 := [42, 180, 1, 58, 104, 162, 0, 26, 42, 180, 0, 13, 27, 16, 10, 96, 28, 96, 42, 180, 0, 39, 28, 46]
abbrev dktX6_recipe_6 : List UInt8 := dkwX6_recipe_6 ++ dktX6_recipe_7
def dkwX6_recipe_5 : List UInt8 := [42, 180, 0, 13, 4, 46, 104, 96, 60, 42, 180, 0, 13, 27, 42, 180, 1, 58, 79, 3, 61, 28, 16, 10]
abbrev dktX6_recipe_5 : List UInt8 := dkwX6_recipe_5 ++ dktX6_recipe_6
def dkwX6_recipe_4 : List UInt8 := [42, 3, 181, 0, 155, 42, 180, 0, 165, 153, 0, 10, 42, 16, 250, 182, 0, 122, 172, 16, 60, 17, 3, 232]
abbrev dktX6_recipe_4 : List UInt8 := dkwX6_recipe_4 ++ dktX6_recipe_5
def dkwX6_recipe_3 : List UInt8 := [182, 1, 73, 167, 255, 232, 42, 180, 0, 165, 154, 0, 14, 42, 180, 0, 186, 153, 0, 7, 42, 182, 0, 201]
abbrev dktX6_recipe_3 : List UInt8 := dkwX6_recipe_3 ++ dktX6_recipe_4
def dkwX6_recipe_2 : List UInt8 := [182, 1, 73, 42, 180, 0, 165, 154, 0, 23, 42, 16, 59, 182, 0, 249, 153, 0, 14, 42, 182, 0, 169, 42]
abbrev dktX6_recipe_2 : List UInt8 := dkwX6_recipe_2 ++ dktX6_recipe_3
def dkwX6_recipe_1 : List UInt8 := [182, 0, 122, 172, 42, 182, 1, 70, 42, 3, 181, 1, 58, 42, 3, 181, 0, 208, 42, 3, 181, 0, 246, 42]
abbrev dktX6_recipe_1 : List UInt8 := dkwX6_recipe_1 ++ dktX6_recipe_2
def dkwX6_recipe_0 : List UInt8 := [42, 3, 181, 0, 112, 42, 180, 0, 13, 4, 46, 16, 8, 160, 0, 15, 42, 3, 181, 0, 155, 42, 16, 251]
abbrev dktX6_recipe_0 : List UInt8 := dkwX6_recipe_0 ++ dktX6_recipe_1
theorem dksX6_recipe_0 : cX6_recipe.data.toList.drop 0 = dktX6_recipe_0 := by decide +kernel
theorem dksX6_recipe_1 : cX6_recipe.data.toList.drop 24 = dktX6_recipe_1 := dk_seg dksX6_recipe_0 24 rfl rfl
theorem dksX6_recipe_2 : cX6_recipe.data.toList.drop 48 = dktX6_recipe_2 := dk_seg dksX6_recipe_1 24 rfl rfl
theorem dksX6_recipe_3 : cX6_recipe.data.toList.drop 72 = dktX6_recipe_3 := dk_seg dksX6_recipe_2 24 rfl rfl
theorem dksX6_recipe_4 : cX6_recipe.data.toList.drop 96 = dktX6_recipe_4 := dk_seg dksX6_recipe_3 24 rfl rfl
theorem dksX6_recipe_5 : cX6_recipe.data.toList.drop 120 = dktX6_recipe_5 := dk_seg dksX6_recipe_4 24 rfl rfl
theorem dksX6_recipe_6 : cX6_recipe.data.toList.drop 144 = dktX6_recipe_6 := dk_seg dksX6_recipe_5 24 rfl rfl
theorem dksX6_recipe_7 : cX6_recipe.data.toList.drop 168 = dktX6_recipe_7 := dk_seg dksX6_recipe_6 24 rfl rfl
theorem dksX6_recipe_8 : cX6_recipe.data.toList.drop 190 = dktX6_recipe_8 := dk_seg dksX6_recipe_7 22 rfl rfl
theorem dksX6_recipe_9 : cX6_recipe.data.toList.drop 214 = dktX6_recipe_9 := dk_seg dksX6_recipe_8 24 rfl rfl
theorem dksX6_recipe_10 : cX6_recipe.data.toList.drop 238 = dktX6_recipe_10 := dk_seg dksX6_recipe_9 24 rfl rfl
theorem dX6_recipe_0 : decode cX6_recipe 0 = .ok (.aload_n 0, 1) := dk_42 (dk_at dksX6_recipe_0 0 rfl rfl)
theorem dX6_recipe_1 : decode cX6_recipe 1 = .ok (.iconst 0, 1) := dk_3 (dk_at dksX6_recipe_0 1 rfl rfl)
theorem dX6_recipe_2 : decode cX6_recipe 2 = .ok (.putfield 112, 3) := dk_181 0 112 (dk_at dksX6_recipe_0 2 rfl rfl)
theorem dX6_recipe_5 : decode cX6_recipe 5 = .ok (.aload_n 0, 1) := dk_42 (dk_at dksX6_recipe_0 5 rfl rfl)
theorem dX6_recipe_6 : decode cX6_recipe 6 = .ok (.getfield 13, 3) := dk_180 0 13 (dk_at dksX6_recipe_0 6 rfl rfl)
theorem dX6_recipe_9 : decode cX6_recipe 9 = .ok (.iconst 1, 1) := dk_4 (dk_at dksX6_recipe_0 9 rfl rfl)
theorem dX6_recipe_10 : decode cX6_recipe 10 = .ok (.iaload, 1) := dk_46 (dk_at dksX6_recipe_0 10 rfl rfl)
theorem dX6_recipe_11 : decode cX6_recipe 11 = .ok (.bipush 8, 2) := dk_16 8 (dk_at dksX6_recipe_0 11 rfl rfl)
theorem dX6_recipe_13 : decode cX6_recipe 13 = .ok (.if_icmp .ne 15, 3) := dk_160 0 15 (dk_at dksX6_recipe_0 13 rfl rfl)
theorem dX6_recipe_16 : decode cX6_recipe 16 = .ok (.aload_n 0, 1) := dk_42 (dk_at dksX6_recipe_0 16 rfl rfl)
theorem dX6_recipe_17 : decode cX6_recipe 17 = .ok (.iconst 0, 1) := dk_3 (dk_at dksX6_recipe_0 17 rfl rfl)
theorem dX6_recipe_18 : decode cX6_recipe 18 = .ok (.putfield 155, 3) := dk_181 0 155 (dk_at dksX6_recipe_0 18 rfl rfl)
theorem dX6_recipe_21 : decode cX6_recipe 21 = .ok (.aload_n 0, 1) := dk_42 (dk_at dksX6_recipe_0 21 rfl rfl)
theorem dX6_recipe_22 : decode cX6_recipe 22 = .ok (.bipush (-5), 2) := dk_16 251 (dk_at dksX6_recipe_0 22 rfl rfl)
theorem dX6_recipe_24 : decode cX6_recipe 24 = .ok (.invokevirtual 122, 3) := dk_182 0 122 (dk_at dksX6_recipe_1 0 rfl rfl)
theorem dX6_recipe_27 : decode cX6_recipe 27 = .ok (.ireturn, 1) := dk_172 (dk_at dksX6_recipe_1 3 rfl rfl)
theorem dX6_recipe_28 : decode cX6_recipe 28 = .ok (.aload_n 0, 1) := dk_42 (dk_at dksX6_recipe_1 4 rfl rfl)
theorem dX6_recipe_29 : decode cX6_recipe 29 = .ok (.invokevirtual 326, 3) := dk_182 1 70 (dk_at dksX6_recipe_1 5 rfl rfl)
theorem dX6_recipe_32 : decode cX6_recipe 32 = .ok (.aload_n 0, 1) := dk_42 (dk_at dksX6_recipe_1 8 rfl rfl)
theorem dX6_recipe_33 : decode cX6_recipe 33 = .ok (.iconst 0, 1) := dk_3 (dk_at dksX6_recipe_1 9 rfl rfl)
theorem dX6_recipe_34 : decode cX6_recipe 34 = .ok (.putfield 314, 3) := dk_181 1 58 (dk_at dksX6_recipe_1 10 rfl rfl)
theorem dX6_recipe_37 : decode cX6_recipe 37 = .ok (.aload_n 0, 1) := dk_42 (dk_at dksX6_recipe_1 13 rfl rfl)
theorem dX6_recipe_38 : decode cX6_recipe 38 = .ok (.iconst 0, 1) := dk_3 (dk_at dksX6_recipe_1 14 rfl rfl)
theorem dX6_recipe_39 : decode cX6_recipe 39 = .ok (.putfield 208, 3) := dk_181 0 208 (dk_at dksX6_recipe_1 15 rfl rfl)
theorem dX6_recipe_42 : decode cX6_recipe 42 = .ok (.aload_n 0, 1) := dk_42 (dk_at dksX6_recipe_1 18 rfl rfl)
theorem dX6_recipe_43 : decode cX6_recipe 43 = .ok (.iconst 0, 1) := dk_3 (dk_at dksX6_recipe_1 19 rfl rfl)
theorem dX6_recipe_44 : decode cX6_recipe 44 = .ok (.putfield 246, 3) := dk_181 0 246 (dk_at dksX6_recipe_1 20 rfl rfl)
theorem dX6_recipe_47 : decode cX6_recipe 47 = .ok (.aload_n 0, 1) := dk_42 (dk_at dksX6_recipe_1 23 rfl rfl)
theorem dX6_recipe_48 : decode cX6_recipe 48 = .ok (.invokevirtual 329, 3) := dk_182 1 73 (dk_at dksX6_recipe_2 0 rfl rfl)
theorem dX6_recipe_51 : decode cX6_recipe 51 = .ok (.aload_n 0, 1) := dk_42 (dk_at dksX6_recipe_2 3 rfl rfl)
theorem dX6_recipe_52 : decode cX6_recipe 52 = .ok (.getfield 165, 3) := dk_180 0 165 (dk_at dksX6_recipe_2 4 rfl rfl)
theorem dX6_recipe_55 : decode cX6_recipe 55 = .ok (.ifCond .ne 23, 3) := dk_154 0 23 (dk_at dksX6_recipe_2 7 rfl rfl)
theorem dX6_recipe_58 : decode cX6_recipe 58 = .ok (.aload_n 0, 1) := dk_42 (dk_at dksX6_recipe_2 10 rfl rfl)
theorem dX6_recipe_59 : decode cX6_recipe 59 = .ok (.bipush 59, 2) := dk_16 59 (dk_at dksX6_recipe_2 11 rfl rfl)
theorem dX6_recipe_61 : decode cX6_recipe 61 = .ok (.invokevirtual 249, 3) := dk_182 0 249 (dk_at dksX6_recipe_2 13 rfl rfl)
theorem dX6_recipe_64 : decode cX6_recipe 64 = .ok (.ifCond .eq 14, 3) := dk_153 0 14 (dk_at dksX6_recipe_2 16 rfl rfl)
theorem dX6_recipe_67 : decode cX6_recipe 67 = .ok (.aload_n 0, 1) := dk_42 (dk_at dksX6_recipe_2 19 rfl rfl)
theorem dX6_recipe_68 : decode cX6_recipe 68 = .ok (.invokevirtual 169, 3) := dk_182 0 169 (dk_at dksX6_recipe_2 20 rfl rfl)
theorem dX6_recipe_71 : decode cX6_recipe 71 = .ok (.aload_n 0, 1) := dk_42 (dk_at dksX6_recipe_2 23 rfl rfl)
theorem dX6_recipe_72 : decode cX6_recipe 72 = .ok (.invokevirtual 329, 3) := dk_182 1 73 (dk_at dksX6_recipe_3 0 rfl rfl)
theorem dX6_recipe_75 : decode cX6_recipe 75 = .ok (.goto (-24), 3) := dk_167 255 232 (dk_at dksX6_recipe_3 3 rfl rfl)
theorem dX6_recipe_78 : decode cX6_recipe 78 = .ok (.aload_n 0, 1) := dk_42 (dk_at dksX6_recipe_3 6 rfl rfl)
theorem dX6_recipe_79 : decode cX6_recipe 79 = .ok (.getfield 165, 3) := dk_180 0 165 (dk_at dksX6_recipe_3 7 rfl rfl)
theorem dX6_recipe_82 : decode cX6_recipe 82 = .ok (.ifCond .ne 14, 3) := dk_154 0 14 (dk_at dksX6_recipe_3 10 rfl rfl)
theorem dX6_recipe_85 : decode cX6_recipe 85 = .ok (.aload_n 0, 1) := dk_42 (dk_at dksX6_recipe_3 13 rfl rfl)
theorem dX6_recipe_86 : decode cX6_recipe 86 = .ok (.getfield 186, 3) := dk_180 0 186 (dk_at dksX6_recipe_3 14 rfl rfl)
theorem dX6_recipe_89 : decode cX6_recipe 89 = .ok (.ifCond .eq 7, 3) := dk_153 0 7 (dk_at dksX6_recipe_3 17 rfl rfl)
theorem dX6_recipe_92 : decode cX6_recipe 92 = .ok (.aload_n 0, 1) := dk_42 (dk_at dksX6_recipe_3 20 rfl rfl)
theorem dX6_recipe_93 : decode cX6_recipe 93 = .ok (.invokevirtual 201, 3) := dk_182 0 201 (dk_at dksX6_recipe_3 21 rfl rfl)
theorem dX6_recipe_96 : decode cX6_recipe 96 = .ok (.aload_n 0, 1) := dk_42 (dk_at dksX6_recipe_4 0 rfl rfl)
theorem dX6_recipe_97 : decode cX6_recipe 97 = .ok (.iconst 0, 1) := dk_3 (dk_at dksX6_recipe_4 1 rfl rfl)
theorem dX6_recipe_98 : decode cX6_recipe 98 = .ok (.putfield 155, 3) := dk_181 0 155 (dk_at dksX6_recipe_4 2 rfl rfl)
theorem dX6_recipe_101 : decode cX6_recipe 101 = .ok (.aload_n 0, 1) := dk_42 (dk_at dksX6_recipe_4 5 rfl rfl)
theorem dX6_recipe_102 : decode cX6_recipe 102 = .ok (.getfield 165, 3) := dk_180 0 165 (dk_at dksX6_recipe_4 6 rfl rfl)
theorem dX6_recipe_105 : decode cX6_recipe 105 = .ok (.ifCond .eq 10, 3) := dk_153 0 10 (dk_at dksX6_recipe_4 9 rfl rfl)
theorem dX6_recipe_108 : decode cX6_recipe 108 = .ok (.aload_n 0, 1) := dk_42 (dk_at dksX6_recipe_4 12 rfl rfl)
theorem dX6_recipe_109 : decode cX6_recipe 109 = .ok (.bipush (-6), 2) := dk_16 250 (dk_at dksX6_recipe_4 13 rfl rfl)
theorem dX6_recipe_111 : decode cX6_recipe 111 = .ok (.invokevirtual 122, 3) := dk_182 0 122 (dk_at dksX6_recipe_4 15 rfl rfl)
theorem dX6_recipe_114 : decode cX6_recipe 114 = .ok (.ireturn, 1) := dk_172 (dk_at dksX6_recipe_4 18 rfl rfl)
theorem dX6_recipe_115 : decode cX6_recipe 115 = .ok (.bipush 60, 2) := dk_16 60 (dk_at dksX6_recipe_4 19 rfl rfl)
theorem dX6_recipe_117 : decode cX6_recipe 117 = .ok (.sipush 1000, 3) := dk_17 3 232 (dk_at dksX6_recipe_4 21 rfl rfl)
theorem dX6_recipe_120 : decode cX6_recipe 120 = .ok (.aload_n 0, 1) := dk_42 (dk_at dksX6_recipe_5 0 rfl rfl)
theorem dX6_recipe_121 : decode cX6_recipe 121 = .ok (.getfield 13, 3) := dk_180 0 13 (dk_at dksX6_recipe_5 1 rfl rfl)
theorem dX6_recipe_124 : decode cX6_recipe 124 = .ok (.iconst 1, 1) := dk_4 (dk_at dksX6_recipe_5 4 rfl rfl)
theorem dX6_recipe_125 : decode cX6_recipe 125 = .ok (.iaload, 1) := dk_46 (dk_at dksX6_recipe_5 5 rfl rfl)
theorem dX6_recipe_126 : decode cX6_recipe 126 = .ok (.imul, 1) := dk_104 (dk_at dksX6_recipe_5 6 rfl rfl)
theorem dX6_recipe_127 : decode cX6_recipe 127 = .ok (.iadd, 1) := dk_96 (dk_at dksX6_recipe_5 7 rfl rfl)
theorem dX6_recipe_128 : decode cX6_recipe 128 = .ok (.istore_n 1, 1) := dk_60 (dk_at dksX6_recipe_5 8 rfl rfl)
theorem dX6_recipe_129 : decode cX6_recipe 129 = .ok (.aload_n 0, 1) := dk_42 (dk_at dksX6_recipe_5 9 rfl rfl)
theorem dX6_recipe_130 : decode cX6_recipe 130 = .ok (.getfield 13, 3) := dk_180 0 13 (dk_at dksX6_recipe_5 10 rfl rfl)
theorem dX6_recipe_133 : decode cX6_recipe 133 = .ok (.iload_n 1, 1) := dk_27 (dk_at dksX6_recipe_5 13 rfl rfl)
theorem dX6_recipe_134 : decode cX6_recipe 134 = .ok (.aload_n 0, 1) := dk_42 (dk_at dksX6_recipe_5 14 rfl rfl)
theorem dX6_recipe_135 : decode cX6_recipe 135 = .ok (.getfield 314, 3) := dk_180 1 58 (dk_at dksX6_recipe_5 15 rfl rfl)
theorem dX6_recipe_138 : decode cX6_recipe 138 = .ok (.iastore, 1) := dk_79 (dk_at dksX6_recipe_5 18 rfl rfl)
theorem dX6_recipe_139 : decode cX6_recipe 139 = .ok (.iconst 0, 1) := dk_3 (dk_at dksX6_recipe_5 19 rfl rfl)
theorem dX6_recipe_140 : decode cX6_recipe 140 = .ok (.istore_n 2, 1) := dk_61 (dk_at dksX6_recipe_5 20 rfl rfl)
theorem dX6_recipe_141 : decode cX6_recipe 141 = .ok (.iload_n 2, 1) := dk_28 (dk_at dksX6_recipe_5 21 rfl rfl)
theorem dX6_recipe_142 : decode cX6_recipe 142 = .ok (.bipush 10, 2) := dk_16 10 (dk_at dksX6_recipe_5 22 rfl rfl)
theorem dX6_recipe_144 : decode cX6_recipe 144 = .ok (.aload_n 0, 1) := dk_42 (dk_at dksX6_recipe_6 0 rfl rfl)
theorem dX6_recipe_145 : decode cX6_recipe 145 = .ok (.getfield 314, 3) := dk_180 1 58 (dk_at dksX6_recipe_6 1 rfl rfl)
theorem dX6_recipe_148 : decode cX6_recipe 148 = .ok (.imul, 1) := dk_104 (dk_at dksX6_recipe_6 4 rfl rfl)
theorem dX6_recipe_149 : decode cX6_recipe 149 = .ok (.if_icmp .ge 26, 3) := dk_162 0 26 (dk_at dksX6_recipe_6 5 rfl rfl)
theorem dX6_recipe_152 : decode cX6_recipe 152 = .ok (.aload_n 0, 1) := dk_42 (dk_at dksX6_recipe_6 8 rfl rfl)
theorem dX6_recipe_153 : decode cX6_recipe 153 = .ok (.getfield 13, 3) := dk_180 0 13 (dk_at dksX6_recipe_6 9 rfl rfl)
theorem dX6_recipe_156 : decode cX6_recipe 156 = .ok (.iload_n 1, 1) := dk_27 (dk_at dksX6_recipe_6 12 rfl rfl)
theorem dX6_recipe_157 : decode cX6_recipe 157 = .ok (.bipush 10, 2) := dk_16 10 (dk_at dksX6_recipe_6 13 rfl rfl)
theorem dX6_recipe_159 : decode cX6_recipe 159 = .ok (.iadd, 1) := dk_96 (dk_at dksX6_recipe_6 15 rfl rfl)
theorem dX6_recipe_160 : decode cX6_recipe 160 = .ok (.iload_n 2, 1) := dk_28 (dk_at dksX6_recipe_6 16 rfl rfl)
theorem dX6_recipe_161 : decode cX6_recipe 161 = .ok (.iadd, 1) := dk_96 (dk_at dksX6_recipe_6 17 rfl rfl)
theorem dX6_recipe_162 : decode cX6_recipe 162 = .ok (.aload_n 0, 1) := dk_42 (dk_at dksX6_recipe_6 18 rfl rfl)
theorem dX6_recipe_163 : decode cX6_recipe 163 = .ok (.getfield 39, 3) := dk_180 0 39 (dk_at dksX6_recipe_6 19 rfl rfl)
theorem dX6_recipe_166 : decode cX6_recipe 166 = .ok (.iload_n 2, 1) := dk_28 (dk_at dksX6_recipe_6 22 rfl rfl)
theorem dX6_recipe_167 : decode cX6_recipe 167 = .ok (.iaload, 1) := dk_46 (dk_at dksX6_recipe_6 23 rfl rfl)
theorem dX6_recipe_168 : decode cX6_recipe 168 = .ok (.iastore, 1) := dk_79 (dk_at dksX6_recipe_7 0 rfl rfl)
theorem dX6_recipe_169 : decode cX6_recipe 169 = .ok (.iinc 2 1, 3) := dk_132 2 1 (dk_at dksX6_recipe_7 1 rfl rfl)
theorem dX6_recipe_172 : decode cX6_recipe 172 = .ok (.goto (-31), 3) := dk_167 255 225 (dk_at dksX6_recipe_7 4 rfl rfl)
theorem dX6_recipe_175 : decode cX6_recipe 175 = .ok (.iconst 0, 1) := dk_3 (dk_at dksX6_recipe_7 7 rfl rfl)
theorem dX6_recipe_176 : decode cX6_recipe 176 = .ok (.istore_n 2, 1) := dk_61 (dk_at dksX6_recipe_7 8 rfl rfl)
theorem dX6_recipe_177 : decode cX6_recipe 177 = .ok (.iload_n 2, 1) := dk_28 (dk_at dksX6_recipe_7 9 rfl rfl)
theorem dX6_recipe_178 : decode cX6_recipe 178 = .ok (.aload_n 0, 1) := dk_42 (dk_at dksX6_recipe_7 10 rfl rfl)
theorem dX6_recipe_179 : decode cX6_recipe 179 = .ok (.getfield 208, 3) := dk_180 0 208 (dk_at dksX6_recipe_7 11 rfl rfl)
theorem dX6_recipe_182 : decode cX6_recipe 182 = .ok (.if_icmp .ge 51, 3) := dk_162 0 51 (dk_at dksX6_recipe_7 14 rfl rfl)
theorem dX6_recipe_185 : decode cX6_recipe 185 = .ok (.aload_n 0, 1) := dk_42 (dk_at dksX6_recipe_7 17 rfl rfl)
theorem dX6_recipe_186 : decode cX6_recipe 186 = .ok (.getfield 13, 3) := dk_180 0 13 (dk_at dksX6_recipe_7 18 rfl rfl)
theorem dX6_recipe_189 : decode cX6_recipe 189 = .ok (.iload_n 1, 1) := dk_27 (dk_at dksX6_recipe_7 21 rfl rfl)
theorem dX6_recipe_190 : decode cX6_recipe 190 = .ok (.sipush 180, 3) := dk_17 0 180 (dk_at dksX6_recipe_8 0 rfl rfl)
theorem dX6_recipe_193 : decode cX6_recipe 193 = .ok (.iadd, 1) := dk_96 (dk_at dksX6_recipe_8 3 rfl rfl)
theorem dX6_recipe_194 : decode cX6_recipe 194 = .ok (.iconst 2, 1) := dk_5 (dk_at dksX6_recipe_8 4 rfl rfl)
theorem dX6_recipe_195 : decode cX6_recipe 195 = .ok (.iload_n 2, 1) := dk_28 (dk_at dksX6_recipe_8 5 rfl rfl)
theorem dX6_recipe_196 : decode cX6_recipe 196 = .ok (.imul, 1) := dk_104 (dk_at dksX6_recipe_8 6 rfl rfl)
theorem dX6_recipe_197 : decode cX6_recipe 197 = .ok (.iadd, 1) := dk_96 (dk_at dksX6_recipe_8 7 rfl rfl)
theorem dX6_recipe_198 : decode cX6_recipe 198 = .ok (.aload_n 0, 1) := dk_42 (dk_at dksX6_recipe_8 8 rfl rfl)
theorem dX6_recipe_199 : decode cX6_recipe 199 = .ok (.getfield 30, 3) := dk_180 0 30 (dk_at dksX6_recipe_8 9 rfl rfl)
theorem dX6_recipe_202 : decode cX6_recipe 202 = .ok (.iload_n 2, 1) := dk_28 (dk_at dksX6_recipe_8 12 rfl rfl)
theorem dX6_recipe_203 : decode cX6_recipe 203 = .ok (.iaload, 1) := dk_46 (dk_at dksX6_recipe_8 13 rfl rfl)
theorem dX6_recipe_204 : decode cX6_recipe 204 = .ok (.iastore, 1) := dk_79 (dk_at dksX6_recipe_8 14 rfl rfl)
theorem dX6_recipe_205 : decode cX6_recipe 205 = .ok (.aload_n 0, 1) := dk_42 (dk_at dksX6_recipe_8 15 rfl rfl)
theorem dX6_recipe_206 : decode cX6_recipe 206 = .ok (.getfield 13, 3) := dk_180 0 13 (dk_at dksX6_recipe_8 16 rfl rfl)
theorem dX6_recipe_209 : decode cX6_recipe 209 = .ok (.iload_n 1, 1) := dk_27 (dk_at dksX6_recipe_8 19 rfl rfl)
theorem dX6_recipe_210 : decode cX6_recipe 210 = .ok (.sipush 180, 3) := dk_17 0 180 (dk_at dksX6_recipe_8 20 rfl rfl)
theorem dX6_recipe_213 : decode cX6_recipe 213 = .ok (.iadd, 1) := dk_96 (dk_at dksX6_recipe_8 23 rfl rfl)
theorem dX6_recipe_214 : decode cX6_recipe 214 = .ok (.iconst 2, 1) := dk_5 (dk_at dksX6_recipe_9 0 rfl rfl)
theorem dX6_recipe_215 : decode cX6_recipe 215 = .ok (.iload_n 2, 1) := dk_28 (dk_at dksX6_recipe_9 1 rfl rfl)
theorem dX6_recipe_216 : decode cX6_recipe 216 = .ok (.imul, 1) := dk_104 (dk_at dksX6_recipe_9 2 rfl rfl)
theorem dX6_recipe_217 : decode cX6_recipe 217 = .ok (.iadd, 1) := dk_96 (dk_at dksX6_recipe_9 3 rfl rfl)
theorem dX6_recipe_218 : decode cX6_recipe 218 = .ok (.iconst 1, 1) := dk_4 (dk_at dksX6_recipe_9 4 rfl rfl)
theorem dX6_recipe_219 : decode cX6_recipe 219 = .ok (.iadd, 1) := dk_96 (dk_at dksX6_recipe_9 5 rfl rfl)
theorem dX6_recipe_220 : decode cX6_recipe 220 = .ok (.aload_n 0, 1) := dk_42 (dk_at dksX6_recipe_9 6 rfl rfl)
theorem dX6_recipe_221 : decode cX6_recipe 221 = .ok (.getfield 33, 3) := dk_180 0 33 (dk_at dksX6_recipe_9 7 rfl rfl)
theorem dX6_recipe_224 : decode cX6_recipe 224 = .ok (.iload_n 2, 1) := dk_28 (dk_at dksX6_recipe_9 10 rfl rfl)
theorem dX6_recipe_225 : decode cX6_recipe 225 = .ok (.iaload, 1) := dk_46 (dk_at dksX6_recipe_9 11 rfl rfl)
theorem dX6_recipe_226 : decode cX6_recipe 226 = .ok (.iastore, 1) := dk_79 (dk_at dksX6_recipe_9 12 rfl rfl)
theorem dX6_recipe_227 : decode cX6_recipe 227 = .ok (.iinc 2 1, 3) := dk_132 2 1 (dk_at dksX6_recipe_9 13 rfl rfl)
theorem dX6_recipe_230 : decode cX6_recipe 230 = .ok (.goto (-53), 3) := dk_167 255 203 (dk_at dksX6_recipe_9 16 rfl rfl)
theorem dX6_recipe_233 : decode cX6_recipe 233 = .ok (.aload_n 0, 1) := dk_42 (dk_at dksX6_recipe_9 19 rfl rfl)
theorem dX6_recipe_234 : decode cX6_recipe 234 = .ok (.getfield 13, 3) := dk_180 0 13 (dk_at dksX6_recipe_9 20 rfl rfl)
theorem dX6_recipe_237 : decode cX6_recipe 237 = .ok (.iconst 1, 1) := dk_4 (dk_at dksX6_recipe_9 23 rfl rfl)
theorem dX6_recipe_238 : decode cX6_recipe 238 = .ok (.dup2, 1) := dk_92 (dk_at dksX6_recipe_10 0 rfl rfl)
theorem dX6_recipe_239 : decode cX6_recipe 239 = .ok (.iaload, 1) := dk_46 (dk_at dksX6_recipe_10 1 rfl rfl)
theorem dX6_recipe_240 : decode cX6_recipe 240 = .ok (.iconst 1, 1) := dk_4 (dk_at dksX6_recipe_10 2 rfl rfl)
theorem dX6_recipe_241 : decode cX6_recipe 241 = .ok (.iadd, 1) := dk_96 (dk_at dksX6_recipe_10 3 rfl rfl)
theorem dX6_recipe_242 : decode cX6_recipe 242 = .ok (.iastore, 1) := dk_79 (dk_at dksX6_recipe_10 4 rfl rfl)
theorem dX6_recipe_243 : decode cX6_recipe 243 = .ok (.aload_n 0, 1) := dk_42 (dk_at dksX6_recipe_10 5 rfl rfl)
theorem dX6_recipe_244 : decode cX6_recipe 244 = .ok (.aload_n 0, 1) := dk_42 (dk_at dksX6_recipe_10 6 rfl rfl)
theorem dX6_recipe_245 : decode cX6_recipe 245 = .ok (.getfield 13, 3) := dk_180 0 13 (dk_at dksX6_recipe_10 7 rfl rfl)
theorem dX6_recipe_248 : decode cX6_recipe 248 = .ok (.iconst 1, 1) := dk_4 (dk_at dksX6_recipe_10 10 rfl rfl)
theorem dX6_recipe_249 : decode cX6_recipe 249 = .ok (.iaload, 1) := dk_46 (dk_at dksX6_recipe_10 11 rfl rfl)
theorem dX6_recipe_250 : decode cX6_recipe 250 = .ok (.iconst 1, 1) := dk_4 (dk_at dksX6_recipe_10 12 rfl rfl)
theorem dX6_recipe_251 : decode cX6_recipe 251 = .ok (.isub, 1) := dk_100 (dk_at dksX6_recipe_10 13 rfl rfl)
theorem dX6_recipe_252 : decode cX6_recipe 252 = .ok (.invokevirtual 122, 3) := dk_182 0 122 (dk_at dksX6_recipe_10 14 rfl rfl)
theorem dX6_recipe_255 : decode cX6_recipe 255 = .ok (.ireturn, 1) := dk_172 (dk_at dksX6_recipe_10 17 rfl rfl)
abbrev cX6_begin : ByteArray := prog_28_method_21_code
def yX6_begin : MethodName := ⟨RX6, "begin", "()V"⟩
def dkwX6_begin_0 : List UInt8 := [42, 3, 181, 0, 162, 42, 3, 181, 0, 165, 42, 2, 181, 0, 26, 42, 182, 0, 169, 177]
abbrev dktX6_begin_0 : List UInt8 := dkwX6_begin_0 ++ []
theorem dksX6_begin_0 : cX6_begin.data.toList.drop 0 = dktX6_begin_0 := by decide +kernel
theorem dX6_begin_0 : decode cX6_begin 0 = .ok (.aload_n 0, 1) := dk_42 (dk_at dksX6_begin_0 0 rfl rfl)
theorem dX6_begin_1 : decode cX6_begin 1 = .ok (.iconst 0, 1) := dk_3 (dk_at dksX6_begin_0 1 rfl rfl)
theorem dX6_begin_2 : decode cX6_begin 2 = .ok (.putfield 162, 3) := dk_181 0 162 (dk_at dksX6_begin_0 2 rfl rfl)
theorem dX6_begin_5 : decode cX6_begin 5 = .ok (.aload_n 0, 1) := dk_42 (dk_at dksX6_begin_0 5 rfl rfl)
theorem dX6_begin_6 : decode cX6_begin 6 = .ok (.iconst 0, 1) := dk_3 (dk_at dksX6_begin_0 6 rfl rfl)
theorem dX6_begin_7 : decode cX6_begin 7 = .ok (.putfield 165, 3) := dk_181 0 165 (dk_at dksX6_begin_0 7 rfl rfl)
theorem dX6_begin_10 : decode cX6_begin 10 = .ok (.aload_n 0, 1) := dk_42 (dk_at dksX6_begin_0 10 rfl rfl)
theorem dX6_begin_11 : decode cX6_begin 11 = .ok (.iconst (-1), 1) := dk_2 (dk_at dksX6_begin_0 11 rfl rfl)
theorem dX6_begin_12 : decode cX6_begin 12 = .ok (.putfield 26, 3) := dk_181 0 26 (dk_at dksX6_begin_0 12 rfl rfl)
theorem dX6_begin_15 : decode cX6_begin 15 = .ok (.aload_n 0, 1) := dk_42 (dk_at dksX6_begin_0 15 rfl rfl)
theorem dX6_begin_16 : decode cX6_begin 16 = .ok (.invokevirtual 169, 3) := dk_182 0 169 (dk_at dksX6_begin_0 16 rfl rfl)
theorem dX6_begin_19 : decode cX6_begin 19 = .ok (.return_, 1) := dk_177 (dk_at dksX6_begin_0 19 rfl rfl)
abbrev cX6_next : ByteArray := prog_28_method_22_code
def yX6_next : MethodName := ⟨RX6, "next", "()V"⟩
def dkwX6_next_14 : List UInt8 := [181, 0, 162, 167, 255, 167, 177]
abbrev dktX6_next_14 : List UInt8 := dkwX6_next_14 ++ []
def dkwX6_next_13 : List UInt8 := [180, 0, 23, 42, 180, 0, 162, 46, 133, 97, 20, 0, 199, 101, 181, 0, 175, 42, 89, 180, 0, 162, 4, 96]
abbrev dktX6_next_13 : List UInt8 := dkwX6_next_13 ++ dktX6_next_14
def dkwX6_next_12 : List UInt8 := [20, 0, 195, 148, 158, 0, 10, 42, 180, 0, 175, 167, 0, 26, 42, 180, 0, 175, 20, 0, 197, 105, 42]
abbrev dktX6_next_12 : List UInt8 := dkwX6_next_12 ++ dktX6_next_13
def dkwX6_next_11 : List UInt8 := [162, 0, 76, 42, 180, 0, 23, 42, 180, 0, 162, 46, 184, 0, 183, 153, 0, 61, 42, 42, 180, 0, 175]
abbrev dktX6_next_11 : List UInt8 := dkwX6_next_11 ++ dktX6_next_12
def dkwX6_next_10 : List UInt8 := [4, 96, 181, 0, 162, 167, 255, 165, 42, 180, 0, 186, 5, 160, 0, 87, 42, 180, 0, 162, 42, 180, 0, 155]
abbrev dktX6_next_10 : List UInt8 := dkwX6_next_10 ++ dktX6_next_11
def dkwX6_next_9 : List UInt8 := [180, 0, 162, 46, 133, 97, 20, 0, 191, 101, 167, 0, 6, 20, 0, 193, 181, 0, 175, 42, 89, 180, 0, 162]
abbrev dktX6_next_9 : List UInt8 := dkwX6_next_9 ++ dktX6_next_10
def dkwX6_next_8 : List UInt8 := [180, 0, 172, 100, 16, 10, 162, 0, 29, 42, 180, 0, 175, 20, 0, 189, 105, 42, 180, 0, 23, 42]
abbrev dktX6_next_8 : List UInt8 := dkwX6_next_8 ++ dktX6_next_9
def dkwX6_next_7 : List UInt8 := [162, 0, 78, 42, 180, 0, 23, 42, 180, 0, 162, 46, 184, 0, 179, 153, 0, 63, 42, 42, 180, 0, 162, 42]
abbrev dktX6_next_7 : List UInt8 := dkwX6_next_7 ++ dktX6_next_8
def dkwX6_next_6 : List UInt8 := [180, 0, 162, 4, 96, 181, 0, 162, 42, 180, 0, 186, 4, 160, 0, 89, 42, 180, 0, 162, 42, 180, 0, 155]
abbrev dktX6_next_6 : List UInt8 := dkwX6_next_6 ++ dktX6_next_7
def dkwX6_next_5 : List UInt8 := [180, 0, 186, 6, 160, 0, 27, 42, 42, 180, 0, 23, 42, 180, 0, 172, 46, 133, 181, 0, 175, 42, 89]
abbrev dktX6_next_5 : List UInt8 := dkwX6_next_5 ++ dktX6_next_6
def dkwX6_next_4 : List UInt8 := [180, 0, 23, 42, 180, 0, 172, 46, 184, 0, 183, 153, 0, 7, 5, 167, 0, 4, 6, 181, 0, 186, 42]
abbrev dktX6_next_4 : List UInt8 := dkwX6_next_4 ++ dktX6_next_5
def dkwX6_next_3 : List UInt8 := [167, 0, 42, 42, 180, 0, 23, 42, 180, 0, 172, 46, 184, 0, 179, 153, 0, 7, 4, 167, 0, 23, 42]
abbrev dktX6_next_3 : List UInt8 := dkwX6_next_3 ++ dktX6_next_4
def dkwX6_next_2 : List UInt8 := [180, 0, 172, 181, 0, 162, 42, 9, 181, 0, 175, 42, 42, 180, 0, 172, 42, 180, 0, 155, 160, 0, 7, 3]
abbrev dktX6_next_2 : List UInt8 := dkwX6_next_2 ++ dktX6_next_3
def dkwX6_next_1 : List UInt8 := [180, 0, 172, 46, 16, 32, 160, 0, 16, 42, 89, 180, 0, 172, 4, 96, 181, 0, 172, 167, 255, 221, 42, 42]
abbrev dktX6_next_1 : List UInt8 := dkwX6_next_1 ++ dktX6_next_2
def dkwX6_next_0 : List UInt8 := [42, 42, 180, 0, 162, 181, 0, 172, 42, 180, 0, 172, 42, 180, 0, 155, 162, 0, 30, 42, 180, 0, 23, 42]
abbrev dktX6_next_0 : List UInt8 := dkwX6_next_0 ++ dktX6_next_1
theorem dksX6_next_0 : cX6_next.data.toList.drop 0 = dktX6_next_0 := by decide +kernel
theorem dksX6_next_1 : cX6_next.data.toList.drop 24 = dktX6_next_1 := dk_seg dksX6_next_0 24 rfl rfl
theorem dksX6_next_2 : cX6_next.data.toList.drop 48 = dktX6_next_2 := dk_seg dksX6_next_1 24 rfl rfl
theorem dksX6_next_3 : cX6_next.data.toList.drop 72 = dktX6_next_3 := dk_seg dksX6_next_2 24 rfl rfl
theorem dksX6_next_4 : cX6_next.data.toList.drop 95 = dktX6_next_4 := dk_seg dksX6_next_3 23 rfl rfl
theorem dksX6_next_5 : cX6_next.data.toList.drop 118 = dktX6_next_5 := dk_seg dksX6_next_4 23 rfl rfl
theorem dksX6_next_6 : cX6_next.data.toList.drop 141 = dktX6_next_6 := dk_seg dksX6_next_5 23 rfl rfl
theorem dksX6_next_7 : cX6_next.data.toList.drop 165 = dktX6_next_7 := dk_seg dksX6_next_6 24 rfl rfl
theorem dksX6_next_8 : cX6_next.data.toList.drop 189 = dktX6_next_8 := dk_seg dksX6_next_7 24 rfl rfl
theorem dksX6_next_9 : cX6_next.data.toList.drop 211 = dktX6_next_9 := dk_seg dksX6_next_8 22 rfl rfl
theorem dksX6_next_10 : cX6_next.data.toList.drop 235 = dktX6_next_10 := dk_seg dksX6_next_9 24 rfl rfl
theorem dksX6_next_11 : cX6_next.data.toList.drop 259 = dktX6_next_11 := dk_seg dksX6_next_10 24 rfl rfl
theorem dksX6_next_12 : cX6_next.data.toList.drop 282 = dktX6_next_12 := dk_seg dksX6_next_11 23 rfl rfl
theorem dksX6_next_13 : cX6_next.data.toList.drop 305 = dktX6_next_13 := dk_seg dksX6_next_12 23 rfl rfl
theorem dksX6_next_14 : cX6_next.data.toList.drop 329 = dktX6_next_14 := dk_seg dksX6_next_13 24 rfl rfl
theorem dX6_next_0 : decode cX6_next 0 = .ok (.aload_n 0, 1) := dk_42 (dk_at dksX6_next_0 0 rfl rfl)
theorem dX6_next_1 : decode cX6_next 1 = .ok (.aload_n 0, 1) := dk_42 (dk_at dksX6_next_0 1 rfl rfl)
theorem dX6_next_2 : decode cX6_next 2 = .ok (.getfield 162, 3) := dk_180 0 162 (dk_at dksX6_next_0 2 rfl rfl)
theorem dX6_next_5 : decode cX6_next 5 = .ok (.putfield 172, 3) := dk_181 0 172 (dk_at dksX6_next_0 5 rfl rfl)
theorem dX6_next_8 : decode cX6_next 8 = .ok (.aload_n 0, 1) := dk_42 (dk_at dksX6_next_0 8 rfl rfl)
theorem dX6_next_9 : decode cX6_next 9 = .ok (.getfield 172, 3) := dk_180 0 172 (dk_at dksX6_next_0 9 rfl rfl)
theorem dX6_next_12 : decode cX6_next 12 = .ok (.aload_n 0, 1) := dk_42 (dk_at dksX6_next_0 12 rfl rfl)
theorem dX6_next_13 : decode cX6_next 13 = .ok (.getfield 155, 3) := dk_180 0 155 (dk_at dksX6_next_0 13 rfl rfl)
theorem dX6_next_16 : decode cX6_next 16 = .ok (.if_icmp .ge 30, 3) := dk_162 0 30 (dk_at dksX6_next_0 16 rfl rfl)
theorem dX6_next_19 : decode cX6_next 19 = .ok (.aload_n 0, 1) := dk_42 (dk_at dksX6_next_0 19 rfl rfl)
theorem dX6_next_20 : decode cX6_next 20 = .ok (.getfield 23, 3) := dk_180 0 23 (dk_at dksX6_next_0 20 rfl rfl)
theorem dX6_next_23 : decode cX6_next 23 = .ok (.aload_n 0, 1) := dk_42 (dk_at dksX6_next_0 23 rfl rfl)
theorem dX6_next_24 : decode cX6_next 24 = .ok (.getfield 172, 3) := dk_180 0 172 (dk_at dksX6_next_1 0 rfl rfl)
theorem dX6_next_27 : decode cX6_next 27 = .ok (.iaload, 1) := dk_46 (dk_at dksX6_next_1 3 rfl rfl)
theorem dX6_next_28 : decode cX6_next 28 = .ok (.bipush 32, 2) := dk_16 32 (dk_at dksX6_next_1 4 rfl rfl)
theorem dX6_next_30 : decode cX6_next 30 = .ok (.if_icmp .ne 16, 3) := dk_160 0 16 (dk_at dksX6_next_1 6 rfl rfl)
theorem dX6_next_33 : decode cX6_next 33 = .ok (.aload_n 0, 1) := dk_42 (dk_at dksX6_next_1 9 rfl rfl)
theorem dX6_next_34 : decode cX6_next 34 = .ok (.dup, 1) := dk_89 (dk_at dksX6_next_1 10 rfl rfl)
theorem dX6_next_35 : decode cX6_next 35 = .ok (.getfield 172, 3) := dk_180 0 172 (dk_at dksX6_next_1 11 rfl rfl)
theorem dX6_next_38 : decode cX6_next 38 = .ok (.iconst 1, 1) := dk_4 (dk_at dksX6_next_1 14 rfl rfl)
theorem dX6_next_39 : decode cX6_next 39 = .ok (.iadd, 1) := dk_96 (dk_at dksX6_next_1 15 rfl rfl)
theorem dX6_next_40 : decode cX6_next 40 = .ok (.putfield 172, 3) := dk_181 0 172 (dk_at dksX6_next_1 16 rfl rfl)
theorem dX6_next_43 : decode cX6_next 43 = .ok (.goto (-35), 3) := dk_167 255 221 (dk_at dksX6_next_1 19 rfl rfl)
theorem dX6_next_46 : decode cX6_next 46 = .ok (.aload_n 0, 1) := dk_42 (dk_at dksX6_next_1 22 rfl rfl)
theorem dX6_next_47 : decode cX6_next 47 = .ok (.aload_n 0, 1) := dk_42 (dk_at dksX6_next_1 23 rfl rfl)
theorem dX6_next_48 : decode cX6_next 48 = .ok (.getfield 172, 3) := dk_180 0 172 (dk_at dksX6_next_2 0 rfl rfl)
theorem dX6_next_51 : decode cX6_next 51 = .ok (.putfield 162, 3) := dk_181 0 162 (dk_at dksX6_next_2 3 rfl rfl)
theorem dX6_next_54 : decode cX6_next 54 = .ok (.aload_n 0, 1) := dk_42 (dk_at dksX6_next_2 6 rfl rfl)
theorem dX6_next_55 : decode cX6_next 55 = .ok (.lconst 0, 1) := dk_9 (dk_at dksX6_next_2 7 rfl rfl)
theorem dX6_next_56 : decode cX6_next 56 = .ok (.putfield 175, 3) := dk_181 0 175 (dk_at dksX6_next_2 8 rfl rfl)
theorem dX6_next_59 : decode cX6_next 59 = .ok (.aload_n 0, 1) := dk_42 (dk_at dksX6_next_2 11 rfl rfl)
theorem dX6_next_60 : decode cX6_next 60 = .ok (.aload_n 0, 1) := dk_42 (dk_at dksX6_next_2 12 rfl rfl)
theorem dX6_next_61 : decode cX6_next 61 = .ok (.getfield 172, 3) := dk_180 0 172 (dk_at dksX6_next_2 13 rfl rfl)
theorem dX6_next_64 : decode cX6_next 64 = .ok (.aload_n 0, 1) := dk_42 (dk_at dksX6_next_2 16 rfl rfl)
theorem dX6_next_65 : decode cX6_next 65 = .ok (.getfield 155, 3) := dk_180 0 155 (dk_at dksX6_next_2 17 rfl rfl)
theorem dX6_next_68 : decode cX6_next 68 = .ok (.if_icmp .ne 7, 3) := dk_160 0 7 (dk_at dksX6_next_2 20 rfl rfl)
theorem dX6_next_71 : decode cX6_next 71 = .ok (.iconst 0, 1) := dk_3 (dk_at dksX6_next_2 23 rfl rfl)
theorem dX6_next_72 : decode cX6_next 72 = .ok (.goto 42, 3) := dk_167 0 42 (dk_at dksX6_next_3 0 rfl rfl)
theorem dX6_next_75 : decode cX6_next 75 = .ok (.aload_n 0, 1) := dk_42 (dk_at dksX6_next_3 3 rfl rfl)
theorem dX6_next_76 : decode cX6_next 76 = .ok (.getfield 23, 3) := dk_180 0 23 (dk_at dksX6_next_3 4 rfl rfl)
theorem dX6_next_79 : decode cX6_next 79 = .ok (.aload_n 0, 1) := dk_42 (dk_at dksX6_next_3 7 rfl rfl)
theorem dX6_next_80 : decode cX6_next 80 = .ok (.getfield 172, 3) := dk_180 0 172 (dk_at dksX6_next_3 8 rfl rfl)
theorem dX6_next_83 : decode cX6_next 83 = .ok (.iaload, 1) := dk_46 (dk_at dksX6_next_3 11 rfl rfl)
theorem dX6_next_84 : decode cX6_next 84 = .ok (.invokestatic 179, 3) := dk_184 0 179 (dk_at dksX6_next_3 12 rfl rfl)
theorem dX6_next_87 : decode cX6_next 87 = .ok (.ifCond .eq 7, 3) := dk_153 0 7 (dk_at dksX6_next_3 15 rfl rfl)
theorem dX6_next_90 : decode cX6_next 90 = .ok (.iconst 1, 1) := dk_4 (dk_at dksX6_next_3 18 rfl rfl)
theorem dX6_next_91 : decode cX6_next 91 = .ok (.goto 23, 3) := dk_167 0 23 (dk_at dksX6_next_3 19 rfl rfl)
theorem dX6_next_94 : decode cX6_next 94 = .ok (.aload_n 0, 1) := dk_42 (dk_at dksX6_next_3 22 rfl rfl)
theorem dX6_next_95 : decode cX6_next 95 = .ok (.getfield 23, 3) := dk_180 0 23 (dk_at dksX6_next_4 0 rfl rfl)
theorem dX6_next_98 : decode cX6_next 98 = .ok (.aload_n 0, 1) := dk_42 (dk_at dksX6_next_4 3 rfl rfl)
theorem dX6_next_99 : decode cX6_next 99 = .ok (.getfield 172, 3) := dk_180 0 172 (dk_at dksX6_next_4 4 rfl rfl)
theorem dX6_next_102 : decode cX6_next 102 = .ok (.iaload, 1) := dk_46 (dk_at dksX6_next_4 7 rfl rfl)
theorem dX6_next_103 : decode cX6_next 103 = .ok (.invokestatic 183, 3) := dk_184 0 183 (dk_at dksX6_next_4 8 rfl rfl)
theorem dX6_next_106 : decode cX6_next 106 = .ok (.ifCond .eq 7, 3) := dk_153 0 7 (dk_at dksX6_next_4 11 rfl rfl)
theorem dX6_next_109 : decode cX6_next 109 = .ok (.iconst 2, 1) := dk_5 (dk_at dksX6_next_4 14 rfl rfl)
theorem dX6_next_110 : decode cX6_next 110 = .ok (.goto 4, 3) := dk_167 0 4 (dk_at dksX6_next_4 15 rfl rfl)
theorem dX6_next_113 : decode cX6_next 113 = .ok (.iconst 3, 1) := dk_6 (dk_at dksX6_next_4 18 rfl rfl)
theorem dX6_next_114 : decode cX6_next 114 = .ok (.putfield 186, 3) := dk_181 0 186 (dk_at dksX6_next_4 19 rfl rfl)
theorem dX6_next_117 : decode cX6_next 117 = .ok (.aload_n 0, 1) := dk_42 (dk_at dksX6_next_4 22 rfl rfl)
theorem dX6_next_118 : decode cX6_next 118 = .ok (.getfield 186, 3) := dk_180 0 186 (dk_at dksX6_next_5 0 rfl rfl)
theorem dX6_next_121 : decode cX6_next 121 = .ok (.iconst 3, 1) := dk_6 (dk_at dksX6_next_5 3 rfl rfl)
theorem dX6_next_122 : decode cX6_next 122 = .ok (.if_icmp .ne 27, 3) := dk_160 0 27 (dk_at dksX6_next_5 4 rfl rfl)
theorem dX6_next_125 : decode cX6_next 125 = .ok (.aload_n 0, 1) := dk_42 (dk_at dksX6_next_5 7 rfl rfl)
theorem dX6_next_126 : decode cX6_next 126 = .ok (.aload_n 0, 1) := dk_42 (dk_at dksX6_next_5 8 rfl rfl)
theorem dX6_next_127 : decode cX6_next 127 = .ok (.getfield 23, 3) := dk_180 0 23 (dk_at dksX6_next_5 9 rfl rfl)
theorem dX6_next_130 : decode cX6_next 130 = .ok (.aload_n 0, 1) := dk_42 (dk_at dksX6_next_5 12 rfl rfl)
theorem dX6_next_131 : decode cX6_next 131 = .ok (.getfield 172, 3) := dk_180 0 172 (dk_at dksX6_next_5 13 rfl rfl)
theorem dX6_next_134 : decode cX6_next 134 = .ok (.iaload, 1) := dk_46 (dk_at dksX6_next_5 16 rfl rfl)
theorem dX6_next_135 : decode cX6_next 135 = .ok (.i2l, 1) := dk_133 (dk_at dksX6_next_5 17 rfl rfl)
theorem dX6_next_136 : decode cX6_next 136 = .ok (.putfield 175, 3) := dk_181 0 175 (dk_at dksX6_next_5 18 rfl rfl)
theorem dX6_next_139 : decode cX6_next 139 = .ok (.aload_n 0, 1) := dk_42 (dk_at dksX6_next_5 21 rfl rfl)
theorem dX6_next_140 : decode cX6_next 140 = .ok (.dup, 1) := dk_89 (dk_at dksX6_next_5 22 rfl rfl)
theorem dX6_next_141 : decode cX6_next 141 = .ok (.getfield 162, 3) := dk_180 0 162 (dk_at dksX6_next_6 0 rfl rfl)
theorem dX6_next_144 : decode cX6_next 144 = .ok (.iconst 1, 1) := dk_4 (dk_at dksX6_next_6 3 rfl rfl)
theorem dX6_next_145 : decode cX6_next 145 = .ok (.iadd, 1) := dk_96 (dk_at dksX6_next_6 4 rfl rfl)
theorem dX6_next_146 : decode cX6_next 146 = .ok (.putfield 162, 3) := dk_181 0 162 (dk_at dksX6_next_6 5 rfl rfl)
theorem dX6_next_149 : decode cX6_next 149 = .ok (.aload_n 0, 1) := dk_42 (dk_at dksX6_next_6 8 rfl rfl)
theorem dX6_next_150 : decode cX6_next 150 = .ok (.getfield 186, 3) := dk_180 0 186 (dk_at dksX6_next_6 9 rfl rfl)
theorem dX6_next_153 : decode cX6_next 153 = .ok (.iconst 1, 1) := dk_4 (dk_at dksX6_next_6 12 rfl rfl)
theorem dX6_next_154 : decode cX6_next 154 = .ok (.if_icmp .ne 89, 3) := dk_160 0 89 (dk_at dksX6_next_6 13 rfl rfl)
theorem dX6_next_157 : decode cX6_next 157 = .ok (.aload_n 0, 1) := dk_42 (dk_at dksX6_next_6 16 rfl rfl)
theorem dX6_next_158 : decode cX6_next 158 = .ok (.getfield 162, 3) := dk_180 0 162 (dk_at dksX6_next_6 17 rfl rfl)
theorem dX6_next_161 : decode cX6_next 161 = .ok (.aload_n 0, 1) := dk_42 (dk_at dksX6_next_6 20 rfl rfl)
theorem dX6_next_162 : decode cX6_next 162 = .ok (.getfield 155, 3) := dk_180 0 155 (dk_at dksX6_next_6 21 rfl rfl)
theorem dX6_next_165 : decode cX6_next 165 = .ok (.if_icmp .ge 78, 3) := dk_162 0 78 (dk_at dksX6_next_7 0 rfl rfl)
theorem dX6_next_168 : decode cX6_next 168 = .ok (.aload_n 0, 1) := dk_42 (dk_at dksX6_next_7 3 rfl rfl)
theorem dX6_next_169 : decode cX6_next 169 = .ok (.getfield 23, 3) := dk_180 0 23 (dk_at dksX6_next_7 4 rfl rfl)
theorem dX6_next_172 : decode cX6_next 172 = .ok (.aload_n 0, 1) := dk_42 (dk_at dksX6_next_7 7 rfl rfl)
theorem dX6_next_173 : decode cX6_next 173 = .ok (.getfield 162, 3) := dk_180 0 162 (dk_at dksX6_next_7 8 rfl rfl)
theorem dX6_next_176 : decode cX6_next 176 = .ok (.iaload, 1) := dk_46 (dk_at dksX6_next_7 11 rfl rfl)
theorem dX6_next_177 : decode cX6_next 177 = .ok (.invokestatic 179, 3) := dk_184 0 179 (dk_at dksX6_next_7 12 rfl rfl)
theorem dX6_next_180 : decode cX6_next 180 = .ok (.ifCond .eq 63, 3) := dk_153 0 63 (dk_at dksX6_next_7 15 rfl rfl)
theorem dX6_next_183 : decode cX6_next 183 = .ok (.aload_n 0, 1) := dk_42 (dk_at dksX6_next_7 18 rfl rfl)
theorem dX6_next_184 : decode cX6_next 184 = .ok (.aload_n 0, 1) := dk_42 (dk_at dksX6_next_7 19 rfl rfl)
theorem dX6_next_185 : decode cX6_next 185 = .ok (.getfield 162, 3) := dk_180 0 162 (dk_at dksX6_next_7 20 rfl rfl)
theorem dX6_next_188 : decode cX6_next 188 = .ok (.aload_n 0, 1) := dk_42 (dk_at dksX6_next_7 23 rfl rfl)
theorem dX6_next_189 : decode cX6_next 189 = .ok (.getfield 172, 3) := dk_180 0 172 (dk_at dksX6_next_8 0 rfl rfl)
theorem dX6_next_192 : decode cX6_next 192 = .ok (.isub, 1) := dk_100 (dk_at dksX6_next_8 3 rfl rfl)
theorem dX6_next_193 : decode cX6_next 193 = .ok (.bipush 10, 2) := dk_16 10 (dk_at dksX6_next_8 4 rfl rfl)
theorem dX6_next_195 : decode cX6_next 195 = .ok (.if_icmp .ge 29, 3) := dk_162 0 29 (dk_at dksX6_next_8 6 rfl rfl)
theorem dX6_next_198 : decode cX6_next 198 = .ok (.aload_n 0, 1) := dk_42 (dk_at dksX6_next_8 9 rfl rfl)
theorem dX6_next_199 : decode cX6_next 199 = .ok (.getfield 175, 3) := dk_180 0 175 (dk_at dksX6_next_8 10 rfl rfl)
theorem dX6_next_202 : decode cX6_next 202 = .ok (.ldc2_w 189, 3) := dk_20 0 189 (dk_at dksX6_next_8 13 rfl rfl)
theorem dX6_next_205 : decode cX6_next 205 = .ok (.lmul, 1) := dk_105 (dk_at dksX6_next_8 16 rfl rfl)
theorem dX6_next_206 : decode cX6_next 206 = .ok (.aload_n 0, 1) := dk_42 (dk_at dksX6_next_8 17 rfl rfl)
theorem dX6_next_207 : decode cX6_next 207 = .ok (.getfield 23, 3) := dk_180 0 23 (dk_at dksX6_next_8 18 rfl rfl)
theorem dX6_next_210 : decode cX6_next 210 = .ok (.aload_n 0, 1) := dk_42 (dk_at dksX6_next_8 21 rfl rfl)
theorem dX6_next_211 : decode cX6_next 211 = .ok (.getfield 162, 3) := dk_180 0 162 (dk_at dksX6_next_9 0 rfl rfl)
theorem dX6_next_214 : decode cX6_next 214 = .ok (.iaload, 1) := dk_46 (dk_at dksX6_next_9 3 rfl rfl)
theorem dX6_next_215 : decode cX6_next 215 = .ok (.i2l, 1) := dk_133 (dk_at dksX6_next_9 4 rfl rfl)
theorem dX6_next_216 : decode cX6_next 216 = .ok (.ladd, 1) := dk_97 (dk_at dksX6_next_9 5 rfl rfl)
theorem dX6_next_217 : decode cX6_next 217 = .ok (.ldc2_w 191, 3) := dk_20 0 191 (dk_at dksX6_next_9 6 rfl rfl)
theorem dX6_next_220 : decode cX6_next 220 = .ok (.lsub, 1) := dk_101 (dk_at dksX6_next_9 9 rfl rfl)
theorem dX6_next_221 : decode cX6_next 221 = .ok (.goto 6, 3) := dk_167 0 6 (dk_at dksX6_next_9 10 rfl rfl)
theorem dX6_next_224 : decode cX6_next 224 = .ok (.ldc2_w 193, 3) := dk_20 0 193 (dk_at dksX6_next_9 13 rfl rfl)
theorem dX6_next_227 : decode cX6_next 227 = .ok (.putfield 175, 3) := dk_181 0 175 (dk_at dksX6_next_9 16 rfl rfl)
theorem dX6_next_230 : decode cX6_next 230 = .ok (.aload_n 0, 1) := dk_42 (dk_at dksX6_next_9 19 rfl rfl)
theorem dX6_next_231 : decode cX6_next 231 = .ok (.dup, 1) := dk_89 (dk_at dksX6_next_9 20 rfl rfl)
theorem dX6_next_232 : decode cX6_next 232 = .ok (.getfield 162, 3) := dk_180 0 162 (dk_at dksX6_next_9 21 rfl rfl)
theorem dX6_next_235 : decode cX6_next 235 = .ok (.iconst 1, 1) := dk_4 (dk_at dksX6_next_10 0 rfl rfl)
theorem dX6_next_236 : decode cX6_next 236 = .ok (.iadd, 1) := dk_96 (dk_at dksX6_next_10 1 rfl rfl)
theorem dX6_next_237 : decode cX6_next 237 = .ok (.putfield 162, 3) := dk_181 0 162 (dk_at dksX6_next_10 2 rfl rfl)
theorem dX6_next_240 : decode cX6_next 240 = .ok (.goto (-91), 3) := dk_167 255 165 (dk_at dksX6_next_10 5 rfl rfl)
theorem dX6_next_243 : decode cX6_next 243 = .ok (.aload_n 0, 1) := dk_42 (dk_at dksX6_next_10 8 rfl rfl)
theorem dX6_next_244 : decode cX6_next 244 = .ok (.getfield 186, 3) := dk_180 0 186 (dk_at dksX6_next_10 9 rfl rfl)
theorem dX6_next_247 : decode cX6_next 247 = .ok (.iconst 2, 1) := dk_5 (dk_at dksX6_next_10 12 rfl rfl)
theorem dX6_next_248 : decode cX6_next 248 = .ok (.if_icmp .ne 87, 3) := dk_160 0 87 (dk_at dksX6_next_10 13 rfl rfl)
theorem dX6_next_251 : decode cX6_next 251 = .ok (.aload_n 0, 1) := dk_42 (dk_at dksX6_next_10 16 rfl rfl)
theorem dX6_next_252 : decode cX6_next 252 = .ok (.getfield 162, 3) := dk_180 0 162 (dk_at dksX6_next_10 17 rfl rfl)
theorem dX6_next_255 : decode cX6_next 255 = .ok (.aload_n 0, 1) := dk_42 (dk_at dksX6_next_10 20 rfl rfl)
theorem dX6_next_256 : decode cX6_next 256 = .ok (.getfield 155, 3) := dk_180 0 155 (dk_at dksX6_next_10 21 rfl rfl)
theorem dX6_next_259 : decode cX6_next 259 = .ok (.if_icmp .ge 76, 3) := dk_162 0 76 (dk_at dksX6_next_11 0 rfl rfl)
theorem dX6_next_262 : decode cX6_next 262 = .ok (.aload_n 0, 1) := dk_42 (dk_at dksX6_next_11 3 rfl rfl)
theorem dX6_next_263 : decode cX6_next 263 = .ok (.getfield 23, 3) := dk_180 0 23 (dk_at dksX6_next_11 4 rfl rfl)
theorem dX6_next_266 : decode cX6_next 266 = .ok (.aload_n 0, 1) := dk_42 (dk_at dksX6_next_11 7 rfl rfl)
theorem dX6_next_267 : decode cX6_next 267 = .ok (.getfield 162, 3) := dk_180 0 162 (dk_at dksX6_next_11 8 rfl rfl)
theorem dX6_next_270 : decode cX6_next 270 = .ok (.iaload, 1) := dk_46 (dk_at dksX6_next_11 11 rfl rfl)
theorem dX6_next_271 : decode cX6_next 271 = .ok (.invokestatic 183, 3) := dk_184 0 183 (dk_at dksX6_next_11 12 rfl rfl)
theorem dX6_next_274 : decode cX6_next 274 = .ok (.ifCond .eq 61, 3) := dk_153 0 61 (dk_at dksX6_next_11 15 rfl rfl)
theorem dX6_next_277 : decode cX6_next 277 = .ok (.aload_n 0, 1) := dk_42 (dk_at dksX6_next_11 18 rfl rfl)
theorem dX6_next_278 : decode cX6_next 278 = .ok (.aload_n 0, 1) := dk_42 (dk_at dksX6_next_11 19 rfl rfl)
theorem dX6_next_279 : decode cX6_next 279 = .ok (.getfield 175, 3) := dk_180 0 175 (dk_at dksX6_next_11 20 rfl rfl)
theorem dX6_next_282 : decode cX6_next 282 = .ok (.ldc2_w 195, 3) := dk_20 0 195 (dk_at dksX6_next_12 0 rfl rfl)
theorem dX6_next_285 : decode cX6_next 285 = .ok (.lcmp, 1) := dk_148 (dk_at dksX6_next_12 3 rfl rfl)
theorem dX6_next_286 : decode cX6_next 286 = .ok (.ifCond .le 10, 3) := dk_158 0 10 (dk_at dksX6_next_12 4 rfl rfl)
theorem dX6_next_289 : decode cX6_next 289 = .ok (.aload_n 0, 1) := dk_42 (dk_at dksX6_next_12 7 rfl rfl)
theorem dX6_next_290 : decode cX6_next 290 = .ok (.getfield 175, 3) := dk_180 0 175 (dk_at dksX6_next_12 8 rfl rfl)
theorem dX6_next_293 : decode cX6_next 293 = .ok (.goto 26, 3) := dk_167 0 26 (dk_at dksX6_next_12 11 rfl rfl)
theorem dX6_next_296 : decode cX6_next 296 = .ok (.aload_n 0, 1) := dk_42 (dk_at dksX6_next_12 14 rfl rfl)
theorem dX6_next_297 : decode cX6_next 297 = .ok (.getfield 175, 3) := dk_180 0 175 (dk_at dksX6_next_12 15 rfl rfl)
theorem dX6_next_300 : decode cX6_next 300 = .ok (.ldc2_w 197, 3) := dk_20 0 197 (dk_at dksX6_next_12 18 rfl rfl)
theorem dX6_next_303 : decode cX6_next 303 = .ok (.lmul, 1) := dk_105 (dk_at dksX6_next_12 21 rfl rfl)
theorem dX6_next_304 : decode cX6_next 304 = .ok (.aload_n 0, 1) := dk_42 (dk_at dksX6_next_12 22 rfl rfl)
theorem dX6_next_305 : decode cX6_next 305 = .ok (.getfield 23, 3) := dk_180 0 23 (dk_at dksX6_next_13 0 rfl rfl)
theorem dX6_next_308 : decode cX6_next 308 = .ok (.aload_n 0, 1) := dk_42 (dk_at dksX6_next_13 3 rfl rfl)
theorem dX6_next_309 : decode cX6_next 309 = .ok (.getfield 162, 3) := dk_180 0 162 (dk_at dksX6_next_13 4 rfl rfl)
theorem dX6_next_312 : decode cX6_next 312 = .ok (.iaload, 1) := dk_46 (dk_at dksX6_next_13 7 rfl rfl)
theorem dX6_next_313 : decode cX6_next 313 = .ok (.i2l, 1) := dk_133 (dk_at dksX6_next_13 8 rfl rfl)
theorem dX6_next_314 : decode cX6_next 314 = .ok (.ladd, 1) := dk_97 (dk_at dksX6_next_13 9 rfl rfl)
theorem dX6_next_315 : decode cX6_next 315 = .ok (.ldc2_w 199, 3) := dk_20 0 199 (dk_at dksX6_next_13 10 rfl rfl)
theorem dX6_next_318 : decode cX6_next 318 = .ok (.lsub, 1) := dk_101 (dk_at dksX6_next_13 13 rfl rfl)
theorem dX6_next_319 : decode cX6_next 319 = .ok (.putfield 175, 3) := dk_181 0 175 (dk_at dksX6_next_13 14 rfl rfl)
theorem dX6_next_322 : decode cX6_next 322 = .ok (.aload_n 0, 1) := dk_42 (dk_at dksX6_next_13 17 rfl rfl)
theorem dX6_next_323 : decode cX6_next 323 = .ok (.dup, 1) := dk_89 (dk_at dksX6_next_13 18 rfl rfl)
theorem dX6_next_324 : decode cX6_next 324 = .ok (.getfield 162, 3) := dk_180 0 162 (dk_at dksX6_next_13 19 rfl rfl)
theorem dX6_next_327 : decode cX6_next 327 = .ok (.iconst 1, 1) := dk_4 (dk_at dksX6_next_13 22 rfl rfl)
theorem dX6_next_328 : decode cX6_next 328 = .ok (.iadd, 1) := dk_96 (dk_at dksX6_next_13 23 rfl rfl)
theorem dX6_next_329 : decode cX6_next 329 = .ok (.putfield 162, 3) := dk_181 0 162 (dk_at dksX6_next_14 0 rfl rfl)
theorem dX6_next_332 : decode cX6_next 332 = .ok (.goto (-89), 3) := dk_167 255 167 (dk_at dksX6_next_14 3 rfl rfl)
theorem dX6_next_335 : decode cX6_next 335 = .ok (.return_, 1) := dk_177 (dk_at dksX6_next_14 6 rfl rfl)
abbrev cX6_isSmall : ByteArray := prog_28_method_19_code
def yX6_isSmall : MethodName := ⟨RX6, "isSmall", "(I)Z"⟩
def dkwX6_isSmall_0 : List UInt8 := [26, 16, 97, 161, 0, 13, 26, 16, 122, 163, 0, 7, 4, 167, 0, 4, 3, 172]
abbrev dktX6_isSmall_0 : List UInt8 := dkwX6_isSmall_0 ++ []
theorem dksX6_isSmall_0 : cX6_isSmall.data.toList.drop 0 = dktX6_isSmall_0 := by decide +kernel
theorem dX6_isSmall_0 : decode cX6_isSmall 0 = .ok (.iload_n 0, 1) := dk_26 (dk_at dksX6_isSmall_0 0 rfl rfl)
theorem dX6_isSmall_1 : decode cX6_isSmall 1 = .ok (.bipush 97, 2) := dk_16 97 (dk_at dksX6_isSmall_0 1 rfl rfl)
theorem dX6_isSmall_3 : decode cX6_isSmall 3 = .ok (.if_icmp .lt 13, 3) := dk_161 0 13 (dk_at dksX6_isSmall_0 3 rfl rfl)
theorem dX6_isSmall_6 : decode cX6_isSmall 6 = .ok (.iload_n 0, 1) := dk_26 (dk_at dksX6_isSmall_0 6 rfl rfl)
theorem dX6_isSmall_7 : decode cX6_isSmall 7 = .ok (.bipush 122, 2) := dk_16 122 (dk_at dksX6_isSmall_0 7 rfl rfl)
theorem dX6_isSmall_9 : decode cX6_isSmall 9 = .ok (.if_icmp .gt 7, 3) := dk_163 0 7 (dk_at dksX6_isSmall_0 9 rfl rfl)
theorem dX6_isSmall_12 : decode cX6_isSmall 12 = .ok (.iconst 1, 1) := dk_4 (dk_at dksX6_isSmall_0 12 rfl rfl)
theorem dX6_isSmall_13 : decode cX6_isSmall 13 = .ok (.goto 4, 3) := dk_167 0 4 (dk_at dksX6_isSmall_0 13 rfl rfl)
theorem dX6_isSmall_16 : decode cX6_isSmall 16 = .ok (.iconst 0, 1) := dk_3 (dk_at dksX6_isSmall_0 16 rfl rfl)
theorem dX6_isSmall_17 : decode cX6_isSmall 17 = .ok (.ireturn, 1) := dk_172 (dk_at dksX6_isSmall_0 17 rfl rfl)
abbrev cX6_isDigit : ByteArray := prog_28_method_20_code
def yX6_isDigit : MethodName := ⟨RX6, "isDigit", "(I)Z"⟩
def dkwX6_isDigit_0 : List UInt8 := [26, 16, 48, 161, 0, 13, 26, 16, 57, 163, 0, 7, 4, 167, 0, 4, 3, 172]
abbrev dktX6_isDigit_0 : List UInt8 := dkwX6_isDigit_0 ++ []
theorem dksX6_isDigit_0 : cX6_isDigit.data.toList.drop 0 = dktX6_isDigit_0 := by decide +kernel
theorem dX6_isDigit_0 : decode cX6_isDigit 0 = .ok (.iload_n 0, 1) := dk_26 (dk_at dksX6_isDigit_0 0 rfl rfl)
theorem dX6_isDigit_1 : decode cX6_isDigit 1 = .ok (.bipush 48, 2) := dk_16 48 (dk_at dksX6_isDigit_0 1 rfl rfl)
theorem dX6_isDigit_3 : decode cX6_isDigit 3 = .ok (.if_icmp .lt 13, 3) := dk_161 0 13 (dk_at dksX6_isDigit_0 3 rfl rfl)
theorem dX6_isDigit_6 : decode cX6_isDigit 6 = .ok (.iload_n 0, 1) := dk_26 (dk_at dksX6_isDigit_0 6 rfl rfl)
theorem dX6_isDigit_7 : decode cX6_isDigit 7 = .ok (.bipush 57, 2) := dk_16 57 (dk_at dksX6_isDigit_0 7 rfl rfl)
theorem dX6_isDigit_9 : decode cX6_isDigit 9 = .ok (.if_icmp .gt 7, 3) := dk_163 0 7 (dk_at dksX6_isDigit_0 9 rfl rfl)
theorem dX6_isDigit_12 : decode cX6_isDigit 12 = .ok (.iconst 1, 1) := dk_4 (dk_at dksX6_isDigit_0 12 rfl rfl)
theorem dX6_isDigit_13 : decode cX6_isDigit 13 = .ok (.goto 4, 3) := dk_167 0 4 (dk_at dksX6_isDigit_0 13 rfl rfl)
theorem dX6_isDigit_16 : decode cX6_isDigit 16 = .ok (.iconst 0, 1) := dk_3 (dk_at dksX6_isDigit_0 16 rfl rfl)
theorem dX6_isDigit_17 : decode cX6_isDigit 17 = .ok (.ireturn, 1) := dk_172 (dk_at dksX6_isDigit_0 17 rfl rfl)
abbrev cX6_readStep : ByteArray := prog_28_method_43_code
def yX6_readStep : MethodName := ⟨RX6, "readStep", "()V"⟩
def dkwX6_readStep_9 : List UInt8 := [181, 1, 58, 177]
abbrev dktX6_readStep_9 : List UInt8 := dkwX6_readStep_9 ++ []
def dkwX6_readStep_8 : List UInt8 := [182, 1, 63, 42, 180, 0, 39, 28, 7, 96, 42, 180, 0, 208, 79, 42, 89, 180, 1, 58, 4, 96]
abbrev dktX6_readStep_8 : List UInt8 := dkwX6_readStep_8 ++ dktX6_readStep_9
def dkwX6_readStep_7 : List UInt8 := [180, 0, 165, 154, 0, 22, 42, 20, 1, 68, 182, 0, 237, 153, 0, 12, 42, 182, 0, 169, 42, 4]
abbrev dktX6_readStep_7 : List UInt8 := dkwX6_readStep_7 ++ dktX6_readStep_8
def dkwX6_readStep_6 : List UInt8 := [180, 0, 165, 154, 0, 8, 42, 3, 182, 1, 63, 42, 180, 0, 39, 28, 6, 96, 42, 180, 0, 208, 79, 42]
abbrev dktX6_readStep_6 : List UInt8 := dkwX6_readStep_6 ++ dktX6_readStep_7
def dkwX6_readStep_5 : List UInt8 := [160, 0, 33, 42, 180, 0, 165, 154, 0, 26, 42, 42, 20, 1, 66, 182, 0, 237, 182, 0, 204, 42]
abbrev dktX6_readStep_5 : List UInt8 := dkwX6_readStep_5 ++ dktX6_readStep_6
def dkwX6_readStep_4 : List UInt8 := [167, 0, 8, 42, 3, 182, 1, 63, 42, 180, 0, 39, 28, 5, 96, 42, 180, 0, 208, 79, 27, 4]
abbrev dktX6_readStep_4 : List UInt8 := dkwX6_readStep_4 ++ dktX6_readStep_5
def dkwX6_readStep_3 : List UInt8 := [79, 27, 8, 160, 0, 22, 42, 180, 0, 39, 28, 16, 7, 96, 42, 20, 1, 61, 182, 1, 10, 79]
abbrev dktX6_readStep_3 : List UInt8 := dkwX6_readStep_3 ++ dktX6_readStep_4
def dkwX6_readStep_2 : List UInt8 := [28, 27, 79, 42, 180, 0, 39, 28, 4, 96, 42, 180, 0, 208, 79, 42, 180, 0, 39, 28, 16, 7, 96, 3]
abbrev dktX6_readStep_2 : List UInt8 := dkwX6_readStep_2 ++ dktX6_readStep_3
def dkwX6_readStep_1 : List UInt8 := [3, 182, 0, 204, 42, 180, 0, 165, 153, 0, 4, 177, 16, 10, 42, 180, 1, 58, 104, 61, 42, 180, 0, 39]
abbrev dktX6_readStep_1 : List UInt8 := dkwX6_readStep_1 ++ dktX6_readStep_2
def dkwX6_readStep_0 : List UInt8 := [42, 182, 1, 55, 60, 42, 27, 2, 159, 0, 16, 42, 180, 1, 58, 16, 16, 162, 0, 7, 4, 167, 0, 4]
abbrev dktX6_readStep_0 : List UInt8 := dkwX6_readStep_0 ++ dktX6_readStep_1
theorem dksX6_readStep_0 : cX6_readStep.data.toList.drop 0 = dktX6_readStep_0 := by decide +kernel
theorem dksX6_readStep_1 : cX6_readStep.data.toList.drop 24 = dktX6_readStep_1 := dk_seg dksX6_readStep_0 24 rfl rfl
theorem dksX6_readStep_2 : cX6_readStep.data.toList.drop 48 = dktX6_readStep_2 := dk_seg dksX6_readStep_1 24 rfl rfl
theorem dksX6_readStep_3 : cX6_readStep.data.toList.drop 72 = dktX6_readStep_3 := dk_seg dksX6_readStep_2 24 rfl rfl
theorem dksX6_readStep_4 : cX6_readStep.data.toList.drop 94 = dktX6_readStep_4 := dk_seg dksX6_readStep_3 22 rfl rfl
theorem dksX6_readStep_5 : cX6_readStep.data.toList.drop 116 = dktX6_readStep_5 := dk_seg dksX6_readStep_4 22 rfl rfl
theorem dksX6_readStep_6 : cX6_readStep.data.toList.drop 138 = dktX6_readStep_6 := dk_seg dksX6_readStep_5 22 rfl rfl
theorem dksX6_readStep_7 : cX6_readStep.data.toList.drop 162 = dktX6_readStep_7 := dk_seg dksX6_readStep_6 24 rfl rfl
theorem dksX6_readStep_8 : cX6_readStep.data.toList.drop 184 = dktX6_readStep_8 := dk_seg dksX6_readStep_7 22 rfl rfl
theorem dksX6_readStep_9 : cX6_readStep.data.toList.drop 206 = dktX6_readStep_9 := dk_seg dksX6_readStep_8 22 rfl rfl
theorem dX6_readStep_0 : decode cX6_readStep 0 = .ok (.aload_n 0, 1) := dk_42 (dk_at dksX6_readStep_0 0 rfl rfl)
theorem dX6_readStep_1 : decode cX6_readStep 1 = .ok (.invokevirtual 311, 3) := dk_182 1 55 (dk_at dksX6_readStep_0 1 rfl rfl)
theorem dX6_readStep_4 : decode cX6_readStep 4 = .ok (.istore_n 1, 1) := dk_60 (dk_at dksX6_readStep_0 4 rfl rfl)
theorem dX6_readStep_5 : decode cX6_readStep 5 = .ok (.aload_n 0, 1) := dk_42 (dk_at dksX6_readStep_0 5 rfl rfl)
theorem dX6_readStep_6 : decode cX6_readStep 6 = .ok (.iload_n 1, 1) := dk_27 (dk_at dksX6_readStep_0 6 rfl rfl)
theorem dX6_readStep_7 : decode cX6_readStep 7 = .ok (.iconst (-1), 1) := dk_2 (dk_at dksX6_readStep_0 7 rfl rfl)
theorem dX6_readStep_8 : decode cX6_readStep 8 = .ok (.if_icmp .eq 16, 3) := dk_159 0 16 (dk_at dksX6_readStep_0 8 rfl rfl)
theorem dX6_readStep_11 : decode cX6_readStep 11 = .ok (.aload_n 0, 1) := dk_42 (dk_at dksX6_readStep_0 11 rfl rfl)
theorem dX6_readStep_12 : decode cX6_readStep 12 = .ok (.getfield 314, 3) := dk_180 1 58 (dk_at dksX6_readStep_0 12 rfl rfl)
theorem dX6_readStep_15 : decode cX6_readStep 15 = .ok (.bipush 16, 2) := dk_16 16 (dk_at dksX6_readStep_0 15 rfl rfl)
theorem dX6_readStep_17 : decode cX6_readStep 17 = .ok (.if_icmp .ge 7, 3) := dk_162 0 7 (dk_at dksX6_readStep_0 17 rfl rfl)
theorem dX6_readStep_20 : decode cX6_readStep 20 = .ok (.iconst 1, 1) := dk_4 (dk_at dksX6_readStep_0 20 rfl rfl)
theorem dX6_readStep_21 : decode cX6_readStep 21 = .ok (.goto 4, 3) := dk_167 0 4 (dk_at dksX6_readStep_0 21 rfl rfl)
theorem dX6_readStep_24 : decode cX6_readStep 24 = .ok (.iconst 0, 1) := dk_3 (dk_at dksX6_readStep_1 0 rfl rfl)
theorem dX6_readStep_25 : decode cX6_readStep 25 = .ok (.invokevirtual 204, 3) := dk_182 0 204 (dk_at dksX6_readStep_1 1 rfl rfl)
theorem dX6_readStep_28 : decode cX6_readStep 28 = .ok (.aload_n 0, 1) := dk_42 (dk_at dksX6_readStep_1 4 rfl rfl)
theorem dX6_readStep_29 : decode cX6_readStep 29 = .ok (.getfield 165, 3) := dk_180 0 165 (dk_at dksX6_readStep_1 5 rfl rfl)
theorem dX6_readStep_32 : decode cX6_readStep 32 = .ok (.ifCond .eq 4, 3) := dk_153 0 4 (dk_at dksX6_readStep_1 8 rfl rfl)
theorem dX6_readStep_35 : decode cX6_readStep 35 = .ok (.return_, 1) := dk_177 (dk_at dksX6_readStep_1 11 rfl rfl)
theorem dX6_readStep_36 : decode cX6_readStep 36 = .ok (.bipush 10, 2) := dk_16 10 (dk_at dksX6_readStep_1 12 rfl rfl)
theorem dX6_readStep_38 : decode cX6_readStep 38 = .ok (.aload_n 0, 1) := dk_42 (dk_at dksX6_readStep_1 14 rfl rfl)
theorem dX6_readStep_39 : decode cX6_readStep 39 = .ok (.getfield 314, 3) := dk_180 1 58 (dk_at dksX6_readStep_1 15 rfl rfl)
theorem dX6_readStep_42 : decode cX6_readStep 42 = .ok (.imul, 1) := dk_104 (dk_at dksX6_readStep_1 18 rfl rfl)
theorem dX6_readStep_43 : decode cX6_readStep 43 = .ok (.istore_n 2, 1) := dk_61 (dk_at dksX6_readStep_1 19 rfl rfl)
theorem dX6_readStep_44 : decode cX6_readStep 44 = .ok (.aload_n 0, 1) := dk_42 (dk_at dksX6_readStep_1 20 rfl rfl)
theorem dX6_readStep_45 : decode cX6_readStep 45 = .ok (.getfield 39, 3) := dk_180 0 39 (dk_at dksX6_readStep_1 21 rfl rfl)
theorem dX6_readStep_48 : decode cX6_readStep 48 = .ok (.iload_n 2, 1) := dk_28 (dk_at dksX6_readStep_2 0 rfl rfl)
theorem dX6_readStep_49 : decode cX6_readStep 49 = .ok (.iload_n 1, 1) := dk_27 (dk_at dksX6_readStep_2 1 rfl rfl)
theorem dX6_readStep_50 : decode cX6_readStep 50 = .ok (.iastore, 1) := dk_79 (dk_at dksX6_readStep_2 2 rfl rfl)
theorem dX6_readStep_51 : decode cX6_readStep 51 = .ok (.aload_n 0, 1) := dk_42 (dk_at dksX6_readStep_2 3 rfl rfl)
theorem dX6_readStep_52 : decode cX6_readStep 52 = .ok (.getfield 39, 3) := dk_180 0 39 (dk_at dksX6_readStep_2 4 rfl rfl)
theorem dX6_readStep_55 : decode cX6_readStep 55 = .ok (.iload_n 2, 1) := dk_28 (dk_at dksX6_readStep_2 7 rfl rfl)
theorem dX6_readStep_56 : decode cX6_readStep 56 = .ok (.iconst 1, 1) := dk_4 (dk_at dksX6_readStep_2 8 rfl rfl)
theorem dX6_readStep_57 : decode cX6_readStep 57 = .ok (.iadd, 1) := dk_96 (dk_at dksX6_readStep_2 9 rfl rfl)
theorem dX6_readStep_58 : decode cX6_readStep 58 = .ok (.aload_n 0, 1) := dk_42 (dk_at dksX6_readStep_2 10 rfl rfl)
theorem dX6_readStep_59 : decode cX6_readStep 59 = .ok (.getfield 208, 3) := dk_180 0 208 (dk_at dksX6_readStep_2 11 rfl rfl)
theorem dX6_readStep_62 : decode cX6_readStep 62 = .ok (.iastore, 1) := dk_79 (dk_at dksX6_readStep_2 14 rfl rfl)
theorem dX6_readStep_63 : decode cX6_readStep 63 = .ok (.aload_n 0, 1) := dk_42 (dk_at dksX6_readStep_2 15 rfl rfl)
theorem dX6_readStep_64 : decode cX6_readStep 64 = .ok (.getfield 39, 3) := dk_180 0 39 (dk_at dksX6_readStep_2 16 rfl rfl)
theorem dX6_readStep_67 : decode cX6_readStep 67 = .ok (.iload_n 2, 1) := dk_28 (dk_at dksX6_readStep_2 19 rfl rfl)
theorem dX6_readStep_68 : decode cX6_readStep 68 = .ok (.bipush 7, 2) := dk_16 7 (dk_at dksX6_readStep_2 20 rfl rfl)
theorem dX6_readStep_70 : decode cX6_readStep 70 = .ok (.iadd, 1) := dk_96 (dk_at dksX6_readStep_2 22 rfl rfl)
theorem dX6_readStep_71 : decode cX6_readStep 71 = .ok (.iconst 0, 1) := dk_3 (dk_at dksX6_readStep_2 23 rfl rfl)
theorem dX6_readStep_72 : decode cX6_readStep 72 = .ok (.iastore, 1) := dk_79 (dk_at dksX6_readStep_3 0 rfl rfl)
theorem dX6_readStep_73 : decode cX6_readStep 73 = .ok (.iload_n 1, 1) := dk_27 (dk_at dksX6_readStep_3 1 rfl rfl)
theorem dX6_readStep_74 : decode cX6_readStep 74 = .ok (.iconst 5, 1) := dk_8 (dk_at dksX6_readStep_3 2 rfl rfl)
theorem dX6_readStep_75 : decode cX6_readStep 75 = .ok (.if_icmp .ne 22, 3) := dk_160 0 22 (dk_at dksX6_readStep_3 3 rfl rfl)
theorem dX6_readStep_78 : decode cX6_readStep 78 = .ok (.aload_n 0, 1) := dk_42 (dk_at dksX6_readStep_3 6 rfl rfl)
theorem dX6_readStep_79 : decode cX6_readStep 79 = .ok (.getfield 39, 3) := dk_180 0 39 (dk_at dksX6_readStep_3 7 rfl rfl)
theorem dX6_readStep_82 : decode cX6_readStep 82 = .ok (.iload_n 2, 1) := dk_28 (dk_at dksX6_readStep_3 10 rfl rfl)
theorem dX6_readStep_83 : decode cX6_readStep 83 = .ok (.bipush 7, 2) := dk_16 7 (dk_at dksX6_readStep_3 11 rfl rfl)
theorem dX6_readStep_85 : decode cX6_readStep 85 = .ok (.iadd, 1) := dk_96 (dk_at dksX6_readStep_3 13 rfl rfl)
theorem dX6_readStep_86 : decode cX6_readStep 86 = .ok (.aload_n 0, 1) := dk_42 (dk_at dksX6_readStep_3 14 rfl rfl)
theorem dX6_readStep_87 : decode cX6_readStep 87 = .ok (.ldc2_w 317, 3) := dk_20 1 61 (dk_at dksX6_readStep_3 15 rfl rfl)
theorem dX6_readStep_90 : decode cX6_readStep 90 = .ok (.invokevirtual 266, 3) := dk_182 1 10 (dk_at dksX6_readStep_3 18 rfl rfl)
theorem dX6_readStep_93 : decode cX6_readStep 93 = .ok (.iastore, 1) := dk_79 (dk_at dksX6_readStep_3 21 rfl rfl)
theorem dX6_readStep_94 : decode cX6_readStep 94 = .ok (.goto 8, 3) := dk_167 0 8 (dk_at dksX6_readStep_4 0 rfl rfl)
theorem dX6_readStep_97 : decode cX6_readStep 97 = .ok (.aload_n 0, 1) := dk_42 (dk_at dksX6_readStep_4 3 rfl rfl)
theorem dX6_readStep_98 : decode cX6_readStep 98 = .ok (.iconst 0, 1) := dk_3 (dk_at dksX6_readStep_4 4 rfl rfl)
theorem dX6_readStep_99 : decode cX6_readStep 99 = .ok (.invokevirtual 319, 3) := dk_182 1 63 (dk_at dksX6_readStep_4 5 rfl rfl)
theorem dX6_readStep_102 : decode cX6_readStep 102 = .ok (.aload_n 0, 1) := dk_42 (dk_at dksX6_readStep_4 8 rfl rfl)
theorem dX6_readStep_103 : decode cX6_readStep 103 = .ok (.getfield 39, 3) := dk_180 0 39 (dk_at dksX6_readStep_4 9 rfl rfl)
theorem dX6_readStep_106 : decode cX6_readStep 106 = .ok (.iload_n 2, 1) := dk_28 (dk_at dksX6_readStep_4 12 rfl rfl)
theorem dX6_readStep_107 : decode cX6_readStep 107 = .ok (.iconst 2, 1) := dk_5 (dk_at dksX6_readStep_4 13 rfl rfl)
theorem dX6_readStep_108 : decode cX6_readStep 108 = .ok (.iadd, 1) := dk_96 (dk_at dksX6_readStep_4 14 rfl rfl)
theorem dX6_readStep_109 : decode cX6_readStep 109 = .ok (.aload_n 0, 1) := dk_42 (dk_at dksX6_readStep_4 15 rfl rfl)
theorem dX6_readStep_110 : decode cX6_readStep 110 = .ok (.getfield 208, 3) := dk_180 0 208 (dk_at dksX6_readStep_4 16 rfl rfl)
theorem dX6_readStep_113 : decode cX6_readStep 113 = .ok (.iastore, 1) := dk_79 (dk_at dksX6_readStep_4 19 rfl rfl)
theorem dX6_readStep_114 : decode cX6_readStep 114 = .ok (.iload_n 1, 1) := dk_27 (dk_at dksX6_readStep_4 20 rfl rfl)
theorem dX6_readStep_115 : decode cX6_readStep 115 = .ok (.iconst 1, 1) := dk_4 (dk_at dksX6_readStep_4 21 rfl rfl)
theorem dX6_readStep_116 : decode cX6_readStep 116 = .ok (.if_icmp .ne 33, 3) := dk_160 0 33 (dk_at dksX6_readStep_5 0 rfl rfl)
theorem dX6_readStep_119 : decode cX6_readStep 119 = .ok (.aload_n 0, 1) := dk_42 (dk_at dksX6_readStep_5 3 rfl rfl)
theorem dX6_readStep_120 : decode cX6_readStep 120 = .ok (.getfield 165, 3) := dk_180 0 165 (dk_at dksX6_readStep_5 4 rfl rfl)
theorem dX6_readStep_123 : decode cX6_readStep 123 = .ok (.ifCond .ne 26, 3) := dk_154 0 26 (dk_at dksX6_readStep_5 7 rfl rfl)
theorem dX6_readStep_126 : decode cX6_readStep 126 = .ok (.aload_n 0, 1) := dk_42 (dk_at dksX6_readStep_5 10 rfl rfl)
theorem dX6_readStep_127 : decode cX6_readStep 127 = .ok (.aload_n 0, 1) := dk_42 (dk_at dksX6_readStep_5 11 rfl rfl)
theorem dX6_readStep_128 : decode cX6_readStep 128 = .ok (.ldc2_w 322, 3) := dk_20 1 66 (dk_at dksX6_readStep_5 12 rfl rfl)
theorem dX6_readStep_131 : decode cX6_readStep 131 = .ok (.invokevirtual 237, 3) := dk_182 0 237 (dk_at dksX6_readStep_5 15 rfl rfl)
theorem dX6_readStep_134 : decode cX6_readStep 134 = .ok (.invokevirtual 204, 3) := dk_182 0 204 (dk_at dksX6_readStep_5 18 rfl rfl)
theorem dX6_readStep_137 : decode cX6_readStep 137 = .ok (.aload_n 0, 1) := dk_42 (dk_at dksX6_readStep_5 21 rfl rfl)
theorem dX6_readStep_138 : decode cX6_readStep 138 = .ok (.getfield 165, 3) := dk_180 0 165 (dk_at dksX6_readStep_6 0 rfl rfl)
theorem dX6_readStep_141 : decode cX6_readStep 141 = .ok (.ifCond .ne 8, 3) := dk_154 0 8 (dk_at dksX6_readStep_6 3 rfl rfl)
theorem dX6_readStep_144 : decode cX6_readStep 144 = .ok (.aload_n 0, 1) := dk_42 (dk_at dksX6_readStep_6 6 rfl rfl)
theorem dX6_readStep_145 : decode cX6_readStep 145 = .ok (.iconst 0, 1) := dk_3 (dk_at dksX6_readStep_6 7 rfl rfl)
theorem dX6_readStep_146 : decode cX6_readStep 146 = .ok (.invokevirtual 319, 3) := dk_182 1 63 (dk_at dksX6_readStep_6 8 rfl rfl)
theorem dX6_readStep_149 : decode cX6_readStep 149 = .ok (.aload_n 0, 1) := dk_42 (dk_at dksX6_readStep_6 11 rfl rfl)
theorem dX6_readStep_150 : decode cX6_readStep 150 = .ok (.getfield 39, 3) := dk_180 0 39 (dk_at dksX6_readStep_6 12 rfl rfl)
theorem dX6_readStep_153 : decode cX6_readStep 153 = .ok (.iload_n 2, 1) := dk_28 (dk_at dksX6_readStep_6 15 rfl rfl)
theorem dX6_readStep_154 : decode cX6_readStep 154 = .ok (.iconst 3, 1) := dk_6 (dk_at dksX6_readStep_6 16 rfl rfl)
theorem dX6_readStep_155 : decode cX6_readStep 155 = .ok (.iadd, 1) := dk_96 (dk_at dksX6_readStep_6 17 rfl rfl)
theorem dX6_readStep_156 : decode cX6_readStep 156 = .ok (.aload_n 0, 1) := dk_42 (dk_at dksX6_readStep_6 18 rfl rfl)
theorem dX6_readStep_157 : decode cX6_readStep 157 = .ok (.getfield 208, 3) := dk_180 0 208 (dk_at dksX6_readStep_6 19 rfl rfl)
theorem dX6_readStep_160 : decode cX6_readStep 160 = .ok (.iastore, 1) := dk_79 (dk_at dksX6_readStep_6 22 rfl rfl)
theorem dX6_readStep_161 : decode cX6_readStep 161 = .ok (.aload_n 0, 1) := dk_42 (dk_at dksX6_readStep_6 23 rfl rfl)
theorem dX6_readStep_162 : decode cX6_readStep 162 = .ok (.getfield 165, 3) := dk_180 0 165 (dk_at dksX6_readStep_7 0 rfl rfl)
theorem dX6_readStep_165 : decode cX6_readStep 165 = .ok (.ifCond .ne 22, 3) := dk_154 0 22 (dk_at dksX6_readStep_7 3 rfl rfl)
theorem dX6_readStep_168 : decode cX6_readStep 168 = .ok (.aload_n 0, 1) := dk_42 (dk_at dksX6_readStep_7 6 rfl rfl)
theorem dX6_readStep_169 : decode cX6_readStep 169 = .ok (.ldc2_w 324, 3) := dk_20 1 68 (dk_at dksX6_readStep_7 7 rfl rfl)
theorem dX6_readStep_172 : decode cX6_readStep 172 = .ok (.invokevirtual 237, 3) := dk_182 0 237 (dk_at dksX6_readStep_7 10 rfl rfl)
theorem dX6_readStep_175 : decode cX6_readStep 175 = .ok (.ifCond .eq 12, 3) := dk_153 0 12 (dk_at dksX6_readStep_7 13 rfl rfl)
theorem dX6_readStep_178 : decode cX6_readStep 178 = .ok (.aload_n 0, 1) := dk_42 (dk_at dksX6_readStep_7 16 rfl rfl)
theorem dX6_readStep_179 : decode cX6_readStep 179 = .ok (.invokevirtual 169, 3) := dk_182 0 169 (dk_at dksX6_readStep_7 17 rfl rfl)
theorem dX6_readStep_182 : decode cX6_readStep 182 = .ok (.aload_n 0, 1) := dk_42 (dk_at dksX6_readStep_7 20 rfl rfl)
theorem dX6_readStep_183 : decode cX6_readStep 183 = .ok (.iconst 1, 1) := dk_4 (dk_at dksX6_readStep_7 21 rfl rfl)
theorem dX6_readStep_184 : decode cX6_readStep 184 = .ok (.invokevirtual 319, 3) := dk_182 1 63 (dk_at dksX6_readStep_8 0 rfl rfl)
theorem dX6_readStep_187 : decode cX6_readStep 187 = .ok (.aload_n 0, 1) := dk_42 (dk_at dksX6_readStep_8 3 rfl rfl)
theorem dX6_readStep_188 : decode cX6_readStep 188 = .ok (.getfield 39, 3) := dk_180 0 39 (dk_at dksX6_readStep_8 4 rfl rfl)
theorem dX6_readStep_191 : decode cX6_readStep 191 = .ok (.iload_n 2, 1) := dk_28 (dk_at dksX6_readStep_8 7 rfl rfl)
theorem dX6_readStep_192 : decode cX6_readStep 192 = .ok (.iconst 4, 1) := dk_7 (dk_at dksX6_readStep_8 8 rfl rfl)
theorem dX6_readStep_193 : decode cX6_readStep 193 = .ok (.iadd, 1) := dk_96 (dk_at dksX6_readStep_8 9 rfl rfl)
theorem dX6_readStep_194 : decode cX6_readStep 194 = .ok (.aload_n 0, 1) := dk_42 (dk_at dksX6_readStep_8 10 rfl rfl)
theorem dX6_readStep_195 : decode cX6_readStep 195 = .ok (.getfield 208, 3) := dk_180 0 208 (dk_at dksX6_readStep_8 11 rfl rfl)
theorem dX6_readStep_198 : decode cX6_readStep 198 = .ok (.iastore, 1) := dk_79 (dk_at dksX6_readStep_8 14 rfl rfl)
theorem dX6_readStep_199 : decode cX6_readStep 199 = .ok (.aload_n 0, 1) := dk_42 (dk_at dksX6_readStep_8 15 rfl rfl)
theorem dX6_readStep_200 : decode cX6_readStep 200 = .ok (.dup, 1) := dk_89 (dk_at dksX6_readStep_8 16 rfl rfl)
theorem dX6_readStep_201 : decode cX6_readStep 201 = .ok (.getfield 314, 3) := dk_180 1 58 (dk_at dksX6_readStep_8 17 rfl rfl)
theorem dX6_readStep_204 : decode cX6_readStep 204 = .ok (.iconst 1, 1) := dk_4 (dk_at dksX6_readStep_8 20 rfl rfl)
theorem dX6_readStep_205 : decode cX6_readStep 205 = .ok (.iadd, 1) := dk_96 (dk_at dksX6_readStep_8 21 rfl rfl)
theorem dX6_readStep_206 : decode cX6_readStep 206 = .ok (.putfield 314, 3) := dk_181 1 58 (dk_at dksX6_readStep_9 0 rfl rfl)
theorem dX6_readStep_209 : decode cX6_readStep 209 = .ok (.return_, 1) := dk_177 (dk_at dksX6_readStep_9 3 rfl rfl)
abbrev cX6_sortAt : ByteArray := prog_28_method_42_code
def yX6_sortAt : MethodName := ⟨RX6, "sortAt", "()I"⟩
def dkwX6_sortAt_3 : List UInt8 := [153, 0, 7, 7, 167, 0, 18, 42, 20, 1, 53, 182, 0, 237, 153, 0, 7, 8, 167, 0, 4, 2, 172]
abbrev dktX6_sortAt_3 : List UInt8 := dkwX6_sortAt_3 ++ []
def dkwX6_sortAt_2 : List UInt8 := [167, 0, 46, 42, 20, 1, 49, 182, 0, 237, 153, 0, 7, 6, 167, 0, 32, 42, 20, 1, 51, 182, 0, 237]
abbrev dktX6_sortAt_2 : List UInt8 := dkwX6_sortAt_2 ++ dktX6_sortAt_3
def dkwX6_sortAt_1 : List UInt8 := [182, 0, 237, 153, 0, 7, 3, 167, 0, 4, 4, 172, 42, 20, 1, 47, 182, 0, 237, 153, 0, 7, 5]
abbrev dktX6_sortAt_1 : List UInt8 := dkwX6_sortAt_1 ++ dktX6_sortAt_2
def dkwX6_sortAt_0 : List UInt8 := [42, 20, 1, 43, 182, 0, 237, 154, 0, 13, 42, 20, 1, 45, 182, 0, 237, 153, 0, 19, 42, 20, 1, 43]
abbrev dktX6_sortAt_0 : List UInt8 := dkwX6_sortAt_0 ++ dktX6_sortAt_1
theorem dksX6_sortAt_0 : cX6_sortAt.data.toList.drop 0 = dktX6_sortAt_0 := by decide +kernel
theorem dksX6_sortAt_1 : cX6_sortAt.data.toList.drop 24 = dktX6_sortAt_1 := dk_seg dksX6_sortAt_0 24 rfl rfl
theorem dksX6_sortAt_2 : cX6_sortAt.data.toList.drop 47 = dktX6_sortAt_2 := dk_seg dksX6_sortAt_1 23 rfl rfl
theorem dksX6_sortAt_3 : cX6_sortAt.data.toList.drop 71 = dktX6_sortAt_3 := dk_seg dksX6_sortAt_2 24 rfl rfl
theorem dX6_sortAt_0 : decode cX6_sortAt 0 = .ok (.aload_n 0, 1) := dk_42 (dk_at dksX6_sortAt_0 0 rfl rfl)
theorem dX6_sortAt_1 : decode cX6_sortAt 1 = .ok (.ldc2_w 299, 3) := dk_20 1 43 (dk_at dksX6_sortAt_0 1 rfl rfl)
theorem dX6_sortAt_4 : decode cX6_sortAt 4 = .ok (.invokevirtual 237, 3) := dk_182 0 237 (dk_at dksX6_sortAt_0 4 rfl rfl)
theorem dX6_sortAt_7 : decode cX6_sortAt 7 = .ok (.ifCond .ne 13, 3) := dk_154 0 13 (dk_at dksX6_sortAt_0 7 rfl rfl)
theorem dX6_sortAt_10 : decode cX6_sortAt 10 = .ok (.aload_n 0, 1) := dk_42 (dk_at dksX6_sortAt_0 10 rfl rfl)
theorem dX6_sortAt_11 : decode cX6_sortAt 11 = .ok (.ldc2_w 301, 3) := dk_20 1 45 (dk_at dksX6_sortAt_0 11 rfl rfl)
theorem dX6_sortAt_14 : decode cX6_sortAt 14 = .ok (.invokevirtual 237, 3) := dk_182 0 237 (dk_at dksX6_sortAt_0 14 rfl rfl)
theorem dX6_sortAt_17 : decode cX6_sortAt 17 = .ok (.ifCond .eq 19, 3) := dk_153 0 19 (dk_at dksX6_sortAt_0 17 rfl rfl)
theorem dX6_sortAt_20 : decode cX6_sortAt 20 = .ok (.aload_n 0, 1) := dk_42 (dk_at dksX6_sortAt_0 20 rfl rfl)
theorem dX6_sortAt_21 : decode cX6_sortAt 21 = .ok (.ldc2_w 299, 3) := dk_20 1 43 (dk_at dksX6_sortAt_0 21 rfl rfl)
theorem dX6_sortAt_24 : decode cX6_sortAt 24 = .ok (.invokevirtual 237, 3) := dk_182 0 237 (dk_at dksX6_sortAt_1 0 rfl rfl)
theorem dX6_sortAt_27 : decode cX6_sortAt 27 = .ok (.ifCond .eq 7, 3) := dk_153 0 7 (dk_at dksX6_sortAt_1 3 rfl rfl)
theorem dX6_sortAt_30 : decode cX6_sortAt 30 = .ok (.iconst 0, 1) := dk_3 (dk_at dksX6_sortAt_1 6 rfl rfl)
theorem dX6_sortAt_31 : decode cX6_sortAt 31 = .ok (.goto 4, 3) := dk_167 0 4 (dk_at dksX6_sortAt_1 7 rfl rfl)
theorem dX6_sortAt_34 : decode cX6_sortAt 34 = .ok (.iconst 1, 1) := dk_4 (dk_at dksX6_sortAt_1 10 rfl rfl)
theorem dX6_sortAt_35 : decode cX6_sortAt 35 = .ok (.ireturn, 1) := dk_172 (dk_at dksX6_sortAt_1 11 rfl rfl)
theorem dX6_sortAt_36 : decode cX6_sortAt 36 = .ok (.aload_n 0, 1) := dk_42 (dk_at dksX6_sortAt_1 12 rfl rfl)
theorem dX6_sortAt_37 : decode cX6_sortAt 37 = .ok (.ldc2_w 303, 3) := dk_20 1 47 (dk_at dksX6_sortAt_1 13 rfl rfl)
theorem dX6_sortAt_40 : decode cX6_sortAt 40 = .ok (.invokevirtual 237, 3) := dk_182 0 237 (dk_at dksX6_sortAt_1 16 rfl rfl)
theorem dX6_sortAt_43 : decode cX6_sortAt 43 = .ok (.ifCond .eq 7, 3) := dk_153 0 7 (dk_at dksX6_sortAt_1 19 rfl rfl)
theorem dX6_sortAt_46 : decode cX6_sortAt 46 = .ok (.iconst 2, 1) := dk_5 (dk_at dksX6_sortAt_1 22 rfl rfl)
theorem dX6_sortAt_47 : decode cX6_sortAt 47 = .ok (.goto 46, 3) := dk_167 0 46 (dk_at dksX6_sortAt_2 0 rfl rfl)
theorem dX6_sortAt_50 : decode cX6_sortAt 50 = .ok (.aload_n 0, 1) := dk_42 (dk_at dksX6_sortAt_2 3 rfl rfl)
theorem dX6_sortAt_51 : decode cX6_sortAt 51 = .ok (.ldc2_w 305, 3) := dk_20 1 49 (dk_at dksX6_sortAt_2 4 rfl rfl)
theorem dX6_sortAt_54 : decode cX6_sortAt 54 = .ok (.invokevirtual 237, 3) := dk_182 0 237 (dk_at dksX6_sortAt_2 7 rfl rfl)
theorem dX6_sortAt_57 : decode cX6_sortAt 57 = .ok (.ifCond .eq 7, 3) := dk_153 0 7 (dk_at dksX6_sortAt_2 10 rfl rfl)
theorem dX6_sortAt_60 : decode cX6_sortAt 60 = .ok (.iconst 3, 1) := dk_6 (dk_at dksX6_sortAt_2 13 rfl rfl)
theorem dX6_sortAt_61 : decode cX6_sortAt 61 = .ok (.goto 32, 3) := dk_167 0 32 (dk_at dksX6_sortAt_2 14 rfl rfl)
theorem dX6_sortAt_64 : decode cX6_sortAt 64 = .ok (.aload_n 0, 1) := dk_42 (dk_at dksX6_sortAt_2 17 rfl rfl)
theorem dX6_sortAt_65 : decode cX6_sortAt 65 = .ok (.ldc2_w 307, 3) := dk_20 1 51 (dk_at dksX6_sortAt_2 18 rfl rfl)
theorem dX6_sortAt_68 : decode cX6_sortAt 68 = .ok (.invokevirtual 237, 3) := dk_182 0 237 (dk_at dksX6_sortAt_2 21 rfl rfl)
theorem dX6_sortAt_71 : decode cX6_sortAt 71 = .ok (.ifCond .eq 7, 3) := dk_153 0 7 (dk_at dksX6_sortAt_3 0 rfl rfl)
theorem dX6_sortAt_74 : decode cX6_sortAt 74 = .ok (.iconst 4, 1) := dk_7 (dk_at dksX6_sortAt_3 3 rfl rfl)
theorem dX6_sortAt_75 : decode cX6_sortAt 75 = .ok (.goto 18, 3) := dk_167 0 18 (dk_at dksX6_sortAt_3 4 rfl rfl)
theorem dX6_sortAt_78 : decode cX6_sortAt 78 = .ok (.aload_n 0, 1) := dk_42 (dk_at dksX6_sortAt_3 7 rfl rfl)
theorem dX6_sortAt_79 : decode cX6_sortAt 79 = .ok (.ldc2_w 309, 3) := dk_20 1 53 (dk_at dksX6_sortAt_3 8 rfl rfl)
theorem dX6_sortAt_82 : decode cX6_sortAt 82 = .ok (.invokevirtual 237, 3) := dk_182 0 237 (dk_at dksX6_sortAt_3 11 rfl rfl)
theorem dX6_sortAt_85 : decode cX6_sortAt 85 = .ok (.ifCond .eq 7, 3) := dk_153 0 7 (dk_at dksX6_sortAt_3 14 rfl rfl)
theorem dX6_sortAt_88 : decode cX6_sortAt 88 = .ok (.iconst 5, 1) := dk_8 (dk_at dksX6_sortAt_3 17 rfl rfl)
theorem dX6_sortAt_89 : decode cX6_sortAt 89 = .ok (.goto 4, 3) := dk_167 0 4 (dk_at dksX6_sortAt_3 18 rfl rfl)
theorem dX6_sortAt_92 : decode cX6_sortAt 92 = .ok (.iconst (-1), 1) := dk_2 (dk_at dksX6_sortAt_3 21 rfl rfl)
theorem dX6_sortAt_93 : decode cX6_sortAt 93 = .ok (.ireturn, 1) := dk_172 (dk_at dksX6_sortAt_3 22 rfl rfl)
abbrev cX6_isWord : ByteArray := prog_28_method_23_code
def yX6_isWord : MethodName := ⟨RX6, "isWord", "(J)Z"⟩
def dkwX6_isWord_0 : List UInt8 := [42, 180, 0, 186, 4, 160, 0, 16, 42, 180, 0, 175, 31, 148, 154, 0, 7, 4, 167, 0, 4, 3, 172]
abbrev dktX6_isWord_0 : List UInt8 := dkwX6_isWord_0 ++ []
theorem dksX6_isWord_0 : cX6_isWord.data.toList.drop 0 = dktX6_isWord_0 := by decide +kernel
theorem dX6_isWord_0 : decode cX6_isWord 0 = .ok (.aload_n 0, 1) := dk_42 (dk_at dksX6_isWord_0 0 rfl rfl)
theorem dX6_isWord_1 : decode cX6_isWord 1 = .ok (.getfield 186, 3) := dk_180 0 186 (dk_at dksX6_isWord_0 1 rfl rfl)
theorem dX6_isWord_4 : decode cX6_isWord 4 = .ok (.iconst 1, 1) := dk_4 (dk_at dksX6_isWord_0 4 rfl rfl)
theorem dX6_isWord_5 : decode cX6_isWord 5 = .ok (.if_icmp .ne 16, 3) := dk_160 0 16 (dk_at dksX6_isWord_0 5 rfl rfl)
theorem dX6_isWord_8 : decode cX6_isWord 8 = .ok (.aload_n 0, 1) := dk_42 (dk_at dksX6_isWord_0 8 rfl rfl)
theorem dX6_isWord_9 : decode cX6_isWord 9 = .ok (.getfield 175, 3) := dk_180 0 175 (dk_at dksX6_isWord_0 9 rfl rfl)
theorem dX6_isWord_12 : decode cX6_isWord 12 = .ok (.lload_n 1, 1) := dk_31 (dk_at dksX6_isWord_0 12 rfl rfl)
theorem dX6_isWord_13 : decode cX6_isWord 13 = .ok (.lcmp, 1) := dk_148 (dk_at dksX6_isWord_0 13 rfl rfl)
theorem dX6_isWord_14 : decode cX6_isWord 14 = .ok (.ifCond .ne 7, 3) := dk_154 0 7 (dk_at dksX6_isWord_0 14 rfl rfl)
theorem dX6_isWord_17 : decode cX6_isWord 17 = .ok (.iconst 1, 1) := dk_4 (dk_at dksX6_isWord_0 17 rfl rfl)
theorem dX6_isWord_18 : decode cX6_isWord 18 = .ok (.goto 4, 3) := dk_167 0 4 (dk_at dksX6_isWord_0 18 rfl rfl)
theorem dX6_isWord_21 : decode cX6_isWord 21 = .ok (.iconst 0, 1) := dk_3 (dk_at dksX6_isWord_0 21 rfl rfl)
theorem dX6_isWord_22 : decode cX6_isWord 22 = .ok (.ireturn, 1) := dk_172 (dk_at dksX6_isWord_0 22 rfl rfl)
abbrev cX6_must : ByteArray := prog_28_method_26_code
def yX6_must : MethodName := ⟨RX6, "must", "(Z)V"⟩
def dkwX6_must_0 : List UInt8 := [27, 154, 0, 7, 42, 182, 0, 201, 42, 180, 0, 165, 154, 0, 7, 42, 182, 0, 169, 177]
abbrev dktX6_must_0 : List UInt8 := dkwX6_must_0 ++ []
theorem dksX6_must_0 : cX6_must.data.toList.drop 0 = dktX6_must_0 := by decide +kernel
theorem dX6_must_0 : decode cX6_must 0 = .ok (.iload_n 1, 1) := dk_27 (dk_at dksX6_must_0 0 rfl rfl)
theorem dX6_must_1 : decode cX6_must 1 = .ok (.ifCond .ne 7, 3) := dk_154 0 7 (dk_at dksX6_must_0 1 rfl rfl)
theorem dX6_must_4 : decode cX6_must 4 = .ok (.aload_n 0, 1) := dk_42 (dk_at dksX6_must_0 4 rfl rfl)
theorem dX6_must_5 : decode cX6_must 5 = .ok (.invokevirtual 201, 3) := dk_182 0 201 (dk_at dksX6_must_0 5 rfl rfl)
theorem dX6_must_8 : decode cX6_must 8 = .ok (.aload_n 0, 1) := dk_42 (dk_at dksX6_must_0 8 rfl rfl)
theorem dX6_must_9 : decode cX6_must 9 = .ok (.getfield 165, 3) := dk_180 0 165 (dk_at dksX6_must_0 9 rfl rfl)
theorem dX6_must_12 : decode cX6_must 12 = .ok (.ifCond .ne 7, 3) := dk_154 0 7 (dk_at dksX6_must_0 12 rfl rfl)
theorem dX6_must_15 : decode cX6_must 15 = .ok (.aload_n 0, 1) := dk_42 (dk_at dksX6_must_0 15 rfl rfl)
theorem dX6_must_16 : decode cX6_must 16 = .ok (.invokevirtual 169, 3) := dk_182 0 169 (dk_at dksX6_must_0 16 rfl rfl)
theorem dX6_must_19 : decode cX6_must 19 = .ok (.return_, 1) := dk_177 (dk_at dksX6_must_0 19 rfl rfl)
abbrev cX6_wrong : ByteArray := prog_28_method_25_code
def yX6_wrong : MethodName := ⟨RX6, "wrong", "()V"⟩
def dkwX6_wrong_0 : List UInt8 := [42, 180, 0, 165, 154, 0, 16, 42, 4, 181, 0, 165, 42, 42, 180, 0, 172, 181, 0, 26, 177]
abbrev dktX6_wrong_0 : List UInt8 := dkwX6_wrong_0 ++ []
theorem dksX6_wrong_0 : cX6_wrong.data.toList.drop 0 = dktX6_wrong_0 := by decide +kernel
theorem dX6_wrong_0 : decode cX6_wrong 0 = .ok (.aload_n 0, 1) := dk_42 (dk_at dksX6_wrong_0 0 rfl rfl)
theorem dX6_wrong_1 : decode cX6_wrong 1 = .ok (.getfield 165, 3) := dk_180 0 165 (dk_at dksX6_wrong_0 1 rfl rfl)
theorem dX6_wrong_4 : decode cX6_wrong 4 = .ok (.ifCond .ne 16, 3) := dk_154 0 16 (dk_at dksX6_wrong_0 4 rfl rfl)
theorem dX6_wrong_7 : decode cX6_wrong 7 = .ok (.aload_n 0, 1) := dk_42 (dk_at dksX6_wrong_0 7 rfl rfl)
theorem dX6_wrong_8 : decode cX6_wrong 8 = .ok (.iconst 1, 1) := dk_4 (dk_at dksX6_wrong_0 8 rfl rfl)
theorem dX6_wrong_9 : decode cX6_wrong 9 = .ok (.putfield 165, 3) := dk_181 0 165 (dk_at dksX6_wrong_0 9 rfl rfl)
theorem dX6_wrong_12 : decode cX6_wrong 12 = .ok (.aload_n 0, 1) := dk_42 (dk_at dksX6_wrong_0 12 rfl rfl)
theorem dX6_wrong_13 : decode cX6_wrong 13 = .ok (.aload_n 0, 1) := dk_42 (dk_at dksX6_wrong_0 13 rfl rfl)
theorem dX6_wrong_14 : decode cX6_wrong 14 = .ok (.getfield 172, 3) := dk_180 0 172 (dk_at dksX6_wrong_0 14 rfl rfl)
theorem dX6_wrong_17 : decode cX6_wrong 17 = .ok (.putfield 26, 3) := dk_181 0 26 (dk_at dksX6_wrong_0 17 rfl rfl)
theorem dX6_wrong_20 : decode cX6_wrong 20 = .ok (.return_, 1) := dk_177 (dk_at dksX6_wrong_0 20 rfl rfl)
abbrev cX6_number : ByteArray := prog_28_method_27_code
def yX6_number : MethodName := ⟨RX6, "number", "(J)I"⟩
def dkwX6_number_1 : List UInt8 := [4, 167, 0, 4, 3, 182, 0, 204, 29, 172]
abbrev dktX6_number_1 : List UInt8 := dkwX6_number_1 ++ []
def dkwX6_number_0 : List UInt8 := [42, 180, 0, 175, 136, 62, 42, 42, 180, 0, 186, 5, 160, 0, 16, 42, 180, 0, 175, 31, 148, 157, 0, 7]
abbrev dktX6_number_0 : List UInt8 := dkwX6_number_0 ++ dktX6_number_1
theorem dksX6_number_0 : cX6_number.data.toList.drop 0 = dktX6_number_0 := by decide +kernel
theorem dksX6_number_1 : cX6_number.data.toList.drop 24 = dktX6_number_1 := dk_seg dksX6_number_0 24 rfl rfl
theorem dX6_number_0 : decode cX6_number 0 = .ok (.aload_n 0, 1) := dk_42 (dk_at dksX6_number_0 0 rfl rfl)
theorem dX6_number_1 : decode cX6_number 1 = .ok (.getfield 175, 3) := dk_180 0 175 (dk_at dksX6_number_0 1 rfl rfl)
theorem dX6_number_4 : decode cX6_number 4 = .ok (.l2i, 1) := dk_136 (dk_at dksX6_number_0 4 rfl rfl)
theorem dX6_number_5 : decode cX6_number 5 = .ok (.istore_n 3, 1) := dk_62 (dk_at dksX6_number_0 5 rfl rfl)
theorem dX6_number_6 : decode cX6_number 6 = .ok (.aload_n 0, 1) := dk_42 (dk_at dksX6_number_0 6 rfl rfl)
theorem dX6_number_7 : decode cX6_number 7 = .ok (.aload_n 0, 1) := dk_42 (dk_at dksX6_number_0 7 rfl rfl)
theorem dX6_number_8 : decode cX6_number 8 = .ok (.getfield 186, 3) := dk_180 0 186 (dk_at dksX6_number_0 8 rfl rfl)
theorem dX6_number_11 : decode cX6_number 11 = .ok (.iconst 2, 1) := dk_5 (dk_at dksX6_number_0 11 rfl rfl)
theorem dX6_number_12 : decode cX6_number 12 = .ok (.if_icmp .ne 16, 3) := dk_160 0 16 (dk_at dksX6_number_0 12 rfl rfl)
theorem dX6_number_15 : decode cX6_number 15 = .ok (.aload_n 0, 1) := dk_42 (dk_at dksX6_number_0 15 rfl rfl)
theorem dX6_number_16 : decode cX6_number 16 = .ok (.getfield 175, 3) := dk_180 0 175 (dk_at dksX6_number_0 16 rfl rfl)
theorem dX6_number_19 : decode cX6_number 19 = .ok (.lload_n 1, 1) := dk_31 (dk_at dksX6_number_0 19 rfl rfl)
theorem dX6_number_20 : decode cX6_number 20 = .ok (.lcmp, 1) := dk_148 (dk_at dksX6_number_0 20 rfl rfl)
theorem dX6_number_21 : decode cX6_number 21 = .ok (.ifCond .gt 7, 3) := dk_157 0 7 (dk_at dksX6_number_0 21 rfl rfl)
theorem dX6_number_24 : decode cX6_number 24 = .ok (.iconst 1, 1) := dk_4 (dk_at dksX6_number_1 0 rfl rfl)
theorem dX6_number_25 : decode cX6_number 25 = .ok (.goto 4, 3) := dk_167 0 4 (dk_at dksX6_number_1 1 rfl rfl)
theorem dX6_number_28 : decode cX6_number 28 = .ok (.iconst 0, 1) := dk_3 (dk_at dksX6_number_1 4 rfl rfl)
theorem dX6_number_29 : decode cX6_number 29 = .ok (.invokevirtual 204, 3) := dk_182 0 204 (dk_at dksX6_number_1 5 rfl rfl)
theorem dX6_number_32 : decode cX6_number 32 = .ok (.iload_n 3, 1) := dk_29 (dk_at dksX6_number_1 8 rfl rfl)
theorem dX6_number_33 : decode cX6_number 33 = .ok (.ireturn, 1) := dk_172 (dk_at dksX6_number_1 9 rfl rfl)
abbrev cX6_readExpression : ByteArray := prog_28_method_41_code
def yX6_readExpression : MethodName := ⟨RX6, "readExpression", "(Z)V"⟩
def dkwX6_readExpression_3 : List UInt8 := [61, 167, 255, 203, 42, 4, 182, 1, 19, 177]
abbrev dktX6_readExpression_3 : List UInt8 := dkwX6_readExpression_3 ++ []
def dkwX6_readExpression_2 : List UInt8 := [42, 182, 1, 16, 167, 0, 20, 28, 6, 160, 0, 11, 42, 27, 182, 1, 36, 167, 0, 7, 42, 182, 1, 40]
abbrev dktX6_readExpression_2 : List UInt8 := dkwX6_readExpression_2 ++ dktX6_readExpression_3
def dkwX6_readExpression_1 : List UInt8 := [154, 0, 52, 28, 7, 159, 0, 47, 28, 154, 0, 10, 42, 182, 1, 33, 167, 0, 32, 28, 4, 160, 0, 10]
abbrev dktX6_readExpression_1 : List UInt8 := dkwX6_readExpression_1 ++ dktX6_readExpression_2
def dkwX6_readExpression_0 : List UInt8 := [42, 3, 181, 0, 211, 42, 3, 181, 0, 229, 27, 153, 0, 7, 3, 167, 0, 4, 4, 61, 42, 180, 0, 165]
abbrev dktX6_readExpression_0 : List UInt8 := dkwX6_readExpression_0 ++ dktX6_readExpression_1
theorem dksX6_readExpression_0 : cX6_readExpression.data.toList.drop 0 = dktX6_readExpression_0 := by decide +kernel
theorem dksX6_readExpression_1 : cX6_readExpression.data.toList.drop 24 = dktX6_readExpression_1 := dk_seg dksX6_readExpression_0 24 rfl rfl
theorem dksX6_readExpression_2 : cX6_readExpression.data.toList.drop 48 = dktX6_readExpression_2 := dk_seg dksX6_readExpression_1 24 rfl rfl
theorem dksX6_readExpression_3 : cX6_readExpression.data.toList.drop 72 = dktX6_readExpression_3 := dk_seg dksX6_readExpression_2 24 rfl rfl
theorem dX6_readExpression_0 : decode cX6_readExpression 0 = .ok (.aload_n 0, 1) := dk_42 (dk_at dksX6_readExpression_0 0 rfl rfl)
theorem dX6_readExpression_1 : decode cX6_readExpression 1 = .ok (.iconst 0, 1) := dk_3 (dk_at dksX6_readExpression_0 1 rfl rfl)
theorem dX6_readExpression_2 : decode cX6_readExpression 2 = .ok (.putfield 211, 3) := dk_181 0 211 (dk_at dksX6_readExpression_0 2 rfl rfl)
theorem dX6_readExpression_5 : decode cX6_readExpression 5 = .ok (.aload_n 0, 1) := dk_42 (dk_at dksX6_readExpression_0 5 rfl rfl)
theorem dX6_readExpression_6 : decode cX6_readExpression 6 = .ok (.iconst 0, 1) := dk_3 (dk_at dksX6_readExpression_0 6 rfl rfl)
theorem dX6_readExpression_7 : decode cX6_readExpression 7 = .ok (.putfield 229, 3) := dk_181 0 229 (dk_at dksX6_readExpression_0 7 rfl rfl)
theorem dX6_readExpression_10 : decode cX6_readExpression 10 = .ok (.iload_n 1, 1) := dk_27 (dk_at dksX6_readExpression_0 10 rfl rfl)
theorem dX6_readExpression_11 : decode cX6_readExpression 11 = .ok (.ifCond .eq 7, 3) := dk_153 0 7 (dk_at dksX6_readExpression_0 11 rfl rfl)
theorem dX6_readExpression_14 : decode cX6_readExpression 14 = .ok (.iconst 0, 1) := dk_3 (dk_at dksX6_readExpression_0 14 rfl rfl)
theorem dX6_readExpression_15 : decode cX6_readExpression 15 = .ok (.goto 4, 3) := dk_167 0 4 (dk_at dksX6_readExpression_0 15 rfl rfl)
theorem dX6_readExpression_18 : decode cX6_readExpression 18 = .ok (.iconst 1, 1) := dk_4 (dk_at dksX6_readExpression_0 18 rfl rfl)
theorem dX6_readExpression_19 : decode cX6_readExpression 19 = .ok (.istore_n 2, 1) := dk_61 (dk_at dksX6_readExpression_0 19 rfl rfl)
theorem dX6_readExpression_20 : decode cX6_readExpression 20 = .ok (.aload_n 0, 1) := dk_42 (dk_at dksX6_readExpression_0 20 rfl rfl)
theorem dX6_readExpression_21 : decode cX6_readExpression 21 = .ok (.getfield 165, 3) := dk_180 0 165 (dk_at dksX6_readExpression_0 21 rfl rfl)
theorem dX6_readExpression_24 : decode cX6_readExpression 24 = .ok (.ifCond .ne 52, 3) := dk_154 0 52 (dk_at dksX6_readExpression_1 0 rfl rfl)
theorem dX6_readExpression_27 : decode cX6_readExpression 27 = .ok (.iload_n 2, 1) := dk_28 (dk_at dksX6_readExpression_1 3 rfl rfl)
theorem dX6_readExpression_28 : decode cX6_readExpression 28 = .ok (.iconst 4, 1) := dk_7 (dk_at dksX6_readExpression_1 4 rfl rfl)
theorem dX6_readExpression_29 : decode cX6_readExpression 29 = .ok (.if_icmp .eq 47, 3) := dk_159 0 47 (dk_at dksX6_readExpression_1 5 rfl rfl)
theorem dX6_readExpression_32 : decode cX6_readExpression 32 = .ok (.iload_n 2, 1) := dk_28 (dk_at dksX6_readExpression_1 8 rfl rfl)
theorem dX6_readExpression_33 : decode cX6_readExpression 33 = .ok (.ifCond .ne 10, 3) := dk_154 0 10 (dk_at dksX6_readExpression_1 9 rfl rfl)
theorem dX6_readExpression_36 : decode cX6_readExpression 36 = .ok (.aload_n 0, 1) := dk_42 (dk_at dksX6_readExpression_1 12 rfl rfl)
theorem dX6_readExpression_37 : decode cX6_readExpression 37 = .ok (.invokevirtual 289, 3) := dk_182 1 33 (dk_at dksX6_readExpression_1 13 rfl rfl)
theorem dX6_readExpression_40 : decode cX6_readExpression 40 = .ok (.goto 32, 3) := dk_167 0 32 (dk_at dksX6_readExpression_1 16 rfl rfl)
theorem dX6_readExpression_43 : decode cX6_readExpression 43 = .ok (.iload_n 2, 1) := dk_28 (dk_at dksX6_readExpression_1 19 rfl rfl)
theorem dX6_readExpression_44 : decode cX6_readExpression 44 = .ok (.iconst 1, 1) := dk_4 (dk_at dksX6_readExpression_1 20 rfl rfl)
theorem dX6_readExpression_45 : decode cX6_readExpression 45 = .ok (.if_icmp .ne 10, 3) := dk_160 0 10 (dk_at dksX6_readExpression_1 21 rfl rfl)
theorem dX6_readExpression_48 : decode cX6_readExpression 48 = .ok (.aload_n 0, 1) := dk_42 (dk_at dksX6_readExpression_2 0 rfl rfl)
theorem dX6_readExpression_49 : decode cX6_readExpression 49 = .ok (.invokevirtual 272, 3) := dk_182 1 16 (dk_at dksX6_readExpression_2 1 rfl rfl)
theorem dX6_readExpression_52 : decode cX6_readExpression 52 = .ok (.goto 20, 3) := dk_167 0 20 (dk_at dksX6_readExpression_2 4 rfl rfl)
theorem dX6_readExpression_55 : decode cX6_readExpression 55 = .ok (.iload_n 2, 1) := dk_28 (dk_at dksX6_readExpression_2 7 rfl rfl)
theorem dX6_readExpression_56 : decode cX6_readExpression 56 = .ok (.iconst 3, 1) := dk_6 (dk_at dksX6_readExpression_2 8 rfl rfl)
theorem dX6_readExpression_57 : decode cX6_readExpression 57 = .ok (.if_icmp .ne 11, 3) := dk_160 0 11 (dk_at dksX6_readExpression_2 9 rfl rfl)
theorem dX6_readExpression_60 : decode cX6_readExpression 60 = .ok (.aload_n 0, 1) := dk_42 (dk_at dksX6_readExpression_2 12 rfl rfl)
theorem dX6_readExpression_61 : decode cX6_readExpression 61 = .ok (.iload_n 1, 1) := dk_27 (dk_at dksX6_readExpression_2 13 rfl rfl)
theorem dX6_readExpression_62 : decode cX6_readExpression 62 = .ok (.invokevirtual 292, 3) := dk_182 1 36 (dk_at dksX6_readExpression_2 14 rfl rfl)
theorem dX6_readExpression_65 : decode cX6_readExpression 65 = .ok (.goto 7, 3) := dk_167 0 7 (dk_at dksX6_readExpression_2 17 rfl rfl)
theorem dX6_readExpression_68 : decode cX6_readExpression 68 = .ok (.aload_n 0, 1) := dk_42 (dk_at dksX6_readExpression_2 20 rfl rfl)
theorem dX6_readExpression_69 : decode cX6_readExpression 69 = .ok (.invokevirtual 296, 3) := dk_182 1 40 (dk_at dksX6_readExpression_2 21 rfl rfl)
theorem dX6_readExpression_72 : decode cX6_readExpression 72 = .ok (.istore_n 2, 1) := dk_61 (dk_at dksX6_readExpression_3 0 rfl rfl)
theorem dX6_readExpression_73 : decode cX6_readExpression 73 = .ok (.goto (-53), 3) := dk_167 255 203 (dk_at dksX6_readExpression_3 1 rfl rfl)
theorem dX6_readExpression_76 : decode cX6_readExpression 76 = .ok (.aload_n 0, 1) := dk_42 (dk_at dksX6_readExpression_3 4 rfl rfl)
theorem dX6_readExpression_77 : decode cX6_readExpression 77 = .ok (.iconst 1, 1) := dk_4 (dk_at dksX6_readExpression_3 5 rfl rfl)
theorem dX6_readExpression_78 : decode cX6_readExpression 78 = .ok (.invokevirtual 275, 3) := dk_182 1 19 (dk_at dksX6_readExpression_3 6 rfl rfl)
theorem dX6_readExpression_81 : decode cX6_readExpression 81 = .ok (.return_, 1) := dk_177 (dk_at dksX6_readExpression_3 9 rfl rfl)
abbrev cX6_readPlain : ByteArray := prog_28_method_38_code
def yX6_readPlain : MethodName := ⟨RX6, "readPlain", "()I"⟩
def dkwX6_readPlain_1 : List UInt8 := [16, 40, 182, 0, 249, 153, 0, 12, 42, 4, 16, 30, 182, 0, 252, 3, 172, 42, 182, 1, 16, 172]
abbrev dktX6_readPlain_1 : List UInt8 := dkwX6_readPlain_1 ++ []
def dkwX6_readPlain_0 : List UInt8 := [42, 20, 1, 14, 182, 0, 237, 153, 0, 15, 42, 16, 27, 182, 0, 232, 42, 182, 0, 169, 3, 172, 42]
abbrev dktX6_readPlain_0 : List UInt8 := dkwX6_readPlain_0 ++ dktX6_readPlain_1
theorem dksX6_readPlain_0 : cX6_readPlain.data.toList.drop 0 = dktX6_readPlain_0 := by decide +kernel
theorem dksX6_readPlain_1 : cX6_readPlain.data.toList.drop 23 = dktX6_readPlain_1 := dk_seg dksX6_readPlain_0 23 rfl rfl
theorem dX6_readPlain_0 : decode cX6_readPlain 0 = .ok (.aload_n 0, 1) := dk_42 (dk_at dksX6_readPlain_0 0 rfl rfl)
theorem dX6_readPlain_1 : decode cX6_readPlain 1 = .ok (.ldc2_w 270, 3) := dk_20 1 14 (dk_at dksX6_readPlain_0 1 rfl rfl)
theorem dX6_readPlain_4 : decode cX6_readPlain 4 = .ok (.invokevirtual 237, 3) := dk_182 0 237 (dk_at dksX6_readPlain_0 4 rfl rfl)
theorem dX6_readPlain_7 : decode cX6_readPlain 7 = .ok (.ifCond .eq 15, 3) := dk_153 0 15 (dk_at dksX6_readPlain_0 7 rfl rfl)
theorem dX6_readPlain_10 : decode cX6_readPlain 10 = .ok (.aload_n 0, 1) := dk_42 (dk_at dksX6_readPlain_0 10 rfl rfl)
theorem dX6_readPlain_11 : decode cX6_readPlain 11 = .ok (.bipush 27, 2) := dk_16 27 (dk_at dksX6_readPlain_0 11 rfl rfl)
theorem dX6_readPlain_13 : decode cX6_readPlain 13 = .ok (.invokevirtual 232, 3) := dk_182 0 232 (dk_at dksX6_readPlain_0 13 rfl rfl)
theorem dX6_readPlain_16 : decode cX6_readPlain 16 = .ok (.aload_n 0, 1) := dk_42 (dk_at dksX6_readPlain_0 16 rfl rfl)
theorem dX6_readPlain_17 : decode cX6_readPlain 17 = .ok (.invokevirtual 169, 3) := dk_182 0 169 (dk_at dksX6_readPlain_0 17 rfl rfl)
theorem dX6_readPlain_20 : decode cX6_readPlain 20 = .ok (.iconst 0, 1) := dk_3 (dk_at dksX6_readPlain_0 20 rfl rfl)
theorem dX6_readPlain_21 : decode cX6_readPlain 21 = .ok (.ireturn, 1) := dk_172 (dk_at dksX6_readPlain_0 21 rfl rfl)
theorem dX6_readPlain_22 : decode cX6_readPlain 22 = .ok (.aload_n 0, 1) := dk_42 (dk_at dksX6_readPlain_0 22 rfl rfl)
theorem dX6_readPlain_23 : decode cX6_readPlain 23 = .ok (.bipush 40, 2) := dk_16 40 (dk_at dksX6_readPlain_1 0 rfl rfl)
theorem dX6_readPlain_25 : decode cX6_readPlain 25 = .ok (.invokevirtual 249, 3) := dk_182 0 249 (dk_at dksX6_readPlain_1 2 rfl rfl)
theorem dX6_readPlain_28 : decode cX6_readPlain 28 = .ok (.ifCond .eq 12, 3) := dk_153 0 12 (dk_at dksX6_readPlain_1 5 rfl rfl)
theorem dX6_readPlain_31 : decode cX6_readPlain 31 = .ok (.aload_n 0, 1) := dk_42 (dk_at dksX6_readPlain_1 8 rfl rfl)
theorem dX6_readPlain_32 : decode cX6_readPlain 32 = .ok (.iconst 1, 1) := dk_4 (dk_at dksX6_readPlain_1 9 rfl rfl)
theorem dX6_readPlain_33 : decode cX6_readPlain 33 = .ok (.bipush 30, 2) := dk_16 30 (dk_at dksX6_readPlain_1 10 rfl rfl)
theorem dX6_readPlain_35 : decode cX6_readPlain 35 = .ok (.invokevirtual 252, 3) := dk_182 0 252 (dk_at dksX6_readPlain_1 12 rfl rfl)
theorem dX6_readPlain_38 : decode cX6_readPlain 38 = .ok (.iconst 0, 1) := dk_3 (dk_at dksX6_readPlain_1 15 rfl rfl)
theorem dX6_readPlain_39 : decode cX6_readPlain 39 = .ok (.ireturn, 1) := dk_172 (dk_at dksX6_readPlain_1 16 rfl rfl)
theorem dX6_readPlain_40 : decode cX6_readPlain 40 = .ok (.aload_n 0, 1) := dk_42 (dk_at dksX6_readPlain_1 17 rfl rfl)
theorem dX6_readPlain_41 : decode cX6_readPlain 41 = .ok (.invokevirtual 272, 3) := dk_182 1 16 (dk_at dksX6_readPlain_1 18 rfl rfl)
theorem dX6_readPlain_44 : decode cX6_readPlain 44 = .ok (.ireturn, 1) := dk_172 (dk_at dksX6_readPlain_1 21 rfl rfl)
abbrev cX6_push : ByteArray := prog_28_method_30_code
def yX6_push : MethodName := ⟨RX6, "push", "(I)V"⟩
def dkwX6_push_0 : List UInt8 := [42, 180, 0, 36, 42, 180, 0, 211, 27, 79, 42, 89, 180, 0, 211, 4, 96, 181, 0, 211, 177]
abbrev dktX6_push_0 : List UInt8 := dkwX6_push_0 ++ []
theorem dksX6_push_0 : cX6_push.data.toList.drop 0 = dktX6_push_0 := by decide +kernel
theorem dX6_push_0 : decode cX6_push 0 = .ok (.aload_n 0, 1) := dk_42 (dk_at dksX6_push_0 0 rfl rfl)
theorem dX6_push_1 : decode cX6_push 1 = .ok (.getfield 36, 3) := dk_180 0 36 (dk_at dksX6_push_0 1 rfl rfl)
theorem dX6_push_4 : decode cX6_push 4 = .ok (.aload_n 0, 1) := dk_42 (dk_at dksX6_push_0 4 rfl rfl)
theorem dX6_push_5 : decode cX6_push 5 = .ok (.getfield 211, 3) := dk_180 0 211 (dk_at dksX6_push_0 5 rfl rfl)
theorem dX6_push_8 : decode cX6_push 8 = .ok (.iload_n 1, 1) := dk_27 (dk_at dksX6_push_0 8 rfl rfl)
theorem dX6_push_9 : decode cX6_push 9 = .ok (.iastore, 1) := dk_79 (dk_at dksX6_push_0 9 rfl rfl)
theorem dX6_push_10 : decode cX6_push 10 = .ok (.aload_n 0, 1) := dk_42 (dk_at dksX6_push_0 10 rfl rfl)
theorem dX6_push_11 : decode cX6_push 11 = .ok (.dup, 1) := dk_89 (dk_at dksX6_push_0 11 rfl rfl)
theorem dX6_push_12 : decode cX6_push 12 = .ok (.getfield 211, 3) := dk_180 0 211 (dk_at dksX6_push_0 12 rfl rfl)
theorem dX6_push_15 : decode cX6_push 15 = .ok (.iconst 1, 1) := dk_4 (dk_at dksX6_push_0 15 rfl rfl)
theorem dX6_push_16 : decode cX6_push 16 = .ok (.iadd, 1) := dk_96 (dk_at dksX6_push_0 16 rfl rfl)
theorem dX6_push_17 : decode cX6_push 17 = .ok (.putfield 211, 3) := dk_181 0 211 (dk_at dksX6_push_0 17 rfl rfl)
theorem dX6_push_20 : decode cX6_push 20 = .ok (.return_, 1) := dk_177 (dk_at dksX6_push_0 20 rfl rfl)
abbrev cX6_isSign : ByteArray := prog_28_method_24_code
def yX6_isSign : MethodName := ⟨RX6, "isSign", "(I)Z"⟩
def dkwX6_isSign_0 : List UInt8 := [42, 180, 0, 186, 6, 160, 0, 17, 42, 180, 0, 175, 27, 133, 148, 154, 0, 7, 4, 167, 0, 4, 3, 172]
abbrev dktX6_isSign_0 : List UInt8 := dkwX6_isSign_0 ++ []
theorem dksX6_isSign_0 : cX6_isSign.data.toList.drop 0 = dktX6_isSign_0 := by decide +kernel
theorem dX6_isSign_0 : decode cX6_isSign 0 = .ok (.aload_n 0, 1) := dk_42 (dk_at dksX6_isSign_0 0 rfl rfl)
theorem dX6_isSign_1 : decode cX6_isSign 1 = .ok (.getfield 186, 3) := dk_180 0 186 (dk_at dksX6_isSign_0 1 rfl rfl)
theorem dX6_isSign_4 : decode cX6_isSign 4 = .ok (.iconst 3, 1) := dk_6 (dk_at dksX6_isSign_0 4 rfl rfl)
theorem dX6_isSign_5 : decode cX6_isSign 5 = .ok (.if_icmp .ne 17, 3) := dk_160 0 17 (dk_at dksX6_isSign_0 5 rfl rfl)
theorem dX6_isSign_8 : decode cX6_isSign 8 = .ok (.aload_n 0, 1) := dk_42 (dk_at dksX6_isSign_0 8 rfl rfl)
theorem dX6_isSign_9 : decode cX6_isSign 9 = .ok (.getfield 175, 3) := dk_180 0 175 (dk_at dksX6_isSign_0 9 rfl rfl)
theorem dX6_isSign_12 : decode cX6_isSign 12 = .ok (.iload_n 1, 1) := dk_27 (dk_at dksX6_isSign_0 12 rfl rfl)
theorem dX6_isSign_13 : decode cX6_isSign 13 = .ok (.i2l, 1) := dk_133 (dk_at dksX6_isSign_0 13 rfl rfl)
theorem dX6_isSign_14 : decode cX6_isSign 14 = .ok (.lcmp, 1) := dk_148 (dk_at dksX6_isSign_0 14 rfl rfl)
theorem dX6_isSign_15 : decode cX6_isSign 15 = .ok (.ifCond .ne 7, 3) := dk_154 0 7 (dk_at dksX6_isSign_0 15 rfl rfl)
theorem dX6_isSign_18 : decode cX6_isSign 18 = .ok (.iconst 1, 1) := dk_4 (dk_at dksX6_isSign_0 18 rfl rfl)
theorem dX6_isSign_19 : decode cX6_isSign 19 = .ok (.goto 4, 3) := dk_167 0 4 (dk_at dksX6_isSign_0 19 rfl rfl)
theorem dX6_isSign_22 : decode cX6_isSign 22 = .ok (.iconst 0, 1) := dk_3 (dk_at dksX6_isSign_0 22 rfl rfl)
theorem dX6_isSign_23 : decode cX6_isSign 23 = .ok (.ireturn, 1) := dk_172 (dk_at dksX6_isSign_0 23 rfl rfl)
abbrev cX6_open : ByteArray := prog_28_method_35_code
def yX6_open : MethodName := ⟨RX6, "open", "(ZI)V"⟩
def dkwX6_open_1 : List UInt8 := [180, 0, 165, 154, 0, 18, 42, 89, 180, 0, 229, 4, 96, 181, 0, 229, 42, 28, 182, 0, 232, 177]
abbrev dktX6_open_1 : List UInt8 := dkwX6_open_1 ++ []
def dkwX6_open_0 : List UInt8 := [42, 27, 153, 0, 16, 42, 180, 0, 229, 16, 8, 162, 0, 7, 4, 167, 0, 4, 3, 182, 0, 204, 42]
abbrev dktX6_open_0 : List UInt8 := dkwX6_open_0 ++ dktX6_open_1
theorem dksX6_open_0 : cX6_open.data.toList.drop 0 = dktX6_open_0 := by decide +kernel
theorem dksX6_open_1 : cX6_open.data.toList.drop 23 = dktX6_open_1 := dk_seg dksX6_open_0 23 rfl rfl
theorem dX6_open_0 : decode cX6_open 0 = .ok (.aload_n 0, 1) := dk_42 (dk_at dksX6_open_0 0 rfl rfl)
theorem dX6_open_1 : decode cX6_open 1 = .ok (.iload_n 1, 1) := dk_27 (dk_at dksX6_open_0 1 rfl rfl)
theorem dX6_open_2 : decode cX6_open 2 = .ok (.ifCond .eq 16, 3) := dk_153 0 16 (dk_at dksX6_open_0 2 rfl rfl)
theorem dX6_open_5 : decode cX6_open 5 = .ok (.aload_n 0, 1) := dk_42 (dk_at dksX6_open_0 5 rfl rfl)
theorem dX6_open_6 : decode cX6_open 6 = .ok (.getfield 229, 3) := dk_180 0 229 (dk_at dksX6_open_0 6 rfl rfl)
theorem dX6_open_9 : decode cX6_open 9 = .ok (.bipush 8, 2) := dk_16 8 (dk_at dksX6_open_0 9 rfl rfl)
theorem dX6_open_11 : decode cX6_open 11 = .ok (.if_icmp .ge 7, 3) := dk_162 0 7 (dk_at dksX6_open_0 11 rfl rfl)
theorem dX6_open_14 : decode cX6_open 14 = .ok (.iconst 1, 1) := dk_4 (dk_at dksX6_open_0 14 rfl rfl)
theorem dX6_open_15 : decode cX6_open 15 = .ok (.goto 4, 3) := dk_167 0 4 (dk_at dksX6_open_0 15 rfl rfl)
theorem dX6_open_18 : decode cX6_open 18 = .ok (.iconst 0, 1) := dk_3 (dk_at dksX6_open_0 18 rfl rfl)
theorem dX6_open_19 : decode cX6_open 19 = .ok (.invokevirtual 204, 3) := dk_182 0 204 (dk_at dksX6_open_0 19 rfl rfl)
theorem dX6_open_22 : decode cX6_open 22 = .ok (.aload_n 0, 1) := dk_42 (dk_at dksX6_open_0 22 rfl rfl)
theorem dX6_open_23 : decode cX6_open 23 = .ok (.getfield 165, 3) := dk_180 0 165 (dk_at dksX6_open_1 0 rfl rfl)
theorem dX6_open_26 : decode cX6_open 26 = .ok (.ifCond .ne 18, 3) := dk_154 0 18 (dk_at dksX6_open_1 3 rfl rfl)
theorem dX6_open_29 : decode cX6_open 29 = .ok (.aload_n 0, 1) := dk_42 (dk_at dksX6_open_1 6 rfl rfl)
theorem dX6_open_30 : decode cX6_open 30 = .ok (.dup, 1) := dk_89 (dk_at dksX6_open_1 7 rfl rfl)
theorem dX6_open_31 : decode cX6_open 31 = .ok (.getfield 229, 3) := dk_180 0 229 (dk_at dksX6_open_1 8 rfl rfl)
theorem dX6_open_34 : decode cX6_open 34 = .ok (.iconst 1, 1) := dk_4 (dk_at dksX6_open_1 11 rfl rfl)
theorem dX6_open_35 : decode cX6_open 35 = .ok (.iadd, 1) := dk_96 (dk_at dksX6_open_1 12 rfl rfl)
theorem dX6_open_36 : decode cX6_open 36 = .ok (.putfield 229, 3) := dk_181 0 229 (dk_at dksX6_open_1 13 rfl rfl)
theorem dX6_open_39 : decode cX6_open 39 = .ok (.aload_n 0, 1) := dk_42 (dk_at dksX6_open_1 16 rfl rfl)
theorem dX6_open_40 : decode cX6_open 40 = .ok (.iload_n 2, 1) := dk_28 (dk_at dksX6_open_1 17 rfl rfl)
theorem dX6_open_41 : decode cX6_open 41 = .ok (.invokevirtual 232, 3) := dk_182 0 232 (dk_at dksX6_open_1 18 rfl rfl)
theorem dX6_open_44 : decode cX6_open 44 = .ok (.return_, 1) := dk_177 (dk_at dksX6_open_1 21 rfl rfl)
abbrev cX6_readPart : ByteArray := prog_28_method_37_code
def yX6_readPart : MethodName := ⟨RX6, "readPart", "()I"⟩
def dkwX6_readPart_6 : List UInt8 := [28, 182, 0, 217, 6, 172]
abbrev dktX6_readPart_6 : List UInt8 := dkwX6_readPart_6 ++ []
def dkwX6_readPart_5 : List UInt8 := [27, 3, 182, 0, 217, 6, 172, 42, 20, 1, 8, 182, 1, 10, 61, 42, 180, 0, 165, 154, 0, 9, 42, 3]
abbrev dktX6_readPart_5 : List UInt8 := dkwX6_readPart_5 ++ dktX6_readPart_6
def dkwX6_readPart_4 : List UInt8 := [182, 0, 249, 27, 182, 0, 252, 4, 172, 42, 182, 1, 4, 60, 27, 2, 159, 0, 15, 42, 182, 0, 169, 42]
abbrev dktX6_readPart_4 : List UInt8 := dkwX6_readPart_4 ++ dktX6_readPart_5
def dkwX6_readPart_3 : List UInt8 := [182, 0, 237, 153, 0, 8, 16, 32, 167, 0, 5, 16, 33, 60, 42, 182, 0, 169, 42, 42, 16, 40]
abbrev dktX6_readPart_3 : List UInt8 := dkwX6_readPart_3 ++ dktX6_readPart_4
def dkwX6_readPart_2 : List UInt8 := [20, 1, 0, 182, 0, 237, 154, 0, 13, 42, 20, 1, 2, 182, 0, 237, 153, 0, 38, 42, 20, 1, 0]
abbrev dktX6_readPart_2 : List UInt8 := dkwX6_readPart_2 ++ dktX6_readPart_3
def dkwX6_readPart_1 : List UInt8 := [181, 0, 246, 42, 16, 91, 182, 0, 249, 153, 0, 12, 42, 4, 16, 31, 182, 0, 252, 4, 172, 42]
abbrev dktX6_readPart_1 : List UInt8 := dkwX6_readPart_1 ++ dktX6_readPart_2
def dkwX6_readPart_0 : List UInt8 := [42, 180, 0, 246, 16, 60, 160, 0, 9, 42, 182, 0, 201, 7, 172, 42, 89, 180, 0, 246, 4, 96]
abbrev dktX6_readPart_0 : List UInt8 := dkwX6_readPart_0 ++ dktX6_readPart_1
theorem dksX6_readPart_0 : cX6_readPart.data.toList.drop 0 = dktX6_readPart_0 := by decide +kernel
theorem dksX6_readPart_1 : cX6_readPart.data.toList.drop 22 = dktX6_readPart_1 := dk_seg dksX6_readPart_0 22 rfl rfl
theorem dksX6_readPart_2 : cX6_readPart.data.toList.drop 44 = dktX6_readPart_2 := dk_seg dksX6_readPart_1 22 rfl rfl
theorem dksX6_readPart_3 : cX6_readPart.data.toList.drop 67 = dktX6_readPart_3 := dk_seg dksX6_readPart_2 23 rfl rfl
theorem dksX6_readPart_4 : cX6_readPart.data.toList.drop 89 = dktX6_readPart_4 := dk_seg dksX6_readPart_3 22 rfl rfl
theorem dksX6_readPart_5 : cX6_readPart.data.toList.drop 113 = dktX6_readPart_5 := dk_seg dksX6_readPart_4 24 rfl rfl
theorem dksX6_readPart_6 : cX6_readPart.data.toList.drop 137 = dktX6_readPart_6 := dk_seg dksX6_readPart_5 24 rfl rfl
theorem dX6_readPart_0 : decode cX6_readPart 0 = .ok (.aload_n 0, 1) := dk_42 (dk_at dksX6_readPart_0 0 rfl rfl)
theorem dX6_readPart_1 : decode cX6_readPart 1 = .ok (.getfield 246, 3) := dk_180 0 246 (dk_at dksX6_readPart_0 1 rfl rfl)
theorem dX6_readPart_4 : decode cX6_readPart 4 = .ok (.bipush 60, 2) := dk_16 60 (dk_at dksX6_readPart_0 4 rfl rfl)
theorem dX6_readPart_6 : decode cX6_readPart 6 = .ok (.if_icmp .ne 9, 3) := dk_160 0 9 (dk_at dksX6_readPart_0 6 rfl rfl)
theorem dX6_readPart_9 : decode cX6_readPart 9 = .ok (.aload_n 0, 1) := dk_42 (dk_at dksX6_readPart_0 9 rfl rfl)
theorem dX6_readPart_10 : decode cX6_readPart 10 = .ok (.invokevirtual 201, 3) := dk_182 0 201 (dk_at dksX6_readPart_0 10 rfl rfl)
theorem dX6_readPart_13 : decode cX6_readPart 13 = .ok (.iconst 4, 1) := dk_7 (dk_at dksX6_readPart_0 13 rfl rfl)
theorem dX6_readPart_14 : decode cX6_readPart 14 = .ok (.ireturn, 1) := dk_172 (dk_at dksX6_readPart_0 14 rfl rfl)
theorem dX6_readPart_15 : decode cX6_readPart 15 = .ok (.aload_n 0, 1) := dk_42 (dk_at dksX6_readPart_0 15 rfl rfl)
theorem dX6_readPart_16 : decode cX6_readPart 16 = .ok (.dup, 1) := dk_89 (dk_at dksX6_readPart_0 16 rfl rfl)
theorem dX6_readPart_17 : decode cX6_readPart 17 = .ok (.getfield 246, 3) := dk_180 0 246 (dk_at dksX6_readPart_0 17 rfl rfl)
theorem dX6_readPart_20 : decode cX6_readPart 20 = .ok (.iconst 1, 1) := dk_4 (dk_at dksX6_readPart_0 20 rfl rfl)
theorem dX6_readPart_21 : decode cX6_readPart 21 = .ok (.iadd, 1) := dk_96 (dk_at dksX6_readPart_0 21 rfl rfl)
theorem dX6_readPart_22 : decode cX6_readPart 22 = .ok (.putfield 246, 3) := dk_181 0 246 (dk_at dksX6_readPart_1 0 rfl rfl)
theorem dX6_readPart_25 : decode cX6_readPart 25 = .ok (.aload_n 0, 1) := dk_42 (dk_at dksX6_readPart_1 3 rfl rfl)
theorem dX6_readPart_26 : decode cX6_readPart 26 = .ok (.bipush 91, 2) := dk_16 91 (dk_at dksX6_readPart_1 4 rfl rfl)
theorem dX6_readPart_28 : decode cX6_readPart 28 = .ok (.invokevirtual 249, 3) := dk_182 0 249 (dk_at dksX6_readPart_1 6 rfl rfl)
theorem dX6_readPart_31 : decode cX6_readPart 31 = .ok (.ifCond .eq 12, 3) := dk_153 0 12 (dk_at dksX6_readPart_1 9 rfl rfl)
theorem dX6_readPart_34 : decode cX6_readPart 34 = .ok (.aload_n 0, 1) := dk_42 (dk_at dksX6_readPart_1 12 rfl rfl)
theorem dX6_readPart_35 : decode cX6_readPart 35 = .ok (.iconst 1, 1) := dk_4 (dk_at dksX6_readPart_1 13 rfl rfl)
theorem dX6_readPart_36 : decode cX6_readPart 36 = .ok (.bipush 31, 2) := dk_16 31 (dk_at dksX6_readPart_1 14 rfl rfl)
theorem dX6_readPart_38 : decode cX6_readPart 38 = .ok (.invokevirtual 252, 3) := dk_182 0 252 (dk_at dksX6_readPart_1 16 rfl rfl)
theorem dX6_readPart_41 : decode cX6_readPart 41 = .ok (.iconst 1, 1) := dk_4 (dk_at dksX6_readPart_1 19 rfl rfl)
theorem dX6_readPart_42 : decode cX6_readPart 42 = .ok (.ireturn, 1) := dk_172 (dk_at dksX6_readPart_1 20 rfl rfl)
theorem dX6_readPart_43 : decode cX6_readPart 43 = .ok (.aload_n 0, 1) := dk_42 (dk_at dksX6_readPart_1 21 rfl rfl)
theorem dX6_readPart_44 : decode cX6_readPart 44 = .ok (.ldc2_w 256, 3) := dk_20 1 0 (dk_at dksX6_readPart_2 0 rfl rfl)
theorem dX6_readPart_47 : decode cX6_readPart 47 = .ok (.invokevirtual 237, 3) := dk_182 0 237 (dk_at dksX6_readPart_2 3 rfl rfl)
theorem dX6_readPart_50 : decode cX6_readPart 50 = .ok (.ifCond .ne 13, 3) := dk_154 0 13 (dk_at dksX6_readPart_2 6 rfl rfl)
theorem dX6_readPart_53 : decode cX6_readPart 53 = .ok (.aload_n 0, 1) := dk_42 (dk_at dksX6_readPart_2 9 rfl rfl)
theorem dX6_readPart_54 : decode cX6_readPart 54 = .ok (.ldc2_w 258, 3) := dk_20 1 2 (dk_at dksX6_readPart_2 10 rfl rfl)
theorem dX6_readPart_57 : decode cX6_readPart 57 = .ok (.invokevirtual 237, 3) := dk_182 0 237 (dk_at dksX6_readPart_2 13 rfl rfl)
theorem dX6_readPart_60 : decode cX6_readPart 60 = .ok (.ifCond .eq 38, 3) := dk_153 0 38 (dk_at dksX6_readPart_2 16 rfl rfl)
theorem dX6_readPart_63 : decode cX6_readPart 63 = .ok (.aload_n 0, 1) := dk_42 (dk_at dksX6_readPart_2 19 rfl rfl)
theorem dX6_readPart_64 : decode cX6_readPart 64 = .ok (.ldc2_w 256, 3) := dk_20 1 0 (dk_at dksX6_readPart_2 20 rfl rfl)
theorem dX6_readPart_67 : decode cX6_readPart 67 = .ok (.invokevirtual 237, 3) := dk_182 0 237 (dk_at dksX6_readPart_3 0 rfl rfl)
theorem dX6_readPart_70 : decode cX6_readPart 70 = .ok (.ifCond .eq 8, 3) := dk_153 0 8 (dk_at dksX6_readPart_3 3 rfl rfl)
theorem dX6_readPart_73 : decode cX6_readPart 73 = .ok (.bipush 32, 2) := dk_16 32 (dk_at dksX6_readPart_3 6 rfl rfl)
theorem dX6_readPart_75 : decode cX6_readPart 75 = .ok (.goto 5, 3) := dk_167 0 5 (dk_at dksX6_readPart_3 8 rfl rfl)
theorem dX6_readPart_78 : decode cX6_readPart 78 = .ok (.bipush 33, 2) := dk_16 33 (dk_at dksX6_readPart_3 11 rfl rfl)
theorem dX6_readPart_80 : decode cX6_readPart 80 = .ok (.istore_n 1, 1) := dk_60 (dk_at dksX6_readPart_3 13 rfl rfl)
theorem dX6_readPart_81 : decode cX6_readPart 81 = .ok (.aload_n 0, 1) := dk_42 (dk_at dksX6_readPart_3 14 rfl rfl)
theorem dX6_readPart_82 : decode cX6_readPart 82 = .ok (.invokevirtual 169, 3) := dk_182 0 169 (dk_at dksX6_readPart_3 15 rfl rfl)
theorem dX6_readPart_85 : decode cX6_readPart 85 = .ok (.aload_n 0, 1) := dk_42 (dk_at dksX6_readPart_3 18 rfl rfl)
theorem dX6_readPart_86 : decode cX6_readPart 86 = .ok (.aload_n 0, 1) := dk_42 (dk_at dksX6_readPart_3 19 rfl rfl)
theorem dX6_readPart_87 : decode cX6_readPart 87 = .ok (.bipush 40, 2) := dk_16 40 (dk_at dksX6_readPart_3 20 rfl rfl)
theorem dX6_readPart_89 : decode cX6_readPart 89 = .ok (.invokevirtual 249, 3) := dk_182 0 249 (dk_at dksX6_readPart_4 0 rfl rfl)
theorem dX6_readPart_92 : decode cX6_readPart 92 = .ok (.iload_n 1, 1) := dk_27 (dk_at dksX6_readPart_4 3 rfl rfl)
theorem dX6_readPart_93 : decode cX6_readPart 93 = .ok (.invokevirtual 252, 3) := dk_182 0 252 (dk_at dksX6_readPart_4 4 rfl rfl)
theorem dX6_readPart_96 : decode cX6_readPart 96 = .ok (.iconst 1, 1) := dk_4 (dk_at dksX6_readPart_4 7 rfl rfl)
theorem dX6_readPart_97 : decode cX6_readPart 97 = .ok (.ireturn, 1) := dk_172 (dk_at dksX6_readPart_4 8 rfl rfl)
theorem dX6_readPart_98 : decode cX6_readPart 98 = .ok (.aload_n 0, 1) := dk_42 (dk_at dksX6_readPart_4 9 rfl rfl)
theorem dX6_readPart_99 : decode cX6_readPart 99 = .ok (.invokevirtual 260, 3) := dk_182 1 4 (dk_at dksX6_readPart_4 10 rfl rfl)
theorem dX6_readPart_102 : decode cX6_readPart 102 = .ok (.istore_n 1, 1) := dk_60 (dk_at dksX6_readPart_4 13 rfl rfl)
theorem dX6_readPart_103 : decode cX6_readPart 103 = .ok (.iload_n 1, 1) := dk_27 (dk_at dksX6_readPart_4 14 rfl rfl)
theorem dX6_readPart_104 : decode cX6_readPart 104 = .ok (.iconst (-1), 1) := dk_2 (dk_at dksX6_readPart_4 15 rfl rfl)
theorem dX6_readPart_105 : decode cX6_readPart 105 = .ok (.if_icmp .eq 15, 3) := dk_159 0 15 (dk_at dksX6_readPart_4 16 rfl rfl)
theorem dX6_readPart_108 : decode cX6_readPart 108 = .ok (.aload_n 0, 1) := dk_42 (dk_at dksX6_readPart_4 19 rfl rfl)
theorem dX6_readPart_109 : decode cX6_readPart 109 = .ok (.invokevirtual 169, 3) := dk_182 0 169 (dk_at dksX6_readPart_4 20 rfl rfl)
theorem dX6_readPart_112 : decode cX6_readPart 112 = .ok (.aload_n 0, 1) := dk_42 (dk_at dksX6_readPart_4 23 rfl rfl)
theorem dX6_readPart_113 : decode cX6_readPart 113 = .ok (.iload_n 1, 1) := dk_27 (dk_at dksX6_readPart_5 0 rfl rfl)
theorem dX6_readPart_114 : decode cX6_readPart 114 = .ok (.iconst 0, 1) := dk_3 (dk_at dksX6_readPart_5 1 rfl rfl)
theorem dX6_readPart_115 : decode cX6_readPart 115 = .ok (.invokevirtual 217, 3) := dk_182 0 217 (dk_at dksX6_readPart_5 2 rfl rfl)
theorem dX6_readPart_118 : decode cX6_readPart 118 = .ok (.iconst 3, 1) := dk_6 (dk_at dksX6_readPart_5 5 rfl rfl)
theorem dX6_readPart_119 : decode cX6_readPart 119 = .ok (.ireturn, 1) := dk_172 (dk_at dksX6_readPart_5 6 rfl rfl)
theorem dX6_readPart_120 : decode cX6_readPart 120 = .ok (.aload_n 0, 1) := dk_42 (dk_at dksX6_readPart_5 7 rfl rfl)
theorem dX6_readPart_121 : decode cX6_readPart 121 = .ok (.ldc2_w 264, 3) := dk_20 1 8 (dk_at dksX6_readPart_5 8 rfl rfl)
theorem dX6_readPart_124 : decode cX6_readPart 124 = .ok (.invokevirtual 266, 3) := dk_182 1 10 (dk_at dksX6_readPart_5 11 rfl rfl)
theorem dX6_readPart_127 : decode cX6_readPart 127 = .ok (.istore_n 2, 1) := dk_61 (dk_at dksX6_readPart_5 14 rfl rfl)
theorem dX6_readPart_128 : decode cX6_readPart 128 = .ok (.aload_n 0, 1) := dk_42 (dk_at dksX6_readPart_5 15 rfl rfl)
theorem dX6_readPart_129 : decode cX6_readPart 129 = .ok (.getfield 165, 3) := dk_180 0 165 (dk_at dksX6_readPart_5 16 rfl rfl)
theorem dX6_readPart_132 : decode cX6_readPart 132 = .ok (.ifCond .ne 9, 3) := dk_154 0 9 (dk_at dksX6_readPart_5 19 rfl rfl)
theorem dX6_readPart_135 : decode cX6_readPart 135 = .ok (.aload_n 0, 1) := dk_42 (dk_at dksX6_readPart_5 22 rfl rfl)
theorem dX6_readPart_136 : decode cX6_readPart 136 = .ok (.iconst 0, 1) := dk_3 (dk_at dksX6_readPart_5 23 rfl rfl)
theorem dX6_readPart_137 : decode cX6_readPart 137 = .ok (.iload_n 2, 1) := dk_28 (dk_at dksX6_readPart_6 0 rfl rfl)
theorem dX6_readPart_138 : decode cX6_readPart 138 = .ok (.invokevirtual 217, 3) := dk_182 0 217 (dk_at dksX6_readPart_6 1 rfl rfl)
theorem dX6_readPart_141 : decode cX6_readPart 141 = .ok (.iconst 3, 1) := dk_6 (dk_at dksX6_readPart_6 4 rfl rfl)
theorem dX6_readPart_142 : decode cX6_readPart 142 = .ok (.ireturn, 1) := dk_172 (dk_at dksX6_readPart_6 5 rfl rfl)
abbrev cX6_wordAt : ByteArray := prog_28_method_36_code
def yX6_wordAt : MethodName := ⟨RX6, "wordAt", "()I"⟩
def dkwX6_wordAt_2 : List UInt8 := [182, 0, 237, 153, 0, 7, 7, 167, 0, 4, 2, 172]
abbrev dktX6_wordAt_2 : List UInt8 := dkwX6_wordAt_2 ++ []
def dkwX6_wordAt_1 : List UInt8 := [5, 167, 0, 32, 42, 20, 0, 242, 182, 0, 237, 153, 0, 7, 6, 167, 0, 18, 42, 20, 0, 244]
abbrev dktX6_wordAt_1 : List UInt8 := dkwX6_wordAt_1 ++ dktX6_wordAt_2
def dkwX6_wordAt_0 : List UInt8 := [42, 20, 0, 235, 182, 0, 237, 153, 0, 7, 4, 167, 0, 46, 42, 20, 0, 240, 182, 0, 237, 153, 0, 7]
abbrev dktX6_wordAt_0 : List UInt8 := dkwX6_wordAt_0 ++ dktX6_wordAt_1
theorem dksX6_wordAt_0 : cX6_wordAt.data.toList.drop 0 = dktX6_wordAt_0 := by decide +kernel
theorem dksX6_wordAt_1 : cX6_wordAt.data.toList.drop 24 = dktX6_wordAt_1 := dk_seg dksX6_wordAt_0 24 rfl rfl
theorem dksX6_wordAt_2 : cX6_wordAt.data.toList.drop 46 = dktX6_wordAt_2 := dk_seg dksX6_wordAt_1 22 rfl rfl
theorem dX6_wordAt_0 : decode cX6_wordAt 0 = .ok (.aload_n 0, 1) := dk_42 (dk_at dksX6_wordAt_0 0 rfl rfl)
theorem dX6_wordAt_1 : decode cX6_wordAt 1 = .ok (.ldc2_w 235, 3) := dk_20 0 235 (dk_at dksX6_wordAt_0 1 rfl rfl)
theorem dX6_wordAt_4 : decode cX6_wordAt 4 = .ok (.invokevirtual 237, 3) := dk_182 0 237 (dk_at dksX6_wordAt_0 4 rfl rfl)
theorem dX6_wordAt_7 : decode cX6_wordAt 7 = .ok (.ifCond .eq 7, 3) := dk_153 0 7 (dk_at dksX6_wordAt_0 7 rfl rfl)
theorem dX6_wordAt_10 : decode cX6_wordAt 10 = .ok (.iconst 1, 1) := dk_4 (dk_at dksX6_wordAt_0 10 rfl rfl)
theorem dX6_wordAt_11 : decode cX6_wordAt 11 = .ok (.goto 46, 3) := dk_167 0 46 (dk_at dksX6_wordAt_0 11 rfl rfl)
theorem dX6_wordAt_14 : decode cX6_wordAt 14 = .ok (.aload_n 0, 1) := dk_42 (dk_at dksX6_wordAt_0 14 rfl rfl)
theorem dX6_wordAt_15 : decode cX6_wordAt 15 = .ok (.ldc2_w 240, 3) := dk_20 0 240 (dk_at dksX6_wordAt_0 15 rfl rfl)
theorem dX6_wordAt_18 : decode cX6_wordAt 18 = .ok (.invokevirtual 237, 3) := dk_182 0 237 (dk_at dksX6_wordAt_0 18 rfl rfl)
theorem dX6_wordAt_21 : decode cX6_wordAt 21 = .ok (.ifCond .eq 7, 3) := dk_153 0 7 (dk_at dksX6_wordAt_0 21 rfl rfl)
theorem dX6_wordAt_24 : decode cX6_wordAt 24 = .ok (.iconst 2, 1) := dk_5 (dk_at dksX6_wordAt_1 0 rfl rfl)
theorem dX6_wordAt_25 : decode cX6_wordAt 25 = .ok (.goto 32, 3) := dk_167 0 32 (dk_at dksX6_wordAt_1 1 rfl rfl)
theorem dX6_wordAt_28 : decode cX6_wordAt 28 = .ok (.aload_n 0, 1) := dk_42 (dk_at dksX6_wordAt_1 4 rfl rfl)
theorem dX6_wordAt_29 : decode cX6_wordAt 29 = .ok (.ldc2_w 242, 3) := dk_20 0 242 (dk_at dksX6_wordAt_1 5 rfl rfl)
theorem dX6_wordAt_32 : decode cX6_wordAt 32 = .ok (.invokevirtual 237, 3) := dk_182 0 237 (dk_at dksX6_wordAt_1 8 rfl rfl)
theorem dX6_wordAt_35 : decode cX6_wordAt 35 = .ok (.ifCond .eq 7, 3) := dk_153 0 7 (dk_at dksX6_wordAt_1 11 rfl rfl)
theorem dX6_wordAt_38 : decode cX6_wordAt 38 = .ok (.iconst 3, 1) := dk_6 (dk_at dksX6_wordAt_1 14 rfl rfl)
theorem dX6_wordAt_39 : decode cX6_wordAt 39 = .ok (.goto 18, 3) := dk_167 0 18 (dk_at dksX6_wordAt_1 15 rfl rfl)
theorem dX6_wordAt_42 : decode cX6_wordAt 42 = .ok (.aload_n 0, 1) := dk_42 (dk_at dksX6_wordAt_1 18 rfl rfl)
theorem dX6_wordAt_43 : decode cX6_wordAt 43 = .ok (.ldc2_w 244, 3) := dk_20 0 244 (dk_at dksX6_wordAt_1 19 rfl rfl)
theorem dX6_wordAt_46 : decode cX6_wordAt 46 = .ok (.invokevirtual 237, 3) := dk_182 0 237 (dk_at dksX6_wordAt_2 0 rfl rfl)
theorem dX6_wordAt_49 : decode cX6_wordAt 49 = .ok (.ifCond .eq 7, 3) := dk_153 0 7 (dk_at dksX6_wordAt_2 3 rfl rfl)
theorem dX6_wordAt_52 : decode cX6_wordAt 52 = .ok (.iconst 4, 1) := dk_7 (dk_at dksX6_wordAt_2 6 rfl rfl)
theorem dX6_wordAt_53 : decode cX6_wordAt 53 = .ok (.goto 4, 3) := dk_167 0 4 (dk_at dksX6_wordAt_2 7 rfl rfl)
theorem dX6_wordAt_56 : decode cX6_wordAt 56 = .ok (.iconst (-1), 1) := dk_2 (dk_at dksX6_wordAt_2 10 rfl rfl)
theorem dX6_wordAt_57 : decode cX6_wordAt 57 = .ok (.ireturn, 1) := dk_172 (dk_at dksX6_wordAt_2 11 rfl rfl)
abbrev cX6_emit : ByteArray := prog_28_method_29_code
def yX6_emit : MethodName := ⟨RX6, "emit", "(II)V"⟩
def dkwX6_emit_1 : List UInt8 := [180, 0, 208, 4, 96, 181, 0, 208, 177]
abbrev dktX6_emit_1 : List UInt8 := dkwX6_emit_1 ++ []
def dkwX6_emit_0 : List UInt8 := [42, 180, 0, 30, 42, 180, 0, 208, 27, 79, 42, 180, 0, 33, 42, 180, 0, 208, 28, 79, 42, 89]
abbrev dktX6_emit_0 : List UInt8 := dkwX6_emit_0 ++ dktX6_emit_1
theorem dksX6_emit_0 : cX6_emit.data.toList.drop 0 = dktX6_emit_0 := by decide +kernel
theorem dksX6_emit_1 : cX6_emit.data.toList.drop 22 = dktX6_emit_1 := dk_seg dksX6_emit_0 22 rfl rfl
theorem dX6_emit_0 : decode cX6_emit 0 = .ok (.aload_n 0, 1) := dk_42 (dk_at dksX6_emit_0 0 rfl rfl)
theorem dX6_emit_1 : decode cX6_emit 1 = .ok (.getfield 30, 3) := dk_180 0 30 (dk_at dksX6_emit_0 1 rfl rfl)
theorem dX6_emit_4 : decode cX6_emit 4 = .ok (.aload_n 0, 1) := dk_42 (dk_at dksX6_emit_0 4 rfl rfl)
theorem dX6_emit_5 : decode cX6_emit 5 = .ok (.getfield 208, 3) := dk_180 0 208 (dk_at dksX6_emit_0 5 rfl rfl)
theorem dX6_emit_8 : decode cX6_emit 8 = .ok (.iload_n 1, 1) := dk_27 (dk_at dksX6_emit_0 8 rfl rfl)
theorem dX6_emit_9 : decode cX6_emit 9 = .ok (.iastore, 1) := dk_79 (dk_at dksX6_emit_0 9 rfl rfl)
theorem dX6_emit_10 : decode cX6_emit 10 = .ok (.aload_n 0, 1) := dk_42 (dk_at dksX6_emit_0 10 rfl rfl)
theorem dX6_emit_11 : decode cX6_emit 11 = .ok (.getfield 33, 3) := dk_180 0 33 (dk_at dksX6_emit_0 11 rfl rfl)
theorem dX6_emit_14 : decode cX6_emit 14 = .ok (.aload_n 0, 1) := dk_42 (dk_at dksX6_emit_0 14 rfl rfl)
theorem dX6_emit_15 : decode cX6_emit 15 = .ok (.getfield 208, 3) := dk_180 0 208 (dk_at dksX6_emit_0 15 rfl rfl)
theorem dX6_emit_18 : decode cX6_emit 18 = .ok (.iload_n 2, 1) := dk_28 (dk_at dksX6_emit_0 18 rfl rfl)
theorem dX6_emit_19 : decode cX6_emit 19 = .ok (.iastore, 1) := dk_79 (dk_at dksX6_emit_0 19 rfl rfl)
theorem dX6_emit_20 : decode cX6_emit 20 = .ok (.aload_n 0, 1) := dk_42 (dk_at dksX6_emit_0 20 rfl rfl)
theorem dX6_emit_21 : decode cX6_emit 21 = .ok (.dup, 1) := dk_89 (dk_at dksX6_emit_0 21 rfl rfl)
theorem dX6_emit_22 : decode cX6_emit 22 = .ok (.getfield 208, 3) := dk_180 0 208 (dk_at dksX6_emit_1 0 rfl rfl)
theorem dX6_emit_25 : decode cX6_emit 25 = .ok (.iconst 1, 1) := dk_4 (dk_at dksX6_emit_1 3 rfl rfl)
theorem dX6_emit_26 : decode cX6_emit 26 = .ok (.iadd, 1) := dk_96 (dk_at dksX6_emit_1 4 rfl rfl)
theorem dX6_emit_27 : decode cX6_emit 27 = .ok (.putfield 208, 3) := dk_181 0 208 (dk_at dksX6_emit_1 5 rfl rfl)
theorem dX6_emit_30 : decode cX6_emit 30 = .ok (.return_, 1) := dk_177 (dk_at dksX6_emit_1 8 rfl rfl)
abbrev cX6_behindSum : ByteArray := prog_28_method_39_code
def yX6_behindSum : MethodName := ⟨RX6, "behindSum", "(Z)I"⟩
def dkwX6_behindSum_9 : List UInt8 := [8, 182, 1, 19, 42, 29, 182, 0, 232, 4, 172]
abbrev dktX6_behindSum_9 : List UInt8 := dkwX6_behindSum_9 ++ []
def dkwX6_behindSum_8 : List UInt8 := [16, 61, 182, 0, 249, 153, 0, 7, 4, 167, 0, 4, 3, 182, 0, 204, 42, 180, 0, 165, 154, 0, 13, 42]
abbrev dktX6_behindSum_8 : List UInt8 := dkwX6_behindSum_8 ++ dktX6_behindSum_9
def dkwX6_behindSum_7 : List UInt8 := [16, 62, 182, 0, 249, 153, 0, 8, 16, 25, 167, 0, 5, 16, 26, 62, 42, 29, 16, 26, 160, 0, 12, 42]
abbrev dktX6_behindSum_7 : List UInt8 := dkwX6_behindSum_7 ++ dktX6_behindSum_8
def dkwX6_behindSum_6 : List UInt8 := [182, 1, 25, 153, 0, 5, 5, 172, 42, 16, 60, 182, 0, 249, 153, 0, 8, 16, 24, 167, 0, 19, 42]
abbrev dktX6_behindSum_6 : List UInt8 := dkwX6_behindSum_6 ++ dktX6_behindSum_7
def dkwX6_behindSum_5 : List UInt8 := [159, 0, 9, 42, 28, 3, 182, 0, 217, 6, 172, 28, 2, 160, 0, 9, 27, 154, 0, 5, 7, 172, 42]
abbrev dktX6_behindSum_5 : List UInt8 := dkwX6_behindSum_5 ++ dktX6_behindSum_6
def dkwX6_behindSum_4 : List UInt8 := [89, 180, 0, 211, 4, 100, 181, 0, 211, 42, 89, 180, 0, 229, 4, 100, 181, 0, 229, 28, 16, 31]
abbrev dktX6_behindSum_4 : List UInt8 := dkwX6_behindSum_4 ++ dktX6_behindSum_5
def dkwX6_behindSum_3 : List UInt8 := [167, 0, 5, 16, 41, 182, 0, 249, 182, 0, 204, 42, 180, 0, 165, 154, 0, 40, 42, 8, 182, 1, 19, 42]
abbrev dktX6_behindSum_3 : List UInt8 := dkwX6_behindSum_3 ++ dktX6_behindSum_4
def dkwX6_behindSum_2 : List UInt8 := [172, 42, 182, 1, 22, 61, 28, 16, 30, 164, 0, 70, 42, 42, 28, 16, 31, 160, 0, 8, 16, 93]
abbrev dktX6_behindSum_2 : List UInt8 := dkwX6_behindSum_2 ++ dktX6_behindSum_3
def dkwX6_behindSum_1 : List UInt8 := [42, 16, 43, 182, 0, 249, 153, 0, 8, 16, 20, 167, 0, 5, 16, 21, 182, 0, 232, 42, 182, 0, 169, 4]
abbrev dktX6_behindSum_1 : List UInt8 := dkwX6_behindSum_1 ++ dktX6_behindSum_2
def dkwX6_behindSum_0 : List UInt8 := [42, 16, 43, 182, 0, 249, 154, 0, 12, 42, 16, 45, 182, 0, 249, 153, 0, 34, 42, 8, 182, 1, 19, 42]
abbrev dktX6_behindSum_0 : List UInt8 := dkwX6_behindSum_0 ++ dktX6_behindSum_1
theorem dksX6_behindSum_0 : cX6_behindSum.data.toList.drop 0 = dktX6_behindSum_0 := by decide +kernel
theorem dksX6_behindSum_1 : cX6_behindSum.data.toList.drop 24 = dktX6_behindSum_1 := dk_seg dksX6_behindSum_0 24 rfl rfl
theorem dksX6_behindSum_2 : cX6_behindSum.data.toList.drop 48 = dktX6_behindSum_2 := dk_seg dksX6_behindSum_1 24 rfl rfl
theorem dksX6_behindSum_3 : cX6_behindSum.data.toList.drop 70 = dktX6_behindSum_3 := dk_seg dksX6_behindSum_2 22 rfl rfl
theorem dksX6_behindSum_4 : cX6_behindSum.data.toList.drop 94 = dktX6_behindSum_4 := dk_seg dksX6_behindSum_3 24 rfl rfl
theorem dksX6_behindSum_5 : cX6_behindSum.data.toList.drop 116 = dktX6_behindSum_5 := dk_seg dksX6_behindSum_4 22 rfl rfl
theorem dksX6_behindSum_6 : cX6_behindSum.data.toList.drop 139 = dktX6_behindSum_6 := dk_seg dksX6_behindSum_5 23 rfl rfl
theorem dksX6_behindSum_7 : cX6_behindSum.data.toList.drop 162 = dktX6_behindSum_7 := dk_seg dksX6_behindSum_6 23 rfl rfl
theorem dksX6_behindSum_8 : cX6_behindSum.data.toList.drop 186 = dktX6_behindSum_8 := dk_seg dksX6_behindSum_7 24 rfl rfl
theorem dksX6_behindSum_9 : cX6_behindSum.data.toList.drop 210 = dktX6_behindSum_9 := dk_seg dksX6_behindSum_8 24 rfl rfl
theorem dX6_behindSum_0 : decode cX6_behindSum 0 = .ok (.aload_n 0, 1) := dk_42 (dk_at dksX6_behindSum_0 0 rfl rfl)
theorem dX6_behindSum_1 : decode cX6_behindSum 1 = .ok (.bipush 43, 2) := dk_16 43 (dk_at dksX6_behindSum_0 1 rfl rfl)
theorem dX6_behindSum_3 : decode cX6_behindSum 3 = .ok (.invokevirtual 249, 3) := dk_182 0 249 (dk_at dksX6_behindSum_0 3 rfl rfl)
theorem dX6_behindSum_6 : decode cX6_behindSum 6 = .ok (.ifCond .ne 12, 3) := dk_154 0 12 (dk_at dksX6_behindSum_0 6 rfl rfl)
theorem dX6_behindSum_9 : decode cX6_behindSum 9 = .ok (.aload_n 0, 1) := dk_42 (dk_at dksX6_behindSum_0 9 rfl rfl)
theorem dX6_behindSum_10 : decode cX6_behindSum 10 = .ok (.bipush 45, 2) := dk_16 45 (dk_at dksX6_behindSum_0 10 rfl rfl)
theorem dX6_behindSum_12 : decode cX6_behindSum 12 = .ok (.invokevirtual 249, 3) := dk_182 0 249 (dk_at dksX6_behindSum_0 12 rfl rfl)
theorem dX6_behindSum_15 : decode cX6_behindSum 15 = .ok (.ifCond .eq 34, 3) := dk_153 0 34 (dk_at dksX6_behindSum_0 15 rfl rfl)
theorem dX6_behindSum_18 : decode cX6_behindSum 18 = .ok (.aload_n 0, 1) := dk_42 (dk_at dksX6_behindSum_0 18 rfl rfl)
theorem dX6_behindSum_19 : decode cX6_behindSum 19 = .ok (.iconst 5, 1) := dk_8 (dk_at dksX6_behindSum_0 19 rfl rfl)
theorem dX6_behindSum_20 : decode cX6_behindSum 20 = .ok (.invokevirtual 275, 3) := dk_182 1 19 (dk_at dksX6_behindSum_0 20 rfl rfl)
theorem dX6_behindSum_23 : decode cX6_behindSum 23 = .ok (.aload_n 0, 1) := dk_42 (dk_at dksX6_behindSum_0 23 rfl rfl)
theorem dX6_behindSum_24 : decode cX6_behindSum 24 = .ok (.aload_n 0, 1) := dk_42 (dk_at dksX6_behindSum_1 0 rfl rfl)
theorem dX6_behindSum_25 : decode cX6_behindSum 25 = .ok (.bipush 43, 2) := dk_16 43 (dk_at dksX6_behindSum_1 1 rfl rfl)
theorem dX6_behindSum_27 : decode cX6_behindSum 27 = .ok (.invokevirtual 249, 3) := dk_182 0 249 (dk_at dksX6_behindSum_1 3 rfl rfl)
theorem dX6_behindSum_30 : decode cX6_behindSum 30 = .ok (.ifCond .eq 8, 3) := dk_153 0 8 (dk_at dksX6_behindSum_1 6 rfl rfl)
theorem dX6_behindSum_33 : decode cX6_behindSum 33 = .ok (.bipush 20, 2) := dk_16 20 (dk_at dksX6_behindSum_1 9 rfl rfl)
theorem dX6_behindSum_35 : decode cX6_behindSum 35 = .ok (.goto 5, 3) := dk_167 0 5 (dk_at dksX6_behindSum_1 11 rfl rfl)
theorem dX6_behindSum_38 : decode cX6_behindSum 38 = .ok (.bipush 21, 2) := dk_16 21 (dk_at dksX6_behindSum_1 14 rfl rfl)
theorem dX6_behindSum_40 : decode cX6_behindSum 40 = .ok (.invokevirtual 232, 3) := dk_182 0 232 (dk_at dksX6_behindSum_1 16 rfl rfl)
theorem dX6_behindSum_43 : decode cX6_behindSum 43 = .ok (.aload_n 0, 1) := dk_42 (dk_at dksX6_behindSum_1 19 rfl rfl)
theorem dX6_behindSum_44 : decode cX6_behindSum 44 = .ok (.invokevirtual 169, 3) := dk_182 0 169 (dk_at dksX6_behindSum_1 20 rfl rfl)
theorem dX6_behindSum_47 : decode cX6_behindSum 47 = .ok (.iconst 1, 1) := dk_4 (dk_at dksX6_behindSum_1 23 rfl rfl)
theorem dX6_behindSum_48 : decode cX6_behindSum 48 = .ok (.ireturn, 1) := dk_172 (dk_at dksX6_behindSum_2 0 rfl rfl)
theorem dX6_behindSum_49 : decode cX6_behindSum 49 = .ok (.aload_n 0, 1) := dk_42 (dk_at dksX6_behindSum_2 1 rfl rfl)
theorem dX6_behindSum_50 : decode cX6_behindSum 50 = .ok (.invokevirtual 278, 3) := dk_182 1 22 (dk_at dksX6_behindSum_2 2 rfl rfl)
theorem dX6_behindSum_53 : decode cX6_behindSum 53 = .ok (.istore_n 2, 1) := dk_61 (dk_at dksX6_behindSum_2 5 rfl rfl)
theorem dX6_behindSum_54 : decode cX6_behindSum 54 = .ok (.iload_n 2, 1) := dk_28 (dk_at dksX6_behindSum_2 6 rfl rfl)
theorem dX6_behindSum_55 : decode cX6_behindSum 55 = .ok (.bipush 30, 2) := dk_16 30 (dk_at dksX6_behindSum_2 7 rfl rfl)
theorem dX6_behindSum_57 : decode cX6_behindSum 57 = .ok (.if_icmp .le 70, 3) := dk_164 0 70 (dk_at dksX6_behindSum_2 9 rfl rfl)
theorem dX6_behindSum_60 : decode cX6_behindSum 60 = .ok (.aload_n 0, 1) := dk_42 (dk_at dksX6_behindSum_2 12 rfl rfl)
theorem dX6_behindSum_61 : decode cX6_behindSum 61 = .ok (.aload_n 0, 1) := dk_42 (dk_at dksX6_behindSum_2 13 rfl rfl)
theorem dX6_behindSum_62 : decode cX6_behindSum 62 = .ok (.iload_n 2, 1) := dk_28 (dk_at dksX6_behindSum_2 14 rfl rfl)
theorem dX6_behindSum_63 : decode cX6_behindSum 63 = .ok (.bipush 31, 2) := dk_16 31 (dk_at dksX6_behindSum_2 15 rfl rfl)
theorem dX6_behindSum_65 : decode cX6_behindSum 65 = .ok (.if_icmp .ne 8, 3) := dk_160 0 8 (dk_at dksX6_behindSum_2 17 rfl rfl)
theorem dX6_behindSum_68 : decode cX6_behindSum 68 = .ok (.bipush 93, 2) := dk_16 93 (dk_at dksX6_behindSum_2 20 rfl rfl)
theorem dX6_behindSum_70 : decode cX6_behindSum 70 = .ok (.goto 5, 3) := dk_167 0 5 (dk_at dksX6_behindSum_3 0 rfl rfl)
theorem dX6_behindSum_73 : decode cX6_behindSum 73 = .ok (.bipush 41, 2) := dk_16 41 (dk_at dksX6_behindSum_3 3 rfl rfl)
theorem dX6_behindSum_75 : decode cX6_behindSum 75 = .ok (.invokevirtual 249, 3) := dk_182 0 249 (dk_at dksX6_behindSum_3 5 rfl rfl)
theorem dX6_behindSum_78 : decode cX6_behindSum 78 = .ok (.invokevirtual 204, 3) := dk_182 0 204 (dk_at dksX6_behindSum_3 8 rfl rfl)
theorem dX6_behindSum_81 : decode cX6_behindSum 81 = .ok (.aload_n 0, 1) := dk_42 (dk_at dksX6_behindSum_3 11 rfl rfl)
theorem dX6_behindSum_82 : decode cX6_behindSum 82 = .ok (.getfield 165, 3) := dk_180 0 165 (dk_at dksX6_behindSum_3 12 rfl rfl)
theorem dX6_behindSum_85 : decode cX6_behindSum 85 = .ok (.ifCond .ne 40, 3) := dk_154 0 40 (dk_at dksX6_behindSum_3 15 rfl rfl)
theorem dX6_behindSum_88 : decode cX6_behindSum 88 = .ok (.aload_n 0, 1) := dk_42 (dk_at dksX6_behindSum_3 18 rfl rfl)
theorem dX6_behindSum_89 : decode cX6_behindSum 89 = .ok (.iconst 5, 1) := dk_8 (dk_at dksX6_behindSum_3 19 rfl rfl)
theorem dX6_behindSum_90 : decode cX6_behindSum 90 = .ok (.invokevirtual 275, 3) := dk_182 1 19 (dk_at dksX6_behindSum_3 20 rfl rfl)
theorem dX6_behindSum_93 : decode cX6_behindSum 93 = .ok (.aload_n 0, 1) := dk_42 (dk_at dksX6_behindSum_3 23 rfl rfl)
theorem dX6_behindSum_94 : decode cX6_behindSum 94 = .ok (.dup, 1) := dk_89 (dk_at dksX6_behindSum_4 0 rfl rfl)
theorem dX6_behindSum_95 : decode cX6_behindSum 95 = .ok (.getfield 211, 3) := dk_180 0 211 (dk_at dksX6_behindSum_4 1 rfl rfl)
theorem dX6_behindSum_98 : decode cX6_behindSum 98 = .ok (.iconst 1, 1) := dk_4 (dk_at dksX6_behindSum_4 4 rfl rfl)
theorem dX6_behindSum_99 : decode cX6_behindSum 99 = .ok (.isub, 1) := dk_100 (dk_at dksX6_behindSum_4 5 rfl rfl)
theorem dX6_behindSum_100 : decode cX6_behindSum 100 = .ok (.putfield 211, 3) := dk_181 0 211 (dk_at dksX6_behindSum_4 6 rfl rfl)
theorem dX6_behindSum_103 : decode cX6_behindSum 103 = .ok (.aload_n 0, 1) := dk_42 (dk_at dksX6_behindSum_4 9 rfl rfl)
theorem dX6_behindSum_104 : decode cX6_behindSum 104 = .ok (.dup, 1) := dk_89 (dk_at dksX6_behindSum_4 10 rfl rfl)
theorem dX6_behindSum_105 : decode cX6_behindSum 105 = .ok (.getfield 229, 3) := dk_180 0 229 (dk_at dksX6_behindSum_4 11 rfl rfl)
theorem dX6_behindSum_108 : decode cX6_behindSum 108 = .ok (.iconst 1, 1) := dk_4 (dk_at dksX6_behindSum_4 14 rfl rfl)
theorem dX6_behindSum_109 : decode cX6_behindSum 109 = .ok (.isub, 1) := dk_100 (dk_at dksX6_behindSum_4 15 rfl rfl)
theorem dX6_behindSum_110 : decode cX6_behindSum 110 = .ok (.putfield 229, 3) := dk_181 0 229 (dk_at dksX6_behindSum_4 16 rfl rfl)
theorem dX6_behindSum_113 : decode cX6_behindSum 113 = .ok (.iload_n 2, 1) := dk_28 (dk_at dksX6_behindSum_4 19 rfl rfl)
theorem dX6_behindSum_114 : decode cX6_behindSum 114 = .ok (.bipush 31, 2) := dk_16 31 (dk_at dksX6_behindSum_4 20 rfl rfl)
theorem dX6_behindSum_116 : decode cX6_behindSum 116 = .ok (.if_icmp .eq 9, 3) := dk_159 0 9 (dk_at dksX6_behindSum_5 0 rfl rfl)
theorem dX6_behindSum_119 : decode cX6_behindSum 119 = .ok (.aload_n 0, 1) := dk_42 (dk_at dksX6_behindSum_5 3 rfl rfl)
theorem dX6_behindSum_120 : decode cX6_behindSum 120 = .ok (.iload_n 2, 1) := dk_28 (dk_at dksX6_behindSum_5 4 rfl rfl)
theorem dX6_behindSum_121 : decode cX6_behindSum 121 = .ok (.iconst 0, 1) := dk_3 (dk_at dksX6_behindSum_5 5 rfl rfl)
theorem dX6_behindSum_122 : decode cX6_behindSum 122 = .ok (.invokevirtual 217, 3) := dk_182 0 217 (dk_at dksX6_behindSum_5 6 rfl rfl)
theorem dX6_behindSum_125 : decode cX6_behindSum 125 = .ok (.iconst 3, 1) := dk_6 (dk_at dksX6_behindSum_5 9 rfl rfl)
theorem dX6_behindSum_126 : decode cX6_behindSum 126 = .ok (.ireturn, 1) := dk_172 (dk_at dksX6_behindSum_5 10 rfl rfl)
theorem dX6_behindSum_127 : decode cX6_behindSum 127 = .ok (.iload_n 2, 1) := dk_28 (dk_at dksX6_behindSum_5 11 rfl rfl)
theorem dX6_behindSum_128 : decode cX6_behindSum 128 = .ok (.iconst (-1), 1) := dk_2 (dk_at dksX6_behindSum_5 12 rfl rfl)
theorem dX6_behindSum_129 : decode cX6_behindSum 129 = .ok (.if_icmp .ne 9, 3) := dk_160 0 9 (dk_at dksX6_behindSum_5 13 rfl rfl)
theorem dX6_behindSum_132 : decode cX6_behindSum 132 = .ok (.iload_n 1, 1) := dk_27 (dk_at dksX6_behindSum_5 16 rfl rfl)
theorem dX6_behindSum_133 : decode cX6_behindSum 133 = .ok (.ifCond .ne 5, 3) := dk_154 0 5 (dk_at dksX6_behindSum_5 17 rfl rfl)
theorem dX6_behindSum_136 : decode cX6_behindSum 136 = .ok (.iconst 4, 1) := dk_7 (dk_at dksX6_behindSum_5 20 rfl rfl)
theorem dX6_behindSum_137 : decode cX6_behindSum 137 = .ok (.ireturn, 1) := dk_172 (dk_at dksX6_behindSum_5 21 rfl rfl)
theorem dX6_behindSum_138 : decode cX6_behindSum 138 = .ok (.aload_n 0, 1) := dk_42 (dk_at dksX6_behindSum_5 22 rfl rfl)
theorem dX6_behindSum_139 : decode cX6_behindSum 139 = .ok (.invokevirtual 281, 3) := dk_182 1 25 (dk_at dksX6_behindSum_6 0 rfl rfl)
theorem dX6_behindSum_142 : decode cX6_behindSum 142 = .ok (.ifCond .eq 5, 3) := dk_153 0 5 (dk_at dksX6_behindSum_6 3 rfl rfl)
theorem dX6_behindSum_145 : decode cX6_behindSum 145 = .ok (.iconst 2, 1) := dk_5 (dk_at dksX6_behindSum_6 6 rfl rfl)
theorem dX6_behindSum_146 : decode cX6_behindSum 146 = .ok (.ireturn, 1) := dk_172 (dk_at dksX6_behindSum_6 7 rfl rfl)
theorem dX6_behindSum_147 : decode cX6_behindSum 147 = .ok (.aload_n 0, 1) := dk_42 (dk_at dksX6_behindSum_6 8 rfl rfl)
theorem dX6_behindSum_148 : decode cX6_behindSum 148 = .ok (.bipush 60, 2) := dk_16 60 (dk_at dksX6_behindSum_6 9 rfl rfl)
theorem dX6_behindSum_150 : decode cX6_behindSum 150 = .ok (.invokevirtual 249, 3) := dk_182 0 249 (dk_at dksX6_behindSum_6 11 rfl rfl)
theorem dX6_behindSum_153 : decode cX6_behindSum 153 = .ok (.ifCond .eq 8, 3) := dk_153 0 8 (dk_at dksX6_behindSum_6 14 rfl rfl)
theorem dX6_behindSum_156 : decode cX6_behindSum 156 = .ok (.bipush 24, 2) := dk_16 24 (dk_at dksX6_behindSum_6 17 rfl rfl)
theorem dX6_behindSum_158 : decode cX6_behindSum 158 = .ok (.goto 19, 3) := dk_167 0 19 (dk_at dksX6_behindSum_6 19 rfl rfl)
theorem dX6_behindSum_161 : decode cX6_behindSum 161 = .ok (.aload_n 0, 1) := dk_42 (dk_at dksX6_behindSum_6 22 rfl rfl)
theorem dX6_behindSum_162 : decode cX6_behindSum 162 = .ok (.bipush 62, 2) := dk_16 62 (dk_at dksX6_behindSum_7 0 rfl rfl)
theorem dX6_behindSum_164 : decode cX6_behindSum 164 = .ok (.invokevirtual 249, 3) := dk_182 0 249 (dk_at dksX6_behindSum_7 2 rfl rfl)
theorem dX6_behindSum_167 : decode cX6_behindSum 167 = .ok (.ifCond .eq 8, 3) := dk_153 0 8 (dk_at dksX6_behindSum_7 5 rfl rfl)
theorem dX6_behindSum_170 : decode cX6_behindSum 170 = .ok (.bipush 25, 2) := dk_16 25 (dk_at dksX6_behindSum_7 8 rfl rfl)
theorem dX6_behindSum_172 : decode cX6_behindSum 172 = .ok (.goto 5, 3) := dk_167 0 5 (dk_at dksX6_behindSum_7 10 rfl rfl)
theorem dX6_behindSum_175 : decode cX6_behindSum 175 = .ok (.bipush 26, 2) := dk_16 26 (dk_at dksX6_behindSum_7 13 rfl rfl)
theorem dX6_behindSum_177 : decode cX6_behindSum 177 = .ok (.istore_n 3, 1) := dk_62 (dk_at dksX6_behindSum_7 15 rfl rfl)
theorem dX6_behindSum_178 : decode cX6_behindSum 178 = .ok (.aload_n 0, 1) := dk_42 (dk_at dksX6_behindSum_7 16 rfl rfl)
theorem dX6_behindSum_179 : decode cX6_behindSum 179 = .ok (.iload_n 3, 1) := dk_29 (dk_at dksX6_behindSum_7 17 rfl rfl)
theorem dX6_behindSum_180 : decode cX6_behindSum 180 = .ok (.bipush 26, 2) := dk_16 26 (dk_at dksX6_behindSum_7 18 rfl rfl)
theorem dX6_behindSum_182 : decode cX6_behindSum 182 = .ok (.if_icmp .ne 12, 3) := dk_160 0 12 (dk_at dksX6_behindSum_7 20 rfl rfl)
theorem dX6_behindSum_185 : decode cX6_behindSum 185 = .ok (.aload_n 0, 1) := dk_42 (dk_at dksX6_behindSum_7 23 rfl rfl)
theorem dX6_behindSum_186 : decode cX6_behindSum 186 = .ok (.bipush 61, 2) := dk_16 61 (dk_at dksX6_behindSum_8 0 rfl rfl)
theorem dX6_behindSum_188 : decode cX6_behindSum 188 = .ok (.invokevirtual 249, 3) := dk_182 0 249 (dk_at dksX6_behindSum_8 2 rfl rfl)
theorem dX6_behindSum_191 : decode cX6_behindSum 191 = .ok (.ifCond .eq 7, 3) := dk_153 0 7 (dk_at dksX6_behindSum_8 5 rfl rfl)
theorem dX6_behindSum_194 : decode cX6_behindSum 194 = .ok (.iconst 1, 1) := dk_4 (dk_at dksX6_behindSum_8 8 rfl rfl)
theorem dX6_behindSum_195 : decode cX6_behindSum 195 = .ok (.goto 4, 3) := dk_167 0 4 (dk_at dksX6_behindSum_8 9 rfl rfl)
theorem dX6_behindSum_198 : decode cX6_behindSum 198 = .ok (.iconst 0, 1) := dk_3 (dk_at dksX6_behindSum_8 12 rfl rfl)
theorem dX6_behindSum_199 : decode cX6_behindSum 199 = .ok (.invokevirtual 204, 3) := dk_182 0 204 (dk_at dksX6_behindSum_8 13 rfl rfl)
theorem dX6_behindSum_202 : decode cX6_behindSum 202 = .ok (.aload_n 0, 1) := dk_42 (dk_at dksX6_behindSum_8 16 rfl rfl)
theorem dX6_behindSum_203 : decode cX6_behindSum 203 = .ok (.getfield 165, 3) := dk_180 0 165 (dk_at dksX6_behindSum_8 17 rfl rfl)
theorem dX6_behindSum_206 : decode cX6_behindSum 206 = .ok (.ifCond .ne 13, 3) := dk_154 0 13 (dk_at dksX6_behindSum_8 20 rfl rfl)
theorem dX6_behindSum_209 : decode cX6_behindSum 209 = .ok (.aload_n 0, 1) := dk_42 (dk_at dksX6_behindSum_8 23 rfl rfl)
theorem dX6_behindSum_210 : decode cX6_behindSum 210 = .ok (.iconst 5, 1) := dk_8 (dk_at dksX6_behindSum_9 0 rfl rfl)
theorem dX6_behindSum_211 : decode cX6_behindSum 211 = .ok (.invokevirtual 275, 3) := dk_182 1 19 (dk_at dksX6_behindSum_9 1 rfl rfl)
theorem dX6_behindSum_214 : decode cX6_behindSum 214 = .ok (.aload_n 0, 1) := dk_42 (dk_at dksX6_behindSum_9 4 rfl rfl)
theorem dX6_behindSum_215 : decode cX6_behindSum 215 = .ok (.iload_n 3, 1) := dk_29 (dk_at dksX6_behindSum_9 5 rfl rfl)
theorem dX6_behindSum_216 : decode cX6_behindSum 216 = .ok (.invokevirtual 232, 3) := dk_182 0 232 (dk_at dksX6_behindSum_9 6 rfl rfl)
theorem dX6_behindSum_219 : decode cX6_behindSum 219 = .ok (.iconst 1, 1) := dk_4 (dk_at dksX6_behindSum_9 9 rfl rfl)
theorem dX6_behindSum_220 : decode cX6_behindSum 220 = .ok (.ireturn, 1) := dk_172 (dk_at dksX6_behindSum_9 10 rfl rfl)
abbrev cX6_settle : ByteArray := prog_28_method_32_code
def yX6_settle : MethodName := ⟨RX6, "settle", "(I)V"⟩
def dkwX6_settle_2 : List UInt8 := [182, 0, 217, 167, 255, 207, 177]
abbrev dktX6_settle_2 : List UInt8 := dkwX6_settle_2 ++ []
def dkwX6_settle_1 : List UInt8 := [161, 0, 30, 42, 89, 180, 0, 211, 4, 100, 181, 0, 211, 42, 42, 180, 0, 36, 42, 180, 0, 211, 46, 3]
abbrev dktX6_settle_1 : List UInt8 := dkwX6_settle_1 ++ dktX6_settle_2
def dkwX6_settle_0 : List UInt8 := [42, 180, 0, 211, 158, 0, 48, 42, 180, 0, 36, 42, 180, 0, 211, 4, 100, 46, 184, 0, 214, 27]
abbrev dktX6_settle_0 : List UInt8 := dkwX6_settle_0 ++ dktX6_settle_1
theorem dksX6_settle_0 : cX6_settle.data.toList.drop 0 = dktX6_settle_0 := by decide +kernel
theorem dksX6_settle_1 : cX6_settle.data.toList.drop 22 = dktX6_settle_1 := dk_seg dksX6_settle_0 22 rfl rfl
theorem dksX6_settle_2 : cX6_settle.data.toList.drop 46 = dktX6_settle_2 := dk_seg dksX6_settle_1 24 rfl rfl
theorem dX6_settle_0 : decode cX6_settle 0 = .ok (.aload_n 0, 1) := dk_42 (dk_at dksX6_settle_0 0 rfl rfl)
theorem dX6_settle_1 : decode cX6_settle 1 = .ok (.getfield 211, 3) := dk_180 0 211 (dk_at dksX6_settle_0 1 rfl rfl)
theorem dX6_settle_4 : decode cX6_settle 4 = .ok (.ifCond .le 48, 3) := dk_158 0 48 (dk_at dksX6_settle_0 4 rfl rfl)
theorem dX6_settle_7 : decode cX6_settle 7 = .ok (.aload_n 0, 1) := dk_42 (dk_at dksX6_settle_0 7 rfl rfl)
theorem dX6_settle_8 : decode cX6_settle 8 = .ok (.getfield 36, 3) := dk_180 0 36 (dk_at dksX6_settle_0 8 rfl rfl)
theorem dX6_settle_11 : decode cX6_settle 11 = .ok (.aload_n 0, 1) := dk_42 (dk_at dksX6_settle_0 11 rfl rfl)
theorem dX6_settle_12 : decode cX6_settle 12 = .ok (.getfield 211, 3) := dk_180 0 211 (dk_at dksX6_settle_0 12 rfl rfl)
theorem dX6_settle_15 : decode cX6_settle 15 = .ok (.iconst 1, 1) := dk_4 (dk_at dksX6_settle_0 15 rfl rfl)
theorem dX6_settle_16 : decode cX6_settle 16 = .ok (.isub, 1) := dk_100 (dk_at dksX6_settle_0 16 rfl rfl)
theorem dX6_settle_17 : decode cX6_settle 17 = .ok (.iaload, 1) := dk_46 (dk_at dksX6_settle_0 17 rfl rfl)
theorem dX6_settle_18 : decode cX6_settle 18 = .ok (.invokestatic 214, 3) := dk_184 0 214 (dk_at dksX6_settle_0 18 rfl rfl)
theorem dX6_settle_21 : decode cX6_settle 21 = .ok (.iload_n 1, 1) := dk_27 (dk_at dksX6_settle_0 21 rfl rfl)
theorem dX6_settle_22 : decode cX6_settle 22 = .ok (.if_icmp .lt 30, 3) := dk_161 0 30 (dk_at dksX6_settle_1 0 rfl rfl)
theorem dX6_settle_25 : decode cX6_settle 25 = .ok (.aload_n 0, 1) := dk_42 (dk_at dksX6_settle_1 3 rfl rfl)
theorem dX6_settle_26 : decode cX6_settle 26 = .ok (.dup, 1) := dk_89 (dk_at dksX6_settle_1 4 rfl rfl)
theorem dX6_settle_27 : decode cX6_settle 27 = .ok (.getfield 211, 3) := dk_180 0 211 (dk_at dksX6_settle_1 5 rfl rfl)
theorem dX6_settle_30 : decode cX6_settle 30 = .ok (.iconst 1, 1) := dk_4 (dk_at dksX6_settle_1 8 rfl rfl)
theorem dX6_settle_31 : decode cX6_settle 31 = .ok (.isub, 1) := dk_100 (dk_at dksX6_settle_1 9 rfl rfl)
theorem dX6_settle_32 : decode cX6_settle 32 = .ok (.putfield 211, 3) := dk_181 0 211 (dk_at dksX6_settle_1 10 rfl rfl)
theorem dX6_settle_35 : decode cX6_settle 35 = .ok (.aload_n 0, 1) := dk_42 (dk_at dksX6_settle_1 13 rfl rfl)
theorem dX6_settle_36 : decode cX6_settle 36 = .ok (.aload_n 0, 1) := dk_42 (dk_at dksX6_settle_1 14 rfl rfl)
theorem dX6_settle_37 : decode cX6_settle 37 = .ok (.getfield 36, 3) := dk_180 0 36 (dk_at dksX6_settle_1 15 rfl rfl)
theorem dX6_settle_40 : decode cX6_settle 40 = .ok (.aload_n 0, 1) := dk_42 (dk_at dksX6_settle_1 18 rfl rfl)
theorem dX6_settle_41 : decode cX6_settle 41 = .ok (.getfield 211, 3) := dk_180 0 211 (dk_at dksX6_settle_1 19 rfl rfl)
theorem dX6_settle_44 : decode cX6_settle 44 = .ok (.iaload, 1) := dk_46 (dk_at dksX6_settle_1 22 rfl rfl)
theorem dX6_settle_45 : decode cX6_settle 45 = .ok (.iconst 0, 1) := dk_3 (dk_at dksX6_settle_1 23 rfl rfl)
theorem dX6_settle_46 : decode cX6_settle 46 = .ok (.invokevirtual 217, 3) := dk_182 0 217 (dk_at dksX6_settle_2 0 rfl rfl)
theorem dX6_settle_49 : decode cX6_settle 49 = .ok (.goto (-49), 3) := dk_167 255 207 (dk_at dksX6_settle_2 3 rfl rfl)
theorem dX6_settle_52 : decode cX6_settle 52 = .ok (.return_, 1) := dk_177 (dk_at dksX6_settle_2 6 rfl rfl)
abbrev cX6_binds : ByteArray := prog_28_method_31_code
def yX6_binds : MethodName := ⟨RX6, "binds", "(I)I"⟩
def dkwX6_binds_2 : List UInt8 := [167, 0, 4, 8, 172]
abbrev dktX6_binds_2 : List UInt8 := dkwX6_binds_2 ++ []
def dkwX6_binds_1 : List UInt8 := [160, 0, 7, 5, 167, 0, 24, 26, 16, 27, 160, 0, 7, 6, 167, 0, 14, 26, 16, 24, 161, 0, 7, 7]
abbrev dktX6_binds_1 : List UInt8 := dkwX6_binds_1 ++ dktX6_binds_2
def dkwX6_binds_0 : List UInt8 := [26, 16, 30, 161, 0, 7, 3, 167, 0, 44, 26, 16, 29, 160, 0, 7, 4, 167, 0, 34, 26, 16, 28]
abbrev dktX6_binds_0 : List UInt8 := dkwX6_binds_0 ++ dktX6_binds_1
theorem dksX6_binds_0 : cX6_binds.data.toList.drop 0 = dktX6_binds_0 := by decide +kernel
theorem dksX6_binds_1 : cX6_binds.data.toList.drop 23 = dktX6_binds_1 := dk_seg dksX6_binds_0 23 rfl rfl
theorem dksX6_binds_2 : cX6_binds.data.toList.drop 47 = dktX6_binds_2 := dk_seg dksX6_binds_1 24 rfl rfl
theorem dX6_binds_0 : decode cX6_binds 0 = .ok (.iload_n 0, 1) := dk_26 (dk_at dksX6_binds_0 0 rfl rfl)
theorem dX6_binds_1 : decode cX6_binds 1 = .ok (.bipush 30, 2) := dk_16 30 (dk_at dksX6_binds_0 1 rfl rfl)
theorem dX6_binds_3 : decode cX6_binds 3 = .ok (.if_icmp .lt 7, 3) := dk_161 0 7 (dk_at dksX6_binds_0 3 rfl rfl)
theorem dX6_binds_6 : decode cX6_binds 6 = .ok (.iconst 0, 1) := dk_3 (dk_at dksX6_binds_0 6 rfl rfl)
theorem dX6_binds_7 : decode cX6_binds 7 = .ok (.goto 44, 3) := dk_167 0 44 (dk_at dksX6_binds_0 7 rfl rfl)
theorem dX6_binds_10 : decode cX6_binds 10 = .ok (.iload_n 0, 1) := dk_26 (dk_at dksX6_binds_0 10 rfl rfl)
theorem dX6_binds_11 : decode cX6_binds 11 = .ok (.bipush 29, 2) := dk_16 29 (dk_at dksX6_binds_0 11 rfl rfl)
theorem dX6_binds_13 : decode cX6_binds 13 = .ok (.if_icmp .ne 7, 3) := dk_160 0 7 (dk_at dksX6_binds_0 13 rfl rfl)
theorem dX6_binds_16 : decode cX6_binds 16 = .ok (.iconst 1, 1) := dk_4 (dk_at dksX6_binds_0 16 rfl rfl)
theorem dX6_binds_17 : decode cX6_binds 17 = .ok (.goto 34, 3) := dk_167 0 34 (dk_at dksX6_binds_0 17 rfl rfl)
theorem dX6_binds_20 : decode cX6_binds 20 = .ok (.iload_n 0, 1) := dk_26 (dk_at dksX6_binds_0 20 rfl rfl)
theorem dX6_binds_21 : decode cX6_binds 21 = .ok (.bipush 28, 2) := dk_16 28 (dk_at dksX6_binds_0 21 rfl rfl)
theorem dX6_binds_23 : decode cX6_binds 23 = .ok (.if_icmp .ne 7, 3) := dk_160 0 7 (dk_at dksX6_binds_1 0 rfl rfl)
theorem dX6_binds_26 : decode cX6_binds 26 = .ok (.iconst 2, 1) := dk_5 (dk_at dksX6_binds_1 3 rfl rfl)
theorem dX6_binds_27 : decode cX6_binds 27 = .ok (.goto 24, 3) := dk_167 0 24 (dk_at dksX6_binds_1 4 rfl rfl)
theorem dX6_binds_30 : decode cX6_binds 30 = .ok (.iload_n 0, 1) := dk_26 (dk_at dksX6_binds_1 7 rfl rfl)
theorem dX6_binds_31 : decode cX6_binds 31 = .ok (.bipush 27, 2) := dk_16 27 (dk_at dksX6_binds_1 8 rfl rfl)
theorem dX6_binds_33 : decode cX6_binds 33 = .ok (.if_icmp .ne 7, 3) := dk_160 0 7 (dk_at dksX6_binds_1 10 rfl rfl)
theorem dX6_binds_36 : decode cX6_binds 36 = .ok (.iconst 3, 1) := dk_6 (dk_at dksX6_binds_1 13 rfl rfl)
theorem dX6_binds_37 : decode cX6_binds 37 = .ok (.goto 14, 3) := dk_167 0 14 (dk_at dksX6_binds_1 14 rfl rfl)
theorem dX6_binds_40 : decode cX6_binds 40 = .ok (.iload_n 0, 1) := dk_26 (dk_at dksX6_binds_1 17 rfl rfl)
theorem dX6_binds_41 : decode cX6_binds 41 = .ok (.bipush 24, 2) := dk_16 24 (dk_at dksX6_binds_1 18 rfl rfl)
theorem dX6_binds_43 : decode cX6_binds 43 = .ok (.if_icmp .lt 7, 3) := dk_161 0 7 (dk_at dksX6_binds_1 20 rfl rfl)
theorem dX6_binds_46 : decode cX6_binds 46 = .ok (.iconst 4, 1) := dk_7 (dk_at dksX6_binds_1 23 rfl rfl)
theorem dX6_binds_47 : decode cX6_binds 47 = .ok (.goto 4, 3) := dk_167 0 4 (dk_at dksX6_binds_2 0 rfl rfl)
theorem dX6_binds_50 : decode cX6_binds 50 = .ok (.iconst 5, 1) := dk_8 (dk_at dksX6_binds_2 3 rfl rfl)
theorem dX6_binds_51 : decode cX6_binds 51 = .ok (.ireturn, 1) := dk_172 (dk_at dksX6_binds_2 4 rfl rfl)
abbrev cX6_inner : ByteArray := prog_28_method_33_code
def yX6_inner : MethodName := ⟨RX6, "inner", "()I"⟩
def dkwX6_inner_1 : List UInt8 := [180, 0, 36, 28, 46, 167, 0, 4, 27, 60, 132, 2, 1, 167, 255, 223, 27, 172]
abbrev dktX6_inner_1 : List UInt8 := dkwX6_inner_1 ++ []
def dkwX6_inner_0 : List UInt8 := [2, 60, 3, 61, 28, 42, 180, 0, 211, 162, 0, 31, 42, 180, 0, 36, 28, 46, 16, 30, 161, 0, 12, 42]
abbrev dktX6_inner_0 : List UInt8 := dkwX6_inner_0 ++ dktX6_inner_1
theorem dksX6_inner_0 : cX6_inner.data.toList.drop 0 = dktX6_inner_0 := by decide +kernel
theorem dksX6_inner_1 : cX6_inner.data.toList.drop 24 = dktX6_inner_1 := dk_seg dksX6_inner_0 24 rfl rfl
theorem dX6_inner_0 : decode cX6_inner 0 = .ok (.iconst (-1), 1) := dk_2 (dk_at dksX6_inner_0 0 rfl rfl)
theorem dX6_inner_1 : decode cX6_inner 1 = .ok (.istore_n 1, 1) := dk_60 (dk_at dksX6_inner_0 1 rfl rfl)
theorem dX6_inner_2 : decode cX6_inner 2 = .ok (.iconst 0, 1) := dk_3 (dk_at dksX6_inner_0 2 rfl rfl)
theorem dX6_inner_3 : decode cX6_inner 3 = .ok (.istore_n 2, 1) := dk_61 (dk_at dksX6_inner_0 3 rfl rfl)
theorem dX6_inner_4 : decode cX6_inner 4 = .ok (.iload_n 2, 1) := dk_28 (dk_at dksX6_inner_0 4 rfl rfl)
theorem dX6_inner_5 : decode cX6_inner 5 = .ok (.aload_n 0, 1) := dk_42 (dk_at dksX6_inner_0 5 rfl rfl)
theorem dX6_inner_6 : decode cX6_inner 6 = .ok (.getfield 211, 3) := dk_180 0 211 (dk_at dksX6_inner_0 6 rfl rfl)
theorem dX6_inner_9 : decode cX6_inner 9 = .ok (.if_icmp .ge 31, 3) := dk_162 0 31 (dk_at dksX6_inner_0 9 rfl rfl)
theorem dX6_inner_12 : decode cX6_inner 12 = .ok (.aload_n 0, 1) := dk_42 (dk_at dksX6_inner_0 12 rfl rfl)
theorem dX6_inner_13 : decode cX6_inner 13 = .ok (.getfield 36, 3) := dk_180 0 36 (dk_at dksX6_inner_0 13 rfl rfl)
theorem dX6_inner_16 : decode cX6_inner 16 = .ok (.iload_n 2, 1) := dk_28 (dk_at dksX6_inner_0 16 rfl rfl)
theorem dX6_inner_17 : decode cX6_inner 17 = .ok (.iaload, 1) := dk_46 (dk_at dksX6_inner_0 17 rfl rfl)
theorem dX6_inner_18 : decode cX6_inner 18 = .ok (.bipush 30, 2) := dk_16 30 (dk_at dksX6_inner_0 18 rfl rfl)
theorem dX6_inner_20 : decode cX6_inner 20 = .ok (.if_icmp .lt 12, 3) := dk_161 0 12 (dk_at dksX6_inner_0 20 rfl rfl)
theorem dX6_inner_23 : decode cX6_inner 23 = .ok (.aload_n 0, 1) := dk_42 (dk_at dksX6_inner_0 23 rfl rfl)
theorem dX6_inner_24 : decode cX6_inner 24 = .ok (.getfield 36, 3) := dk_180 0 36 (dk_at dksX6_inner_1 0 rfl rfl)
theorem dX6_inner_27 : decode cX6_inner 27 = .ok (.iload_n 2, 1) := dk_28 (dk_at dksX6_inner_1 3 rfl rfl)
theorem dX6_inner_28 : decode cX6_inner 28 = .ok (.iaload, 1) := dk_46 (dk_at dksX6_inner_1 4 rfl rfl)
theorem dX6_inner_29 : decode cX6_inner 29 = .ok (.goto 4, 3) := dk_167 0 4 (dk_at dksX6_inner_1 5 rfl rfl)
theorem dX6_inner_32 : decode cX6_inner 32 = .ok (.iload_n 1, 1) := dk_27 (dk_at dksX6_inner_1 8 rfl rfl)
theorem dX6_inner_33 : decode cX6_inner 33 = .ok (.istore_n 1, 1) := dk_60 (dk_at dksX6_inner_1 9 rfl rfl)
theorem dX6_inner_34 : decode cX6_inner 34 = .ok (.iinc 2 1, 3) := dk_132 2 1 (dk_at dksX6_inner_1 10 rfl rfl)
theorem dX6_inner_37 : decode cX6_inner 37 = .ok (.goto (-33), 3) := dk_167 255 223 (dk_at dksX6_inner_1 13 rfl rfl)
theorem dX6_inner_40 : decode cX6_inner 40 = .ok (.iload_n 1, 1) := dk_27 (dk_at dksX6_inner_1 16 rfl rfl)
theorem dX6_inner_41 : decode cX6_inner 41 = .ok (.ireturn, 1) := dk_172 (dk_at dksX6_inner_1 17 rfl rfl)
abbrev cX6_isCompared : ByteArray := prog_28_method_34_code
def yX6_isCompared : MethodName := ⟨RX6, "isCompared", "()Z"⟩
def dkwX6_isCompared_2 : List UInt8 := [20, 0, 225, 20, 0, 227, 184, 0, 118, 153, 0, 7, 4, 167, 0, 4, 3, 172]
abbrev dktX6_isCompared_2 : List UInt8 := dkwX6_isCompared_2 ++ []
def dkwX6_isCompared_1 : List UInt8 := [184, 0, 118, 153, 0, 9, 132, 1, 255, 167, 255, 230, 27, 155, 0, 26, 42, 180, 0, 36, 27, 46, 133]
abbrev dktX6_isCompared_1 : List UInt8 := dkwX6_isCompared_1 ++ dktX6_isCompared_2
def dkwX6_isCompared_0 : List UInt8 := [42, 180, 0, 211, 4, 100, 60, 27, 155, 0, 28, 42, 180, 0, 36, 27, 46, 133, 20, 0, 221, 20, 0, 223]
abbrev dktX6_isCompared_0 : List UInt8 := dkwX6_isCompared_0 ++ dktX6_isCompared_1
theorem dksX6_isCompared_0 : cX6_isCompared.data.toList.drop 0 = dktX6_isCompared_0 := by decide +kernel
theorem dksX6_isCompared_1 : cX6_isCompared.data.toList.drop 24 = dktX6_isCompared_1 := dk_seg dksX6_isCompared_0 24 rfl rfl
theorem dksX6_isCompared_2 : cX6_isCompared.data.toList.drop 47 = dktX6_isCompared_2 := dk_seg dksX6_isCompared_1 23 rfl rfl
theorem dX6_isCompared_0 : decode cX6_isCompared 0 = .ok (.aload_n 0, 1) := dk_42 (dk_at dksX6_isCompared_0 0 rfl rfl)
theorem dX6_isCompared_1 : decode cX6_isCompared 1 = .ok (.getfield 211, 3) := dk_180 0 211 (dk_at dksX6_isCompared_0 1 rfl rfl)
theorem dX6_isCompared_4 : decode cX6_isCompared 4 = .ok (.iconst 1, 1) := dk_4 (dk_at dksX6_isCompared_0 4 rfl rfl)
theorem dX6_isCompared_5 : decode cX6_isCompared 5 = .ok (.isub, 1) := dk_100 (dk_at dksX6_isCompared_0 5 rfl rfl)
theorem dX6_isCompared_6 : decode cX6_isCompared 6 = .ok (.istore_n 1, 1) := dk_60 (dk_at dksX6_isCompared_0 6 rfl rfl)
theorem dX6_isCompared_7 : decode cX6_isCompared 7 = .ok (.iload_n 1, 1) := dk_27 (dk_at dksX6_isCompared_0 7 rfl rfl)
theorem dX6_isCompared_8 : decode cX6_isCompared 8 = .ok (.ifCond .lt 28, 3) := dk_155 0 28 (dk_at dksX6_isCompared_0 8 rfl rfl)
theorem dX6_isCompared_11 : decode cX6_isCompared 11 = .ok (.aload_n 0, 1) := dk_42 (dk_at dksX6_isCompared_0 11 rfl rfl)
theorem dX6_isCompared_12 : decode cX6_isCompared 12 = .ok (.getfield 36, 3) := dk_180 0 36 (dk_at dksX6_isCompared_0 12 rfl rfl)
theorem dX6_isCompared_15 : decode cX6_isCompared 15 = .ok (.iload_n 1, 1) := dk_27 (dk_at dksX6_isCompared_0 15 rfl rfl)
theorem dX6_isCompared_16 : decode cX6_isCompared 16 = .ok (.iaload, 1) := dk_46 (dk_at dksX6_isCompared_0 16 rfl rfl)
theorem dX6_isCompared_17 : decode cX6_isCompared 17 = .ok (.i2l, 1) := dk_133 (dk_at dksX6_isCompared_0 17 rfl rfl)
theorem dX6_isCompared_18 : decode cX6_isCompared 18 = .ok (.ldc2_w 221, 3) := dk_20 0 221 (dk_at dksX6_isCompared_0 18 rfl rfl)
theorem dX6_isCompared_21 : decode cX6_isCompared 21 = .ok (.ldc2_w 223, 3) := dk_20 0 223 (dk_at dksX6_isCompared_0 21 rfl rfl)
theorem dX6_isCompared_24 : decode cX6_isCompared 24 = .ok (.invokestatic 118, 3) := dk_184 0 118 (dk_at dksX6_isCompared_1 0 rfl rfl)
theorem dX6_isCompared_27 : decode cX6_isCompared 27 = .ok (.ifCond .eq 9, 3) := dk_153 0 9 (dk_at dksX6_isCompared_1 3 rfl rfl)
theorem dX6_isCompared_30 : decode cX6_isCompared 30 = .ok (.iinc 1 (-1), 3) := dk_132 1 255 (dk_at dksX6_isCompared_1 6 rfl rfl)
theorem dX6_isCompared_33 : decode cX6_isCompared 33 = .ok (.goto (-26), 3) := dk_167 255 230 (dk_at dksX6_isCompared_1 9 rfl rfl)
theorem dX6_isCompared_36 : decode cX6_isCompared 36 = .ok (.iload_n 1, 1) := dk_27 (dk_at dksX6_isCompared_1 12 rfl rfl)
theorem dX6_isCompared_37 : decode cX6_isCompared 37 = .ok (.ifCond .lt 26, 3) := dk_155 0 26 (dk_at dksX6_isCompared_1 13 rfl rfl)
theorem dX6_isCompared_40 : decode cX6_isCompared 40 = .ok (.aload_n 0, 1) := dk_42 (dk_at dksX6_isCompared_1 16 rfl rfl)
theorem dX6_isCompared_41 : decode cX6_isCompared 41 = .ok (.getfield 36, 3) := dk_180 0 36 (dk_at dksX6_isCompared_1 17 rfl rfl)
theorem dX6_isCompared_44 : decode cX6_isCompared 44 = .ok (.iload_n 1, 1) := dk_27 (dk_at dksX6_isCompared_1 20 rfl rfl)
theorem dX6_isCompared_45 : decode cX6_isCompared 45 = .ok (.iaload, 1) := dk_46 (dk_at dksX6_isCompared_1 21 rfl rfl)
theorem dX6_isCompared_46 : decode cX6_isCompared 46 = .ok (.i2l, 1) := dk_133 (dk_at dksX6_isCompared_1 22 rfl rfl)
theorem dX6_isCompared_47 : decode cX6_isCompared 47 = .ok (.ldc2_w 225, 3) := dk_20 0 225 (dk_at dksX6_isCompared_2 0 rfl rfl)
theorem dX6_isCompared_50 : decode cX6_isCompared 50 = .ok (.ldc2_w 227, 3) := dk_20 0 227 (dk_at dksX6_isCompared_2 3 rfl rfl)
theorem dX6_isCompared_53 : decode cX6_isCompared 53 = .ok (.invokestatic 118, 3) := dk_184 0 118 (dk_at dksX6_isCompared_2 6 rfl rfl)
theorem dX6_isCompared_56 : decode cX6_isCompared 56 = .ok (.ifCond .eq 7, 3) := dk_153 0 7 (dk_at dksX6_isCompared_2 9 rfl rfl)
theorem dX6_isCompared_59 : decode cX6_isCompared 59 = .ok (.iconst 1, 1) := dk_4 (dk_at dksX6_isCompared_2 12 rfl rfl)
theorem dX6_isCompared_60 : decode cX6_isCompared 60 = .ok (.goto 4, 3) := dk_167 0 4 (dk_at dksX6_isCompared_2 13 rfl rfl)
theorem dX6_isCompared_63 : decode cX6_isCompared 63 = .ok (.iconst 0, 1) := dk_3 (dk_at dksX6_isCompared_2 16 rfl rfl)
theorem dX6_isCompared_64 : decode cX6_isCompared 64 = .ok (.ireturn, 1) := dk_172 (dk_at dksX6_isCompared_2 17 rfl rfl)
abbrev cX6_behindTest : ByteArray := prog_28_method_40_code
def yX6_behindTest : MethodName := ⟨RX6, "behindTest", "()I"⟩
def dkwX6_behindTest_4 : List UInt8 := [100, 181, 0, 211, 42, 89, 180, 0, 229, 4, 100, 181, 0, 229, 5, 172]
abbrev dktX6_behindTest_4 : List UInt8 := dkwX6_behindTest_4 ++ []
def dkwX6_behindTest_3 : List UInt8 := [182, 0, 249, 182, 0, 204, 42, 180, 0, 165, 154, 0, 28, 42, 4, 182, 1, 19, 42, 89, 180, 0, 211, 4]
abbrev dktX6_behindTest_3 : List UInt8 := dkwX6_behindTest_3 ++ dktX6_behindTest_4
def dkwX6_behindTest_2 : List UInt8 := [182, 0, 232, 42, 182, 0, 169, 3, 172, 42, 182, 1, 22, 2, 160, 0, 5, 7, 172, 42, 42, 16, 41]
abbrev dktX6_behindTest_2 : List UInt8 := dkwX6_behindTest_2 ++ dktX6_behindTest_3
def dkwX6_behindTest_1 : List UInt8 := [153, 0, 7, 5, 167, 0, 4, 4, 182, 1, 19, 42, 27, 153, 0, 8, 16, 28, 167, 0, 5, 16, 29]
abbrev dktX6_behindTest_1 : List UInt8 := dkwX6_behindTest_1 ++ dktX6_behindTest_2
def dkwX6_behindTest_0 : List UInt8 := [42, 20, 1, 29, 182, 0, 237, 60, 27, 154, 0, 13, 42, 20, 1, 31, 182, 0, 237, 153, 0, 37, 42, 27]
abbrev dktX6_behindTest_0 : List UInt8 := dkwX6_behindTest_0 ++ dktX6_behindTest_1
theorem dksX6_behindTest_0 : cX6_behindTest.data.toList.drop 0 = dktX6_behindTest_0 := by decide +kernel
theorem dksX6_behindTest_1 : cX6_behindTest.data.toList.drop 24 = dktX6_behindTest_1 := dk_seg dksX6_behindTest_0 24 rfl rfl
theorem dksX6_behindTest_2 : cX6_behindTest.data.toList.drop 47 = dktX6_behindTest_2 := dk_seg dksX6_behindTest_1 23 rfl rfl
theorem dksX6_behindTest_3 : cX6_behindTest.data.toList.drop 70 = dktX6_behindTest_3 := dk_seg dksX6_behindTest_2 23 rfl rfl
theorem dksX6_behindTest_4 : cX6_behindTest.data.toList.drop 94 = dktX6_behindTest_4 := dk_seg dksX6_behindTest_3 24 rfl rfl
theorem dX6_behindTest_0 : decode cX6_behindTest 0 = .ok (.aload_n 0, 1) := dk_42 (dk_at dksX6_behindTest_0 0 rfl rfl)
theorem dX6_behindTest_1 : decode cX6_behindTest 1 = .ok (.ldc2_w 285, 3) := dk_20 1 29 (dk_at dksX6_behindTest_0 1 rfl rfl)
theorem dX6_behindTest_4 : decode cX6_behindTest 4 = .ok (.invokevirtual 237, 3) := dk_182 0 237 (dk_at dksX6_behindTest_0 4 rfl rfl)
theorem dX6_behindTest_7 : decode cX6_behindTest 7 = .ok (.istore_n 1, 1) := dk_60 (dk_at dksX6_behindTest_0 7 rfl rfl)
theorem dX6_behindTest_8 : decode cX6_behindTest 8 = .ok (.iload_n 1, 1) := dk_27 (dk_at dksX6_behindTest_0 8 rfl rfl)
theorem dX6_behindTest_9 : decode cX6_behindTest 9 = .ok (.ifCond .ne 13, 3) := dk_154 0 13 (dk_at dksX6_behindTest_0 9 rfl rfl)
theorem dX6_behindTest_12 : decode cX6_behindTest 12 = .ok (.aload_n 0, 1) := dk_42 (dk_at dksX6_behindTest_0 12 rfl rfl)
theorem dX6_behindTest_13 : decode cX6_behindTest 13 = .ok (.ldc2_w 287, 3) := dk_20 1 31 (dk_at dksX6_behindTest_0 13 rfl rfl)
theorem dX6_behindTest_16 : decode cX6_behindTest 16 = .ok (.invokevirtual 237, 3) := dk_182 0 237 (dk_at dksX6_behindTest_0 16 rfl rfl)
theorem dX6_behindTest_19 : decode cX6_behindTest 19 = .ok (.ifCond .eq 37, 3) := dk_153 0 37 (dk_at dksX6_behindTest_0 19 rfl rfl)
theorem dX6_behindTest_22 : decode cX6_behindTest 22 = .ok (.aload_n 0, 1) := dk_42 (dk_at dksX6_behindTest_0 22 rfl rfl)
theorem dX6_behindTest_23 : decode cX6_behindTest 23 = .ok (.iload_n 1, 1) := dk_27 (dk_at dksX6_behindTest_0 23 rfl rfl)
theorem dX6_behindTest_24 : decode cX6_behindTest 24 = .ok (.ifCond .eq 7, 3) := dk_153 0 7 (dk_at dksX6_behindTest_1 0 rfl rfl)
theorem dX6_behindTest_27 : decode cX6_behindTest 27 = .ok (.iconst 2, 1) := dk_5 (dk_at dksX6_behindTest_1 3 rfl rfl)
theorem dX6_behindTest_28 : decode cX6_behindTest 28 = .ok (.goto 4, 3) := dk_167 0 4 (dk_at dksX6_behindTest_1 4 rfl rfl)
theorem dX6_behindTest_31 : decode cX6_behindTest 31 = .ok (.iconst 1, 1) := dk_4 (dk_at dksX6_behindTest_1 7 rfl rfl)
theorem dX6_behindTest_32 : decode cX6_behindTest 32 = .ok (.invokevirtual 275, 3) := dk_182 1 19 (dk_at dksX6_behindTest_1 8 rfl rfl)
theorem dX6_behindTest_35 : decode cX6_behindTest 35 = .ok (.aload_n 0, 1) := dk_42 (dk_at dksX6_behindTest_1 11 rfl rfl)
theorem dX6_behindTest_36 : decode cX6_behindTest 36 = .ok (.iload_n 1, 1) := dk_27 (dk_at dksX6_behindTest_1 12 rfl rfl)
theorem dX6_behindTest_37 : decode cX6_behindTest 37 = .ok (.ifCond .eq 8, 3) := dk_153 0 8 (dk_at dksX6_behindTest_1 13 rfl rfl)
theorem dX6_behindTest_40 : decode cX6_behindTest 40 = .ok (.bipush 28, 2) := dk_16 28 (dk_at dksX6_behindTest_1 16 rfl rfl)
theorem dX6_behindTest_42 : decode cX6_behindTest 42 = .ok (.goto 5, 3) := dk_167 0 5 (dk_at dksX6_behindTest_1 18 rfl rfl)
theorem dX6_behindTest_45 : decode cX6_behindTest 45 = .ok (.bipush 29, 2) := dk_16 29 (dk_at dksX6_behindTest_1 21 rfl rfl)
theorem dX6_behindTest_47 : decode cX6_behindTest 47 = .ok (.invokevirtual 232, 3) := dk_182 0 232 (dk_at dksX6_behindTest_2 0 rfl rfl)
theorem dX6_behindTest_50 : decode cX6_behindTest 50 = .ok (.aload_n 0, 1) := dk_42 (dk_at dksX6_behindTest_2 3 rfl rfl)
theorem dX6_behindTest_51 : decode cX6_behindTest 51 = .ok (.invokevirtual 169, 3) := dk_182 0 169 (dk_at dksX6_behindTest_2 4 rfl rfl)
theorem dX6_behindTest_54 : decode cX6_behindTest 54 = .ok (.iconst 0, 1) := dk_3 (dk_at dksX6_behindTest_2 7 rfl rfl)
theorem dX6_behindTest_55 : decode cX6_behindTest 55 = .ok (.ireturn, 1) := dk_172 (dk_at dksX6_behindTest_2 8 rfl rfl)
theorem dX6_behindTest_56 : decode cX6_behindTest 56 = .ok (.aload_n 0, 1) := dk_42 (dk_at dksX6_behindTest_2 9 rfl rfl)
theorem dX6_behindTest_57 : decode cX6_behindTest 57 = .ok (.invokevirtual 278, 3) := dk_182 1 22 (dk_at dksX6_behindTest_2 10 rfl rfl)
theorem dX6_behindTest_60 : decode cX6_behindTest 60 = .ok (.iconst (-1), 1) := dk_2 (dk_at dksX6_behindTest_2 13 rfl rfl)
theorem dX6_behindTest_61 : decode cX6_behindTest 61 = .ok (.if_icmp .ne 5, 3) := dk_160 0 5 (dk_at dksX6_behindTest_2 14 rfl rfl)
theorem dX6_behindTest_64 : decode cX6_behindTest 64 = .ok (.iconst 4, 1) := dk_7 (dk_at dksX6_behindTest_2 17 rfl rfl)
theorem dX6_behindTest_65 : decode cX6_behindTest 65 = .ok (.ireturn, 1) := dk_172 (dk_at dksX6_behindTest_2 18 rfl rfl)
theorem dX6_behindTest_66 : decode cX6_behindTest 66 = .ok (.aload_n 0, 1) := dk_42 (dk_at dksX6_behindTest_2 19 rfl rfl)
theorem dX6_behindTest_67 : decode cX6_behindTest 67 = .ok (.aload_n 0, 1) := dk_42 (dk_at dksX6_behindTest_2 20 rfl rfl)
theorem dX6_behindTest_68 : decode cX6_behindTest 68 = .ok (.bipush 41, 2) := dk_16 41 (dk_at dksX6_behindTest_2 21 rfl rfl)
theorem dX6_behindTest_70 : decode cX6_behindTest 70 = .ok (.invokevirtual 249, 3) := dk_182 0 249 (dk_at dksX6_behindTest_3 0 rfl rfl)
theorem dX6_behindTest_73 : decode cX6_behindTest 73 = .ok (.invokevirtual 204, 3) := dk_182 0 204 (dk_at dksX6_behindTest_3 3 rfl rfl)
theorem dX6_behindTest_76 : decode cX6_behindTest 76 = .ok (.aload_n 0, 1) := dk_42 (dk_at dksX6_behindTest_3 6 rfl rfl)
theorem dX6_behindTest_77 : decode cX6_behindTest 77 = .ok (.getfield 165, 3) := dk_180 0 165 (dk_at dksX6_behindTest_3 7 rfl rfl)
theorem dX6_behindTest_80 : decode cX6_behindTest 80 = .ok (.ifCond .ne 28, 3) := dk_154 0 28 (dk_at dksX6_behindTest_3 10 rfl rfl)
theorem dX6_behindTest_83 : decode cX6_behindTest 83 = .ok (.aload_n 0, 1) := dk_42 (dk_at dksX6_behindTest_3 13 rfl rfl)
theorem dX6_behindTest_84 : decode cX6_behindTest 84 = .ok (.iconst 1, 1) := dk_4 (dk_at dksX6_behindTest_3 14 rfl rfl)
theorem dX6_behindTest_85 : decode cX6_behindTest 85 = .ok (.invokevirtual 275, 3) := dk_182 1 19 (dk_at dksX6_behindTest_3 15 rfl rfl)
theorem dX6_behindTest_88 : decode cX6_behindTest 88 = .ok (.aload_n 0, 1) := dk_42 (dk_at dksX6_behindTest_3 18 rfl rfl)
theorem dX6_behindTest_89 : decode cX6_behindTest 89 = .ok (.dup, 1) := dk_89 (dk_at dksX6_behindTest_3 19 rfl rfl)
theorem dX6_behindTest_90 : decode cX6_behindTest 90 = .ok (.getfield 211, 3) := dk_180 0 211 (dk_at dksX6_behindTest_3 20 rfl rfl)
theorem dX6_behindTest_93 : decode cX6_behindTest 93 = .ok (.iconst 1, 1) := dk_4 (dk_at dksX6_behindTest_3 23 rfl rfl)
theorem dX6_behindTest_94 : decode cX6_behindTest 94 = .ok (.isub, 1) := dk_100 (dk_at dksX6_behindTest_4 0 rfl rfl)
theorem dX6_behindTest_95 : decode cX6_behindTest 95 = .ok (.putfield 211, 3) := dk_181 0 211 (dk_at dksX6_behindTest_4 1 rfl rfl)
theorem dX6_behindTest_98 : decode cX6_behindTest 98 = .ok (.aload_n 0, 1) := dk_42 (dk_at dksX6_behindTest_4 4 rfl rfl)
theorem dX6_behindTest_99 : decode cX6_behindTest 99 = .ok (.dup, 1) := dk_89 (dk_at dksX6_behindTest_4 5 rfl rfl)
theorem dX6_behindTest_100 : decode cX6_behindTest 100 = .ok (.getfield 229, 3) := dk_180 0 229 (dk_at dksX6_behindTest_4 6 rfl rfl)
theorem dX6_behindTest_103 : decode cX6_behindTest 103 = .ok (.iconst 1, 1) := dk_4 (dk_at dksX6_behindTest_4 9 rfl rfl)
theorem dX6_behindTest_104 : decode cX6_behindTest 104 = .ok (.isub, 1) := dk_100 (dk_at dksX6_behindTest_4 10 rfl rfl)
theorem dX6_behindTest_105 : decode cX6_behindTest 105 = .ok (.putfield 229, 3) := dk_181 0 229 (dk_at dksX6_behindTest_4 11 rfl rfl)
theorem dX6_behindTest_108 : decode cX6_behindTest 108 = .ok (.iconst 2, 1) := dk_5 (dk_at dksX6_behindTest_4 14 rfl rfl)
theorem dX6_behindTest_109 : decode cX6_behindTest 109 = .ok (.ireturn, 1) := dk_172 (dk_at dksX6_behindTest_4 15 rfl rfl)
abbrev cX6_steps : ByteArray := prog_28_method_45_code
def yX6_steps : MethodName := ⟨RX6, "steps", "(I)I"⟩
def dkwX6_steps_1 : List UInt8 := [96, 46, 167, 0, 4, 2, 172]
abbrev dktX6_steps_1 : List UInt8 := dkwX6_steps_1 ++ []
def dkwX6_steps_0 : List UInt8 := [42, 3, 181, 0, 112, 42, 27, 182, 1, 76, 153, 0, 19, 42, 180, 0, 13, 16, 60, 17, 3, 232, 27, 104]
abbrev dktX6_steps_0 : List UInt8 := dkwX6_steps_0 ++ dktX6_steps_1
theorem dksX6_steps_0 : cX6_steps.data.toList.drop 0 = dktX6_steps_0 := by decide +kernel
theorem dksX6_steps_1 : cX6_steps.data.toList.drop 24 = dktX6_steps_1 := dk_seg dksX6_steps_0 24 rfl rfl
theorem dX6_steps_0 : decode cX6_steps 0 = .ok (.aload_n 0, 1) := dk_42 (dk_at dksX6_steps_0 0 rfl rfl)
theorem dX6_steps_1 : decode cX6_steps 1 = .ok (.iconst 0, 1) := dk_3 (dk_at dksX6_steps_0 1 rfl rfl)
theorem dX6_steps_2 : decode cX6_steps 2 = .ok (.putfield 112, 3) := dk_181 0 112 (dk_at dksX6_steps_0 2 rfl rfl)
theorem dX6_steps_5 : decode cX6_steps 5 = .ok (.aload_n 0, 1) := dk_42 (dk_at dksX6_steps_0 5 rfl rfl)
theorem dX6_steps_6 : decode cX6_steps 6 = .ok (.iload_n 1, 1) := dk_27 (dk_at dksX6_steps_0 6 rfl rfl)
theorem dX6_steps_7 : decode cX6_steps 7 = .ok (.invokevirtual 332, 3) := dk_182 1 76 (dk_at dksX6_steps_0 7 rfl rfl)
theorem dX6_steps_10 : decode cX6_steps 10 = .ok (.ifCond .eq 19, 3) := dk_153 0 19 (dk_at dksX6_steps_0 10 rfl rfl)
theorem dX6_steps_13 : decode cX6_steps 13 = .ok (.aload_n 0, 1) := dk_42 (dk_at dksX6_steps_0 13 rfl rfl)
theorem dX6_steps_14 : decode cX6_steps 14 = .ok (.getfield 13, 3) := dk_180 0 13 (dk_at dksX6_steps_0 14 rfl rfl)
theorem dX6_steps_17 : decode cX6_steps 17 = .ok (.bipush 60, 2) := dk_16 60 (dk_at dksX6_steps_0 17 rfl rfl)
theorem dX6_steps_19 : decode cX6_steps 19 = .ok (.sipush 1000, 3) := dk_17 3 232 (dk_at dksX6_steps_0 19 rfl rfl)
theorem dX6_steps_22 : decode cX6_steps 22 = .ok (.iload_n 1, 1) := dk_27 (dk_at dksX6_steps_0 22 rfl rfl)
theorem dX6_steps_23 : decode cX6_steps 23 = .ok (.imul, 1) := dk_104 (dk_at dksX6_steps_0 23 rfl rfl)
theorem dX6_steps_24 : decode cX6_steps 24 = .ok (.iadd, 1) := dk_96 (dk_at dksX6_steps_1 0 rfl rfl)
theorem dX6_steps_25 : decode cX6_steps 25 = .ok (.iaload, 1) := dk_46 (dk_at dksX6_steps_1 1 rfl rfl)
theorem dX6_steps_26 : decode cX6_steps 26 = .ok (.goto 4, 3) := dk_167 0 4 (dk_at dksX6_steps_1 2 rfl rfl)
theorem dX6_steps_29 : decode cX6_steps 29 = .ok (.iconst (-1), 1) := dk_2 (dk_at dksX6_steps_1 5 rfl rfl)
theorem dX6_steps_30 : decode cX6_steps 30 = .ok (.ireturn, 1) := dk_172 (dk_at dksX6_steps_1 6 rfl rfl)
abbrev cX6_isRecipe : ByteArray := prog_28_method_8_code
def yX6_isRecipe : MethodName := ⟨RX6, "isRecipe", "(I)Z"⟩
def dkwX6_isRecipe_0 : List UInt8 := [27, 133, 9, 42, 180, 0, 13, 4, 46, 133, 10, 101, 184, 0, 118, 172]
abbrev dktX6_isRecipe_0 : List UInt8 := dkwX6_isRecipe_0 ++ []
theorem dksX6_isRecipe_0 : cX6_isRecipe.data.toList.drop 0 = dktX6_isRecipe_0 := by decide +kernel
theorem dX6_isRecipe_0 : decode cX6_isRecipe 0 = .ok (.iload_n 1, 1) := dk_27 (dk_at dksX6_isRecipe_0 0 rfl rfl)
theorem dX6_isRecipe_1 : decode cX6_isRecipe 1 = .ok (.i2l, 1) := dk_133 (dk_at dksX6_isRecipe_0 1 rfl rfl)
theorem dX6_isRecipe_2 : decode cX6_isRecipe 2 = .ok (.lconst 0, 1) := dk_9 (dk_at dksX6_isRecipe_0 2 rfl rfl)
theorem dX6_isRecipe_3 : decode cX6_isRecipe 3 = .ok (.aload_n 0, 1) := dk_42 (dk_at dksX6_isRecipe_0 3 rfl rfl)
theorem dX6_isRecipe_4 : decode cX6_isRecipe 4 = .ok (.getfield 13, 3) := dk_180 0 13 (dk_at dksX6_isRecipe_0 4 rfl rfl)
theorem dX6_isRecipe_7 : decode cX6_isRecipe 7 = .ok (.iconst 1, 1) := dk_4 (dk_at dksX6_isRecipe_0 7 rfl rfl)
theorem dX6_isRecipe_8 : decode cX6_isRecipe 8 = .ok (.iaload, 1) := dk_46 (dk_at dksX6_isRecipe_0 8 rfl rfl)
theorem dX6_isRecipe_9 : decode cX6_isRecipe 9 = .ok (.i2l, 1) := dk_133 (dk_at dksX6_isRecipe_0 9 rfl rfl)
theorem dX6_isRecipe_10 : decode cX6_isRecipe 10 = .ok (.lconst 1, 1) := dk_10 (dk_at dksX6_isRecipe_0 10 rfl rfl)
theorem dX6_isRecipe_11 : decode cX6_isRecipe 11 = .ok (.lsub, 1) := dk_101 (dk_at dksX6_isRecipe_0 11 rfl rfl)
theorem dX6_isRecipe_12 : decode cX6_isRecipe 12 = .ok (.invokestatic 118, 3) := dk_184 0 118 (dk_at dksX6_isRecipe_0 12 rfl rfl)
theorem dX6_isRecipe_15 : decode cX6_isRecipe 15 = .ok (.ireturn, 1) := dk_172 (dk_at dksX6_isRecipe_0 15 rfl rfl)
abbrev cX6_run : ByteArray := prog_28_method_60_code
def yX6_run : MethodName := ⟨RX6, "run", "(I)I"⟩
def dkwX6_run_9 : List UInt8 := [180, 1, 171, 182, 0, 122, 172]
abbrev dktX6_run_9 : List UInt8 := dkwX6_run_9 ++ []
def dkwX6_run_8 : List UInt8 := [180, 0, 57, 16, 10, 42, 180, 1, 144, 79, 42, 180, 0, 57, 16, 11, 42, 180, 1, 119, 79, 42, 42]
abbrev dktX6_run_8 : List UInt8 := dkwX6_run_8 ++ dktX6_run_9
def dkwX6_run_7 : List UInt8 := [180, 0, 57, 16, 8, 42, 180, 1, 147, 79, 42, 180, 0, 57, 16, 9, 42, 180, 1, 150, 79, 42]
abbrev dktX6_run_7 : List UInt8 := dkwX6_run_7 ++ dktX6_run_8
def dkwX6_run_6 : List UInt8 := [180, 0, 57, 16, 6, 42, 180, 1, 168, 79, 42, 180, 0, 57, 16, 7, 42, 180, 1, 129, 79, 42]
abbrev dktX6_run_6 : List UInt8 := dkwX6_run_6 ++ dktX6_run_7
def dkwX6_run_5 : List UInt8 := [79, 42, 180, 0, 57, 7, 42, 180, 1, 116, 79, 42, 180, 0, 57, 8, 42, 180, 1, 113, 79, 42]
abbrev dktX6_run_5 : List UInt8 := dkwX6_run_5 ++ dktX6_run_6
def dkwX6_run_4 : List UInt8 := [42, 180, 1, 85, 79, 42, 180, 0, 57, 5, 42, 180, 1, 141, 79, 42, 180, 0, 57, 6, 42, 180, 1, 138]
abbrev dktX6_run_4 : List UInt8 := dkwX6_run_4 ++ dktX6_run_5
def dkwX6_run_3 : List UInt8 := [28, 46, 79, 132, 2, 1, 167, 255, 224, 42, 180, 0, 57, 3, 42, 180, 1, 82, 79, 42, 180, 0, 57, 4]
abbrev dktX6_run_3 : List UInt8 := dkwX6_run_3 ++ dktX6_run_4
def dkwX6_run_2 : List UInt8 := [162, 0, 33, 42, 180, 0, 54, 28, 42, 180, 0, 42, 28, 46, 79, 42, 180, 0, 60, 28, 42, 180, 0, 48]
abbrev dktX6_run_2 : List UInt8 := dkwX6_run_2 ++ dktX6_run_3
def dkwX6_run_1 : List UInt8 := [181, 1, 132, 42, 27, 2, 182, 1, 180, 42, 42, 180, 0, 13, 3, 46, 181, 1, 183, 3, 61, 28, 8]
abbrev dktX6_run_1 : List UInt8 := dkwX6_run_1 ++ dktX6_run_2
def dkwX6_run_0 : List UInt8 := [42, 3, 181, 0, 112, 42, 27, 182, 1, 76, 154, 0, 10, 42, 16, 254, 182, 0, 122, 172, 42, 2]
abbrev dktX6_run_0 : List UInt8 := dkwX6_run_0 ++ dktX6_run_1
theorem dksX6_run_0 : cX6_run.data.toList.drop 0 = dktX6_run_0 := by decide +kernel
theorem dksX6_run_1 : cX6_run.data.toList.drop 22 = dktX6_run_1 := dk_seg dksX6_run_0 22 rfl rfl
theorem dksX6_run_2 : cX6_run.data.toList.drop 45 = dktX6_run_2 := dk_seg dksX6_run_1 23 rfl rfl
theorem dksX6_run_3 : cX6_run.data.toList.drop 69 = dktX6_run_3 := dk_seg dksX6_run_2 24 rfl rfl
theorem dksX6_run_4 : cX6_run.data.toList.drop 93 = dktX6_run_4 := dk_seg dksX6_run_3 24 rfl rfl
theorem dksX6_run_5 : cX6_run.data.toList.drop 117 = dktX6_run_5 := dk_seg dksX6_run_4 24 rfl rfl
theorem dksX6_run_6 : cX6_run.data.toList.drop 139 = dktX6_run_6 := dk_seg dksX6_run_5 22 rfl rfl
theorem dksX6_run_7 : cX6_run.data.toList.drop 161 = dktX6_run_7 := dk_seg dksX6_run_6 22 rfl rfl
theorem dksX6_run_8 : cX6_run.data.toList.drop 183 = dktX6_run_8 := dk_seg dksX6_run_7 22 rfl rfl
theorem dksX6_run_9 : cX6_run.data.toList.drop 206 = dktX6_run_9 := dk_seg dksX6_run_8 23 rfl rfl
theorem dX6_run_0 : decode cX6_run 0 = .ok (.aload_n 0, 1) := dk_42 (dk_at dksX6_run_0 0 rfl rfl)
theorem dX6_run_1 : decode cX6_run 1 = .ok (.iconst 0, 1) := dk_3 (dk_at dksX6_run_0 1 rfl rfl)
theorem dX6_run_2 : decode cX6_run 2 = .ok (.putfield 112, 3) := dk_181 0 112 (dk_at dksX6_run_0 2 rfl rfl)
theorem dX6_run_5 : decode cX6_run 5 = .ok (.aload_n 0, 1) := dk_42 (dk_at dksX6_run_0 5 rfl rfl)
theorem dX6_run_6 : decode cX6_run 6 = .ok (.iload_n 1, 1) := dk_27 (dk_at dksX6_run_0 6 rfl rfl)
theorem dX6_run_7 : decode cX6_run 7 = .ok (.invokevirtual 332, 3) := dk_182 1 76 (dk_at dksX6_run_0 7 rfl rfl)
theorem dX6_run_10 : decode cX6_run 10 = .ok (.ifCond .ne 10, 3) := dk_154 0 10 (dk_at dksX6_run_0 10 rfl rfl)
theorem dX6_run_13 : decode cX6_run 13 = .ok (.aload_n 0, 1) := dk_42 (dk_at dksX6_run_0 13 rfl rfl)
theorem dX6_run_14 : decode cX6_run 14 = .ok (.bipush (-2), 2) := dk_16 254 (dk_at dksX6_run_0 14 rfl rfl)
theorem dX6_run_16 : decode cX6_run 16 = .ok (.invokevirtual 122, 3) := dk_182 0 122 (dk_at dksX6_run_0 16 rfl rfl)
theorem dX6_run_19 : decode cX6_run 19 = .ok (.ireturn, 1) := dk_172 (dk_at dksX6_run_0 19 rfl rfl)
theorem dX6_run_20 : decode cX6_run 20 = .ok (.aload_n 0, 1) := dk_42 (dk_at dksX6_run_0 20 rfl rfl)
theorem dX6_run_21 : decode cX6_run 21 = .ok (.iconst (-1), 1) := dk_2 (dk_at dksX6_run_0 21 rfl rfl)
theorem dX6_run_22 : decode cX6_run 22 = .ok (.putfield 388, 3) := dk_181 1 132 (dk_at dksX6_run_1 0 rfl rfl)
theorem dX6_run_25 : decode cX6_run 25 = .ok (.aload_n 0, 1) := dk_42 (dk_at dksX6_run_1 3 rfl rfl)
theorem dX6_run_26 : decode cX6_run 26 = .ok (.iload_n 1, 1) := dk_27 (dk_at dksX6_run_1 4 rfl rfl)
theorem dX6_run_27 : decode cX6_run 27 = .ok (.iconst (-1), 1) := dk_2 (dk_at dksX6_run_1 5 rfl rfl)
theorem dX6_run_28 : decode cX6_run 28 = .ok (.invokevirtual 436, 3) := dk_182 1 180 (dk_at dksX6_run_1 6 rfl rfl)
theorem dX6_run_31 : decode cX6_run 31 = .ok (.aload_n 0, 1) := dk_42 (dk_at dksX6_run_1 9 rfl rfl)
theorem dX6_run_32 : decode cX6_run 32 = .ok (.aload_n 0, 1) := dk_42 (dk_at dksX6_run_1 10 rfl rfl)
theorem dX6_run_33 : decode cX6_run 33 = .ok (.getfield 13, 3) := dk_180 0 13 (dk_at dksX6_run_1 11 rfl rfl)
theorem dX6_run_36 : decode cX6_run 36 = .ok (.iconst 0, 1) := dk_3 (dk_at dksX6_run_1 14 rfl rfl)
theorem dX6_run_37 : decode cX6_run 37 = .ok (.iaload, 1) := dk_46 (dk_at dksX6_run_1 15 rfl rfl)
theorem dX6_run_38 : decode cX6_run 38 = .ok (.putfield 439, 3) := dk_181 1 183 (dk_at dksX6_run_1 16 rfl rfl)
theorem dX6_run_41 : decode cX6_run 41 = .ok (.iconst 0, 1) := dk_3 (dk_at dksX6_run_1 19 rfl rfl)
theorem dX6_run_42 : decode cX6_run 42 = .ok (.istore_n 2, 1) := dk_61 (dk_at dksX6_run_1 20 rfl rfl)
theorem dX6_run_43 : decode cX6_run 43 = .ok (.iload_n 2, 1) := dk_28 (dk_at dksX6_run_1 21 rfl rfl)
theorem dX6_run_44 : decode cX6_run 44 = .ok (.iconst 5, 1) := dk_8 (dk_at dksX6_run_1 22 rfl rfl)
theorem dX6_run_45 : decode cX6_run 45 = .ok (.if_icmp .ge 33, 3) := dk_162 0 33 (dk_at dksX6_run_2 0 rfl rfl)
theorem dX6_run_48 : decode cX6_run 48 = .ok (.aload_n 0, 1) := dk_42 (dk_at dksX6_run_2 3 rfl rfl)
theorem dX6_run_49 : decode cX6_run 49 = .ok (.getfield 54, 3) := dk_180 0 54 (dk_at dksX6_run_2 4 rfl rfl)
theorem dX6_run_52 : decode cX6_run 52 = .ok (.iload_n 2, 1) := dk_28 (dk_at dksX6_run_2 7 rfl rfl)
theorem dX6_run_53 : decode cX6_run 53 = .ok (.aload_n 0, 1) := dk_42 (dk_at dksX6_run_2 8 rfl rfl)
theorem dX6_run_54 : decode cX6_run 54 = .ok (.getfield 42, 3) := dk_180 0 42 (dk_at dksX6_run_2 9 rfl rfl)
theorem dX6_run_57 : decode cX6_run 57 = .ok (.iload_n 2, 1) := dk_28 (dk_at dksX6_run_2 12 rfl rfl)
theorem dX6_run_58 : decode cX6_run 58 = .ok (.iaload, 1) := dk_46 (dk_at dksX6_run_2 13 rfl rfl)
theorem dX6_run_59 : decode cX6_run 59 = .ok (.iastore, 1) := dk_79 (dk_at dksX6_run_2 14 rfl rfl)
theorem dX6_run_60 : decode cX6_run 60 = .ok (.aload_n 0, 1) := dk_42 (dk_at dksX6_run_2 15 rfl rfl)
theorem dX6_run_61 : decode cX6_run 61 = .ok (.getfield 60, 3) := dk_180 0 60 (dk_at dksX6_run_2 16 rfl rfl)
theorem dX6_run_64 : decode cX6_run 64 = .ok (.iload_n 2, 1) := dk_28 (dk_at dksX6_run_2 19 rfl rfl)
theorem dX6_run_65 : decode cX6_run 65 = .ok (.aload_n 0, 1) := dk_42 (dk_at dksX6_run_2 20 rfl rfl)
theorem dX6_run_66 : decode cX6_run 66 = .ok (.getfield 48, 3) := dk_180 0 48 (dk_at dksX6_run_2 21 rfl rfl)
theorem dX6_run_69 : decode cX6_run 69 = .ok (.iload_n 2, 1) := dk_28 (dk_at dksX6_run_3 0 rfl rfl)
theorem dX6_run_70 : decode cX6_run 70 = .ok (.iaload, 1) := dk_46 (dk_at dksX6_run_3 1 rfl rfl)
theorem dX6_run_71 : decode cX6_run 71 = .ok (.iastore, 1) := dk_79 (dk_at dksX6_run_3 2 rfl rfl)
theorem dX6_run_72 : decode cX6_run 72 = .ok (.iinc 2 1, 3) := dk_132 2 1 (dk_at dksX6_run_3 3 rfl rfl)
theorem dX6_run_75 : decode cX6_run 75 = .ok (.goto (-32), 3) := dk_167 255 224 (dk_at dksX6_run_3 6 rfl rfl)
theorem dX6_run_78 : decode cX6_run 78 = .ok (.aload_n 0, 1) := dk_42 (dk_at dksX6_run_3 9 rfl rfl)
theorem dX6_run_79 : decode cX6_run 79 = .ok (.getfield 57, 3) := dk_180 0 57 (dk_at dksX6_run_3 10 rfl rfl)
theorem dX6_run_82 : decode cX6_run 82 = .ok (.iconst 0, 1) := dk_3 (dk_at dksX6_run_3 13 rfl rfl)
theorem dX6_run_83 : decode cX6_run 83 = .ok (.aload_n 0, 1) := dk_42 (dk_at dksX6_run_3 14 rfl rfl)
theorem dX6_run_84 : decode cX6_run 84 = .ok (.getfield 338, 3) := dk_180 1 82 (dk_at dksX6_run_3 15 rfl rfl)
theorem dX6_run_87 : decode cX6_run 87 = .ok (.iastore, 1) := dk_79 (dk_at dksX6_run_3 18 rfl rfl)
theorem dX6_run_88 : decode cX6_run 88 = .ok (.aload_n 0, 1) := dk_42 (dk_at dksX6_run_3 19 rfl rfl)
theorem dX6_run_89 : decode cX6_run 89 = .ok (.getfield 57, 3) := dk_180 0 57 (dk_at dksX6_run_3 20 rfl rfl)
theorem dX6_run_92 : decode cX6_run 92 = .ok (.iconst 1, 1) := dk_4 (dk_at dksX6_run_3 23 rfl rfl)
theorem dX6_run_93 : decode cX6_run 93 = .ok (.aload_n 0, 1) := dk_42 (dk_at dksX6_run_4 0 rfl rfl)
theorem dX6_run_94 : decode cX6_run 94 = .ok (.getfield 341, 3) := dk_180 1 85 (dk_at dksX6_run_4 1 rfl rfl)
theorem dX6_run_97 : decode cX6_run 97 = .ok (.iastore, 1) := dk_79 (dk_at dksX6_run_4 4 rfl rfl)
theorem dX6_run_98 : decode cX6_run 98 = .ok (.aload_n 0, 1) := dk_42 (dk_at dksX6_run_4 5 rfl rfl)
theorem dX6_run_99 : decode cX6_run 99 = .ok (.getfield 57, 3) := dk_180 0 57 (dk_at dksX6_run_4 6 rfl rfl)
theorem dX6_run_102 : decode cX6_run 102 = .ok (.iconst 2, 1) := dk_5 (dk_at dksX6_run_4 9 rfl rfl)
theorem dX6_run_103 : decode cX6_run 103 = .ok (.aload_n 0, 1) := dk_42 (dk_at dksX6_run_4 10 rfl rfl)
theorem dX6_run_104 : decode cX6_run 104 = .ok (.getfield 397, 3) := dk_180 1 141 (dk_at dksX6_run_4 11 rfl rfl)
theorem dX6_run_107 : decode cX6_run 107 = .ok (.iastore, 1) := dk_79 (dk_at dksX6_run_4 14 rfl rfl)
theorem dX6_run_108 : decode cX6_run 108 = .ok (.aload_n 0, 1) := dk_42 (dk_at dksX6_run_4 15 rfl rfl)
theorem dX6_run_109 : decode cX6_run 109 = .ok (.getfield 57, 3) := dk_180 0 57 (dk_at dksX6_run_4 16 rfl rfl)
theorem dX6_run_112 : decode cX6_run 112 = .ok (.iconst 3, 1) := dk_6 (dk_at dksX6_run_4 19 rfl rfl)
theorem dX6_run_113 : decode cX6_run 113 = .ok (.aload_n 0, 1) := dk_42 (dk_at dksX6_run_4 20 rfl rfl)
theorem dX6_run_114 : decode cX6_run 114 = .ok (.getfield 394, 3) := dk_180 1 138 (dk_at dksX6_run_4 21 rfl rfl)
theorem dX6_run_117 : decode cX6_run 117 = .ok (.iastore, 1) := dk_79 (dk_at dksX6_run_5 0 rfl rfl)
theorem dX6_run_118 : decode cX6_run 118 = .ok (.aload_n 0, 1) := dk_42 (dk_at dksX6_run_5 1 rfl rfl)
theorem dX6_run_119 : decode cX6_run 119 = .ok (.getfield 57, 3) := dk_180 0 57 (dk_at dksX6_run_5 2 rfl rfl)
theorem dX6_run_122 : decode cX6_run 122 = .ok (.iconst 4, 1) := dk_7 (dk_at dksX6_run_5 5 rfl rfl)
theorem dX6_run_123 : decode cX6_run 123 = .ok (.aload_n 0, 1) := dk_42 (dk_at dksX6_run_5 6 rfl rfl)
theorem dX6_run_124 : decode cX6_run 124 = .ok (.getfield 372, 3) := dk_180 1 116 (dk_at dksX6_run_5 7 rfl rfl)
theorem dX6_run_127 : decode cX6_run 127 = .ok (.iastore, 1) := dk_79 (dk_at dksX6_run_5 10 rfl rfl)
theorem dX6_run_128 : decode cX6_run 128 = .ok (.aload_n 0, 1) := dk_42 (dk_at dksX6_run_5 11 rfl rfl)
theorem dX6_run_129 : decode cX6_run 129 = .ok (.getfield 57, 3) := dk_180 0 57 (dk_at dksX6_run_5 12 rfl rfl)
theorem dX6_run_132 : decode cX6_run 132 = .ok (.iconst 5, 1) := dk_8 (dk_at dksX6_run_5 15 rfl rfl)
theorem dX6_run_133 : decode cX6_run 133 = .ok (.aload_n 0, 1) := dk_42 (dk_at dksX6_run_5 16 rfl rfl)
theorem dX6_run_134 : decode cX6_run 134 = .ok (.getfield 369, 3) := dk_180 1 113 (dk_at dksX6_run_5 17 rfl rfl)
theorem dX6_run_137 : decode cX6_run 137 = .ok (.iastore, 1) := dk_79 (dk_at dksX6_run_5 20 rfl rfl)
theorem dX6_run_138 : decode cX6_run 138 = .ok (.aload_n 0, 1) := dk_42 (dk_at dksX6_run_5 21 rfl rfl)
theorem dX6_run_139 : decode cX6_run 139 = .ok (.getfield 57, 3) := dk_180 0 57 (dk_at dksX6_run_6 0 rfl rfl)
theorem dX6_run_142 : decode cX6_run 142 = .ok (.bipush 6, 2) := dk_16 6 (dk_at dksX6_run_6 3 rfl rfl)
theorem dX6_run_144 : decode cX6_run 144 = .ok (.aload_n 0, 1) := dk_42 (dk_at dksX6_run_6 5 rfl rfl)
theorem dX6_run_145 : decode cX6_run 145 = .ok (.getfield 424, 3) := dk_180 1 168 (dk_at dksX6_run_6 6 rfl rfl)
theorem dX6_run_148 : decode cX6_run 148 = .ok (.iastore, 1) := dk_79 (dk_at dksX6_run_6 9 rfl rfl)
theorem dX6_run_149 : decode cX6_run 149 = .ok (.aload_n 0, 1) := dk_42 (dk_at dksX6_run_6 10 rfl rfl)
theorem dX6_run_150 : decode cX6_run 150 = .ok (.getfield 57, 3) := dk_180 0 57 (dk_at dksX6_run_6 11 rfl rfl)
theorem dX6_run_153 : decode cX6_run 153 = .ok (.bipush 7, 2) := dk_16 7 (dk_at dksX6_run_6 14 rfl rfl)
theorem dX6_run_155 : decode cX6_run 155 = .ok (.aload_n 0, 1) := dk_42 (dk_at dksX6_run_6 16 rfl rfl)
theorem dX6_run_156 : decode cX6_run 156 = .ok (.getfield 385, 3) := dk_180 1 129 (dk_at dksX6_run_6 17 rfl rfl)
theorem dX6_run_159 : decode cX6_run 159 = .ok (.iastore, 1) := dk_79 (dk_at dksX6_run_6 20 rfl rfl)
theorem dX6_run_160 : decode cX6_run 160 = .ok (.aload_n 0, 1) := dk_42 (dk_at dksX6_run_6 21 rfl rfl)
theorem dX6_run_161 : decode cX6_run 161 = .ok (.getfield 57, 3) := dk_180 0 57 (dk_at dksX6_run_7 0 rfl rfl)
theorem dX6_run_164 : decode cX6_run 164 = .ok (.bipush 8, 2) := dk_16 8 (dk_at dksX6_run_7 3 rfl rfl)
theorem dX6_run_166 : decode cX6_run 166 = .ok (.aload_n 0, 1) := dk_42 (dk_at dksX6_run_7 5 rfl rfl)
theorem dX6_run_167 : decode cX6_run 167 = .ok (.getfield 403, 3) := dk_180 1 147 (dk_at dksX6_run_7 6 rfl rfl)
theorem dX6_run_170 : decode cX6_run 170 = .ok (.iastore, 1) := dk_79 (dk_at dksX6_run_7 9 rfl rfl)
theorem dX6_run_171 : decode cX6_run 171 = .ok (.aload_n 0, 1) := dk_42 (dk_at dksX6_run_7 10 rfl rfl)
theorem dX6_run_172 : decode cX6_run 172 = .ok (.getfield 57, 3) := dk_180 0 57 (dk_at dksX6_run_7 11 rfl rfl)
theorem dX6_run_175 : decode cX6_run 175 = .ok (.bipush 9, 2) := dk_16 9 (dk_at dksX6_run_7 14 rfl rfl)
theorem dX6_run_177 : decode cX6_run 177 = .ok (.aload_n 0, 1) := dk_42 (dk_at dksX6_run_7 16 rfl rfl)
theorem dX6_run_178 : decode cX6_run 178 = .ok (.getfield 406, 3) := dk_180 1 150 (dk_at dksX6_run_7 17 rfl rfl)
theorem dX6_run_181 : decode cX6_run 181 = .ok (.iastore, 1) := dk_79 (dk_at dksX6_run_7 20 rfl rfl)
theorem dX6_run_182 : decode cX6_run 182 = .ok (.aload_n 0, 1) := dk_42 (dk_at dksX6_run_7 21 rfl rfl)
theorem dX6_run_183 : decode cX6_run 183 = .ok (.getfield 57, 3) := dk_180 0 57 (dk_at dksX6_run_8 0 rfl rfl)
theorem dX6_run_186 : decode cX6_run 186 = .ok (.bipush 10, 2) := dk_16 10 (dk_at dksX6_run_8 3 rfl rfl)
theorem dX6_run_188 : decode cX6_run 188 = .ok (.aload_n 0, 1) := dk_42 (dk_at dksX6_run_8 5 rfl rfl)
theorem dX6_run_189 : decode cX6_run 189 = .ok (.getfield 400, 3) := dk_180 1 144 (dk_at dksX6_run_8 6 rfl rfl)
theorem dX6_run_192 : decode cX6_run 192 = .ok (.iastore, 1) := dk_79 (dk_at dksX6_run_8 9 rfl rfl)
theorem dX6_run_193 : decode cX6_run 193 = .ok (.aload_n 0, 1) := dk_42 (dk_at dksX6_run_8 10 rfl rfl)
theorem dX6_run_194 : decode cX6_run 194 = .ok (.getfield 57, 3) := dk_180 0 57 (dk_at dksX6_run_8 11 rfl rfl)
theorem dX6_run_197 : decode cX6_run 197 = .ok (.bipush 11, 2) := dk_16 11 (dk_at dksX6_run_8 14 rfl rfl)
theorem dX6_run_199 : decode cX6_run 199 = .ok (.aload_n 0, 1) := dk_42 (dk_at dksX6_run_8 16 rfl rfl)
theorem dX6_run_200 : decode cX6_run 200 = .ok (.getfield 375, 3) := dk_180 1 119 (dk_at dksX6_run_8 17 rfl rfl)
theorem dX6_run_203 : decode cX6_run 203 = .ok (.iastore, 1) := dk_79 (dk_at dksX6_run_8 20 rfl rfl)
theorem dX6_run_204 : decode cX6_run 204 = .ok (.aload_n 0, 1) := dk_42 (dk_at dksX6_run_8 21 rfl rfl)
theorem dX6_run_205 : decode cX6_run 205 = .ok (.aload_n 0, 1) := dk_42 (dk_at dksX6_run_8 22 rfl rfl)
theorem dX6_run_206 : decode cX6_run 206 = .ok (.getfield 427, 3) := dk_180 1 171 (dk_at dksX6_run_9 0 rfl rfl)
theorem dX6_run_209 : decode cX6_run 209 = .ok (.invokevirtual 122, 3) := dk_182 0 122 (dk_at dksX6_run_9 3 rfl rfl)
theorem dX6_run_212 : decode cX6_run 212 = .ok (.ireturn, 1) := dk_172 (dk_at dksX6_run_9 6 rfl rfl)
abbrev cX6_goThrough : ByteArray := prog_28_method_59_code
def yX6_goThrough : MethodName := ⟨RX6, "goThrough", "(II)V"⟩
def dkwX6_goThrough_9 : List UInt8 := [167, 0, 4, 2, 181, 1, 168, 132, 4, 1, 167, 255, 49, 177]
abbrev dktX6_goThrough_9 : List UInt8 := dkwX6_goThrough_9 ++ []
def dkwX6_goThrough_8 : List UInt8 := [54, 4, 167, 0, 31, 42, 21, 7, 153, 0, 18, 42, 29, 21, 6, 182, 1, 177, 154, 0, 8, 21, 4]
abbrev dktX6_goThrough_8 : List UInt8 := dkwX6_goThrough_8 ++ dktX6_goThrough_9
def dkwX6_goThrough_7 : List UInt8 := [153, 0, 29, 42, 180, 0, 13, 21, 6, 46, 8, 160, 0, 18, 42, 180, 0, 13, 21, 6, 16, 7, 96, 46]
abbrev dktX6_goThrough_7 : List UInt8 := dkwX6_goThrough_7 ++ dktX6_goThrough_8
def dkwX6_goThrough_6 : List UInt8 := [180, 0, 13, 21, 6, 7, 96, 46, 182, 1, 153, 4, 160, 0, 7, 4, 167, 0, 4, 3, 54, 7, 21, 7]
abbrev dktX6_goThrough_6 : List UInt8 := dkwX6_goThrough_6 ++ dktX6_goThrough_7
def dkwX6_goThrough_5 : List UInt8 := [42, 180, 0, 13, 21, 6, 7, 96, 46, 159, 0, 30, 42, 29, 42, 180, 0, 13, 21, 6, 6, 96, 46, 42]
abbrev dktX6_goThrough_5 : List UInt8 := dkwX6_goThrough_5 ++ dktX6_goThrough_6
def dkwX6_goThrough_4 : List UInt8 := [100, 54, 5, 29, 16, 10, 96, 16, 10, 21, 5, 104, 96, 54, 6, 42, 180, 0, 13, 21, 6, 6, 96, 46]
abbrev dktX6_goThrough_4 : List UInt8 := dkwX6_goThrough_4 ++ dktX6_goThrough_5
def dkwX6_goThrough_3 : List UInt8 := [159, 0, 8, 21, 4, 167, 0, 20, 21, 4, 28, 160, 0, 10, 21, 4, 4, 96, 167, 0, 7, 21, 4, 4]
abbrev dktX6_goThrough_3 : List UInt8 := dkwX6_goThrough_3 ++ dktX6_goThrough_4
def dkwX6_goThrough_2 : List UInt8 := [180, 1, 171, 4, 96, 181, 1, 171, 28, 2, 159, 0, 17, 21, 4, 28, 159, 0, 16, 21, 4, 28, 4, 96]
abbrev dktX6_goThrough_2 : List UInt8 := dkwX6_goThrough_2 ++ dktX6_goThrough_3
def dkwX6_goThrough_1 : List UInt8 := [162, 0, 202, 42, 180, 1, 171, 16, 100, 162, 0, 193, 42, 180, 1, 168, 2, 160, 0, 185, 42, 89]
abbrev dktX6_goThrough_1 : List UInt8 := dkwX6_goThrough_1 ++ dktX6_goThrough_2
def dkwX6_goThrough_0 : List UInt8 := [42, 182, 1, 174, 16, 60, 17, 3, 232, 27, 104, 96, 62, 3, 54, 4, 21, 4, 42, 180, 0, 13, 29, 46]
abbrev dktX6_goThrough_0 : List UInt8 := dkwX6_goThrough_0 ++ dktX6_goThrough_1
theorem dksX6_goThrough_0 : cX6_goThrough.data.toList.drop 0 = dktX6_goThrough_0 := by decide +kernel
theorem dksX6_goThrough_1 : cX6_goThrough.data.toList.drop 24 = dktX6_goThrough_1 := dk_seg dksX6_goThrough_0 24 rfl rfl
theorem dksX6_goThrough_2 : cX6_goThrough.data.toList.drop 46 = dktX6_goThrough_2 := dk_seg dksX6_goThrough_1 22 rfl rfl
theorem dksX6_goThrough_3 : cX6_goThrough.data.toList.drop 70 = dktX6_goThrough_3 := dk_seg dksX6_goThrough_2 24 rfl rfl
theorem dksX6_goThrough_4 : cX6_goThrough.data.toList.drop 94 = dktX6_goThrough_4 := dk_seg dksX6_goThrough_3 24 rfl rfl
theorem dksX6_goThrough_5 : cX6_goThrough.data.toList.drop 118 = dktX6_goThrough_5 := dk_seg dksX6_goThrough_4 24 rfl rfl
theorem dksX6_goThrough_6 : cX6_goThrough.data.toList.drop 142 = dktX6_goThrough_6 := dk_seg dksX6_goThrough_5 24 rfl rfl
theorem dksX6_goThrough_7 : cX6_goThrough.data.toList.drop 166 = dktX6_goThrough_7 := dk_seg dksX6_goThrough_6 24 rfl rfl
theorem dksX6_goThrough_8 : cX6_goThrough.data.toList.drop 190 = dktX6_goThrough_8 := dk_seg dksX6_goThrough_7 24 rfl rfl
theorem dksX6_goThrough_9 : cX6_goThrough.data.toList.drop 213 = dktX6_goThrough_9 := dk_seg dksX6_goThrough_8 23 rfl rfl
theorem dX6_goThrough_0 : decode cX6_goThrough 0 = .ok (.aload_n 0, 1) := dk_42 (dk_at dksX6_goThrough_0 0 rfl rfl)
theorem dX6_goThrough_1 : decode cX6_goThrough 1 = .ok (.invokevirtual 430, 3) := dk_182 1 174 (dk_at dksX6_goThrough_0 1 rfl rfl)
theorem dX6_goThrough_4 : decode cX6_goThrough 4 = .ok (.bipush 60, 2) := dk_16 60 (dk_at dksX6_goThrough_0 4 rfl rfl)
theorem dX6_goThrough_6 : decode cX6_goThrough 6 = .ok (.sipush 1000, 3) := dk_17 3 232 (dk_at dksX6_goThrough_0 6 rfl rfl)
theorem dX6_goThrough_9 : decode cX6_goThrough 9 = .ok (.iload_n 1, 1) := dk_27 (dk_at dksX6_goThrough_0 9 rfl rfl)
theorem dX6_goThrough_10 : decode cX6_goThrough 10 = .ok (.imul, 1) := dk_104 (dk_at dksX6_goThrough_0 10 rfl rfl)
theorem dX6_goThrough_11 : decode cX6_goThrough 11 = .ok (.iadd, 1) := dk_96 (dk_at dksX6_goThrough_0 11 rfl rfl)
theorem dX6_goThrough_12 : decode cX6_goThrough 12 = .ok (.istore_n 3, 1) := dk_62 (dk_at dksX6_goThrough_0 12 rfl rfl)
theorem dX6_goThrough_13 : decode cX6_goThrough 13 = .ok (.iconst 0, 1) := dk_3 (dk_at dksX6_goThrough_0 13 rfl rfl)
theorem dX6_goThrough_14 : decode cX6_goThrough 14 = .ok (.istore 4, 2) := dk_54 4 (dk_at dksX6_goThrough_0 14 rfl rfl)
theorem dX6_goThrough_16 : decode cX6_goThrough 16 = .ok (.iload 4, 2) := dk_21 4 (dk_at dksX6_goThrough_0 16 rfl rfl)
theorem dX6_goThrough_18 : decode cX6_goThrough 18 = .ok (.aload_n 0, 1) := dk_42 (dk_at dksX6_goThrough_0 18 rfl rfl)
theorem dX6_goThrough_19 : decode cX6_goThrough 19 = .ok (.getfield 13, 3) := dk_180 0 13 (dk_at dksX6_goThrough_0 19 rfl rfl)
theorem dX6_goThrough_22 : decode cX6_goThrough 22 = .ok (.iload_n 3, 1) := dk_29 (dk_at dksX6_goThrough_0 22 rfl rfl)
theorem dX6_goThrough_23 : decode cX6_goThrough 23 = .ok (.iaload, 1) := dk_46 (dk_at dksX6_goThrough_0 23 rfl rfl)
theorem dX6_goThrough_24 : decode cX6_goThrough 24 = .ok (.if_icmp .ge 202, 3) := dk_162 0 202 (dk_at dksX6_goThrough_1 0 rfl rfl)
theorem dX6_goThrough_27 : decode cX6_goThrough 27 = .ok (.aload_n 0, 1) := dk_42 (dk_at dksX6_goThrough_1 3 rfl rfl)
theorem dX6_goThrough_28 : decode cX6_goThrough 28 = .ok (.getfield 427, 3) := dk_180 1 171 (dk_at dksX6_goThrough_1 4 rfl rfl)
theorem dX6_goThrough_31 : decode cX6_goThrough 31 = .ok (.bipush 100, 2) := dk_16 100 (dk_at dksX6_goThrough_1 7 rfl rfl)
theorem dX6_goThrough_33 : decode cX6_goThrough 33 = .ok (.if_icmp .ge 193, 3) := dk_162 0 193 (dk_at dksX6_goThrough_1 9 rfl rfl)
theorem dX6_goThrough_36 : decode cX6_goThrough 36 = .ok (.aload_n 0, 1) := dk_42 (dk_at dksX6_goThrough_1 12 rfl rfl)
theorem dX6_goThrough_37 : decode cX6_goThrough 37 = .ok (.getfield 424, 3) := dk_180 1 168 (dk_at dksX6_goThrough_1 13 rfl rfl)
theorem dX6_goThrough_40 : decode cX6_goThrough 40 = .ok (.iconst (-1), 1) := dk_2 (dk_at dksX6_goThrough_1 16 rfl rfl)
theorem dX6_goThrough_41 : decode cX6_goThrough 41 = .ok (.if_icmp .ne 185, 3) := dk_160 0 185 (dk_at dksX6_goThrough_1 17 rfl rfl)
theorem dX6_goThrough_44 : decode cX6_goThrough 44 = .ok (.aload_n 0, 1) := dk_42 (dk_at dksX6_goThrough_1 20 rfl rfl)
theorem dX6_goThrough_45 : decode cX6_goThrough 45 = .ok (.dup, 1) := dk_89 (dk_at dksX6_goThrough_1 21 rfl rfl)
theorem dX6_goThrough_46 : decode cX6_goThrough 46 = .ok (.getfield 427, 3) := dk_180 1 171 (dk_at dksX6_goThrough_2 0 rfl rfl)
theorem dX6_goThrough_49 : decode cX6_goThrough 49 = .ok (.iconst 1, 1) := dk_4 (dk_at dksX6_goThrough_2 3 rfl rfl)
theorem dX6_goThrough_50 : decode cX6_goThrough 50 = .ok (.iadd, 1) := dk_96 (dk_at dksX6_goThrough_2 4 rfl rfl)
theorem dX6_goThrough_51 : decode cX6_goThrough 51 = .ok (.putfield 427, 3) := dk_181 1 171 (dk_at dksX6_goThrough_2 5 rfl rfl)
theorem dX6_goThrough_54 : decode cX6_goThrough 54 = .ok (.iload_n 2, 1) := dk_28 (dk_at dksX6_goThrough_2 8 rfl rfl)
theorem dX6_goThrough_55 : decode cX6_goThrough 55 = .ok (.iconst (-1), 1) := dk_2 (dk_at dksX6_goThrough_2 9 rfl rfl)
theorem dX6_goThrough_56 : decode cX6_goThrough 56 = .ok (.if_icmp .eq 17, 3) := dk_159 0 17 (dk_at dksX6_goThrough_2 10 rfl rfl)
theorem dX6_goThrough_59 : decode cX6_goThrough 59 = .ok (.iload 4, 2) := dk_21 4 (dk_at dksX6_goThrough_2 13 rfl rfl)
theorem dX6_goThrough_61 : decode cX6_goThrough 61 = .ok (.iload_n 2, 1) := dk_28 (dk_at dksX6_goThrough_2 15 rfl rfl)
theorem dX6_goThrough_62 : decode cX6_goThrough 62 = .ok (.if_icmp .eq 16, 3) := dk_159 0 16 (dk_at dksX6_goThrough_2 16 rfl rfl)
theorem dX6_goThrough_65 : decode cX6_goThrough 65 = .ok (.iload 4, 2) := dk_21 4 (dk_at dksX6_goThrough_2 19 rfl rfl)
theorem dX6_goThrough_67 : decode cX6_goThrough 67 = .ok (.iload_n 2, 1) := dk_28 (dk_at dksX6_goThrough_2 21 rfl rfl)
theorem dX6_goThrough_68 : decode cX6_goThrough 68 = .ok (.iconst 1, 1) := dk_4 (dk_at dksX6_goThrough_2 22 rfl rfl)
theorem dX6_goThrough_69 : decode cX6_goThrough 69 = .ok (.iadd, 1) := dk_96 (dk_at dksX6_goThrough_2 23 rfl rfl)
theorem dX6_goThrough_70 : decode cX6_goThrough 70 = .ok (.if_icmp .eq 8, 3) := dk_159 0 8 (dk_at dksX6_goThrough_3 0 rfl rfl)
theorem dX6_goThrough_73 : decode cX6_goThrough 73 = .ok (.iload 4, 2) := dk_21 4 (dk_at dksX6_goThrough_3 3 rfl rfl)
theorem dX6_goThrough_75 : decode cX6_goThrough 75 = .ok (.goto 20, 3) := dk_167 0 20 (dk_at dksX6_goThrough_3 5 rfl rfl)
theorem dX6_goThrough_78 : decode cX6_goThrough 78 = .ok (.iload 4, 2) := dk_21 4 (dk_at dksX6_goThrough_3 8 rfl rfl)
theorem dX6_goThrough_80 : decode cX6_goThrough 80 = .ok (.iload_n 2, 1) := dk_28 (dk_at dksX6_goThrough_3 10 rfl rfl)
theorem dX6_goThrough_81 : decode cX6_goThrough 81 = .ok (.if_icmp .ne 10, 3) := dk_160 0 10 (dk_at dksX6_goThrough_3 11 rfl rfl)
theorem dX6_goThrough_84 : decode cX6_goThrough 84 = .ok (.iload 4, 2) := dk_21 4 (dk_at dksX6_goThrough_3 14 rfl rfl)
theorem dX6_goThrough_86 : decode cX6_goThrough 86 = .ok (.iconst 1, 1) := dk_4 (dk_at dksX6_goThrough_3 16 rfl rfl)
theorem dX6_goThrough_87 : decode cX6_goThrough 87 = .ok (.iadd, 1) := dk_96 (dk_at dksX6_goThrough_3 17 rfl rfl)
theorem dX6_goThrough_88 : decode cX6_goThrough 88 = .ok (.goto 7, 3) := dk_167 0 7 (dk_at dksX6_goThrough_3 18 rfl rfl)
theorem dX6_goThrough_91 : decode cX6_goThrough 91 = .ok (.iload 4, 2) := dk_21 4 (dk_at dksX6_goThrough_3 21 rfl rfl)
theorem dX6_goThrough_93 : decode cX6_goThrough 93 = .ok (.iconst 1, 1) := dk_4 (dk_at dksX6_goThrough_3 23 rfl rfl)
theorem dX6_goThrough_94 : decode cX6_goThrough 94 = .ok (.isub, 1) := dk_100 (dk_at dksX6_goThrough_4 0 rfl rfl)
theorem dX6_goThrough_95 : decode cX6_goThrough 95 = .ok (.istore 5, 2) := dk_54 5 (dk_at dksX6_goThrough_4 1 rfl rfl)
theorem dX6_goThrough_97 : decode cX6_goThrough 97 = .ok (.iload_n 3, 1) := dk_29 (dk_at dksX6_goThrough_4 3 rfl rfl)
theorem dX6_goThrough_98 : decode cX6_goThrough 98 = .ok (.bipush 10, 2) := dk_16 10 (dk_at dksX6_goThrough_4 4 rfl rfl)
theorem dX6_goThrough_100 : decode cX6_goThrough 100 = .ok (.iadd, 1) := dk_96 (dk_at dksX6_goThrough_4 6 rfl rfl)
theorem dX6_goThrough_101 : decode cX6_goThrough 101 = .ok (.bipush 10, 2) := dk_16 10 (dk_at dksX6_goThrough_4 7 rfl rfl)
theorem dX6_goThrough_103 : decode cX6_goThrough 103 = .ok (.iload 5, 2) := dk_21 5 (dk_at dksX6_goThrough_4 9 rfl rfl)
theorem dX6_goThrough_105 : decode cX6_goThrough 105 = .ok (.imul, 1) := dk_104 (dk_at dksX6_goThrough_4 11 rfl rfl)
theorem dX6_goThrough_106 : decode cX6_goThrough 106 = .ok (.iadd, 1) := dk_96 (dk_at dksX6_goThrough_4 12 rfl rfl)
theorem dX6_goThrough_107 : decode cX6_goThrough 107 = .ok (.istore 6, 2) := dk_54 6 (dk_at dksX6_goThrough_4 13 rfl rfl)
theorem dX6_goThrough_109 : decode cX6_goThrough 109 = .ok (.aload_n 0, 1) := dk_42 (dk_at dksX6_goThrough_4 15 rfl rfl)
theorem dX6_goThrough_110 : decode cX6_goThrough 110 = .ok (.getfield 13, 3) := dk_180 0 13 (dk_at dksX6_goThrough_4 16 rfl rfl)
theorem dX6_goThrough_113 : decode cX6_goThrough 113 = .ok (.iload 6, 2) := dk_21 6 (dk_at dksX6_goThrough_4 19 rfl rfl)
theorem dX6_goThrough_115 : decode cX6_goThrough 115 = .ok (.iconst 3, 1) := dk_6 (dk_at dksX6_goThrough_4 21 rfl rfl)
theorem dX6_goThrough_116 : decode cX6_goThrough 116 = .ok (.iadd, 1) := dk_96 (dk_at dksX6_goThrough_4 22 rfl rfl)
theorem dX6_goThrough_117 : decode cX6_goThrough 117 = .ok (.iaload, 1) := dk_46 (dk_at dksX6_goThrough_4 23 rfl rfl)
theorem dX6_goThrough_118 : decode cX6_goThrough 118 = .ok (.aload_n 0, 1) := dk_42 (dk_at dksX6_goThrough_5 0 rfl rfl)
theorem dX6_goThrough_119 : decode cX6_goThrough 119 = .ok (.getfield 13, 3) := dk_180 0 13 (dk_at dksX6_goThrough_5 1 rfl rfl)
theorem dX6_goThrough_122 : decode cX6_goThrough 122 = .ok (.iload 6, 2) := dk_21 6 (dk_at dksX6_goThrough_5 4 rfl rfl)
theorem dX6_goThrough_124 : decode cX6_goThrough 124 = .ok (.iconst 4, 1) := dk_7 (dk_at dksX6_goThrough_5 6 rfl rfl)
theorem dX6_goThrough_125 : decode cX6_goThrough 125 = .ok (.iadd, 1) := dk_96 (dk_at dksX6_goThrough_5 7 rfl rfl)
theorem dX6_goThrough_126 : decode cX6_goThrough 126 = .ok (.iaload, 1) := dk_46 (dk_at dksX6_goThrough_5 8 rfl rfl)
theorem dX6_goThrough_127 : decode cX6_goThrough 127 = .ok (.if_icmp .eq 30, 3) := dk_159 0 30 (dk_at dksX6_goThrough_5 9 rfl rfl)
theorem dX6_goThrough_130 : decode cX6_goThrough 130 = .ok (.aload_n 0, 1) := dk_42 (dk_at dksX6_goThrough_5 12 rfl rfl)
theorem dX6_goThrough_131 : decode cX6_goThrough 131 = .ok (.iload_n 3, 1) := dk_29 (dk_at dksX6_goThrough_5 13 rfl rfl)
theorem dX6_goThrough_132 : decode cX6_goThrough 132 = .ok (.aload_n 0, 1) := dk_42 (dk_at dksX6_goThrough_5 14 rfl rfl)
theorem dX6_goThrough_133 : decode cX6_goThrough 133 = .ok (.getfield 13, 3) := dk_180 0 13 (dk_at dksX6_goThrough_5 15 rfl rfl)
theorem dX6_goThrough_136 : decode cX6_goThrough 136 = .ok (.iload 6, 2) := dk_21 6 (dk_at dksX6_goThrough_5 18 rfl rfl)
theorem dX6_goThrough_138 : decode cX6_goThrough 138 = .ok (.iconst 3, 1) := dk_6 (dk_at dksX6_goThrough_5 20 rfl rfl)
theorem dX6_goThrough_139 : decode cX6_goThrough 139 = .ok (.iadd, 1) := dk_96 (dk_at dksX6_goThrough_5 21 rfl rfl)
theorem dX6_goThrough_140 : decode cX6_goThrough 140 = .ok (.iaload, 1) := dk_46 (dk_at dksX6_goThrough_5 22 rfl rfl)
theorem dX6_goThrough_141 : decode cX6_goThrough 141 = .ok (.aload_n 0, 1) := dk_42 (dk_at dksX6_goThrough_5 23 rfl rfl)
theorem dX6_goThrough_142 : decode cX6_goThrough 142 = .ok (.getfield 13, 3) := dk_180 0 13 (dk_at dksX6_goThrough_6 0 rfl rfl)
theorem dX6_goThrough_145 : decode cX6_goThrough 145 = .ok (.iload 6, 2) := dk_21 6 (dk_at dksX6_goThrough_6 3 rfl rfl)
theorem dX6_goThrough_147 : decode cX6_goThrough 147 = .ok (.iconst 4, 1) := dk_7 (dk_at dksX6_goThrough_6 5 rfl rfl)
theorem dX6_goThrough_148 : decode cX6_goThrough 148 = .ok (.iadd, 1) := dk_96 (dk_at dksX6_goThrough_6 6 rfl rfl)
theorem dX6_goThrough_149 : decode cX6_goThrough 149 = .ok (.iaload, 1) := dk_46 (dk_at dksX6_goThrough_6 7 rfl rfl)
theorem dX6_goThrough_150 : decode cX6_goThrough 150 = .ok (.invokevirtual 409, 3) := dk_182 1 153 (dk_at dksX6_goThrough_6 8 rfl rfl)
theorem dX6_goThrough_153 : decode cX6_goThrough 153 = .ok (.iconst 1, 1) := dk_4 (dk_at dksX6_goThrough_6 11 rfl rfl)
theorem dX6_goThrough_154 : decode cX6_goThrough 154 = .ok (.if_icmp .ne 7, 3) := dk_160 0 7 (dk_at dksX6_goThrough_6 12 rfl rfl)
theorem dX6_goThrough_157 : decode cX6_goThrough 157 = .ok (.iconst 1, 1) := dk_4 (dk_at dksX6_goThrough_6 15 rfl rfl)
theorem dX6_goThrough_158 : decode cX6_goThrough 158 = .ok (.goto 4, 3) := dk_167 0 4 (dk_at dksX6_goThrough_6 16 rfl rfl)
theorem dX6_goThrough_161 : decode cX6_goThrough 161 = .ok (.iconst 0, 1) := dk_3 (dk_at dksX6_goThrough_6 19 rfl rfl)
theorem dX6_goThrough_162 : decode cX6_goThrough 162 = .ok (.istore 7, 2) := dk_54 7 (dk_at dksX6_goThrough_6 20 rfl rfl)
theorem dX6_goThrough_164 : decode cX6_goThrough 164 = .ok (.iload 7, 2) := dk_21 7 (dk_at dksX6_goThrough_6 22 rfl rfl)
theorem dX6_goThrough_166 : decode cX6_goThrough 166 = .ok (.ifCond .eq 29, 3) := dk_153 0 29 (dk_at dksX6_goThrough_7 0 rfl rfl)
theorem dX6_goThrough_169 : decode cX6_goThrough 169 = .ok (.aload_n 0, 1) := dk_42 (dk_at dksX6_goThrough_7 3 rfl rfl)
theorem dX6_goThrough_170 : decode cX6_goThrough 170 = .ok (.getfield 13, 3) := dk_180 0 13 (dk_at dksX6_goThrough_7 4 rfl rfl)
theorem dX6_goThrough_173 : decode cX6_goThrough 173 = .ok (.iload 6, 2) := dk_21 6 (dk_at dksX6_goThrough_7 7 rfl rfl)
theorem dX6_goThrough_175 : decode cX6_goThrough 175 = .ok (.iaload, 1) := dk_46 (dk_at dksX6_goThrough_7 9 rfl rfl)
theorem dX6_goThrough_176 : decode cX6_goThrough 176 = .ok (.iconst 5, 1) := dk_8 (dk_at dksX6_goThrough_7 10 rfl rfl)
theorem dX6_goThrough_177 : decode cX6_goThrough 177 = .ok (.if_icmp .ne 18, 3) := dk_160 0 18 (dk_at dksX6_goThrough_7 11 rfl rfl)
theorem dX6_goThrough_180 : decode cX6_goThrough 180 = .ok (.aload_n 0, 1) := dk_42 (dk_at dksX6_goThrough_7 14 rfl rfl)
theorem dX6_goThrough_181 : decode cX6_goThrough 181 = .ok (.getfield 13, 3) := dk_180 0 13 (dk_at dksX6_goThrough_7 15 rfl rfl)
theorem dX6_goThrough_184 : decode cX6_goThrough 184 = .ok (.iload 6, 2) := dk_21 6 (dk_at dksX6_goThrough_7 18 rfl rfl)
theorem dX6_goThrough_186 : decode cX6_goThrough 186 = .ok (.bipush 7, 2) := dk_16 7 (dk_at dksX6_goThrough_7 20 rfl rfl)
theorem dX6_goThrough_188 : decode cX6_goThrough 188 = .ok (.iadd, 1) := dk_96 (dk_at dksX6_goThrough_7 22 rfl rfl)
theorem dX6_goThrough_189 : decode cX6_goThrough 189 = .ok (.iaload, 1) := dk_46 (dk_at dksX6_goThrough_7 23 rfl rfl)
theorem dX6_goThrough_190 : decode cX6_goThrough 190 = .ok (.istore 4, 2) := dk_54 4 (dk_at dksX6_goThrough_8 0 rfl rfl)
theorem dX6_goThrough_192 : decode cX6_goThrough 192 = .ok (.goto 31, 3) := dk_167 0 31 (dk_at dksX6_goThrough_8 2 rfl rfl)
theorem dX6_goThrough_195 : decode cX6_goThrough 195 = .ok (.aload_n 0, 1) := dk_42 (dk_at dksX6_goThrough_8 5 rfl rfl)
theorem dX6_goThrough_196 : decode cX6_goThrough 196 = .ok (.iload 7, 2) := dk_21 7 (dk_at dksX6_goThrough_8 6 rfl rfl)
theorem dX6_goThrough_198 : decode cX6_goThrough 198 = .ok (.ifCond .eq 18, 3) := dk_153 0 18 (dk_at dksX6_goThrough_8 8 rfl rfl)
theorem dX6_goThrough_201 : decode cX6_goThrough 201 = .ok (.aload_n 0, 1) := dk_42 (dk_at dksX6_goThrough_8 11 rfl rfl)
theorem dX6_goThrough_202 : decode cX6_goThrough 202 = .ok (.iload_n 3, 1) := dk_29 (dk_at dksX6_goThrough_8 12 rfl rfl)
theorem dX6_goThrough_203 : decode cX6_goThrough 203 = .ok (.iload 6, 2) := dk_21 6 (dk_at dksX6_goThrough_8 13 rfl rfl)
theorem dX6_goThrough_205 : decode cX6_goThrough 205 = .ok (.invokevirtual 433, 3) := dk_182 1 177 (dk_at dksX6_goThrough_8 15 rfl rfl)
theorem dX6_goThrough_208 : decode cX6_goThrough 208 = .ok (.ifCond .ne 8, 3) := dk_154 0 8 (dk_at dksX6_goThrough_8 18 rfl rfl)
theorem dX6_goThrough_211 : decode cX6_goThrough 211 = .ok (.iload 4, 2) := dk_21 4 (dk_at dksX6_goThrough_8 21 rfl rfl)
theorem dX6_goThrough_213 : decode cX6_goThrough 213 = .ok (.goto 4, 3) := dk_167 0 4 (dk_at dksX6_goThrough_9 0 rfl rfl)
theorem dX6_goThrough_216 : decode cX6_goThrough 216 = .ok (.iconst (-1), 1) := dk_2 (dk_at dksX6_goThrough_9 3 rfl rfl)
theorem dX6_goThrough_217 : decode cX6_goThrough 217 = .ok (.putfield 424, 3) := dk_181 1 168 (dk_at dksX6_goThrough_9 4 rfl rfl)
theorem dX6_goThrough_220 : decode cX6_goThrough 220 = .ok (.iinc 4 1, 3) := dk_132 4 1 (dk_at dksX6_goThrough_9 7 rfl rfl)
theorem dX6_goThrough_223 : decode cX6_goThrough 223 = .ok (.goto (-207), 3) := dk_167 255 49 (dk_at dksX6_goThrough_9 10 rfl rfl)
theorem dX6_goThrough_226 : decode cX6_goThrough 226 = .ok (.return_, 1) := dk_177 (dk_at dksX6_goThrough_9 13 rfl rfl)
abbrev cX6_rest0 : ByteArray := prog_28_method_58_code
def yX6_rest0 : MethodName := ⟨RX6, "rest0", "()V"⟩
def dkwX6_rest0_5 : List UInt8 := [42, 3, 181, 1, 171, 177]
abbrev dktX6_rest0_5 : List UInt8 := dkwX6_rest0_5 ++ []
def dkwX6_rest0_4 : List UInt8 := [3, 181, 1, 129, 42, 3, 181, 1, 147, 42, 3, 181, 1, 150, 42, 3, 181, 1, 144, 42, 3, 181, 1, 119]
abbrev dktX6_rest0_4 : List UInt8 := dkwX6_rest0_4 ++ dktX6_rest0_5
def dkwX6_rest0_3 : List UInt8 := [181, 1, 141, 42, 3, 181, 1, 138, 42, 3, 181, 1, 116, 42, 3, 181, 1, 113, 42, 2, 181, 1, 168, 42]
abbrev dktX6_rest0_3 : List UInt8 := dkwX6_rest0_3 ++ dktX6_rest0_4
def dkwX6_rest0_2 : List UInt8 := [42, 3, 181, 1, 79, 42, 2, 181, 1, 107, 42, 3, 181, 1, 82, 42, 3, 181, 1, 85, 42, 3]
abbrev dktX6_rest0_2 : List UInt8 := dkwX6_rest0_2 ++ dktX6_rest0_3
def dkwX6_rest0_1 : List UInt8 := [180, 0, 45, 27, 3, 79, 42, 180, 0, 48, 27, 3, 79, 132, 1, 1, 167, 255, 219, 42, 3, 181, 1, 88]
abbrev dktX6_rest0_1 : List UInt8 := dkwX6_rest0_1 ++ dktX6_rest0_2
def dkwX6_rest0_0 : List UInt8 := [3, 60, 27, 8, 162, 0, 38, 42, 180, 0, 42, 27, 42, 180, 0, 13, 16, 20, 27, 96, 46, 79, 42]
abbrev dktX6_rest0_0 : List UInt8 := dkwX6_rest0_0 ++ dktX6_rest0_1
theorem dksX6_rest0_0 : cX6_rest0.data.toList.drop 0 = dktX6_rest0_0 := by decide +kernel
theorem dksX6_rest0_1 : cX6_rest0.data.toList.drop 23 = dktX6_rest0_1 := dk_seg dksX6_rest0_0 23 rfl rfl
theorem dksX6_rest0_2 : cX6_rest0.data.toList.drop 47 = dktX6_rest0_2 := dk_seg dksX6_rest0_1 24 rfl rfl
theorem dksX6_rest0_3 : cX6_rest0.data.toList.drop 69 = dktX6_rest0_3 := dk_seg dksX6_rest0_2 22 rfl rfl
theorem dksX6_rest0_4 : cX6_rest0.data.toList.drop 93 = dktX6_rest0_4 := dk_seg dksX6_rest0_3 24 rfl rfl
theorem dksX6_rest0_5 : cX6_rest0.data.toList.drop 117 = dktX6_rest0_5 := dk_seg dksX6_rest0_4 24 rfl rfl
theorem dX6_rest0_0 : decode cX6_rest0 0 = .ok (.iconst 0, 1) := dk_3 (dk_at dksX6_rest0_0 0 rfl rfl)
theorem dX6_rest0_1 : decode cX6_rest0 1 = .ok (.istore_n 1, 1) := dk_60 (dk_at dksX6_rest0_0 1 rfl rfl)
theorem dX6_rest0_2 : decode cX6_rest0 2 = .ok (.iload_n 1, 1) := dk_27 (dk_at dksX6_rest0_0 2 rfl rfl)
theorem dX6_rest0_3 : decode cX6_rest0 3 = .ok (.iconst 5, 1) := dk_8 (dk_at dksX6_rest0_0 3 rfl rfl)
theorem dX6_rest0_4 : decode cX6_rest0 4 = .ok (.if_icmp .ge 38, 3) := dk_162 0 38 (dk_at dksX6_rest0_0 4 rfl rfl)
theorem dX6_rest0_7 : decode cX6_rest0 7 = .ok (.aload_n 0, 1) := dk_42 (dk_at dksX6_rest0_0 7 rfl rfl)
theorem dX6_rest0_8 : decode cX6_rest0 8 = .ok (.getfield 42, 3) := dk_180 0 42 (dk_at dksX6_rest0_0 8 rfl rfl)
theorem dX6_rest0_11 : decode cX6_rest0 11 = .ok (.iload_n 1, 1) := dk_27 (dk_at dksX6_rest0_0 11 rfl rfl)
theorem dX6_rest0_12 : decode cX6_rest0 12 = .ok (.aload_n 0, 1) := dk_42 (dk_at dksX6_rest0_0 12 rfl rfl)
theorem dX6_rest0_13 : decode cX6_rest0 13 = .ok (.getfield 13, 3) := dk_180 0 13 (dk_at dksX6_rest0_0 13 rfl rfl)
theorem dX6_rest0_16 : decode cX6_rest0 16 = .ok (.bipush 20, 2) := dk_16 20 (dk_at dksX6_rest0_0 16 rfl rfl)
theorem dX6_rest0_18 : decode cX6_rest0 18 = .ok (.iload_n 1, 1) := dk_27 (dk_at dksX6_rest0_0 18 rfl rfl)
theorem dX6_rest0_19 : decode cX6_rest0 19 = .ok (.iadd, 1) := dk_96 (dk_at dksX6_rest0_0 19 rfl rfl)
theorem dX6_rest0_20 : decode cX6_rest0 20 = .ok (.iaload, 1) := dk_46 (dk_at dksX6_rest0_0 20 rfl rfl)
theorem dX6_rest0_21 : decode cX6_rest0 21 = .ok (.iastore, 1) := dk_79 (dk_at dksX6_rest0_0 21 rfl rfl)
theorem dX6_rest0_22 : decode cX6_rest0 22 = .ok (.aload_n 0, 1) := dk_42 (dk_at dksX6_rest0_0 22 rfl rfl)
theorem dX6_rest0_23 : decode cX6_rest0 23 = .ok (.getfield 45, 3) := dk_180 0 45 (dk_at dksX6_rest0_1 0 rfl rfl)
theorem dX6_rest0_26 : decode cX6_rest0 26 = .ok (.iload_n 1, 1) := dk_27 (dk_at dksX6_rest0_1 3 rfl rfl)
theorem dX6_rest0_27 : decode cX6_rest0 27 = .ok (.iconst 0, 1) := dk_3 (dk_at dksX6_rest0_1 4 rfl rfl)
theorem dX6_rest0_28 : decode cX6_rest0 28 = .ok (.iastore, 1) := dk_79 (dk_at dksX6_rest0_1 5 rfl rfl)
theorem dX6_rest0_29 : decode cX6_rest0 29 = .ok (.aload_n 0, 1) := dk_42 (dk_at dksX6_rest0_1 6 rfl rfl)
theorem dX6_rest0_30 : decode cX6_rest0 30 = .ok (.getfield 48, 3) := dk_180 0 48 (dk_at dksX6_rest0_1 7 rfl rfl)
theorem dX6_rest0_33 : decode cX6_rest0 33 = .ok (.iload_n 1, 1) := dk_27 (dk_at dksX6_rest0_1 10 rfl rfl)
theorem dX6_rest0_34 : decode cX6_rest0 34 = .ok (.iconst 0, 1) := dk_3 (dk_at dksX6_rest0_1 11 rfl rfl)
theorem dX6_rest0_35 : decode cX6_rest0 35 = .ok (.iastore, 1) := dk_79 (dk_at dksX6_rest0_1 12 rfl rfl)
theorem dX6_rest0_36 : decode cX6_rest0 36 = .ok (.iinc 1 1, 3) := dk_132 1 1 (dk_at dksX6_rest0_1 13 rfl rfl)
theorem dX6_rest0_39 : decode cX6_rest0 39 = .ok (.goto (-37), 3) := dk_167 255 219 (dk_at dksX6_rest0_1 16 rfl rfl)
theorem dX6_rest0_42 : decode cX6_rest0 42 = .ok (.aload_n 0, 1) := dk_42 (dk_at dksX6_rest0_1 19 rfl rfl)
theorem dX6_rest0_43 : decode cX6_rest0 43 = .ok (.iconst 0, 1) := dk_3 (dk_at dksX6_rest0_1 20 rfl rfl)
theorem dX6_rest0_44 : decode cX6_rest0 44 = .ok (.putfield 344, 3) := dk_181 1 88 (dk_at dksX6_rest0_1 21 rfl rfl)
theorem dX6_rest0_47 : decode cX6_rest0 47 = .ok (.aload_n 0, 1) := dk_42 (dk_at dksX6_rest0_2 0 rfl rfl)
theorem dX6_rest0_48 : decode cX6_rest0 48 = .ok (.iconst 0, 1) := dk_3 (dk_at dksX6_rest0_2 1 rfl rfl)
theorem dX6_rest0_49 : decode cX6_rest0 49 = .ok (.putfield 335, 3) := dk_181 1 79 (dk_at dksX6_rest0_2 2 rfl rfl)
theorem dX6_rest0_52 : decode cX6_rest0 52 = .ok (.aload_n 0, 1) := dk_42 (dk_at dksX6_rest0_2 5 rfl rfl)
theorem dX6_rest0_53 : decode cX6_rest0 53 = .ok (.iconst (-1), 1) := dk_2 (dk_at dksX6_rest0_2 6 rfl rfl)
theorem dX6_rest0_54 : decode cX6_rest0 54 = .ok (.putfield 363, 3) := dk_181 1 107 (dk_at dksX6_rest0_2 7 rfl rfl)
theorem dX6_rest0_57 : decode cX6_rest0 57 = .ok (.aload_n 0, 1) := dk_42 (dk_at dksX6_rest0_2 10 rfl rfl)
theorem dX6_rest0_58 : decode cX6_rest0 58 = .ok (.iconst 0, 1) := dk_3 (dk_at dksX6_rest0_2 11 rfl rfl)
theorem dX6_rest0_59 : decode cX6_rest0 59 = .ok (.putfield 338, 3) := dk_181 1 82 (dk_at dksX6_rest0_2 12 rfl rfl)
theorem dX6_rest0_62 : decode cX6_rest0 62 = .ok (.aload_n 0, 1) := dk_42 (dk_at dksX6_rest0_2 15 rfl rfl)
theorem dX6_rest0_63 : decode cX6_rest0 63 = .ok (.iconst 0, 1) := dk_3 (dk_at dksX6_rest0_2 16 rfl rfl)
theorem dX6_rest0_64 : decode cX6_rest0 64 = .ok (.putfield 341, 3) := dk_181 1 85 (dk_at dksX6_rest0_2 17 rfl rfl)
theorem dX6_rest0_67 : decode cX6_rest0 67 = .ok (.aload_n 0, 1) := dk_42 (dk_at dksX6_rest0_2 20 rfl rfl)
theorem dX6_rest0_68 : decode cX6_rest0 68 = .ok (.iconst 0, 1) := dk_3 (dk_at dksX6_rest0_2 21 rfl rfl)
theorem dX6_rest0_69 : decode cX6_rest0 69 = .ok (.putfield 397, 3) := dk_181 1 141 (dk_at dksX6_rest0_3 0 rfl rfl)
theorem dX6_rest0_72 : decode cX6_rest0 72 = .ok (.aload_n 0, 1) := dk_42 (dk_at dksX6_rest0_3 3 rfl rfl)
theorem dX6_rest0_73 : decode cX6_rest0 73 = .ok (.iconst 0, 1) := dk_3 (dk_at dksX6_rest0_3 4 rfl rfl)
theorem dX6_rest0_74 : decode cX6_rest0 74 = .ok (.putfield 394, 3) := dk_181 1 138 (dk_at dksX6_rest0_3 5 rfl rfl)
theorem dX6_rest0_77 : decode cX6_rest0 77 = .ok (.aload_n 0, 1) := dk_42 (dk_at dksX6_rest0_3 8 rfl rfl)
theorem dX6_rest0_78 : decode cX6_rest0 78 = .ok (.iconst 0, 1) := dk_3 (dk_at dksX6_rest0_3 9 rfl rfl)
theorem dX6_rest0_79 : decode cX6_rest0 79 = .ok (.putfield 372, 3) := dk_181 1 116 (dk_at dksX6_rest0_3 10 rfl rfl)
theorem dX6_rest0_82 : decode cX6_rest0 82 = .ok (.aload_n 0, 1) := dk_42 (dk_at dksX6_rest0_3 13 rfl rfl)
theorem dX6_rest0_83 : decode cX6_rest0 83 = .ok (.iconst 0, 1) := dk_3 (dk_at dksX6_rest0_3 14 rfl rfl)
theorem dX6_rest0_84 : decode cX6_rest0 84 = .ok (.putfield 369, 3) := dk_181 1 113 (dk_at dksX6_rest0_3 15 rfl rfl)
theorem dX6_rest0_87 : decode cX6_rest0 87 = .ok (.aload_n 0, 1) := dk_42 (dk_at dksX6_rest0_3 18 rfl rfl)
theorem dX6_rest0_88 : decode cX6_rest0 88 = .ok (.iconst (-1), 1) := dk_2 (dk_at dksX6_rest0_3 19 rfl rfl)
theorem dX6_rest0_89 : decode cX6_rest0 89 = .ok (.putfield 424, 3) := dk_181 1 168 (dk_at dksX6_rest0_3 20 rfl rfl)
theorem dX6_rest0_92 : decode cX6_rest0 92 = .ok (.aload_n 0, 1) := dk_42 (dk_at dksX6_rest0_3 23 rfl rfl)
theorem dX6_rest0_93 : decode cX6_rest0 93 = .ok (.iconst 0, 1) := dk_3 (dk_at dksX6_rest0_4 0 rfl rfl)
theorem dX6_rest0_94 : decode cX6_rest0 94 = .ok (.putfield 385, 3) := dk_181 1 129 (dk_at dksX6_rest0_4 1 rfl rfl)
theorem dX6_rest0_97 : decode cX6_rest0 97 = .ok (.aload_n 0, 1) := dk_42 (dk_at dksX6_rest0_4 4 rfl rfl)
theorem dX6_rest0_98 : decode cX6_rest0 98 = .ok (.iconst 0, 1) := dk_3 (dk_at dksX6_rest0_4 5 rfl rfl)
theorem dX6_rest0_99 : decode cX6_rest0 99 = .ok (.putfield 403, 3) := dk_181 1 147 (dk_at dksX6_rest0_4 6 rfl rfl)
theorem dX6_rest0_102 : decode cX6_rest0 102 = .ok (.aload_n 0, 1) := dk_42 (dk_at dksX6_rest0_4 9 rfl rfl)
theorem dX6_rest0_103 : decode cX6_rest0 103 = .ok (.iconst 0, 1) := dk_3 (dk_at dksX6_rest0_4 10 rfl rfl)
theorem dX6_rest0_104 : decode cX6_rest0 104 = .ok (.putfield 406, 3) := dk_181 1 150 (dk_at dksX6_rest0_4 11 rfl rfl)
theorem dX6_rest0_107 : decode cX6_rest0 107 = .ok (.aload_n 0, 1) := dk_42 (dk_at dksX6_rest0_4 14 rfl rfl)
theorem dX6_rest0_108 : decode cX6_rest0 108 = .ok (.iconst 0, 1) := dk_3 (dk_at dksX6_rest0_4 15 rfl rfl)
theorem dX6_rest0_109 : decode cX6_rest0 109 = .ok (.putfield 400, 3) := dk_181 1 144 (dk_at dksX6_rest0_4 16 rfl rfl)
theorem dX6_rest0_112 : decode cX6_rest0 112 = .ok (.aload_n 0, 1) := dk_42 (dk_at dksX6_rest0_4 19 rfl rfl)
theorem dX6_rest0_113 : decode cX6_rest0 113 = .ok (.iconst 0, 1) := dk_3 (dk_at dksX6_rest0_4 20 rfl rfl)
theorem dX6_rest0_114 : decode cX6_rest0 114 = .ok (.putfield 375, 3) := dk_181 1 119 (dk_at dksX6_rest0_4 21 rfl rfl)
theorem dX6_rest0_117 : decode cX6_rest0 117 = .ok (.aload_n 0, 1) := dk_42 (dk_at dksX6_rest0_5 0 rfl rfl)
theorem dX6_rest0_118 : decode cX6_rest0 118 = .ok (.iconst 0, 1) := dk_3 (dk_at dksX6_rest0_5 1 rfl rfl)
theorem dX6_rest0_119 : decode cX6_rest0 119 = .ok (.putfield 427, 3) := dk_181 1 171 (dk_at dksX6_rest0_5 2 rfl rfl)
theorem dX6_rest0_122 : decode cX6_rest0 122 = .ok (.return_, 1) := dk_177 (dk_at dksX6_rest0_5 5 rfl rfl)
abbrev cX6_reckon : ByteArray := prog_28_method_46_code
def yX6_reckon : MethodName := ⟨RX6, "reckon", "(III)I"⟩
def dkwX6_reckon_11 : List UInt8 := [167, 255, 8, 21, 4, 154, 0, 7, 3, 167, 0, 9, 42, 180, 0, 51, 3, 46, 172]
abbrev dktX6_reckon_11 : List UInt8 := dkwX6_reckon_11 ++ []
def dkwX6_reckon_10 : List UInt8 := [180, 0, 51, 21, 4, 4, 100, 46, 42, 180, 0, 51, 21, 4, 46, 184, 1, 91, 79, 132, 5, 1]
abbrev dktX6_reckon_10 : List UInt8 := dkwX6_reckon_10 ++ dktX6_reckon_11
def dkwX6_reckon_9 : List UInt8 := [21, 7, 122, 4, 126, 79, 167, 0, 36, 132, 4, 255, 42, 180, 0, 51, 21, 4, 4, 100, 21, 6, 42]
abbrev dktX6_reckon_9 : List UInt8 := dkwX6_reckon_9 ++ dktX6_reckon_10
def dkwX6_reckon_8 : List UInt8 := [167, 0, 29, 21, 6, 16, 32, 160, 0, 13, 42, 180, 0, 42, 21, 7, 46, 167, 0, 12, 42, 180, 1, 88]
abbrev dktX6_reckon_8 : List UInt8 := dkwX6_reckon_8 ++ dktX6_reckon_9
def dkwX6_reckon_7 : List UInt8 := [100, 46, 54, 7, 42, 180, 0, 51, 21, 4, 4, 100, 42, 21, 7, 133, 182, 0, 133, 154, 0, 7, 3]
abbrev dktX6_reckon_7 : List UInt8 := dkwX6_reckon_7 ++ dktX6_reckon_8
def dkwX6_reckon_6 : List UInt8 := [21, 4, 4, 100, 46, 100, 79, 167, 0, 106, 21, 6, 16, 32, 161, 0, 66, 42, 180, 0, 51, 21, 4, 4]
abbrev dktX6_reckon_6 : List UInt8 := dkwX6_reckon_6 ++ dktX6_reckon_7
def dkwX6_reckon_5 : List UInt8 := [167, 0, 136, 21, 6, 16, 27, 160, 0, 26, 42, 180, 0, 51, 21, 4, 4, 100, 4, 42, 180, 0, 51]
abbrev dktX6_reckon_5 : List UInt8 := dkwX6_reckon_5 ++ dktX6_reckon_6
def dkwX6_reckon_4 : List UInt8 := [167, 0, 20, 21, 6, 6, 160, 0, 10, 42, 180, 1, 82, 167, 0, 7, 42, 180, 1, 85, 79, 132, 4, 1]
abbrev dktX6_reckon_4 : List UInt8 := dkwX6_reckon_4 ++ dktX6_reckon_5
def dkwX6_reckon_3 : List UInt8 := [160, 0, 12, 42, 180, 0, 13, 3, 46, 167, 0, 33, 21, 6, 5, 160, 0, 10, 42, 180, 1, 79]
abbrev dktX6_reckon_3 : List UInt8 := dkwX6_reckon_3 ++ dktX6_reckon_4
def dkwX6_reckon_2 : List UInt8 := [180, 0, 13, 27, 17, 0, 180, 96, 5, 21, 5, 104, 96, 4, 96, 46, 167, 0, 48, 21, 6, 4]
abbrev dktX6_reckon_2 : List UInt8 := dkwX6_reckon_2 ++ dktX6_reckon_3
def dkwX6_reckon_1 : List UInt8 := [104, 96, 46, 54, 6, 21, 6, 7, 163, 0, 86, 42, 180, 0, 51, 21, 4, 21, 6, 154, 0, 23, 42]
abbrev dktX6_reckon_1 : List UInt8 := dkwX6_reckon_1 ++ dktX6_reckon_2
def dkwX6_reckon_0 : List UInt8 := [3, 54, 4, 28, 54, 5, 21, 5, 29, 162, 0, 248, 42, 180, 0, 13, 27, 17, 0, 180, 96, 5, 21, 5]
abbrev dktX6_reckon_0 : List UInt8 := dkwX6_reckon_0 ++ dktX6_reckon_1
theorem dksX6_reckon_0 : cX6_reckon.data.toList.drop 0 = dktX6_reckon_0 := by decide +kernel
theorem dksX6_reckon_1 : cX6_reckon.data.toList.drop 24 = dktX6_reckon_1 := dk_seg dksX6_reckon_0 24 rfl rfl
theorem dksX6_reckon_2 : cX6_reckon.data.toList.drop 47 = dktX6_reckon_2 := dk_seg dksX6_reckon_1 23 rfl rfl
theorem dksX6_reckon_3 : cX6_reckon.data.toList.drop 69 = dktX6_reckon_3 := dk_seg dksX6_reckon_2 22 rfl rfl
theorem dksX6_reckon_4 : cX6_reckon.data.toList.drop 91 = dktX6_reckon_4 := dk_seg dksX6_reckon_3 22 rfl rfl
theorem dksX6_reckon_5 : cX6_reckon.data.toList.drop 115 = dktX6_reckon_5 := dk_seg dksX6_reckon_4 24 rfl rfl
theorem dksX6_reckon_6 : cX6_reckon.data.toList.drop 138 = dktX6_reckon_6 := dk_seg dksX6_reckon_5 23 rfl rfl
theorem dksX6_reckon_7 : cX6_reckon.data.toList.drop 162 = dktX6_reckon_7 := dk_seg dksX6_reckon_6 24 rfl rfl
theorem dksX6_reckon_8 : cX6_reckon.data.toList.drop 185 = dktX6_reckon_8 := dk_seg dksX6_reckon_7 23 rfl rfl
theorem dksX6_reckon_9 : cX6_reckon.data.toList.drop 209 = dktX6_reckon_9 := dk_seg dksX6_reckon_8 24 rfl rfl
theorem dksX6_reckon_10 : cX6_reckon.data.toList.drop 232 = dktX6_reckon_10 := dk_seg dksX6_reckon_9 23 rfl rfl
theorem dksX6_reckon_11 : cX6_reckon.data.toList.drop 254 = dktX6_reckon_11 := dk_seg dksX6_reckon_10 22 rfl rfl
theorem dX6_reckon_0 : decode cX6_reckon 0 = .ok (.iconst 0, 1) := dk_3 (dk_at dksX6_reckon_0 0 rfl rfl)
theorem dX6_reckon_1 : decode cX6_reckon 1 = .ok (.istore 4, 2) := dk_54 4 (dk_at dksX6_reckon_0 1 rfl rfl)
theorem dX6_reckon_3 : decode cX6_reckon 3 = .ok (.iload_n 2, 1) := dk_28 (dk_at dksX6_reckon_0 3 rfl rfl)
theorem dX6_reckon_4 : decode cX6_reckon 4 = .ok (.istore 5, 2) := dk_54 5 (dk_at dksX6_reckon_0 4 rfl rfl)
theorem dX6_reckon_6 : decode cX6_reckon 6 = .ok (.iload 5, 2) := dk_21 5 (dk_at dksX6_reckon_0 6 rfl rfl)
theorem dX6_reckon_8 : decode cX6_reckon 8 = .ok (.iload_n 3, 1) := dk_29 (dk_at dksX6_reckon_0 8 rfl rfl)
theorem dX6_reckon_9 : decode cX6_reckon 9 = .ok (.if_icmp .ge 248, 3) := dk_162 0 248 (dk_at dksX6_reckon_0 9 rfl rfl)
theorem dX6_reckon_12 : decode cX6_reckon 12 = .ok (.aload_n 0, 1) := dk_42 (dk_at dksX6_reckon_0 12 rfl rfl)
theorem dX6_reckon_13 : decode cX6_reckon 13 = .ok (.getfield 13, 3) := dk_180 0 13 (dk_at dksX6_reckon_0 13 rfl rfl)
theorem dX6_reckon_16 : decode cX6_reckon 16 = .ok (.iload_n 1, 1) := dk_27 (dk_at dksX6_reckon_0 16 rfl rfl)
theorem dX6_reckon_17 : decode cX6_reckon 17 = .ok (.sipush 180, 3) := dk_17 0 180 (dk_at dksX6_reckon_0 17 rfl rfl)
theorem dX6_reckon_20 : decode cX6_reckon 20 = .ok (.iadd, 1) := dk_96 (dk_at dksX6_reckon_0 20 rfl rfl)
theorem dX6_reckon_21 : decode cX6_reckon 21 = .ok (.iconst 2, 1) := dk_5 (dk_at dksX6_reckon_0 21 rfl rfl)
theorem dX6_reckon_22 : decode cX6_reckon 22 = .ok (.iload 5, 2) := dk_21 5 (dk_at dksX6_reckon_0 22 rfl rfl)
theorem dX6_reckon_24 : decode cX6_reckon 24 = .ok (.imul, 1) := dk_104 (dk_at dksX6_reckon_1 0 rfl rfl)
theorem dX6_reckon_25 : decode cX6_reckon 25 = .ok (.iadd, 1) := dk_96 (dk_at dksX6_reckon_1 1 rfl rfl)
theorem dX6_reckon_26 : decode cX6_reckon 26 = .ok (.iaload, 1) := dk_46 (dk_at dksX6_reckon_1 2 rfl rfl)
theorem dX6_reckon_27 : decode cX6_reckon 27 = .ok (.istore 6, 2) := dk_54 6 (dk_at dksX6_reckon_1 3 rfl rfl)
theorem dX6_reckon_29 : decode cX6_reckon 29 = .ok (.iload 6, 2) := dk_21 6 (dk_at dksX6_reckon_1 5 rfl rfl)
theorem dX6_reckon_31 : decode cX6_reckon 31 = .ok (.iconst 4, 1) := dk_7 (dk_at dksX6_reckon_1 7 rfl rfl)
theorem dX6_reckon_32 : decode cX6_reckon 32 = .ok (.if_icmp .gt 86, 3) := dk_163 0 86 (dk_at dksX6_reckon_1 8 rfl rfl)
theorem dX6_reckon_35 : decode cX6_reckon 35 = .ok (.aload_n 0, 1) := dk_42 (dk_at dksX6_reckon_1 11 rfl rfl)
theorem dX6_reckon_36 : decode cX6_reckon 36 = .ok (.getfield 51, 3) := dk_180 0 51 (dk_at dksX6_reckon_1 12 rfl rfl)
theorem dX6_reckon_39 : decode cX6_reckon 39 = .ok (.iload 4, 2) := dk_21 4 (dk_at dksX6_reckon_1 15 rfl rfl)
theorem dX6_reckon_41 : decode cX6_reckon 41 = .ok (.iload 6, 2) := dk_21 6 (dk_at dksX6_reckon_1 17 rfl rfl)
theorem dX6_reckon_43 : decode cX6_reckon 43 = .ok (.ifCond .ne 23, 3) := dk_154 0 23 (dk_at dksX6_reckon_1 19 rfl rfl)
theorem dX6_reckon_46 : decode cX6_reckon 46 = .ok (.aload_n 0, 1) := dk_42 (dk_at dksX6_reckon_1 22 rfl rfl)
theorem dX6_reckon_47 : decode cX6_reckon 47 = .ok (.getfield 13, 3) := dk_180 0 13 (dk_at dksX6_reckon_2 0 rfl rfl)
theorem dX6_reckon_50 : decode cX6_reckon 50 = .ok (.iload_n 1, 1) := dk_27 (dk_at dksX6_reckon_2 3 rfl rfl)
theorem dX6_reckon_51 : decode cX6_reckon 51 = .ok (.sipush 180, 3) := dk_17 0 180 (dk_at dksX6_reckon_2 4 rfl rfl)
theorem dX6_reckon_54 : decode cX6_reckon 54 = .ok (.iadd, 1) := dk_96 (dk_at dksX6_reckon_2 7 rfl rfl)
theorem dX6_reckon_55 : decode cX6_reckon 55 = .ok (.iconst 2, 1) := dk_5 (dk_at dksX6_reckon_2 8 rfl rfl)
theorem dX6_reckon_56 : decode cX6_reckon 56 = .ok (.iload 5, 2) := dk_21 5 (dk_at dksX6_reckon_2 9 rfl rfl)
theorem dX6_reckon_58 : decode cX6_reckon 58 = .ok (.imul, 1) := dk_104 (dk_at dksX6_reckon_2 11 rfl rfl)
theorem dX6_reckon_59 : decode cX6_reckon 59 = .ok (.iadd, 1) := dk_96 (dk_at dksX6_reckon_2 12 rfl rfl)
theorem dX6_reckon_60 : decode cX6_reckon 60 = .ok (.iconst 1, 1) := dk_4 (dk_at dksX6_reckon_2 13 rfl rfl)
theorem dX6_reckon_61 : decode cX6_reckon 61 = .ok (.iadd, 1) := dk_96 (dk_at dksX6_reckon_2 14 rfl rfl)
theorem dX6_reckon_62 : decode cX6_reckon 62 = .ok (.iaload, 1) := dk_46 (dk_at dksX6_reckon_2 15 rfl rfl)
theorem dX6_reckon_63 : decode cX6_reckon 63 = .ok (.goto 48, 3) := dk_167 0 48 (dk_at dksX6_reckon_2 16 rfl rfl)
theorem dX6_reckon_66 : decode cX6_reckon 66 = .ok (.iload 6, 2) := dk_21 6 (dk_at dksX6_reckon_2 19 rfl rfl)
theorem dX6_reckon_68 : decode cX6_reckon 68 = .ok (.iconst 1, 1) := dk_4 (dk_at dksX6_reckon_2 21 rfl rfl)
theorem dX6_reckon_69 : decode cX6_reckon 69 = .ok (.if_icmp .ne 12, 3) := dk_160 0 12 (dk_at dksX6_reckon_3 0 rfl rfl)
theorem dX6_reckon_72 : decode cX6_reckon 72 = .ok (.aload_n 0, 1) := dk_42 (dk_at dksX6_reckon_3 3 rfl rfl)
theorem dX6_reckon_73 : decode cX6_reckon 73 = .ok (.getfield 13, 3) := dk_180 0 13 (dk_at dksX6_reckon_3 4 rfl rfl)
theorem dX6_reckon_76 : decode cX6_reckon 76 = .ok (.iconst 0, 1) := dk_3 (dk_at dksX6_reckon_3 7 rfl rfl)
theorem dX6_reckon_77 : decode cX6_reckon 77 = .ok (.iaload, 1) := dk_46 (dk_at dksX6_reckon_3 8 rfl rfl)
theorem dX6_reckon_78 : decode cX6_reckon 78 = .ok (.goto 33, 3) := dk_167 0 33 (dk_at dksX6_reckon_3 9 rfl rfl)
theorem dX6_reckon_81 : decode cX6_reckon 81 = .ok (.iload 6, 2) := dk_21 6 (dk_at dksX6_reckon_3 12 rfl rfl)
theorem dX6_reckon_83 : decode cX6_reckon 83 = .ok (.iconst 2, 1) := dk_5 (dk_at dksX6_reckon_3 14 rfl rfl)
theorem dX6_reckon_84 : decode cX6_reckon 84 = .ok (.if_icmp .ne 10, 3) := dk_160 0 10 (dk_at dksX6_reckon_3 15 rfl rfl)
theorem dX6_reckon_87 : decode cX6_reckon 87 = .ok (.aload_n 0, 1) := dk_42 (dk_at dksX6_reckon_3 18 rfl rfl)
theorem dX6_reckon_88 : decode cX6_reckon 88 = .ok (.getfield 335, 3) := dk_180 1 79 (dk_at dksX6_reckon_3 19 rfl rfl)
theorem dX6_reckon_91 : decode cX6_reckon 91 = .ok (.goto 20, 3) := dk_167 0 20 (dk_at dksX6_reckon_4 0 rfl rfl)
theorem dX6_reckon_94 : decode cX6_reckon 94 = .ok (.iload 6, 2) := dk_21 6 (dk_at dksX6_reckon_4 3 rfl rfl)
theorem dX6_reckon_96 : decode cX6_reckon 96 = .ok (.iconst 3, 1) := dk_6 (dk_at dksX6_reckon_4 5 rfl rfl)
theorem dX6_reckon_97 : decode cX6_reckon 97 = .ok (.if_icmp .ne 10, 3) := dk_160 0 10 (dk_at dksX6_reckon_4 6 rfl rfl)
theorem dX6_reckon_100 : decode cX6_reckon 100 = .ok (.aload_n 0, 1) := dk_42 (dk_at dksX6_reckon_4 9 rfl rfl)
theorem dX6_reckon_101 : decode cX6_reckon 101 = .ok (.getfield 338, 3) := dk_180 1 82 (dk_at dksX6_reckon_4 10 rfl rfl)
theorem dX6_reckon_104 : decode cX6_reckon 104 = .ok (.goto 7, 3) := dk_167 0 7 (dk_at dksX6_reckon_4 13 rfl rfl)
theorem dX6_reckon_107 : decode cX6_reckon 107 = .ok (.aload_n 0, 1) := dk_42 (dk_at dksX6_reckon_4 16 rfl rfl)
theorem dX6_reckon_108 : decode cX6_reckon 108 = .ok (.getfield 341, 3) := dk_180 1 85 (dk_at dksX6_reckon_4 17 rfl rfl)
theorem dX6_reckon_111 : decode cX6_reckon 111 = .ok (.iastore, 1) := dk_79 (dk_at dksX6_reckon_4 20 rfl rfl)
theorem dX6_reckon_112 : decode cX6_reckon 112 = .ok (.iinc 4 1, 3) := dk_132 4 1 (dk_at dksX6_reckon_4 21 rfl rfl)
theorem dX6_reckon_115 : decode cX6_reckon 115 = .ok (.goto 136, 3) := dk_167 0 136 (dk_at dksX6_reckon_5 0 rfl rfl)
theorem dX6_reckon_118 : decode cX6_reckon 118 = .ok (.iload 6, 2) := dk_21 6 (dk_at dksX6_reckon_5 3 rfl rfl)
theorem dX6_reckon_120 : decode cX6_reckon 120 = .ok (.bipush 27, 2) := dk_16 27 (dk_at dksX6_reckon_5 5 rfl rfl)
theorem dX6_reckon_122 : decode cX6_reckon 122 = .ok (.if_icmp .ne 26, 3) := dk_160 0 26 (dk_at dksX6_reckon_5 7 rfl rfl)
theorem dX6_reckon_125 : decode cX6_reckon 125 = .ok (.aload_n 0, 1) := dk_42 (dk_at dksX6_reckon_5 10 rfl rfl)
theorem dX6_reckon_126 : decode cX6_reckon 126 = .ok (.getfield 51, 3) := dk_180 0 51 (dk_at dksX6_reckon_5 11 rfl rfl)
theorem dX6_reckon_129 : decode cX6_reckon 129 = .ok (.iload 4, 2) := dk_21 4 (dk_at dksX6_reckon_5 14 rfl rfl)
theorem dX6_reckon_131 : decode cX6_reckon 131 = .ok (.iconst 1, 1) := dk_4 (dk_at dksX6_reckon_5 16 rfl rfl)
theorem dX6_reckon_132 : decode cX6_reckon 132 = .ok (.isub, 1) := dk_100 (dk_at dksX6_reckon_5 17 rfl rfl)
theorem dX6_reckon_133 : decode cX6_reckon 133 = .ok (.iconst 1, 1) := dk_4 (dk_at dksX6_reckon_5 18 rfl rfl)
theorem dX6_reckon_134 : decode cX6_reckon 134 = .ok (.aload_n 0, 1) := dk_42 (dk_at dksX6_reckon_5 19 rfl rfl)
theorem dX6_reckon_135 : decode cX6_reckon 135 = .ok (.getfield 51, 3) := dk_180 0 51 (dk_at dksX6_reckon_5 20 rfl rfl)
theorem dX6_reckon_138 : decode cX6_reckon 138 = .ok (.iload 4, 2) := dk_21 4 (dk_at dksX6_reckon_6 0 rfl rfl)
theorem dX6_reckon_140 : decode cX6_reckon 140 = .ok (.iconst 1, 1) := dk_4 (dk_at dksX6_reckon_6 2 rfl rfl)
theorem dX6_reckon_141 : decode cX6_reckon 141 = .ok (.isub, 1) := dk_100 (dk_at dksX6_reckon_6 3 rfl rfl)
theorem dX6_reckon_142 : decode cX6_reckon 142 = .ok (.iaload, 1) := dk_46 (dk_at dksX6_reckon_6 4 rfl rfl)
theorem dX6_reckon_143 : decode cX6_reckon 143 = .ok (.isub, 1) := dk_100 (dk_at dksX6_reckon_6 5 rfl rfl)
theorem dX6_reckon_144 : decode cX6_reckon 144 = .ok (.iastore, 1) := dk_79 (dk_at dksX6_reckon_6 6 rfl rfl)
theorem dX6_reckon_145 : decode cX6_reckon 145 = .ok (.goto 106, 3) := dk_167 0 106 (dk_at dksX6_reckon_6 7 rfl rfl)
theorem dX6_reckon_148 : decode cX6_reckon 148 = .ok (.iload 6, 2) := dk_21 6 (dk_at dksX6_reckon_6 10 rfl rfl)
theorem dX6_reckon_150 : decode cX6_reckon 150 = .ok (.bipush 32, 2) := dk_16 32 (dk_at dksX6_reckon_6 12 rfl rfl)
theorem dX6_reckon_152 : decode cX6_reckon 152 = .ok (.if_icmp .lt 66, 3) := dk_161 0 66 (dk_at dksX6_reckon_6 14 rfl rfl)
theorem dX6_reckon_155 : decode cX6_reckon 155 = .ok (.aload_n 0, 1) := dk_42 (dk_at dksX6_reckon_6 17 rfl rfl)
theorem dX6_reckon_156 : decode cX6_reckon 156 = .ok (.getfield 51, 3) := dk_180 0 51 (dk_at dksX6_reckon_6 18 rfl rfl)
theorem dX6_reckon_159 : decode cX6_reckon 159 = .ok (.iload 4, 2) := dk_21 4 (dk_at dksX6_reckon_6 21 rfl rfl)
theorem dX6_reckon_161 : decode cX6_reckon 161 = .ok (.iconst 1, 1) := dk_4 (dk_at dksX6_reckon_6 23 rfl rfl)
theorem dX6_reckon_162 : decode cX6_reckon 162 = .ok (.isub, 1) := dk_100 (dk_at dksX6_reckon_7 0 rfl rfl)
theorem dX6_reckon_163 : decode cX6_reckon 163 = .ok (.iaload, 1) := dk_46 (dk_at dksX6_reckon_7 1 rfl rfl)
theorem dX6_reckon_164 : decode cX6_reckon 164 = .ok (.istore 7, 2) := dk_54 7 (dk_at dksX6_reckon_7 2 rfl rfl)
theorem dX6_reckon_166 : decode cX6_reckon 166 = .ok (.aload_n 0, 1) := dk_42 (dk_at dksX6_reckon_7 4 rfl rfl)
theorem dX6_reckon_167 : decode cX6_reckon 167 = .ok (.getfield 51, 3) := dk_180 0 51 (dk_at dksX6_reckon_7 5 rfl rfl)
theorem dX6_reckon_170 : decode cX6_reckon 170 = .ok (.iload 4, 2) := dk_21 4 (dk_at dksX6_reckon_7 8 rfl rfl)
theorem dX6_reckon_172 : decode cX6_reckon 172 = .ok (.iconst 1, 1) := dk_4 (dk_at dksX6_reckon_7 10 rfl rfl)
theorem dX6_reckon_173 : decode cX6_reckon 173 = .ok (.isub, 1) := dk_100 (dk_at dksX6_reckon_7 11 rfl rfl)
theorem dX6_reckon_174 : decode cX6_reckon 174 = .ok (.aload_n 0, 1) := dk_42 (dk_at dksX6_reckon_7 12 rfl rfl)
theorem dX6_reckon_175 : decode cX6_reckon 175 = .ok (.iload 7, 2) := dk_21 7 (dk_at dksX6_reckon_7 13 rfl rfl)
theorem dX6_reckon_177 : decode cX6_reckon 177 = .ok (.i2l, 1) := dk_133 (dk_at dksX6_reckon_7 15 rfl rfl)
theorem dX6_reckon_178 : decode cX6_reckon 178 = .ok (.invokevirtual 133, 3) := dk_182 0 133 (dk_at dksX6_reckon_7 16 rfl rfl)
theorem dX6_reckon_181 : decode cX6_reckon 181 = .ok (.ifCond .ne 7, 3) := dk_154 0 7 (dk_at dksX6_reckon_7 19 rfl rfl)
theorem dX6_reckon_184 : decode cX6_reckon 184 = .ok (.iconst 0, 1) := dk_3 (dk_at dksX6_reckon_7 22 rfl rfl)
theorem dX6_reckon_185 : decode cX6_reckon 185 = .ok (.goto 29, 3) := dk_167 0 29 (dk_at dksX6_reckon_8 0 rfl rfl)
theorem dX6_reckon_188 : decode cX6_reckon 188 = .ok (.iload 6, 2) := dk_21 6 (dk_at dksX6_reckon_8 3 rfl rfl)
theorem dX6_reckon_190 : decode cX6_reckon 190 = .ok (.bipush 32, 2) := dk_16 32 (dk_at dksX6_reckon_8 5 rfl rfl)
theorem dX6_reckon_192 : decode cX6_reckon 192 = .ok (.if_icmp .ne 13, 3) := dk_160 0 13 (dk_at dksX6_reckon_8 7 rfl rfl)
theorem dX6_reckon_195 : decode cX6_reckon 195 = .ok (.aload_n 0, 1) := dk_42 (dk_at dksX6_reckon_8 10 rfl rfl)
theorem dX6_reckon_196 : decode cX6_reckon 196 = .ok (.getfield 42, 3) := dk_180 0 42 (dk_at dksX6_reckon_8 11 rfl rfl)
theorem dX6_reckon_199 : decode cX6_reckon 199 = .ok (.iload 7, 2) := dk_21 7 (dk_at dksX6_reckon_8 14 rfl rfl)
theorem dX6_reckon_201 : decode cX6_reckon 201 = .ok (.iaload, 1) := dk_46 (dk_at dksX6_reckon_8 16 rfl rfl)
theorem dX6_reckon_202 : decode cX6_reckon 202 = .ok (.goto 12, 3) := dk_167 0 12 (dk_at dksX6_reckon_8 17 rfl rfl)
theorem dX6_reckon_205 : decode cX6_reckon 205 = .ok (.aload_n 0, 1) := dk_42 (dk_at dksX6_reckon_8 20 rfl rfl)
theorem dX6_reckon_206 : decode cX6_reckon 206 = .ok (.getfield 344, 3) := dk_180 1 88 (dk_at dksX6_reckon_8 21 rfl rfl)
theorem dX6_reckon_209 : decode cX6_reckon 209 = .ok (.iload 7, 2) := dk_21 7 (dk_at dksX6_reckon_9 0 rfl rfl)
theorem dX6_reckon_211 : decode cX6_reckon 211 = .ok (.ishr, 1) := dk_122 (dk_at dksX6_reckon_9 2 rfl rfl)
theorem dX6_reckon_212 : decode cX6_reckon 212 = .ok (.iconst 1, 1) := dk_4 (dk_at dksX6_reckon_9 3 rfl rfl)
theorem dX6_reckon_213 : decode cX6_reckon 213 = .ok (.iand, 1) := dk_126 (dk_at dksX6_reckon_9 4 rfl rfl)
theorem dX6_reckon_214 : decode cX6_reckon 214 = .ok (.iastore, 1) := dk_79 (dk_at dksX6_reckon_9 5 rfl rfl)
theorem dX6_reckon_215 : decode cX6_reckon 215 = .ok (.goto 36, 3) := dk_167 0 36 (dk_at dksX6_reckon_9 6 rfl rfl)
theorem dX6_reckon_218 : decode cX6_reckon 218 = .ok (.iinc 4 (-1), 3) := dk_132 4 255 (dk_at dksX6_reckon_9 9 rfl rfl)
theorem dX6_reckon_221 : decode cX6_reckon 221 = .ok (.aload_n 0, 1) := dk_42 (dk_at dksX6_reckon_9 12 rfl rfl)
theorem dX6_reckon_222 : decode cX6_reckon 222 = .ok (.getfield 51, 3) := dk_180 0 51 (dk_at dksX6_reckon_9 13 rfl rfl)
theorem dX6_reckon_225 : decode cX6_reckon 225 = .ok (.iload 4, 2) := dk_21 4 (dk_at dksX6_reckon_9 16 rfl rfl)
theorem dX6_reckon_227 : decode cX6_reckon 227 = .ok (.iconst 1, 1) := dk_4 (dk_at dksX6_reckon_9 18 rfl rfl)
theorem dX6_reckon_228 : decode cX6_reckon 228 = .ok (.isub, 1) := dk_100 (dk_at dksX6_reckon_9 19 rfl rfl)
theorem dX6_reckon_229 : decode cX6_reckon 229 = .ok (.iload 6, 2) := dk_21 6 (dk_at dksX6_reckon_9 20 rfl rfl)
theorem dX6_reckon_231 : decode cX6_reckon 231 = .ok (.aload_n 0, 1) := dk_42 (dk_at dksX6_reckon_9 22 rfl rfl)
theorem dX6_reckon_232 : decode cX6_reckon 232 = .ok (.getfield 51, 3) := dk_180 0 51 (dk_at dksX6_reckon_10 0 rfl rfl)
theorem dX6_reckon_235 : decode cX6_reckon 235 = .ok (.iload 4, 2) := dk_21 4 (dk_at dksX6_reckon_10 3 rfl rfl)
theorem dX6_reckon_237 : decode cX6_reckon 237 = .ok (.iconst 1, 1) := dk_4 (dk_at dksX6_reckon_10 5 rfl rfl)
theorem dX6_reckon_238 : decode cX6_reckon 238 = .ok (.isub, 1) := dk_100 (dk_at dksX6_reckon_10 6 rfl rfl)
theorem dX6_reckon_239 : decode cX6_reckon 239 = .ok (.iaload, 1) := dk_46 (dk_at dksX6_reckon_10 7 rfl rfl)
theorem dX6_reckon_240 : decode cX6_reckon 240 = .ok (.aload_n 0, 1) := dk_42 (dk_at dksX6_reckon_10 8 rfl rfl)
theorem dX6_reckon_241 : decode cX6_reckon 241 = .ok (.getfield 51, 3) := dk_180 0 51 (dk_at dksX6_reckon_10 9 rfl rfl)
theorem dX6_reckon_244 : decode cX6_reckon 244 = .ok (.iload 4, 2) := dk_21 4 (dk_at dksX6_reckon_10 12 rfl rfl)
theorem dX6_reckon_246 : decode cX6_reckon 246 = .ok (.iaload, 1) := dk_46 (dk_at dksX6_reckon_10 14 rfl rfl)
theorem dX6_reckon_247 : decode cX6_reckon 247 = .ok (.invokestatic 347, 3) := dk_184 1 91 (dk_at dksX6_reckon_10 15 rfl rfl)
theorem dX6_reckon_250 : decode cX6_reckon 250 = .ok (.iastore, 1) := dk_79 (dk_at dksX6_reckon_10 18 rfl rfl)
theorem dX6_reckon_251 : decode cX6_reckon 251 = .ok (.iinc 5 1, 3) := dk_132 5 1 (dk_at dksX6_reckon_10 19 rfl rfl)
theorem dX6_reckon_254 : decode cX6_reckon 254 = .ok (.goto (-248), 3) := dk_167 255 8 (dk_at dksX6_reckon_11 0 rfl rfl)
theorem dX6_reckon_257 : decode cX6_reckon 257 = .ok (.iload 4, 2) := dk_21 4 (dk_at dksX6_reckon_11 3 rfl rfl)
theorem dX6_reckon_259 : decode cX6_reckon 259 = .ok (.ifCond .ne 7, 3) := dk_154 0 7 (dk_at dksX6_reckon_11 5 rfl rfl)
theorem dX6_reckon_262 : decode cX6_reckon 262 = .ok (.iconst 0, 1) := dk_3 (dk_at dksX6_reckon_11 8 rfl rfl)
theorem dX6_reckon_263 : decode cX6_reckon 263 = .ok (.goto 9, 3) := dk_167 0 9 (dk_at dksX6_reckon_11 9 rfl rfl)
theorem dX6_reckon_266 : decode cX6_reckon 266 = .ok (.aload_n 0, 1) := dk_42 (dk_at dksX6_reckon_11 12 rfl rfl)
theorem dX6_reckon_267 : decode cX6_reckon 267 = .ok (.getfield 51, 3) := dk_180 0 51 (dk_at dksX6_reckon_11 13 rfl rfl)
theorem dX6_reckon_270 : decode cX6_reckon 270 = .ok (.iconst 0, 1) := dk_3 (dk_at dksX6_reckon_11 16 rfl rfl)
theorem dX6_reckon_271 : decode cX6_reckon 271 = .ok (.iaload, 1) := dk_46 (dk_at dksX6_reckon_11 17 rfl rfl)
theorem dX6_reckon_272 : decode cX6_reckon 272 = .ok (.ireturn, 1) := dk_172 (dk_at dksX6_reckon_11 18 rfl rfl)
abbrev cX6_joined : ByteArray := prog_28_method_47_code
def yX6_joined : MethodName := ⟨RX6, "joined", "(III)I"⟩
def dkwX6_joined_4 : List UInt8 := [172]
abbrev dktX6_joined_4 : List UInt8 := dkwX6_joined_4 ++ []
def dkwX6_joined_3 : List UInt8 := [4, 167, 0, 4, 3, 172, 27, 28, 160, 0, 7, 4, 167, 0, 4, 3, 172, 27, 28, 126, 172, 27, 28, 128]
abbrev dktX6_joined_3 : List UInt8 := dkwX6_joined_3 ++ dktX6_joined_4
def dkwX6_joined_2 : List UInt8 := [27, 28, 96, 172, 27, 28, 100, 172, 27, 28, 162, 0, 7, 4, 167, 0, 4, 3, 172, 27, 28, 164, 0, 7]
abbrev dktX6_joined_2 : List UInt8 := dkwX6_joined_2 ++ dktX6_joined_3
def dkwX6_joined_1 : List UInt8 := [170, 0, 0, 0, 0, 0, 96, 0, 0, 0, 20, 0, 0, 0, 28, 0, 0, 0, 51, 0, 0, 0, 55, 0, 0, 0, 96, 0, 0, 0, 96, 0, 0, 0, 59, 0, 0, 0, 70, 0, 0, 0, 81, 0, 0, 0, 96, 0, 0, 0, 92]
abbrev dktX6_joined_1 : List UInt8 := dkwX6_joined_1 ++ dktX6_joined_2
def dkwX6_joined_0 : List UInt8 := [26]
abbrev dktX6_joined_0 : List UInt8 := dkwX6_joined_0 ++ dktX6_joined_1
theorem dksX6_joined_0 : cX6_joined.data.toList.drop 0 = dktX6_joined_0 := by decide +kernel
theorem dksX6_joined_1 : cX6_joined.data.toList.drop 1 = dktX6_joined_1 := dk_seg dksX6_joined_0 1 rfl rfl
theorem dksX6_joined_2 : cX6_joined.data.toList.drop 52 = dktX6_joined_2 := dk_seg dksX6_joined_1 51 rfl rfl
theorem dksX6_joined_3 : cX6_joined.data.toList.drop 76 = dktX6_joined_3 := dk_seg dksX6_joined_2 24 rfl rfl
theorem dksX6_joined_4 : cX6_joined.data.toList.drop 100 = dktX6_joined_4 := dk_seg dksX6_joined_3 24 rfl rfl
theorem dX6_joined_0 : decode cX6_joined 0 = .ok (.iload_n 0, 1) := dk_26 (dk_at dksX6_joined_0 0 rfl rfl)
theorem dX6_joined_1 : decode cX6_joined 1 = .ok (.tableswitch 96 20 28 #[51, 55, 96, 96, 59, 70, 81, 96, 92], 51) := by decide +kernel
theorem dX6_joined_52 : decode cX6_joined 52 = .ok (.iload_n 1, 1) := dk_27 (dk_at dksX6_joined_2 0 rfl rfl)
theorem dX6_joined_53 : decode cX6_joined 53 = .ok (.iload_n 2, 1) := dk_28 (dk_at dksX6_joined_2 1 rfl rfl)
theorem dX6_joined_54 : decode cX6_joined 54 = .ok (.iadd, 1) := dk_96 (dk_at dksX6_joined_2 2 rfl rfl)
theorem dX6_joined_55 : decode cX6_joined 55 = .ok (.ireturn, 1) := dk_172 (dk_at dksX6_joined_2 3 rfl rfl)
theorem dX6_joined_56 : decode cX6_joined 56 = .ok (.iload_n 1, 1) := dk_27 (dk_at dksX6_joined_2 4 rfl rfl)
theorem dX6_joined_57 : decode cX6_joined 57 = .ok (.iload_n 2, 1) := dk_28 (dk_at dksX6_joined_2 5 rfl rfl)
theorem dX6_joined_58 : decode cX6_joined 58 = .ok (.isub, 1) := dk_100 (dk_at dksX6_joined_2 6 rfl rfl)
theorem dX6_joined_59 : decode cX6_joined 59 = .ok (.ireturn, 1) := dk_172 (dk_at dksX6_joined_2 7 rfl rfl)
theorem dX6_joined_60 : decode cX6_joined 60 = .ok (.iload_n 1, 1) := dk_27 (dk_at dksX6_joined_2 8 rfl rfl)
theorem dX6_joined_61 : decode cX6_joined 61 = .ok (.iload_n 2, 1) := dk_28 (dk_at dksX6_joined_2 9 rfl rfl)
theorem dX6_joined_62 : decode cX6_joined 62 = .ok (.if_icmp .ge 7, 3) := dk_162 0 7 (dk_at dksX6_joined_2 10 rfl rfl)
theorem dX6_joined_65 : decode cX6_joined 65 = .ok (.iconst 1, 1) := dk_4 (dk_at dksX6_joined_2 13 rfl rfl)
theorem dX6_joined_66 : decode cX6_joined 66 = .ok (.goto 4, 3) := dk_167 0 4 (dk_at dksX6_joined_2 14 rfl rfl)
theorem dX6_joined_69 : decode cX6_joined 69 = .ok (.iconst 0, 1) := dk_3 (dk_at dksX6_joined_2 17 rfl rfl)
theorem dX6_joined_70 : decode cX6_joined 70 = .ok (.ireturn, 1) := dk_172 (dk_at dksX6_joined_2 18 rfl rfl)
theorem dX6_joined_71 : decode cX6_joined 71 = .ok (.iload_n 1, 1) := dk_27 (dk_at dksX6_joined_2 19 rfl rfl)
theorem dX6_joined_72 : decode cX6_joined 72 = .ok (.iload_n 2, 1) := dk_28 (dk_at dksX6_joined_2 20 rfl rfl)
theorem dX6_joined_73 : decode cX6_joined 73 = .ok (.if_icmp .le 7, 3) := dk_164 0 7 (dk_at dksX6_joined_2 21 rfl rfl)
theorem dX6_joined_76 : decode cX6_joined 76 = .ok (.iconst 1, 1) := dk_4 (dk_at dksX6_joined_3 0 rfl rfl)
theorem dX6_joined_77 : decode cX6_joined 77 = .ok (.goto 4, 3) := dk_167 0 4 (dk_at dksX6_joined_3 1 rfl rfl)
theorem dX6_joined_80 : decode cX6_joined 80 = .ok (.iconst 0, 1) := dk_3 (dk_at dksX6_joined_3 4 rfl rfl)
theorem dX6_joined_81 : decode cX6_joined 81 = .ok (.ireturn, 1) := dk_172 (dk_at dksX6_joined_3 5 rfl rfl)
theorem dX6_joined_82 : decode cX6_joined 82 = .ok (.iload_n 1, 1) := dk_27 (dk_at dksX6_joined_3 6 rfl rfl)
theorem dX6_joined_83 : decode cX6_joined 83 = .ok (.iload_n 2, 1) := dk_28 (dk_at dksX6_joined_3 7 rfl rfl)
theorem dX6_joined_84 : decode cX6_joined 84 = .ok (.if_icmp .ne 7, 3) := dk_160 0 7 (dk_at dksX6_joined_3 8 rfl rfl)
theorem dX6_joined_87 : decode cX6_joined 87 = .ok (.iconst 1, 1) := dk_4 (dk_at dksX6_joined_3 11 rfl rfl)
theorem dX6_joined_88 : decode cX6_joined 88 = .ok (.goto 4, 3) := dk_167 0 4 (dk_at dksX6_joined_3 12 rfl rfl)
theorem dX6_joined_91 : decode cX6_joined 91 = .ok (.iconst 0, 1) := dk_3 (dk_at dksX6_joined_3 15 rfl rfl)
theorem dX6_joined_92 : decode cX6_joined 92 = .ok (.ireturn, 1) := dk_172 (dk_at dksX6_joined_3 16 rfl rfl)
theorem dX6_joined_93 : decode cX6_joined 93 = .ok (.iload_n 1, 1) := dk_27 (dk_at dksX6_joined_3 17 rfl rfl)
theorem dX6_joined_94 : decode cX6_joined 94 = .ok (.iload_n 2, 1) := dk_28 (dk_at dksX6_joined_3 18 rfl rfl)
theorem dX6_joined_95 : decode cX6_joined 95 = .ok (.iand, 1) := dk_126 (dk_at dksX6_joined_3 19 rfl rfl)
theorem dX6_joined_96 : decode cX6_joined 96 = .ok (.ireturn, 1) := dk_172 (dk_at dksX6_joined_3 20 rfl rfl)
theorem dX6_joined_97 : decode cX6_joined 97 = .ok (.iload_n 1, 1) := dk_27 (dk_at dksX6_joined_3 21 rfl rfl)
theorem dX6_joined_98 : decode cX6_joined 98 = .ok (.iload_n 2, 1) := dk_28 (dk_at dksX6_joined_3 22 rfl rfl)
theorem dX6_joined_99 : decode cX6_joined 99 = .ok (.ior, 1) := dk_128 (dk_at dksX6_joined_3 23 rfl rfl)
theorem dX6_joined_100 : decode cX6_joined 100 = .ok (.ireturn, 1) := dk_172 (dk_at dksX6_joined_4 0 rfl rfl)
abbrev cX6_doStep : ByteArray := prog_28_method_57_code
def yX6_doStep : MethodName := ⟨RX6, "doStep", "(II)Z"⟩
def dkwX6_doStep_10 : List UInt8 := [4, 29, 120, 128, 181, 1, 129, 4, 172]
abbrev dktX6_doStep_10 : List UInt8 := dkwX6_doStep_10 ++ []
def dkwX6_doStep_9 : List UInt8 := [182, 1, 165, 167, 0, 28, 42, 42, 29, 182, 1, 122, 29, 182, 1, 125, 153, 0, 15, 42, 89, 180, 1, 129]
abbrev dktX6_doStep_9 : List UInt8 := dkwX6_doStep_9 ++ dktX6_doStep_10
def dkwX6_doStep_8 : List UInt8 := [89, 180, 1, 138, 4, 96, 181, 1, 138, 167, 0, 46, 42, 180, 0, 13, 28, 46, 7, 160, 0, 11, 42, 29]
abbrev dktX6_doStep_8 : List UInt8 := dkwX6_doStep_8 ++ dktX6_doStep_9
def dkwX6_doStep_7 : List UInt8 := [181, 1, 138, 4, 172, 42, 29, 182, 1, 162, 4, 172, 42, 29, 133, 10, 97, 182, 0, 133, 154, 0, 16, 42]
abbrev dktX6_doStep_7 : List UInt8 := dkwX6_doStep_7 ++ dktX6_doStep_8
def dkwX6_doStep_6 : List UInt8 := [184, 1, 103, 153, 0, 13, 42, 29, 21, 4, 182, 1, 159, 167, 0, 13, 42, 89, 180, 1, 138, 4, 96]
abbrev dktX6_doStep_6 : List UInt8 := dkwX6_doStep_6 ++ dktX6_doStep_7
def dkwX6_doStep_5 : List UInt8 := [182, 1, 153, 54, 4, 42, 21, 4, 133, 182, 0, 133, 153, 0, 28, 29, 21, 4, 159, 0, 22, 29, 21, 4]
abbrev dktX6_doStep_5 : List UInt8 := dkwX6_doStep_5 ++ dktX6_doStep_6
def dkwX6_doStep_4 : List UInt8 := [42, 29, 182, 1, 156, 172, 42, 27, 42, 180, 0, 13, 28, 5, 96, 46, 42, 180, 0, 13, 28, 6, 96, 46]
abbrev dktX6_doStep_4 : List UInt8 := dkwX6_doStep_4 ++ dktX6_doStep_5
def dkwX6_doStep_3 : List UInt8 := [170, 0, 0, 0, 0, 0, 114, 0, 0, 0, 0, 0, 0, 0, 3, 0, 0, 0, 31, 0, 0, 0, 37, 0, 0, 0, 114, 0, 0, 0, 107]
abbrev dktX6_doStep_3 : List UInt8 := dkwX6_doStep_3 ++ dktX6_doStep_4
def dkwX6_doStep_2 : List UInt8 := [46]
abbrev dktX6_doStep_2 : List UInt8 := dkwX6_doStep_2 ++ dktX6_doStep_3
def dkwX6_doStep_1 : List UInt8 := [133, 182, 0, 133, 154, 0, 15, 42, 89, 180, 1, 138, 4, 96, 181, 1, 138, 4, 172, 42, 180, 0, 13, 28]
abbrev dktX6_doStep_1 : List UInt8 := dkwX6_doStep_1 ++ dktX6_doStep_2
def dkwX6_doStep_0 : List UInt8 := [42, 27, 42, 180, 0, 13, 28, 4, 96, 46, 42, 180, 0, 13, 28, 5, 96, 46, 182, 1, 153, 62, 42, 29]
abbrev dktX6_doStep_0 : List UInt8 := dkwX6_doStep_0 ++ dktX6_doStep_1
theorem dksX6_doStep_0 : cX6_doStep.data.toList.drop 0 = dktX6_doStep_0 := by decide +kernel
theorem dksX6_doStep_1 : cX6_doStep.data.toList.drop 24 = dktX6_doStep_1 := dk_seg dksX6_doStep_0 24 rfl rfl
theorem dksX6_doStep_2 : cX6_doStep.data.toList.drop 48 = dktX6_doStep_2 := dk_seg dksX6_doStep_1 24 rfl rfl
theorem dksX6_doStep_3 : cX6_doStep.data.toList.drop 49 = dktX6_doStep_3 := dk_seg dksX6_doStep_2 1 rfl rfl
theorem dksX6_doStep_4 : cX6_doStep.data.toList.drop 80 = dktX6_doStep_4 := dk_seg dksX6_doStep_3 31 rfl rfl
theorem dksX6_doStep_5 : cX6_doStep.data.toList.drop 104 = dktX6_doStep_5 := dk_seg dksX6_doStep_4 24 rfl rfl
theorem dksX6_doStep_6 : cX6_doStep.data.toList.drop 128 = dktX6_doStep_6 := dk_seg dksX6_doStep_5 24 rfl rfl
theorem dksX6_doStep_7 : cX6_doStep.data.toList.drop 151 = dktX6_doStep_7 := dk_seg dksX6_doStep_6 23 rfl rfl
theorem dksX6_doStep_8 : cX6_doStep.data.toList.drop 175 = dktX6_doStep_8 := dk_seg dksX6_doStep_7 24 rfl rfl
theorem dksX6_doStep_9 : cX6_doStep.data.toList.drop 199 = dktX6_doStep_9 := dk_seg dksX6_doStep_8 24 rfl rfl
theorem dksX6_doStep_10 : cX6_doStep.data.toList.drop 223 = dktX6_doStep_10 := dk_seg dksX6_doStep_9 24 rfl rfl
theorem dX6_doStep_0 : decode cX6_doStep 0 = .ok (.aload_n 0, 1) := dk_42 (dk_at dksX6_doStep_0 0 rfl rfl)
theorem dX6_doStep_1 : decode cX6_doStep 1 = .ok (.iload_n 1, 1) := dk_27 (dk_at dksX6_doStep_0 1 rfl rfl)
theorem dX6_doStep_2 : decode cX6_doStep 2 = .ok (.aload_n 0, 1) := dk_42 (dk_at dksX6_doStep_0 2 rfl rfl)
theorem dX6_doStep_3 : decode cX6_doStep 3 = .ok (.getfield 13, 3) := dk_180 0 13 (dk_at dksX6_doStep_0 3 rfl rfl)
theorem dX6_doStep_6 : decode cX6_doStep 6 = .ok (.iload_n 2, 1) := dk_28 (dk_at dksX6_doStep_0 6 rfl rfl)
theorem dX6_doStep_7 : decode cX6_doStep 7 = .ok (.iconst 1, 1) := dk_4 (dk_at dksX6_doStep_0 7 rfl rfl)
theorem dX6_doStep_8 : decode cX6_doStep 8 = .ok (.iadd, 1) := dk_96 (dk_at dksX6_doStep_0 8 rfl rfl)
theorem dX6_doStep_9 : decode cX6_doStep 9 = .ok (.iaload, 1) := dk_46 (dk_at dksX6_doStep_0 9 rfl rfl)
theorem dX6_doStep_10 : decode cX6_doStep 10 = .ok (.aload_n 0, 1) := dk_42 (dk_at dksX6_doStep_0 10 rfl rfl)
theorem dX6_doStep_11 : decode cX6_doStep 11 = .ok (.getfield 13, 3) := dk_180 0 13 (dk_at dksX6_doStep_0 11 rfl rfl)
theorem dX6_doStep_14 : decode cX6_doStep 14 = .ok (.iload_n 2, 1) := dk_28 (dk_at dksX6_doStep_0 14 rfl rfl)
theorem dX6_doStep_15 : decode cX6_doStep 15 = .ok (.iconst 2, 1) := dk_5 (dk_at dksX6_doStep_0 15 rfl rfl)
theorem dX6_doStep_16 : decode cX6_doStep 16 = .ok (.iadd, 1) := dk_96 (dk_at dksX6_doStep_0 16 rfl rfl)
theorem dX6_doStep_17 : decode cX6_doStep 17 = .ok (.iaload, 1) := dk_46 (dk_at dksX6_doStep_0 17 rfl rfl)
theorem dX6_doStep_18 : decode cX6_doStep 18 = .ok (.invokevirtual 409, 3) := dk_182 1 153 (dk_at dksX6_doStep_0 18 rfl rfl)
theorem dX6_doStep_21 : decode cX6_doStep 21 = .ok (.istore_n 3, 1) := dk_62 (dk_at dksX6_doStep_0 21 rfl rfl)
theorem dX6_doStep_22 : decode cX6_doStep 22 = .ok (.aload_n 0, 1) := dk_42 (dk_at dksX6_doStep_0 22 rfl rfl)
theorem dX6_doStep_23 : decode cX6_doStep 23 = .ok (.iload_n 3, 1) := dk_29 (dk_at dksX6_doStep_0 23 rfl rfl)
theorem dX6_doStep_24 : decode cX6_doStep 24 = .ok (.i2l, 1) := dk_133 (dk_at dksX6_doStep_1 0 rfl rfl)
theorem dX6_doStep_25 : decode cX6_doStep 25 = .ok (.invokevirtual 133, 3) := dk_182 0 133 (dk_at dksX6_doStep_1 1 rfl rfl)
theorem dX6_doStep_28 : decode cX6_doStep 28 = .ok (.ifCond .ne 15, 3) := dk_154 0 15 (dk_at dksX6_doStep_1 4 rfl rfl)
theorem dX6_doStep_31 : decode cX6_doStep 31 = .ok (.aload_n 0, 1) := dk_42 (dk_at dksX6_doStep_1 7 rfl rfl)
theorem dX6_doStep_32 : decode cX6_doStep 32 = .ok (.dup, 1) := dk_89 (dk_at dksX6_doStep_1 8 rfl rfl)
theorem dX6_doStep_33 : decode cX6_doStep 33 = .ok (.getfield 394, 3) := dk_180 1 138 (dk_at dksX6_doStep_1 9 rfl rfl)
theorem dX6_doStep_36 : decode cX6_doStep 36 = .ok (.iconst 1, 1) := dk_4 (dk_at dksX6_doStep_1 12 rfl rfl)
theorem dX6_doStep_37 : decode cX6_doStep 37 = .ok (.iadd, 1) := dk_96 (dk_at dksX6_doStep_1 13 rfl rfl)
theorem dX6_doStep_38 : decode cX6_doStep 38 = .ok (.putfield 394, 3) := dk_181 1 138 (dk_at dksX6_doStep_1 14 rfl rfl)
theorem dX6_doStep_41 : decode cX6_doStep 41 = .ok (.iconst 1, 1) := dk_4 (dk_at dksX6_doStep_1 17 rfl rfl)
theorem dX6_doStep_42 : decode cX6_doStep 42 = .ok (.ireturn, 1) := dk_172 (dk_at dksX6_doStep_1 18 rfl rfl)
theorem dX6_doStep_43 : decode cX6_doStep 43 = .ok (.aload_n 0, 1) := dk_42 (dk_at dksX6_doStep_1 19 rfl rfl)
theorem dX6_doStep_44 : decode cX6_doStep 44 = .ok (.getfield 13, 3) := dk_180 0 13 (dk_at dksX6_doStep_1 20 rfl rfl)
theorem dX6_doStep_47 : decode cX6_doStep 47 = .ok (.iload_n 2, 1) := dk_28 (dk_at dksX6_doStep_1 23 rfl rfl)
theorem dX6_doStep_48 : decode cX6_doStep 48 = .ok (.iaload, 1) := dk_46 (dk_at dksX6_doStep_2 0 rfl rfl)
theorem dX6_doStep_49 : decode cX6_doStep 49 = .ok (.tableswitch 114 0 3 #[31, 37, 114, 107], 31) := by decide +kernel
theorem dX6_doStep_80 : decode cX6_doStep 80 = .ok (.aload_n 0, 1) := dk_42 (dk_at dksX6_doStep_4 0 rfl rfl)
theorem dX6_doStep_81 : decode cX6_doStep 81 = .ok (.iload_n 3, 1) := dk_29 (dk_at dksX6_doStep_4 1 rfl rfl)
theorem dX6_doStep_82 : decode cX6_doStep 82 = .ok (.invokevirtual 412, 3) := dk_182 1 156 (dk_at dksX6_doStep_4 2 rfl rfl)
theorem dX6_doStep_85 : decode cX6_doStep 85 = .ok (.ireturn, 1) := dk_172 (dk_at dksX6_doStep_4 5 rfl rfl)
theorem dX6_doStep_86 : decode cX6_doStep 86 = .ok (.aload_n 0, 1) := dk_42 (dk_at dksX6_doStep_4 6 rfl rfl)
theorem dX6_doStep_87 : decode cX6_doStep 87 = .ok (.iload_n 1, 1) := dk_27 (dk_at dksX6_doStep_4 7 rfl rfl)
theorem dX6_doStep_88 : decode cX6_doStep 88 = .ok (.aload_n 0, 1) := dk_42 (dk_at dksX6_doStep_4 8 rfl rfl)
theorem dX6_doStep_89 : decode cX6_doStep 89 = .ok (.getfield 13, 3) := dk_180 0 13 (dk_at dksX6_doStep_4 9 rfl rfl)
theorem dX6_doStep_92 : decode cX6_doStep 92 = .ok (.iload_n 2, 1) := dk_28 (dk_at dksX6_doStep_4 12 rfl rfl)
theorem dX6_doStep_93 : decode cX6_doStep 93 = .ok (.iconst 2, 1) := dk_5 (dk_at dksX6_doStep_4 13 rfl rfl)
theorem dX6_doStep_94 : decode cX6_doStep 94 = .ok (.iadd, 1) := dk_96 (dk_at dksX6_doStep_4 14 rfl rfl)
theorem dX6_doStep_95 : decode cX6_doStep 95 = .ok (.iaload, 1) := dk_46 (dk_at dksX6_doStep_4 15 rfl rfl)
theorem dX6_doStep_96 : decode cX6_doStep 96 = .ok (.aload_n 0, 1) := dk_42 (dk_at dksX6_doStep_4 16 rfl rfl)
theorem dX6_doStep_97 : decode cX6_doStep 97 = .ok (.getfield 13, 3) := dk_180 0 13 (dk_at dksX6_doStep_4 17 rfl rfl)
theorem dX6_doStep_100 : decode cX6_doStep 100 = .ok (.iload_n 2, 1) := dk_28 (dk_at dksX6_doStep_4 20 rfl rfl)
theorem dX6_doStep_101 : decode cX6_doStep 101 = .ok (.iconst 3, 1) := dk_6 (dk_at dksX6_doStep_4 21 rfl rfl)
theorem dX6_doStep_102 : decode cX6_doStep 102 = .ok (.iadd, 1) := dk_96 (dk_at dksX6_doStep_4 22 rfl rfl)
theorem dX6_doStep_103 : decode cX6_doStep 103 = .ok (.iaload, 1) := dk_46 (dk_at dksX6_doStep_4 23 rfl rfl)
theorem dX6_doStep_104 : decode cX6_doStep 104 = .ok (.invokevirtual 409, 3) := dk_182 1 153 (dk_at dksX6_doStep_5 0 rfl rfl)
theorem dX6_doStep_107 : decode cX6_doStep 107 = .ok (.istore 4, 2) := dk_54 4 (dk_at dksX6_doStep_5 3 rfl rfl)
theorem dX6_doStep_109 : decode cX6_doStep 109 = .ok (.aload_n 0, 1) := dk_42 (dk_at dksX6_doStep_5 5 rfl rfl)
theorem dX6_doStep_110 : decode cX6_doStep 110 = .ok (.iload 4, 2) := dk_21 4 (dk_at dksX6_doStep_5 6 rfl rfl)
theorem dX6_doStep_112 : decode cX6_doStep 112 = .ok (.i2l, 1) := dk_133 (dk_at dksX6_doStep_5 8 rfl rfl)
theorem dX6_doStep_113 : decode cX6_doStep 113 = .ok (.invokevirtual 133, 3) := dk_182 0 133 (dk_at dksX6_doStep_5 9 rfl rfl)
theorem dX6_doStep_116 : decode cX6_doStep 116 = .ok (.ifCond .eq 28, 3) := dk_153 0 28 (dk_at dksX6_doStep_5 12 rfl rfl)
theorem dX6_doStep_119 : decode cX6_doStep 119 = .ok (.iload_n 3, 1) := dk_29 (dk_at dksX6_doStep_5 15 rfl rfl)
theorem dX6_doStep_120 : decode cX6_doStep 120 = .ok (.iload 4, 2) := dk_21 4 (dk_at dksX6_doStep_5 16 rfl rfl)
theorem dX6_doStep_122 : decode cX6_doStep 122 = .ok (.if_icmp .eq 22, 3) := dk_159 0 22 (dk_at dksX6_doStep_5 18 rfl rfl)
theorem dX6_doStep_125 : decode cX6_doStep 125 = .ok (.iload_n 3, 1) := dk_29 (dk_at dksX6_doStep_5 21 rfl rfl)
theorem dX6_doStep_126 : decode cX6_doStep 126 = .ok (.iload 4, 2) := dk_21 4 (dk_at dksX6_doStep_5 22 rfl rfl)
theorem dX6_doStep_128 : decode cX6_doStep 128 = .ok (.invokestatic 359, 3) := dk_184 1 103 (dk_at dksX6_doStep_6 0 rfl rfl)
theorem dX6_doStep_131 : decode cX6_doStep 131 = .ok (.ifCond .eq 13, 3) := dk_153 0 13 (dk_at dksX6_doStep_6 3 rfl rfl)
theorem dX6_doStep_134 : decode cX6_doStep 134 = .ok (.aload_n 0, 1) := dk_42 (dk_at dksX6_doStep_6 6 rfl rfl)
theorem dX6_doStep_135 : decode cX6_doStep 135 = .ok (.iload_n 3, 1) := dk_29 (dk_at dksX6_doStep_6 7 rfl rfl)
theorem dX6_doStep_136 : decode cX6_doStep 136 = .ok (.iload 4, 2) := dk_21 4 (dk_at dksX6_doStep_6 8 rfl rfl)
theorem dX6_doStep_138 : decode cX6_doStep 138 = .ok (.invokevirtual 415, 3) := dk_182 1 159 (dk_at dksX6_doStep_6 10 rfl rfl)
theorem dX6_doStep_141 : decode cX6_doStep 141 = .ok (.goto 13, 3) := dk_167 0 13 (dk_at dksX6_doStep_6 13 rfl rfl)
theorem dX6_doStep_144 : decode cX6_doStep 144 = .ok (.aload_n 0, 1) := dk_42 (dk_at dksX6_doStep_6 16 rfl rfl)
theorem dX6_doStep_145 : decode cX6_doStep 145 = .ok (.dup, 1) := dk_89 (dk_at dksX6_doStep_6 17 rfl rfl)
theorem dX6_doStep_146 : decode cX6_doStep 146 = .ok (.getfield 394, 3) := dk_180 1 138 (dk_at dksX6_doStep_6 18 rfl rfl)
theorem dX6_doStep_149 : decode cX6_doStep 149 = .ok (.iconst 1, 1) := dk_4 (dk_at dksX6_doStep_6 21 rfl rfl)
theorem dX6_doStep_150 : decode cX6_doStep 150 = .ok (.iadd, 1) := dk_96 (dk_at dksX6_doStep_6 22 rfl rfl)
theorem dX6_doStep_151 : decode cX6_doStep 151 = .ok (.putfield 394, 3) := dk_181 1 138 (dk_at dksX6_doStep_7 0 rfl rfl)
theorem dX6_doStep_154 : decode cX6_doStep 154 = .ok (.iconst 1, 1) := dk_4 (dk_at dksX6_doStep_7 3 rfl rfl)
theorem dX6_doStep_155 : decode cX6_doStep 155 = .ok (.ireturn, 1) := dk_172 (dk_at dksX6_doStep_7 4 rfl rfl)
theorem dX6_doStep_156 : decode cX6_doStep 156 = .ok (.aload_n 0, 1) := dk_42 (dk_at dksX6_doStep_7 5 rfl rfl)
theorem dX6_doStep_157 : decode cX6_doStep 157 = .ok (.iload_n 3, 1) := dk_29 (dk_at dksX6_doStep_7 6 rfl rfl)
theorem dX6_doStep_158 : decode cX6_doStep 158 = .ok (.invokevirtual 418, 3) := dk_182 1 162 (dk_at dksX6_doStep_7 7 rfl rfl)
theorem dX6_doStep_161 : decode cX6_doStep 161 = .ok (.iconst 1, 1) := dk_4 (dk_at dksX6_doStep_7 10 rfl rfl)
theorem dX6_doStep_162 : decode cX6_doStep 162 = .ok (.ireturn, 1) := dk_172 (dk_at dksX6_doStep_7 11 rfl rfl)
theorem dX6_doStep_163 : decode cX6_doStep 163 = .ok (.aload_n 0, 1) := dk_42 (dk_at dksX6_doStep_7 12 rfl rfl)
theorem dX6_doStep_164 : decode cX6_doStep 164 = .ok (.iload_n 3, 1) := dk_29 (dk_at dksX6_doStep_7 13 rfl rfl)
theorem dX6_doStep_165 : decode cX6_doStep 165 = .ok (.i2l, 1) := dk_133 (dk_at dksX6_doStep_7 14 rfl rfl)
theorem dX6_doStep_166 : decode cX6_doStep 166 = .ok (.lconst 1, 1) := dk_10 (dk_at dksX6_doStep_7 15 rfl rfl)
theorem dX6_doStep_167 : decode cX6_doStep 167 = .ok (.ladd, 1) := dk_97 (dk_at dksX6_doStep_7 16 rfl rfl)
theorem dX6_doStep_168 : decode cX6_doStep 168 = .ok (.invokevirtual 133, 3) := dk_182 0 133 (dk_at dksX6_doStep_7 17 rfl rfl)
theorem dX6_doStep_171 : decode cX6_doStep 171 = .ok (.ifCond .ne 16, 3) := dk_154 0 16 (dk_at dksX6_doStep_7 20 rfl rfl)
theorem dX6_doStep_174 : decode cX6_doStep 174 = .ok (.aload_n 0, 1) := dk_42 (dk_at dksX6_doStep_7 23 rfl rfl)
theorem dX6_doStep_175 : decode cX6_doStep 175 = .ok (.dup, 1) := dk_89 (dk_at dksX6_doStep_8 0 rfl rfl)
theorem dX6_doStep_176 : decode cX6_doStep 176 = .ok (.getfield 394, 3) := dk_180 1 138 (dk_at dksX6_doStep_8 1 rfl rfl)
theorem dX6_doStep_179 : decode cX6_doStep 179 = .ok (.iconst 1, 1) := dk_4 (dk_at dksX6_doStep_8 4 rfl rfl)
theorem dX6_doStep_180 : decode cX6_doStep 180 = .ok (.iadd, 1) := dk_96 (dk_at dksX6_doStep_8 5 rfl rfl)
theorem dX6_doStep_181 : decode cX6_doStep 181 = .ok (.putfield 394, 3) := dk_181 1 138 (dk_at dksX6_doStep_8 6 rfl rfl)
theorem dX6_doStep_184 : decode cX6_doStep 184 = .ok (.goto 46, 3) := dk_167 0 46 (dk_at dksX6_doStep_8 9 rfl rfl)
theorem dX6_doStep_187 : decode cX6_doStep 187 = .ok (.aload_n 0, 1) := dk_42 (dk_at dksX6_doStep_8 12 rfl rfl)
theorem dX6_doStep_188 : decode cX6_doStep 188 = .ok (.getfield 13, 3) := dk_180 0 13 (dk_at dksX6_doStep_8 13 rfl rfl)
theorem dX6_doStep_191 : decode cX6_doStep 191 = .ok (.iload_n 2, 1) := dk_28 (dk_at dksX6_doStep_8 16 rfl rfl)
theorem dX6_doStep_192 : decode cX6_doStep 192 = .ok (.iaload, 1) := dk_46 (dk_at dksX6_doStep_8 17 rfl rfl)
theorem dX6_doStep_193 : decode cX6_doStep 193 = .ok (.iconst 4, 1) := dk_7 (dk_at dksX6_doStep_8 18 rfl rfl)
theorem dX6_doStep_194 : decode cX6_doStep 194 = .ok (.if_icmp .ne 11, 3) := dk_160 0 11 (dk_at dksX6_doStep_8 19 rfl rfl)
theorem dX6_doStep_197 : decode cX6_doStep 197 = .ok (.aload_n 0, 1) := dk_42 (dk_at dksX6_doStep_8 22 rfl rfl)
theorem dX6_doStep_198 : decode cX6_doStep 198 = .ok (.iload_n 3, 1) := dk_29 (dk_at dksX6_doStep_8 23 rfl rfl)
theorem dX6_doStep_199 : decode cX6_doStep 199 = .ok (.invokevirtual 421, 3) := dk_182 1 165 (dk_at dksX6_doStep_9 0 rfl rfl)
theorem dX6_doStep_202 : decode cX6_doStep 202 = .ok (.goto 28, 3) := dk_167 0 28 (dk_at dksX6_doStep_9 3 rfl rfl)
theorem dX6_doStep_205 : decode cX6_doStep 205 = .ok (.aload_n 0, 1) := dk_42 (dk_at dksX6_doStep_9 6 rfl rfl)
theorem dX6_doStep_206 : decode cX6_doStep 206 = .ok (.aload_n 0, 1) := dk_42 (dk_at dksX6_doStep_9 7 rfl rfl)
theorem dX6_doStep_207 : decode cX6_doStep 207 = .ok (.iload_n 3, 1) := dk_29 (dk_at dksX6_doStep_9 8 rfl rfl)
theorem dX6_doStep_208 : decode cX6_doStep 208 = .ok (.invokevirtual 378, 3) := dk_182 1 122 (dk_at dksX6_doStep_9 9 rfl rfl)
theorem dX6_doStep_211 : decode cX6_doStep 211 = .ok (.iload_n 3, 1) := dk_29 (dk_at dksX6_doStep_9 12 rfl rfl)
theorem dX6_doStep_212 : decode cX6_doStep 212 = .ok (.invokevirtual 381, 3) := dk_182 1 125 (dk_at dksX6_doStep_9 13 rfl rfl)
theorem dX6_doStep_215 : decode cX6_doStep 215 = .ok (.ifCond .eq 15, 3) := dk_153 0 15 (dk_at dksX6_doStep_9 16 rfl rfl)
theorem dX6_doStep_218 : decode cX6_doStep 218 = .ok (.aload_n 0, 1) := dk_42 (dk_at dksX6_doStep_9 19 rfl rfl)
theorem dX6_doStep_219 : decode cX6_doStep 219 = .ok (.dup, 1) := dk_89 (dk_at dksX6_doStep_9 20 rfl rfl)
theorem dX6_doStep_220 : decode cX6_doStep 220 = .ok (.getfield 385, 3) := dk_180 1 129 (dk_at dksX6_doStep_9 21 rfl rfl)
theorem dX6_doStep_223 : decode cX6_doStep 223 = .ok (.iconst 1, 1) := dk_4 (dk_at dksX6_doStep_10 0 rfl rfl)
theorem dX6_doStep_224 : decode cX6_doStep 224 = .ok (.iload_n 3, 1) := dk_29 (dk_at dksX6_doStep_10 1 rfl rfl)
theorem dX6_doStep_225 : decode cX6_doStep 225 = .ok (.ishl, 1) := dk_120 (dk_at dksX6_doStep_10 2 rfl rfl)
theorem dX6_doStep_226 : decode cX6_doStep 226 = .ok (.ior, 1) := dk_128 (dk_at dksX6_doStep_10 3 rfl rfl)
theorem dX6_doStep_227 : decode cX6_doStep 227 = .ok (.putfield 385, 3) := dk_181 1 129 (dk_at dksX6_doStep_10 4 rfl rfl)
theorem dX6_doStep_230 : decode cX6_doStep 230 = .ok (.iconst 1, 1) := dk_4 (dk_at dksX6_doStep_10 7 rfl rfl)
theorem dX6_doStep_231 : decode cX6_doStep 231 = .ok (.ireturn, 1) := dk_172 (dk_at dksX6_doStep_10 8 rfl rfl)
abbrev cX6_fire : ByteArray := prog_28_method_51_code
def yX6_fire : MethodName := ⟨RX6, "fire", "(I)Z"⟩
def dkwX6_fire_6 : List UInt8 := [4, 172]
abbrev dktX6_fire_6 : List UInt8 := dkwX6_fire_6 ++ []
def dkwX6_fire_5 : List UInt8 := [180, 1, 82, 4, 96, 181, 1, 82, 42, 42, 180, 0, 13, 16, 10, 46, 181, 1, 79, 42, 27, 182, 1, 110]
abbrev dktX6_fire_5 : List UInt8 := dkwX6_fire_5 ++ dktX6_fire_6
def dkwX6_fire_4 : List UInt8 := [29, 120, 167, 0, 4, 3, 128, 181, 1, 88, 132, 3, 1, 167, 255, 219, 42, 27, 181, 1, 107, 42, 89]
abbrev dktX6_fire_4 : List UInt8 := dkwX6_fire_4 ++ dktX6_fire_5
def dkwX6_fire_3 : List UInt8 := [29, 42, 180, 0, 13, 3, 46, 162, 0, 33, 42, 89, 180, 1, 88, 29, 27, 184, 1, 103, 153, 0, 9, 4]
abbrev dktX6_fire_3 : List UInt8 := dkwX6_fire_3 ++ dktX6_fire_4
def dkwX6_fire_2 : List UInt8 := [167, 0, 4, 3, 61, 132, 3, 1, 167, 255, 206, 28, 154, 0, 5, 3, 172, 42, 3, 181, 1, 88, 3, 62]
abbrev dktX6_fire_2 : List UInt8 := dkwX6_fire_2 ++ dktX6_fire_3
def dkwX6_fire_1 : List UInt8 := [154, 0, 26, 42, 180, 0, 13, 6, 46, 42, 180, 0, 42, 29, 46, 122, 4, 126, 4, 160, 0, 7, 4]
abbrev dktX6_fire_1 : List UInt8 := dkwX6_fire_1 ++ dktX6_fire_2
def dkwX6_fire_0 : List UInt8 := [3, 61, 3, 62, 29, 42, 180, 0, 13, 3, 46, 162, 0, 46, 28, 154, 0, 30, 29, 27, 184, 1, 103]
abbrev dktX6_fire_0 : List UInt8 := dkwX6_fire_0 ++ dktX6_fire_1
theorem dksX6_fire_0 : cX6_fire.data.toList.drop 0 = dktX6_fire_0 := by decide +kernel
theorem dksX6_fire_1 : cX6_fire.data.toList.drop 23 = dktX6_fire_1 := dk_seg dksX6_fire_0 23 rfl rfl
theorem dksX6_fire_2 : cX6_fire.data.toList.drop 46 = dktX6_fire_2 := dk_seg dksX6_fire_1 23 rfl rfl
theorem dksX6_fire_3 : cX6_fire.data.toList.drop 70 = dktX6_fire_3 := dk_seg dksX6_fire_2 24 rfl rfl
theorem dksX6_fire_4 : cX6_fire.data.toList.drop 94 = dktX6_fire_4 := dk_seg dksX6_fire_3 24 rfl rfl
theorem dksX6_fire_5 : cX6_fire.data.toList.drop 117 = dktX6_fire_5 := dk_seg dksX6_fire_4 23 rfl rfl
theorem dksX6_fire_6 : cX6_fire.data.toList.drop 141 = dktX6_fire_6 := dk_seg dksX6_fire_5 24 rfl rfl
theorem dX6_fire_0 : decode cX6_fire 0 = .ok (.iconst 0, 1) := dk_3 (dk_at dksX6_fire_0 0 rfl rfl)
theorem dX6_fire_1 : decode cX6_fire 1 = .ok (.istore_n 2, 1) := dk_61 (dk_at dksX6_fire_0 1 rfl rfl)
theorem dX6_fire_2 : decode cX6_fire 2 = .ok (.iconst 0, 1) := dk_3 (dk_at dksX6_fire_0 2 rfl rfl)
theorem dX6_fire_3 : decode cX6_fire 3 = .ok (.istore_n 3, 1) := dk_62 (dk_at dksX6_fire_0 3 rfl rfl)
theorem dX6_fire_4 : decode cX6_fire 4 = .ok (.iload_n 3, 1) := dk_29 (dk_at dksX6_fire_0 4 rfl rfl)
theorem dX6_fire_5 : decode cX6_fire 5 = .ok (.aload_n 0, 1) := dk_42 (dk_at dksX6_fire_0 5 rfl rfl)
theorem dX6_fire_6 : decode cX6_fire 6 = .ok (.getfield 13, 3) := dk_180 0 13 (dk_at dksX6_fire_0 6 rfl rfl)
theorem dX6_fire_9 : decode cX6_fire 9 = .ok (.iconst 0, 1) := dk_3 (dk_at dksX6_fire_0 9 rfl rfl)
theorem dX6_fire_10 : decode cX6_fire 10 = .ok (.iaload, 1) := dk_46 (dk_at dksX6_fire_0 10 rfl rfl)
theorem dX6_fire_11 : decode cX6_fire 11 = .ok (.if_icmp .ge 46, 3) := dk_162 0 46 (dk_at dksX6_fire_0 11 rfl rfl)
theorem dX6_fire_14 : decode cX6_fire 14 = .ok (.iload_n 2, 1) := dk_28 (dk_at dksX6_fire_0 14 rfl rfl)
theorem dX6_fire_15 : decode cX6_fire 15 = .ok (.ifCond .ne 30, 3) := dk_154 0 30 (dk_at dksX6_fire_0 15 rfl rfl)
theorem dX6_fire_18 : decode cX6_fire 18 = .ok (.iload_n 3, 1) := dk_29 (dk_at dksX6_fire_0 18 rfl rfl)
theorem dX6_fire_19 : decode cX6_fire 19 = .ok (.iload_n 1, 1) := dk_27 (dk_at dksX6_fire_0 19 rfl rfl)
theorem dX6_fire_20 : decode cX6_fire 20 = .ok (.invokestatic 359, 3) := dk_184 1 103 (dk_at dksX6_fire_0 20 rfl rfl)
theorem dX6_fire_23 : decode cX6_fire 23 = .ok (.ifCond .ne 26, 3) := dk_154 0 26 (dk_at dksX6_fire_1 0 rfl rfl)
theorem dX6_fire_26 : decode cX6_fire 26 = .ok (.aload_n 0, 1) := dk_42 (dk_at dksX6_fire_1 3 rfl rfl)
theorem dX6_fire_27 : decode cX6_fire 27 = .ok (.getfield 13, 3) := dk_180 0 13 (dk_at dksX6_fire_1 4 rfl rfl)
theorem dX6_fire_30 : decode cX6_fire 30 = .ok (.iconst 3, 1) := dk_6 (dk_at dksX6_fire_1 7 rfl rfl)
theorem dX6_fire_31 : decode cX6_fire 31 = .ok (.iaload, 1) := dk_46 (dk_at dksX6_fire_1 8 rfl rfl)
theorem dX6_fire_32 : decode cX6_fire 32 = .ok (.aload_n 0, 1) := dk_42 (dk_at dksX6_fire_1 9 rfl rfl)
theorem dX6_fire_33 : decode cX6_fire 33 = .ok (.getfield 42, 3) := dk_180 0 42 (dk_at dksX6_fire_1 10 rfl rfl)
theorem dX6_fire_36 : decode cX6_fire 36 = .ok (.iload_n 3, 1) := dk_29 (dk_at dksX6_fire_1 13 rfl rfl)
theorem dX6_fire_37 : decode cX6_fire 37 = .ok (.iaload, 1) := dk_46 (dk_at dksX6_fire_1 14 rfl rfl)
theorem dX6_fire_38 : decode cX6_fire 38 = .ok (.ishr, 1) := dk_122 (dk_at dksX6_fire_1 15 rfl rfl)
theorem dX6_fire_39 : decode cX6_fire 39 = .ok (.iconst 1, 1) := dk_4 (dk_at dksX6_fire_1 16 rfl rfl)
theorem dX6_fire_40 : decode cX6_fire 40 = .ok (.iand, 1) := dk_126 (dk_at dksX6_fire_1 17 rfl rfl)
theorem dX6_fire_41 : decode cX6_fire 41 = .ok (.iconst 1, 1) := dk_4 (dk_at dksX6_fire_1 18 rfl rfl)
theorem dX6_fire_42 : decode cX6_fire 42 = .ok (.if_icmp .ne 7, 3) := dk_160 0 7 (dk_at dksX6_fire_1 19 rfl rfl)
theorem dX6_fire_45 : decode cX6_fire 45 = .ok (.iconst 1, 1) := dk_4 (dk_at dksX6_fire_1 22 rfl rfl)
theorem dX6_fire_46 : decode cX6_fire 46 = .ok (.goto 4, 3) := dk_167 0 4 (dk_at dksX6_fire_2 0 rfl rfl)
theorem dX6_fire_49 : decode cX6_fire 49 = .ok (.iconst 0, 1) := dk_3 (dk_at dksX6_fire_2 3 rfl rfl)
theorem dX6_fire_50 : decode cX6_fire 50 = .ok (.istore_n 2, 1) := dk_61 (dk_at dksX6_fire_2 4 rfl rfl)
theorem dX6_fire_51 : decode cX6_fire 51 = .ok (.iinc 3 1, 3) := dk_132 3 1 (dk_at dksX6_fire_2 5 rfl rfl)
theorem dX6_fire_54 : decode cX6_fire 54 = .ok (.goto (-50), 3) := dk_167 255 206 (dk_at dksX6_fire_2 8 rfl rfl)
theorem dX6_fire_57 : decode cX6_fire 57 = .ok (.iload_n 2, 1) := dk_28 (dk_at dksX6_fire_2 11 rfl rfl)
theorem dX6_fire_58 : decode cX6_fire 58 = .ok (.ifCond .ne 5, 3) := dk_154 0 5 (dk_at dksX6_fire_2 12 rfl rfl)
theorem dX6_fire_61 : decode cX6_fire 61 = .ok (.iconst 0, 1) := dk_3 (dk_at dksX6_fire_2 15 rfl rfl)
theorem dX6_fire_62 : decode cX6_fire 62 = .ok (.ireturn, 1) := dk_172 (dk_at dksX6_fire_2 16 rfl rfl)
theorem dX6_fire_63 : decode cX6_fire 63 = .ok (.aload_n 0, 1) := dk_42 (dk_at dksX6_fire_2 17 rfl rfl)
theorem dX6_fire_64 : decode cX6_fire 64 = .ok (.iconst 0, 1) := dk_3 (dk_at dksX6_fire_2 18 rfl rfl)
theorem dX6_fire_65 : decode cX6_fire 65 = .ok (.putfield 344, 3) := dk_181 1 88 (dk_at dksX6_fire_2 19 rfl rfl)
theorem dX6_fire_68 : decode cX6_fire 68 = .ok (.iconst 0, 1) := dk_3 (dk_at dksX6_fire_2 22 rfl rfl)
theorem dX6_fire_69 : decode cX6_fire 69 = .ok (.istore_n 3, 1) := dk_62 (dk_at dksX6_fire_2 23 rfl rfl)
theorem dX6_fire_70 : decode cX6_fire 70 = .ok (.iload_n 3, 1) := dk_29 (dk_at dksX6_fire_3 0 rfl rfl)
theorem dX6_fire_71 : decode cX6_fire 71 = .ok (.aload_n 0, 1) := dk_42 (dk_at dksX6_fire_3 1 rfl rfl)
theorem dX6_fire_72 : decode cX6_fire 72 = .ok (.getfield 13, 3) := dk_180 0 13 (dk_at dksX6_fire_3 2 rfl rfl)
theorem dX6_fire_75 : decode cX6_fire 75 = .ok (.iconst 0, 1) := dk_3 (dk_at dksX6_fire_3 5 rfl rfl)
theorem dX6_fire_76 : decode cX6_fire 76 = .ok (.iaload, 1) := dk_46 (dk_at dksX6_fire_3 6 rfl rfl)
theorem dX6_fire_77 : decode cX6_fire 77 = .ok (.if_icmp .ge 33, 3) := dk_162 0 33 (dk_at dksX6_fire_3 7 rfl rfl)
theorem dX6_fire_80 : decode cX6_fire 80 = .ok (.aload_n 0, 1) := dk_42 (dk_at dksX6_fire_3 10 rfl rfl)
theorem dX6_fire_81 : decode cX6_fire 81 = .ok (.dup, 1) := dk_89 (dk_at dksX6_fire_3 11 rfl rfl)
theorem dX6_fire_82 : decode cX6_fire 82 = .ok (.getfield 344, 3) := dk_180 1 88 (dk_at dksX6_fire_3 12 rfl rfl)
theorem dX6_fire_85 : decode cX6_fire 85 = .ok (.iload_n 3, 1) := dk_29 (dk_at dksX6_fire_3 15 rfl rfl)
theorem dX6_fire_86 : decode cX6_fire 86 = .ok (.iload_n 1, 1) := dk_27 (dk_at dksX6_fire_3 16 rfl rfl)
theorem dX6_fire_87 : decode cX6_fire 87 = .ok (.invokestatic 359, 3) := dk_184 1 103 (dk_at dksX6_fire_3 17 rfl rfl)
theorem dX6_fire_90 : decode cX6_fire 90 = .ok (.ifCond .eq 9, 3) := dk_153 0 9 (dk_at dksX6_fire_3 20 rfl rfl)
theorem dX6_fire_93 : decode cX6_fire 93 = .ok (.iconst 1, 1) := dk_4 (dk_at dksX6_fire_3 23 rfl rfl)
theorem dX6_fire_94 : decode cX6_fire 94 = .ok (.iload_n 3, 1) := dk_29 (dk_at dksX6_fire_4 0 rfl rfl)
theorem dX6_fire_95 : decode cX6_fire 95 = .ok (.ishl, 1) := dk_120 (dk_at dksX6_fire_4 1 rfl rfl)
theorem dX6_fire_96 : decode cX6_fire 96 = .ok (.goto 4, 3) := dk_167 0 4 (dk_at dksX6_fire_4 2 rfl rfl)
theorem dX6_fire_99 : decode cX6_fire 99 = .ok (.iconst 0, 1) := dk_3 (dk_at dksX6_fire_4 5 rfl rfl)
theorem dX6_fire_100 : decode cX6_fire 100 = .ok (.ior, 1) := dk_128 (dk_at dksX6_fire_4 6 rfl rfl)
theorem dX6_fire_101 : decode cX6_fire 101 = .ok (.putfield 344, 3) := dk_181 1 88 (dk_at dksX6_fire_4 7 rfl rfl)
theorem dX6_fire_104 : decode cX6_fire 104 = .ok (.iinc 3 1, 3) := dk_132 3 1 (dk_at dksX6_fire_4 10 rfl rfl)
theorem dX6_fire_107 : decode cX6_fire 107 = .ok (.goto (-37), 3) := dk_167 255 219 (dk_at dksX6_fire_4 13 rfl rfl)
theorem dX6_fire_110 : decode cX6_fire 110 = .ok (.aload_n 0, 1) := dk_42 (dk_at dksX6_fire_4 16 rfl rfl)
theorem dX6_fire_111 : decode cX6_fire 111 = .ok (.iload_n 1, 1) := dk_27 (dk_at dksX6_fire_4 17 rfl rfl)
theorem dX6_fire_112 : decode cX6_fire 112 = .ok (.putfield 363, 3) := dk_181 1 107 (dk_at dksX6_fire_4 18 rfl rfl)
theorem dX6_fire_115 : decode cX6_fire 115 = .ok (.aload_n 0, 1) := dk_42 (dk_at dksX6_fire_4 21 rfl rfl)
theorem dX6_fire_116 : decode cX6_fire 116 = .ok (.dup, 1) := dk_89 (dk_at dksX6_fire_4 22 rfl rfl)
theorem dX6_fire_117 : decode cX6_fire 117 = .ok (.getfield 338, 3) := dk_180 1 82 (dk_at dksX6_fire_5 0 rfl rfl)
theorem dX6_fire_120 : decode cX6_fire 120 = .ok (.iconst 1, 1) := dk_4 (dk_at dksX6_fire_5 3 rfl rfl)
theorem dX6_fire_121 : decode cX6_fire 121 = .ok (.iadd, 1) := dk_96 (dk_at dksX6_fire_5 4 rfl rfl)
theorem dX6_fire_122 : decode cX6_fire 122 = .ok (.putfield 338, 3) := dk_181 1 82 (dk_at dksX6_fire_5 5 rfl rfl)
theorem dX6_fire_125 : decode cX6_fire 125 = .ok (.aload_n 0, 1) := dk_42 (dk_at dksX6_fire_5 8 rfl rfl)
theorem dX6_fire_126 : decode cX6_fire 126 = .ok (.aload_n 0, 1) := dk_42 (dk_at dksX6_fire_5 9 rfl rfl)
theorem dX6_fire_127 : decode cX6_fire 127 = .ok (.getfield 13, 3) := dk_180 0 13 (dk_at dksX6_fire_5 10 rfl rfl)
theorem dX6_fire_130 : decode cX6_fire 130 = .ok (.bipush 10, 2) := dk_16 10 (dk_at dksX6_fire_5 13 rfl rfl)
theorem dX6_fire_132 : decode cX6_fire 132 = .ok (.iaload, 1) := dk_46 (dk_at dksX6_fire_5 15 rfl rfl)
theorem dX6_fire_133 : decode cX6_fire 133 = .ok (.putfield 335, 3) := dk_181 1 79 (dk_at dksX6_fire_5 16 rfl rfl)
theorem dX6_fire_136 : decode cX6_fire 136 = .ok (.aload_n 0, 1) := dk_42 (dk_at dksX6_fire_5 19 rfl rfl)
theorem dX6_fire_137 : decode cX6_fire 137 = .ok (.iload_n 1, 1) := dk_27 (dk_at dksX6_fire_5 20 rfl rfl)
theorem dX6_fire_138 : decode cX6_fire 138 = .ok (.invokevirtual 366, 3) := dk_182 1 110 (dk_at dksX6_fire_5 21 rfl rfl)
theorem dX6_fire_141 : decode cX6_fire 141 = .ok (.iconst 1, 1) := dk_4 (dk_at dksX6_fire_6 0 rfl rfl)
theorem dX6_fire_142 : decode cX6_fire 142 = .ok (.ireturn, 1) := dk_172 (dk_at dksX6_fire_6 1 rfl rfl)
abbrev cX6_isNear : ByteArray := prog_28_method_49_code
def yX6_isNear : MethodName := ⟨RX6, "isNear", "(II)Z"⟩
def dkwX6_isNear_0 : List UInt8 := [26, 27, 100, 4, 163, 0, 14, 27, 26, 100, 4, 163, 0, 7, 4, 167, 0, 4, 3, 172]
abbrev dktX6_isNear_0 : List UInt8 := dkwX6_isNear_0 ++ []
theorem dksX6_isNear_0 : cX6_isNear.data.toList.drop 0 = dktX6_isNear_0 := by decide +kernel
theorem dX6_isNear_0 : decode cX6_isNear 0 = .ok (.iload_n 0, 1) := dk_26 (dk_at dksX6_isNear_0 0 rfl rfl)
theorem dX6_isNear_1 : decode cX6_isNear 1 = .ok (.iload_n 1, 1) := dk_27 (dk_at dksX6_isNear_0 1 rfl rfl)
theorem dX6_isNear_2 : decode cX6_isNear 2 = .ok (.isub, 1) := dk_100 (dk_at dksX6_isNear_0 2 rfl rfl)
theorem dX6_isNear_3 : decode cX6_isNear 3 = .ok (.iconst 1, 1) := dk_4 (dk_at dksX6_isNear_0 3 rfl rfl)
theorem dX6_isNear_4 : decode cX6_isNear 4 = .ok (.if_icmp .gt 14, 3) := dk_163 0 14 (dk_at dksX6_isNear_0 4 rfl rfl)
theorem dX6_isNear_7 : decode cX6_isNear 7 = .ok (.iload_n 1, 1) := dk_27 (dk_at dksX6_isNear_0 7 rfl rfl)
theorem dX6_isNear_8 : decode cX6_isNear 8 = .ok (.iload_n 0, 1) := dk_26 (dk_at dksX6_isNear_0 8 rfl rfl)
theorem dX6_isNear_9 : decode cX6_isNear 9 = .ok (.isub, 1) := dk_100 (dk_at dksX6_isNear_0 9 rfl rfl)
theorem dX6_isNear_10 : decode cX6_isNear 10 = .ok (.iconst 1, 1) := dk_4 (dk_at dksX6_isNear_0 10 rfl rfl)
theorem dX6_isNear_11 : decode cX6_isNear 11 = .ok (.if_icmp .gt 7, 3) := dk_163 0 7 (dk_at dksX6_isNear_0 11 rfl rfl)
theorem dX6_isNear_14 : decode cX6_isNear 14 = .ok (.iconst 1, 1) := dk_4 (dk_at dksX6_isNear_0 14 rfl rfl)
theorem dX6_isNear_15 : decode cX6_isNear 15 = .ok (.goto 4, 3) := dk_167 0 4 (dk_at dksX6_isNear_0 15 rfl rfl)
theorem dX6_isNear_18 : decode cX6_isNear 18 = .ok (.iconst 0, 1) := dk_3 (dk_at dksX6_isNear_0 18 rfl rfl)
theorem dX6_isNear_19 : decode cX6_isNear 19 = .ok (.ireturn, 1) := dk_172 (dk_at dksX6_isNear_0 19 rfl rfl)
abbrev cX6_lose : ByteArray := prog_28_method_52_code
def yX6_lose : MethodName := ⟨RX6, "lose", "(I)V"⟩
def dkwX6_lose_1 : List UInt8 := [180, 1, 113, 4, 96, 181, 1, 113, 177]
abbrev dktX6_lose_1 : List UInt8 := dkwX6_lose_1 ++ []
def dkwX6_lose_0 : List UInt8 := [42, 180, 0, 42, 27, 46, 4, 164, 0, 23, 42, 180, 0, 42, 27, 92, 46, 4, 100, 79, 42, 89]
abbrev dktX6_lose_0 : List UInt8 := dkwX6_lose_0 ++ dktX6_lose_1
theorem dksX6_lose_0 : cX6_lose.data.toList.drop 0 = dktX6_lose_0 := by decide +kernel
theorem dksX6_lose_1 : cX6_lose.data.toList.drop 22 = dktX6_lose_1 := dk_seg dksX6_lose_0 22 rfl rfl
theorem dX6_lose_0 : decode cX6_lose 0 = .ok (.aload_n 0, 1) := dk_42 (dk_at dksX6_lose_0 0 rfl rfl)
theorem dX6_lose_1 : decode cX6_lose 1 = .ok (.getfield 42, 3) := dk_180 0 42 (dk_at dksX6_lose_0 1 rfl rfl)
theorem dX6_lose_4 : decode cX6_lose 4 = .ok (.iload_n 1, 1) := dk_27 (dk_at dksX6_lose_0 4 rfl rfl)
theorem dX6_lose_5 : decode cX6_lose 5 = .ok (.iaload, 1) := dk_46 (dk_at dksX6_lose_0 5 rfl rfl)
theorem dX6_lose_6 : decode cX6_lose 6 = .ok (.iconst 1, 1) := dk_4 (dk_at dksX6_lose_0 6 rfl rfl)
theorem dX6_lose_7 : decode cX6_lose 7 = .ok (.if_icmp .le 23, 3) := dk_164 0 23 (dk_at dksX6_lose_0 7 rfl rfl)
theorem dX6_lose_10 : decode cX6_lose 10 = .ok (.aload_n 0, 1) := dk_42 (dk_at dksX6_lose_0 10 rfl rfl)
theorem dX6_lose_11 : decode cX6_lose 11 = .ok (.getfield 42, 3) := dk_180 0 42 (dk_at dksX6_lose_0 11 rfl rfl)
theorem dX6_lose_14 : decode cX6_lose 14 = .ok (.iload_n 1, 1) := dk_27 (dk_at dksX6_lose_0 14 rfl rfl)
theorem dX6_lose_15 : decode cX6_lose 15 = .ok (.dup2, 1) := dk_92 (dk_at dksX6_lose_0 15 rfl rfl)
theorem dX6_lose_16 : decode cX6_lose 16 = .ok (.iaload, 1) := dk_46 (dk_at dksX6_lose_0 16 rfl rfl)
theorem dX6_lose_17 : decode cX6_lose 17 = .ok (.iconst 1, 1) := dk_4 (dk_at dksX6_lose_0 17 rfl rfl)
theorem dX6_lose_18 : decode cX6_lose 18 = .ok (.isub, 1) := dk_100 (dk_at dksX6_lose_0 18 rfl rfl)
theorem dX6_lose_19 : decode cX6_lose 19 = .ok (.iastore, 1) := dk_79 (dk_at dksX6_lose_0 19 rfl rfl)
theorem dX6_lose_20 : decode cX6_lose 20 = .ok (.aload_n 0, 1) := dk_42 (dk_at dksX6_lose_0 20 rfl rfl)
theorem dX6_lose_21 : decode cX6_lose 21 = .ok (.dup, 1) := dk_89 (dk_at dksX6_lose_0 21 rfl rfl)
theorem dX6_lose_22 : decode cX6_lose 22 = .ok (.getfield 369, 3) := dk_180 1 113 (dk_at dksX6_lose_1 0 rfl rfl)
theorem dX6_lose_25 : decode cX6_lose 25 = .ok (.iconst 1, 1) := dk_4 (dk_at dksX6_lose_1 3 rfl rfl)
theorem dX6_lose_26 : decode cX6_lose 26 = .ok (.iadd, 1) := dk_96 (dk_at dksX6_lose_1 4 rfl rfl)
theorem dX6_lose_27 : decode cX6_lose 27 = .ok (.putfield 369, 3) := dk_181 1 113 (dk_at dksX6_lose_1 5 rfl rfl)
theorem dX6_lose_30 : decode cX6_lose 30 = .ok (.return_, 1) := dk_177 (dk_at dksX6_lose_1 8 rfl rfl)
abbrev cX6_strike : ByteArray := prog_28_method_54_code
def yX6_strike : MethodName := ⟨RX6, "strike", "(II)V"⟩
def dkwX6_strike_7 : List UInt8 := [164, 0, 9, 4, 28, 120, 167, 0, 4, 3, 128, 181, 1, 144, 177]
abbrev dktX6_strike_7 : List UInt8 := dkwX6_strike_7 ++ []
def dkwX6_strike_6 : List UInt8 := [4, 96, 181, 1, 141, 42, 89, 180, 1, 144, 42, 180, 0, 42, 28, 46, 5, 42, 180, 0, 42, 27, 46, 104]
abbrev dktX6_strike_6 : List UInt8 := dkwX6_strike_6 ++ dktX6_strike_7
def dkwX6_strike_5 : List UInt8 := [180, 0, 42, 27, 92, 46, 4, 100, 79, 42, 180, 0, 42, 28, 92, 46, 4, 96, 79, 42, 89, 180, 1, 141]
abbrev dktX6_strike_5 : List UInt8 := dkwX6_strike_5 ++ dktX6_strike_6
def dkwX6_strike_4 : List UInt8 := [16, 100, 182, 1, 135, 42, 180, 1, 132, 162, 0, 14, 42, 89, 180, 1, 138, 4, 96, 181, 1, 138, 177, 42]
abbrev dktX6_strike_4 : List UInt8 := dkwX6_strike_4 ++ dktX6_strike_5
def dkwX6_strike_3 : List UInt8 := [154, 0, 7, 4, 167, 0, 4, 3, 54, 4, 21, 4, 153, 0, 24, 42, 180, 1, 132, 2, 159, 0, 27, 42]
abbrev dktX6_strike_3 : List UInt8 := dkwX6_strike_3 ++ dktX6_strike_4
def dkwX6_strike_2 : List UInt8 := [5, 161, 0, 29, 42, 180, 0, 42, 28, 46, 16, 9, 159, 0, 18, 42, 180, 1, 129, 29, 122, 4, 126]
abbrev dktX6_strike_2 : List UInt8 := dkwX6_strike_2 ++ dktX6_strike_3
def dkwX6_strike_1 : List UInt8 := [182, 1, 125, 154, 0, 4, 177, 27, 28, 162, 0, 7, 27, 167, 0, 4, 28, 62, 42, 180, 0, 42, 27, 46]
abbrev dktX6_strike_1 : List UInt8 := dkwX6_strike_1 ++ dktX6_strike_2
def dkwX6_strike_0 : List UInt8 := [42, 42, 27, 182, 1, 122, 154, 0, 11, 42, 28, 182, 1, 122, 153, 0, 7, 4, 167, 0, 4, 3, 27]
abbrev dktX6_strike_0 : List UInt8 := dkwX6_strike_0 ++ dktX6_strike_1
theorem dksX6_strike_0 : cX6_strike.data.toList.drop 0 = dktX6_strike_0 := by decide +kernel
theorem dksX6_strike_1 : cX6_strike.data.toList.drop 23 = dktX6_strike_1 := dk_seg dksX6_strike_0 23 rfl rfl
theorem dksX6_strike_2 : cX6_strike.data.toList.drop 47 = dktX6_strike_2 := dk_seg dksX6_strike_1 24 rfl rfl
theorem dksX6_strike_3 : cX6_strike.data.toList.drop 70 = dktX6_strike_3 := dk_seg dksX6_strike_2 23 rfl rfl
theorem dksX6_strike_4 : cX6_strike.data.toList.drop 94 = dktX6_strike_4 := dk_seg dksX6_strike_3 24 rfl rfl
theorem dksX6_strike_5 : cX6_strike.data.toList.drop 118 = dktX6_strike_5 := dk_seg dksX6_strike_4 24 rfl rfl
theorem dksX6_strike_6 : cX6_strike.data.toList.drop 142 = dktX6_strike_6 := dk_seg dksX6_strike_5 24 rfl rfl
theorem dksX6_strike_7 : cX6_strike.data.toList.drop 166 = dktX6_strike_7 := dk_seg dksX6_strike_6 24 rfl rfl
theorem dX6_strike_0 : decode cX6_strike 0 = .ok (.aload_n 0, 1) := dk_42 (dk_at dksX6_strike_0 0 rfl rfl)
theorem dX6_strike_1 : decode cX6_strike 1 = .ok (.aload_n 0, 1) := dk_42 (dk_at dksX6_strike_0 1 rfl rfl)
theorem dX6_strike_2 : decode cX6_strike 2 = .ok (.iload_n 1, 1) := dk_27 (dk_at dksX6_strike_0 2 rfl rfl)
theorem dX6_strike_3 : decode cX6_strike 3 = .ok (.invokevirtual 378, 3) := dk_182 1 122 (dk_at dksX6_strike_0 3 rfl rfl)
theorem dX6_strike_6 : decode cX6_strike 6 = .ok (.ifCond .ne 11, 3) := dk_154 0 11 (dk_at dksX6_strike_0 6 rfl rfl)
theorem dX6_strike_9 : decode cX6_strike 9 = .ok (.aload_n 0, 1) := dk_42 (dk_at dksX6_strike_0 9 rfl rfl)
theorem dX6_strike_10 : decode cX6_strike 10 = .ok (.iload_n 2, 1) := dk_28 (dk_at dksX6_strike_0 10 rfl rfl)
theorem dX6_strike_11 : decode cX6_strike 11 = .ok (.invokevirtual 378, 3) := dk_182 1 122 (dk_at dksX6_strike_0 11 rfl rfl)
theorem dX6_strike_14 : decode cX6_strike 14 = .ok (.ifCond .eq 7, 3) := dk_153 0 7 (dk_at dksX6_strike_0 14 rfl rfl)
theorem dX6_strike_17 : decode cX6_strike 17 = .ok (.iconst 1, 1) := dk_4 (dk_at dksX6_strike_0 17 rfl rfl)
theorem dX6_strike_18 : decode cX6_strike 18 = .ok (.goto 4, 3) := dk_167 0 4 (dk_at dksX6_strike_0 18 rfl rfl)
theorem dX6_strike_21 : decode cX6_strike 21 = .ok (.iconst 0, 1) := dk_3 (dk_at dksX6_strike_0 21 rfl rfl)
theorem dX6_strike_22 : decode cX6_strike 22 = .ok (.iload_n 1, 1) := dk_27 (dk_at dksX6_strike_0 22 rfl rfl)
theorem dX6_strike_23 : decode cX6_strike 23 = .ok (.invokevirtual 381, 3) := dk_182 1 125 (dk_at dksX6_strike_1 0 rfl rfl)
theorem dX6_strike_26 : decode cX6_strike 26 = .ok (.ifCond .ne 4, 3) := dk_154 0 4 (dk_at dksX6_strike_1 3 rfl rfl)
theorem dX6_strike_29 : decode cX6_strike 29 = .ok (.return_, 1) := dk_177 (dk_at dksX6_strike_1 6 rfl rfl)
theorem dX6_strike_30 : decode cX6_strike 30 = .ok (.iload_n 1, 1) := dk_27 (dk_at dksX6_strike_1 7 rfl rfl)
theorem dX6_strike_31 : decode cX6_strike 31 = .ok (.iload_n 2, 1) := dk_28 (dk_at dksX6_strike_1 8 rfl rfl)
theorem dX6_strike_32 : decode cX6_strike 32 = .ok (.if_icmp .ge 7, 3) := dk_162 0 7 (dk_at dksX6_strike_1 9 rfl rfl)
theorem dX6_strike_35 : decode cX6_strike 35 = .ok (.iload_n 1, 1) := dk_27 (dk_at dksX6_strike_1 12 rfl rfl)
theorem dX6_strike_36 : decode cX6_strike 36 = .ok (.goto 4, 3) := dk_167 0 4 (dk_at dksX6_strike_1 13 rfl rfl)
theorem dX6_strike_39 : decode cX6_strike 39 = .ok (.iload_n 2, 1) := dk_28 (dk_at dksX6_strike_1 16 rfl rfl)
theorem dX6_strike_40 : decode cX6_strike 40 = .ok (.istore_n 3, 1) := dk_62 (dk_at dksX6_strike_1 17 rfl rfl)
theorem dX6_strike_41 : decode cX6_strike 41 = .ok (.aload_n 0, 1) := dk_42 (dk_at dksX6_strike_1 18 rfl rfl)
theorem dX6_strike_42 : decode cX6_strike 42 = .ok (.getfield 42, 3) := dk_180 0 42 (dk_at dksX6_strike_1 19 rfl rfl)
theorem dX6_strike_45 : decode cX6_strike 45 = .ok (.iload_n 1, 1) := dk_27 (dk_at dksX6_strike_1 22 rfl rfl)
theorem dX6_strike_46 : decode cX6_strike 46 = .ok (.iaload, 1) := dk_46 (dk_at dksX6_strike_1 23 rfl rfl)
theorem dX6_strike_47 : decode cX6_strike 47 = .ok (.iconst 2, 1) := dk_5 (dk_at dksX6_strike_2 0 rfl rfl)
theorem dX6_strike_48 : decode cX6_strike 48 = .ok (.if_icmp .lt 29, 3) := dk_161 0 29 (dk_at dksX6_strike_2 1 rfl rfl)
theorem dX6_strike_51 : decode cX6_strike 51 = .ok (.aload_n 0, 1) := dk_42 (dk_at dksX6_strike_2 4 rfl rfl)
theorem dX6_strike_52 : decode cX6_strike 52 = .ok (.getfield 42, 3) := dk_180 0 42 (dk_at dksX6_strike_2 5 rfl rfl)
theorem dX6_strike_55 : decode cX6_strike 55 = .ok (.iload_n 2, 1) := dk_28 (dk_at dksX6_strike_2 8 rfl rfl)
theorem dX6_strike_56 : decode cX6_strike 56 = .ok (.iaload, 1) := dk_46 (dk_at dksX6_strike_2 9 rfl rfl)
theorem dX6_strike_57 : decode cX6_strike 57 = .ok (.bipush 9, 2) := dk_16 9 (dk_at dksX6_strike_2 10 rfl rfl)
theorem dX6_strike_59 : decode cX6_strike 59 = .ok (.if_icmp .eq 18, 3) := dk_159 0 18 (dk_at dksX6_strike_2 12 rfl rfl)
theorem dX6_strike_62 : decode cX6_strike 62 = .ok (.aload_n 0, 1) := dk_42 (dk_at dksX6_strike_2 15 rfl rfl)
theorem dX6_strike_63 : decode cX6_strike 63 = .ok (.getfield 385, 3) := dk_180 1 129 (dk_at dksX6_strike_2 16 rfl rfl)
theorem dX6_strike_66 : decode cX6_strike 66 = .ok (.iload_n 3, 1) := dk_29 (dk_at dksX6_strike_2 19 rfl rfl)
theorem dX6_strike_67 : decode cX6_strike 67 = .ok (.ishr, 1) := dk_122 (dk_at dksX6_strike_2 20 rfl rfl)
theorem dX6_strike_68 : decode cX6_strike 68 = .ok (.iconst 1, 1) := dk_4 (dk_at dksX6_strike_2 21 rfl rfl)
theorem dX6_strike_69 : decode cX6_strike 69 = .ok (.iand, 1) := dk_126 (dk_at dksX6_strike_2 22 rfl rfl)
theorem dX6_strike_70 : decode cX6_strike 70 = .ok (.ifCond .ne 7, 3) := dk_154 0 7 (dk_at dksX6_strike_3 0 rfl rfl)
theorem dX6_strike_73 : decode cX6_strike 73 = .ok (.iconst 1, 1) := dk_4 (dk_at dksX6_strike_3 3 rfl rfl)
theorem dX6_strike_74 : decode cX6_strike 74 = .ok (.goto 4, 3) := dk_167 0 4 (dk_at dksX6_strike_3 4 rfl rfl)
theorem dX6_strike_77 : decode cX6_strike 77 = .ok (.iconst 0, 1) := dk_3 (dk_at dksX6_strike_3 7 rfl rfl)
theorem dX6_strike_78 : decode cX6_strike 78 = .ok (.istore 4, 2) := dk_54 4 (dk_at dksX6_strike_3 8 rfl rfl)
theorem dX6_strike_80 : decode cX6_strike 80 = .ok (.iload 4, 2) := dk_21 4 (dk_at dksX6_strike_3 10 rfl rfl)
theorem dX6_strike_82 : decode cX6_strike 82 = .ok (.ifCond .eq 24, 3) := dk_153 0 24 (dk_at dksX6_strike_3 12 rfl rfl)
theorem dX6_strike_85 : decode cX6_strike 85 = .ok (.aload_n 0, 1) := dk_42 (dk_at dksX6_strike_3 15 rfl rfl)
theorem dX6_strike_86 : decode cX6_strike 86 = .ok (.getfield 388, 3) := dk_180 1 132 (dk_at dksX6_strike_3 16 rfl rfl)
theorem dX6_strike_89 : decode cX6_strike 89 = .ok (.iconst (-1), 1) := dk_2 (dk_at dksX6_strike_3 19 rfl rfl)
theorem dX6_strike_90 : decode cX6_strike 90 = .ok (.if_icmp .eq 27, 3) := dk_159 0 27 (dk_at dksX6_strike_3 20 rfl rfl)
theorem dX6_strike_93 : decode cX6_strike 93 = .ok (.aload_n 0, 1) := dk_42 (dk_at dksX6_strike_3 23 rfl rfl)
theorem dX6_strike_94 : decode cX6_strike 94 = .ok (.bipush 100, 2) := dk_16 100 (dk_at dksX6_strike_4 0 rfl rfl)
theorem dX6_strike_96 : decode cX6_strike 96 = .ok (.invokevirtual 391, 3) := dk_182 1 135 (dk_at dksX6_strike_4 2 rfl rfl)
theorem dX6_strike_99 : decode cX6_strike 99 = .ok (.aload_n 0, 1) := dk_42 (dk_at dksX6_strike_4 5 rfl rfl)
theorem dX6_strike_100 : decode cX6_strike 100 = .ok (.getfield 388, 3) := dk_180 1 132 (dk_at dksX6_strike_4 6 rfl rfl)
theorem dX6_strike_103 : decode cX6_strike 103 = .ok (.if_icmp .ge 14, 3) := dk_162 0 14 (dk_at dksX6_strike_4 9 rfl rfl)
theorem dX6_strike_106 : decode cX6_strike 106 = .ok (.aload_n 0, 1) := dk_42 (dk_at dksX6_strike_4 12 rfl rfl)
theorem dX6_strike_107 : decode cX6_strike 107 = .ok (.dup, 1) := dk_89 (dk_at dksX6_strike_4 13 rfl rfl)
theorem dX6_strike_108 : decode cX6_strike 108 = .ok (.getfield 394, 3) := dk_180 1 138 (dk_at dksX6_strike_4 14 rfl rfl)
theorem dX6_strike_111 : decode cX6_strike 111 = .ok (.iconst 1, 1) := dk_4 (dk_at dksX6_strike_4 17 rfl rfl)
theorem dX6_strike_112 : decode cX6_strike 112 = .ok (.iadd, 1) := dk_96 (dk_at dksX6_strike_4 18 rfl rfl)
theorem dX6_strike_113 : decode cX6_strike 113 = .ok (.putfield 394, 3) := dk_181 1 138 (dk_at dksX6_strike_4 19 rfl rfl)
theorem dX6_strike_116 : decode cX6_strike 116 = .ok (.return_, 1) := dk_177 (dk_at dksX6_strike_4 22 rfl rfl)
theorem dX6_strike_117 : decode cX6_strike 117 = .ok (.aload_n 0, 1) := dk_42 (dk_at dksX6_strike_4 23 rfl rfl)
theorem dX6_strike_118 : decode cX6_strike 118 = .ok (.getfield 42, 3) := dk_180 0 42 (dk_at dksX6_strike_5 0 rfl rfl)
theorem dX6_strike_121 : decode cX6_strike 121 = .ok (.iload_n 1, 1) := dk_27 (dk_at dksX6_strike_5 3 rfl rfl)
theorem dX6_strike_122 : decode cX6_strike 122 = .ok (.dup2, 1) := dk_92 (dk_at dksX6_strike_5 4 rfl rfl)
theorem dX6_strike_123 : decode cX6_strike 123 = .ok (.iaload, 1) := dk_46 (dk_at dksX6_strike_5 5 rfl rfl)
theorem dX6_strike_124 : decode cX6_strike 124 = .ok (.iconst 1, 1) := dk_4 (dk_at dksX6_strike_5 6 rfl rfl)
theorem dX6_strike_125 : decode cX6_strike 125 = .ok (.isub, 1) := dk_100 (dk_at dksX6_strike_5 7 rfl rfl)
theorem dX6_strike_126 : decode cX6_strike 126 = .ok (.iastore, 1) := dk_79 (dk_at dksX6_strike_5 8 rfl rfl)
theorem dX6_strike_127 : decode cX6_strike 127 = .ok (.aload_n 0, 1) := dk_42 (dk_at dksX6_strike_5 9 rfl rfl)
theorem dX6_strike_128 : decode cX6_strike 128 = .ok (.getfield 42, 3) := dk_180 0 42 (dk_at dksX6_strike_5 10 rfl rfl)
theorem dX6_strike_131 : decode cX6_strike 131 = .ok (.iload_n 2, 1) := dk_28 (dk_at dksX6_strike_5 13 rfl rfl)
theorem dX6_strike_132 : decode cX6_strike 132 = .ok (.dup2, 1) := dk_92 (dk_at dksX6_strike_5 14 rfl rfl)
theorem dX6_strike_133 : decode cX6_strike 133 = .ok (.iaload, 1) := dk_46 (dk_at dksX6_strike_5 15 rfl rfl)
theorem dX6_strike_134 : decode cX6_strike 134 = .ok (.iconst 1, 1) := dk_4 (dk_at dksX6_strike_5 16 rfl rfl)
theorem dX6_strike_135 : decode cX6_strike 135 = .ok (.iadd, 1) := dk_96 (dk_at dksX6_strike_5 17 rfl rfl)
theorem dX6_strike_136 : decode cX6_strike 136 = .ok (.iastore, 1) := dk_79 (dk_at dksX6_strike_5 18 rfl rfl)
theorem dX6_strike_137 : decode cX6_strike 137 = .ok (.aload_n 0, 1) := dk_42 (dk_at dksX6_strike_5 19 rfl rfl)
theorem dX6_strike_138 : decode cX6_strike 138 = .ok (.dup, 1) := dk_89 (dk_at dksX6_strike_5 20 rfl rfl)
theorem dX6_strike_139 : decode cX6_strike 139 = .ok (.getfield 397, 3) := dk_180 1 141 (dk_at dksX6_strike_5 21 rfl rfl)
theorem dX6_strike_142 : decode cX6_strike 142 = .ok (.iconst 1, 1) := dk_4 (dk_at dksX6_strike_6 0 rfl rfl)
theorem dX6_strike_143 : decode cX6_strike 143 = .ok (.iadd, 1) := dk_96 (dk_at dksX6_strike_6 1 rfl rfl)
theorem dX6_strike_144 : decode cX6_strike 144 = .ok (.putfield 397, 3) := dk_181 1 141 (dk_at dksX6_strike_6 2 rfl rfl)
theorem dX6_strike_147 : decode cX6_strike 147 = .ok (.aload_n 0, 1) := dk_42 (dk_at dksX6_strike_6 5 rfl rfl)
theorem dX6_strike_148 : decode cX6_strike 148 = .ok (.dup, 1) := dk_89 (dk_at dksX6_strike_6 6 rfl rfl)
theorem dX6_strike_149 : decode cX6_strike 149 = .ok (.getfield 400, 3) := dk_180 1 144 (dk_at dksX6_strike_6 7 rfl rfl)
theorem dX6_strike_152 : decode cX6_strike 152 = .ok (.aload_n 0, 1) := dk_42 (dk_at dksX6_strike_6 10 rfl rfl)
theorem dX6_strike_153 : decode cX6_strike 153 = .ok (.getfield 42, 3) := dk_180 0 42 (dk_at dksX6_strike_6 11 rfl rfl)
theorem dX6_strike_156 : decode cX6_strike 156 = .ok (.iload_n 2, 1) := dk_28 (dk_at dksX6_strike_6 14 rfl rfl)
theorem dX6_strike_157 : decode cX6_strike 157 = .ok (.iaload, 1) := dk_46 (dk_at dksX6_strike_6 15 rfl rfl)
theorem dX6_strike_158 : decode cX6_strike 158 = .ok (.iconst 2, 1) := dk_5 (dk_at dksX6_strike_6 16 rfl rfl)
theorem dX6_strike_159 : decode cX6_strike 159 = .ok (.aload_n 0, 1) := dk_42 (dk_at dksX6_strike_6 17 rfl rfl)
theorem dX6_strike_160 : decode cX6_strike 160 = .ok (.getfield 42, 3) := dk_180 0 42 (dk_at dksX6_strike_6 18 rfl rfl)
theorem dX6_strike_163 : decode cX6_strike 163 = .ok (.iload_n 1, 1) := dk_27 (dk_at dksX6_strike_6 21 rfl rfl)
theorem dX6_strike_164 : decode cX6_strike 164 = .ok (.iaload, 1) := dk_46 (dk_at dksX6_strike_6 22 rfl rfl)
theorem dX6_strike_165 : decode cX6_strike 165 = .ok (.imul, 1) := dk_104 (dk_at dksX6_strike_6 23 rfl rfl)
theorem dX6_strike_166 : decode cX6_strike 166 = .ok (.if_icmp .le 9, 3) := dk_164 0 9 (dk_at dksX6_strike_7 0 rfl rfl)
theorem dX6_strike_169 : decode cX6_strike 169 = .ok (.iconst 1, 1) := dk_4 (dk_at dksX6_strike_7 3 rfl rfl)
theorem dX6_strike_170 : decode cX6_strike 170 = .ok (.iload_n 2, 1) := dk_28 (dk_at dksX6_strike_7 4 rfl rfl)
theorem dX6_strike_171 : decode cX6_strike 171 = .ok (.ishl, 1) := dk_120 (dk_at dksX6_strike_7 5 rfl rfl)
theorem dX6_strike_172 : decode cX6_strike 172 = .ok (.goto 4, 3) := dk_167 0 4 (dk_at dksX6_strike_7 6 rfl rfl)
theorem dX6_strike_175 : decode cX6_strike 175 = .ok (.iconst 0, 1) := dk_3 (dk_at dksX6_strike_7 9 rfl rfl)
theorem dX6_strike_176 : decode cX6_strike 176 = .ok (.ior, 1) := dk_128 (dk_at dksX6_strike_7 10 rfl rfl)
theorem dX6_strike_177 : decode cX6_strike 177 = .ok (.putfield 400, 3) := dk_181 1 144 (dk_at dksX6_strike_7 11 rfl rfl)
theorem dX6_strike_180 : decode cX6_strike 180 = .ok (.return_, 1) := dk_177 (dk_at dksX6_strike_7 14 rfl rfl)
abbrev cX6_isHot : ByteArray := prog_28_method_50_code
def yX6_isHot : MethodName := ⟨RX6, "isHot", "(I)Z"⟩
def dkwX6_isHot_0 : List UInt8 := [42, 180, 1, 88, 27, 122, 4, 126, 4, 160, 0, 7, 4, 167, 0, 4, 3, 172]
abbrev dktX6_isHot_0 : List UInt8 := dkwX6_isHot_0 ++ []
theorem dksX6_isHot_0 : cX6_isHot.data.toList.drop 0 = dktX6_isHot_0 := by decide +kernel
theorem dX6_isHot_0 : decode cX6_isHot 0 = .ok (.aload_n 0, 1) := dk_42 (dk_at dksX6_isHot_0 0 rfl rfl)
theorem dX6_isHot_1 : decode cX6_isHot 1 = .ok (.getfield 344, 3) := dk_180 1 88 (dk_at dksX6_isHot_0 1 rfl rfl)
theorem dX6_isHot_4 : decode cX6_isHot 4 = .ok (.iload_n 1, 1) := dk_27 (dk_at dksX6_isHot_0 4 rfl rfl)
theorem dX6_isHot_5 : decode cX6_isHot 5 = .ok (.ishr, 1) := dk_122 (dk_at dksX6_isHot_0 5 rfl rfl)
theorem dX6_isHot_6 : decode cX6_isHot 6 = .ok (.iconst 1, 1) := dk_4 (dk_at dksX6_isHot_0 6 rfl rfl)
theorem dX6_isHot_7 : decode cX6_isHot 7 = .ok (.iand, 1) := dk_126 (dk_at dksX6_isHot_0 7 rfl rfl)
theorem dX6_isHot_8 : decode cX6_isHot 8 = .ok (.iconst 1, 1) := dk_4 (dk_at dksX6_isHot_0 8 rfl rfl)
theorem dX6_isHot_9 : decode cX6_isHot 9 = .ok (.if_icmp .ne 7, 3) := dk_160 0 7 (dk_at dksX6_isHot_0 9 rfl rfl)
theorem dX6_isHot_12 : decode cX6_isHot 12 = .ok (.iconst 1, 1) := dk_4 (dk_at dksX6_isHot_0 12 rfl rfl)
theorem dX6_isHot_13 : decode cX6_isHot 13 = .ok (.goto 4, 3) := dk_167 0 4 (dk_at dksX6_isHot_0 13 rfl rfl)
theorem dX6_isHot_16 : decode cX6_isHot 16 = .ok (.iconst 0, 1) := dk_3 (dk_at dksX6_isHot_0 16 rfl rfl)
theorem dX6_isHot_17 : decode cX6_isHot 17 = .ok (.ireturn, 1) := dk_172 (dk_at dksX6_isHot_0 17 rfl rfl)
abbrev cX6_uses : ByteArray := prog_28_method_53_code
def yX6_uses : MethodName := ⟨RX6, "uses", "(ZI)Z"⟩
def dkwX6_uses_2 : List UInt8 := [180, 1, 85, 4, 96, 181, 1, 85, 4, 172]
abbrev dktX6_uses_2 : List UInt8 := dkwX6_uses_2 ++ []
def dkwX6_uses_1 : List UInt8 := [180, 1, 119, 4, 28, 120, 128, 181, 1, 119, 3, 172, 42, 89, 180, 1, 79, 4, 100, 181, 1, 79, 42, 89]
abbrev dktX6_uses_1 : List UInt8 := dkwX6_uses_1 ++ dktX6_uses_2
def dkwX6_uses_0 : List UInt8 := [42, 180, 1, 79, 153, 0, 7, 27, 154, 0, 27, 42, 89, 180, 1, 116, 4, 96, 181, 1, 116, 42, 89]
abbrev dktX6_uses_0 : List UInt8 := dkwX6_uses_0 ++ dktX6_uses_1
theorem dksX6_uses_0 : cX6_uses.data.toList.drop 0 = dktX6_uses_0 := by decide +kernel
theorem dksX6_uses_1 : cX6_uses.data.toList.drop 23 = dktX6_uses_1 := dk_seg dksX6_uses_0 23 rfl rfl
theorem dksX6_uses_2 : cX6_uses.data.toList.drop 47 = dktX6_uses_2 := dk_seg dksX6_uses_1 24 rfl rfl
theorem dX6_uses_0 : decode cX6_uses 0 = .ok (.aload_n 0, 1) := dk_42 (dk_at dksX6_uses_0 0 rfl rfl)
theorem dX6_uses_1 : decode cX6_uses 1 = .ok (.getfield 335, 3) := dk_180 1 79 (dk_at dksX6_uses_0 1 rfl rfl)
theorem dX6_uses_4 : decode cX6_uses 4 = .ok (.ifCond .eq 7, 3) := dk_153 0 7 (dk_at dksX6_uses_0 4 rfl rfl)
theorem dX6_uses_7 : decode cX6_uses 7 = .ok (.iload_n 1, 1) := dk_27 (dk_at dksX6_uses_0 7 rfl rfl)
theorem dX6_uses_8 : decode cX6_uses 8 = .ok (.ifCond .ne 27, 3) := dk_154 0 27 (dk_at dksX6_uses_0 8 rfl rfl)
theorem dX6_uses_11 : decode cX6_uses 11 = .ok (.aload_n 0, 1) := dk_42 (dk_at dksX6_uses_0 11 rfl rfl)
theorem dX6_uses_12 : decode cX6_uses 12 = .ok (.dup, 1) := dk_89 (dk_at dksX6_uses_0 12 rfl rfl)
theorem dX6_uses_13 : decode cX6_uses 13 = .ok (.getfield 372, 3) := dk_180 1 116 (dk_at dksX6_uses_0 13 rfl rfl)
theorem dX6_uses_16 : decode cX6_uses 16 = .ok (.iconst 1, 1) := dk_4 (dk_at dksX6_uses_0 16 rfl rfl)
theorem dX6_uses_17 : decode cX6_uses 17 = .ok (.iadd, 1) := dk_96 (dk_at dksX6_uses_0 17 rfl rfl)
theorem dX6_uses_18 : decode cX6_uses 18 = .ok (.putfield 372, 3) := dk_181 1 116 (dk_at dksX6_uses_0 18 rfl rfl)
theorem dX6_uses_21 : decode cX6_uses 21 = .ok (.aload_n 0, 1) := dk_42 (dk_at dksX6_uses_0 21 rfl rfl)
theorem dX6_uses_22 : decode cX6_uses 22 = .ok (.dup, 1) := dk_89 (dk_at dksX6_uses_0 22 rfl rfl)
theorem dX6_uses_23 : decode cX6_uses 23 = .ok (.getfield 375, 3) := dk_180 1 119 (dk_at dksX6_uses_1 0 rfl rfl)
theorem dX6_uses_26 : decode cX6_uses 26 = .ok (.iconst 1, 1) := dk_4 (dk_at dksX6_uses_1 3 rfl rfl)
theorem dX6_uses_27 : decode cX6_uses 27 = .ok (.iload_n 2, 1) := dk_28 (dk_at dksX6_uses_1 4 rfl rfl)
theorem dX6_uses_28 : decode cX6_uses 28 = .ok (.ishl, 1) := dk_120 (dk_at dksX6_uses_1 5 rfl rfl)
theorem dX6_uses_29 : decode cX6_uses 29 = .ok (.ior, 1) := dk_128 (dk_at dksX6_uses_1 6 rfl rfl)
theorem dX6_uses_30 : decode cX6_uses 30 = .ok (.putfield 375, 3) := dk_181 1 119 (dk_at dksX6_uses_1 7 rfl rfl)
theorem dX6_uses_33 : decode cX6_uses 33 = .ok (.iconst 0, 1) := dk_3 (dk_at dksX6_uses_1 10 rfl rfl)
theorem dX6_uses_34 : decode cX6_uses 34 = .ok (.ireturn, 1) := dk_172 (dk_at dksX6_uses_1 11 rfl rfl)
theorem dX6_uses_35 : decode cX6_uses 35 = .ok (.aload_n 0, 1) := dk_42 (dk_at dksX6_uses_1 12 rfl rfl)
theorem dX6_uses_36 : decode cX6_uses 36 = .ok (.dup, 1) := dk_89 (dk_at dksX6_uses_1 13 rfl rfl)
theorem dX6_uses_37 : decode cX6_uses 37 = .ok (.getfield 335, 3) := dk_180 1 79 (dk_at dksX6_uses_1 14 rfl rfl)
theorem dX6_uses_40 : decode cX6_uses 40 = .ok (.iconst 1, 1) := dk_4 (dk_at dksX6_uses_1 17 rfl rfl)
theorem dX6_uses_41 : decode cX6_uses 41 = .ok (.isub, 1) := dk_100 (dk_at dksX6_uses_1 18 rfl rfl)
theorem dX6_uses_42 : decode cX6_uses 42 = .ok (.putfield 335, 3) := dk_181 1 79 (dk_at dksX6_uses_1 19 rfl rfl)
theorem dX6_uses_45 : decode cX6_uses 45 = .ok (.aload_n 0, 1) := dk_42 (dk_at dksX6_uses_1 22 rfl rfl)
theorem dX6_uses_46 : decode cX6_uses 46 = .ok (.dup, 1) := dk_89 (dk_at dksX6_uses_1 23 rfl rfl)
theorem dX6_uses_47 : decode cX6_uses 47 = .ok (.getfield 341, 3) := dk_180 1 85 (dk_at dksX6_uses_2 0 rfl rfl)
theorem dX6_uses_50 : decode cX6_uses 50 = .ok (.iconst 1, 1) := dk_4 (dk_at dksX6_uses_2 3 rfl rfl)
theorem dX6_uses_51 : decode cX6_uses 51 = .ok (.iadd, 1) := dk_96 (dk_at dksX6_uses_2 4 rfl rfl)
theorem dX6_uses_52 : decode cX6_uses 52 = .ok (.putfield 341, 3) := dk_181 1 85 (dk_at dksX6_uses_2 5 rfl rfl)
theorem dX6_uses_55 : decode cX6_uses 55 = .ok (.iconst 1, 1) := dk_4 (dk_at dksX6_uses_2 8 rfl rfl)
theorem dX6_uses_56 : decode cX6_uses 56 = .ok (.ireturn, 1) := dk_172 (dk_at dksX6_uses_2 9 rfl rfl)
abbrev cX6_draw : ByteArray := prog_28_method_48_code
def yX6_draw : MethodName := ⟨RX6, "draw", "(I)I"⟩
def dkwX6_draw_1 : List UInt8 := [27, 133, 113, 136, 172]
abbrev dktX6_draw_1 : List UInt8 := dkwX6_draw_1 ++ []
def dkwX6_draw_0 : List UInt8 := [42, 42, 180, 1, 94, 20, 1, 97, 105, 20, 1, 99, 97, 20, 1, 101, 113, 181, 1, 94, 42, 180, 1, 94]
abbrev dktX6_draw_0 : List UInt8 := dkwX6_draw_0 ++ dktX6_draw_1
theorem dksX6_draw_0 : cX6_draw.data.toList.drop 0 = dktX6_draw_0 := by decide +kernel
theorem dksX6_draw_1 : cX6_draw.data.toList.drop 24 = dktX6_draw_1 := dk_seg dksX6_draw_0 24 rfl rfl
theorem dX6_draw_0 : decode cX6_draw 0 = .ok (.aload_n 0, 1) := dk_42 (dk_at dksX6_draw_0 0 rfl rfl)
theorem dX6_draw_1 : decode cX6_draw 1 = .ok (.aload_n 0, 1) := dk_42 (dk_at dksX6_draw_0 1 rfl rfl)
theorem dX6_draw_2 : decode cX6_draw 2 = .ok (.getfield 350, 3) := dk_180 1 94 (dk_at dksX6_draw_0 2 rfl rfl)
theorem dX6_draw_5 : decode cX6_draw 5 = .ok (.ldc2_w 353, 3) := dk_20 1 97 (dk_at dksX6_draw_0 5 rfl rfl)
theorem dX6_draw_8 : decode cX6_draw 8 = .ok (.lmul, 1) := dk_105 (dk_at dksX6_draw_0 8 rfl rfl)
theorem dX6_draw_9 : decode cX6_draw 9 = .ok (.ldc2_w 355, 3) := dk_20 1 99 (dk_at dksX6_draw_0 9 rfl rfl)
theorem dX6_draw_12 : decode cX6_draw 12 = .ok (.ladd, 1) := dk_97 (dk_at dksX6_draw_0 12 rfl rfl)
theorem dX6_draw_13 : decode cX6_draw 13 = .ok (.ldc2_w 357, 3) := dk_20 1 101 (dk_at dksX6_draw_0 13 rfl rfl)
theorem dX6_draw_16 : decode cX6_draw 16 = .ok (.lrem, 1) := dk_113 (dk_at dksX6_draw_0 16 rfl rfl)
theorem dX6_draw_17 : decode cX6_draw 17 = .ok (.putfield 350, 3) := dk_181 1 94 (dk_at dksX6_draw_0 17 rfl rfl)
theorem dX6_draw_20 : decode cX6_draw 20 = .ok (.aload_n 0, 1) := dk_42 (dk_at dksX6_draw_0 20 rfl rfl)
theorem dX6_draw_21 : decode cX6_draw 21 = .ok (.getfield 350, 3) := dk_180 1 94 (dk_at dksX6_draw_0 21 rfl rfl)
theorem dX6_draw_24 : decode cX6_draw 24 = .ok (.iload_n 1, 1) := dk_27 (dk_at dksX6_draw_1 0 rfl rfl)
theorem dX6_draw_25 : decode cX6_draw 25 = .ok (.i2l, 1) := dk_133 (dk_at dksX6_draw_1 1 rfl rfl)
theorem dX6_draw_26 : decode cX6_draw 26 = .ok (.lrem, 1) := dk_113 (dk_at dksX6_draw_1 2 rfl rfl)
theorem dX6_draw_27 : decode cX6_draw 27 = .ok (.l2i, 1) := dk_136 (dk_at dksX6_draw_1 3 rfl rfl)
theorem dX6_draw_28 : decode cX6_draw 28 = .ok (.ireturn, 1) := dk_172 (dk_at dksX6_draw_1 4 rfl rfl)
abbrev cX6_punch : ByteArray := prog_28_method_55_code
def yX6_punch : MethodName := ⟨RX6, "punch", "(I)V"⟩
def dkwX6_punch_2 : List UInt8 := [182, 1, 110, 177]
abbrev dktX6_punch_2 : List UInt8 := dkwX6_punch_2 ++ []
def dkwX6_punch_1 : List UInt8 := [42, 180, 0, 45, 27, 46, 5, 160, 0, 20, 42, 89, 180, 1, 147, 4, 27, 120, 128, 181, 1, 147, 42, 27]
abbrev dktX6_punch_1 : List UInt8 := dkwX6_punch_1 ++ dktX6_punch_2
def dkwX6_punch_0 : List UInt8 := [42, 42, 27, 182, 1, 122, 27, 182, 1, 125, 154, 0, 4, 177, 42, 180, 0, 45, 27, 92, 46, 4, 96, 79]
abbrev dktX6_punch_0 : List UInt8 := dkwX6_punch_0 ++ dktX6_punch_1
theorem dksX6_punch_0 : cX6_punch.data.toList.drop 0 = dktX6_punch_0 := by decide +kernel
theorem dksX6_punch_1 : cX6_punch.data.toList.drop 24 = dktX6_punch_1 := dk_seg dksX6_punch_0 24 rfl rfl
theorem dksX6_punch_2 : cX6_punch.data.toList.drop 48 = dktX6_punch_2 := dk_seg dksX6_punch_1 24 rfl rfl
theorem dX6_punch_0 : decode cX6_punch 0 = .ok (.aload_n 0, 1) := dk_42 (dk_at dksX6_punch_0 0 rfl rfl)
theorem dX6_punch_1 : decode cX6_punch 1 = .ok (.aload_n 0, 1) := dk_42 (dk_at dksX6_punch_0 1 rfl rfl)
theorem dX6_punch_2 : decode cX6_punch 2 = .ok (.iload_n 1, 1) := dk_27 (dk_at dksX6_punch_0 2 rfl rfl)
theorem dX6_punch_3 : decode cX6_punch 3 = .ok (.invokevirtual 378, 3) := dk_182 1 122 (dk_at dksX6_punch_0 3 rfl rfl)
theorem dX6_punch_6 : decode cX6_punch 6 = .ok (.iload_n 1, 1) := dk_27 (dk_at dksX6_punch_0 6 rfl rfl)
theorem dX6_punch_7 : decode cX6_punch 7 = .ok (.invokevirtual 381, 3) := dk_182 1 125 (dk_at dksX6_punch_0 7 rfl rfl)
theorem dX6_punch_10 : decode cX6_punch 10 = .ok (.ifCond .ne 4, 3) := dk_154 0 4 (dk_at dksX6_punch_0 10 rfl rfl)
theorem dX6_punch_13 : decode cX6_punch 13 = .ok (.return_, 1) := dk_177 (dk_at dksX6_punch_0 13 rfl rfl)
theorem dX6_punch_14 : decode cX6_punch 14 = .ok (.aload_n 0, 1) := dk_42 (dk_at dksX6_punch_0 14 rfl rfl)
theorem dX6_punch_15 : decode cX6_punch 15 = .ok (.getfield 45, 3) := dk_180 0 45 (dk_at dksX6_punch_0 15 rfl rfl)
theorem dX6_punch_18 : decode cX6_punch 18 = .ok (.iload_n 1, 1) := dk_27 (dk_at dksX6_punch_0 18 rfl rfl)
theorem dX6_punch_19 : decode cX6_punch 19 = .ok (.dup2, 1) := dk_92 (dk_at dksX6_punch_0 19 rfl rfl)
theorem dX6_punch_20 : decode cX6_punch 20 = .ok (.iaload, 1) := dk_46 (dk_at dksX6_punch_0 20 rfl rfl)
theorem dX6_punch_21 : decode cX6_punch 21 = .ok (.iconst 1, 1) := dk_4 (dk_at dksX6_punch_0 21 rfl rfl)
theorem dX6_punch_22 : decode cX6_punch 22 = .ok (.iadd, 1) := dk_96 (dk_at dksX6_punch_0 22 rfl rfl)
theorem dX6_punch_23 : decode cX6_punch 23 = .ok (.iastore, 1) := dk_79 (dk_at dksX6_punch_0 23 rfl rfl)
theorem dX6_punch_24 : decode cX6_punch 24 = .ok (.aload_n 0, 1) := dk_42 (dk_at dksX6_punch_1 0 rfl rfl)
theorem dX6_punch_25 : decode cX6_punch 25 = .ok (.getfield 45, 3) := dk_180 0 45 (dk_at dksX6_punch_1 1 rfl rfl)
theorem dX6_punch_28 : decode cX6_punch 28 = .ok (.iload_n 1, 1) := dk_27 (dk_at dksX6_punch_1 4 rfl rfl)
theorem dX6_punch_29 : decode cX6_punch 29 = .ok (.iaload, 1) := dk_46 (dk_at dksX6_punch_1 5 rfl rfl)
theorem dX6_punch_30 : decode cX6_punch 30 = .ok (.iconst 2, 1) := dk_5 (dk_at dksX6_punch_1 6 rfl rfl)
theorem dX6_punch_31 : decode cX6_punch 31 = .ok (.if_icmp .ne 20, 3) := dk_160 0 20 (dk_at dksX6_punch_1 7 rfl rfl)
theorem dX6_punch_34 : decode cX6_punch 34 = .ok (.aload_n 0, 1) := dk_42 (dk_at dksX6_punch_1 10 rfl rfl)
theorem dX6_punch_35 : decode cX6_punch 35 = .ok (.dup, 1) := dk_89 (dk_at dksX6_punch_1 11 rfl rfl)
theorem dX6_punch_36 : decode cX6_punch 36 = .ok (.getfield 403, 3) := dk_180 1 147 (dk_at dksX6_punch_1 12 rfl rfl)
theorem dX6_punch_39 : decode cX6_punch 39 = .ok (.iconst 1, 1) := dk_4 (dk_at dksX6_punch_1 15 rfl rfl)
theorem dX6_punch_40 : decode cX6_punch 40 = .ok (.iload_n 1, 1) := dk_27 (dk_at dksX6_punch_1 16 rfl rfl)
theorem dX6_punch_41 : decode cX6_punch 41 = .ok (.ishl, 1) := dk_120 (dk_at dksX6_punch_1 17 rfl rfl)
theorem dX6_punch_42 : decode cX6_punch 42 = .ok (.ior, 1) := dk_128 (dk_at dksX6_punch_1 18 rfl rfl)
theorem dX6_punch_43 : decode cX6_punch 43 = .ok (.putfield 403, 3) := dk_181 1 147 (dk_at dksX6_punch_1 19 rfl rfl)
theorem dX6_punch_46 : decode cX6_punch 46 = .ok (.aload_n 0, 1) := dk_42 (dk_at dksX6_punch_1 22 rfl rfl)
theorem dX6_punch_47 : decode cX6_punch 47 = .ok (.iload_n 1, 1) := dk_27 (dk_at dksX6_punch_1 23 rfl rfl)
theorem dX6_punch_48 : decode cX6_punch 48 = .ok (.invokevirtual 366, 3) := dk_182 1 110 (dk_at dksX6_punch_2 0 rfl rfl)
theorem dX6_punch_51 : decode cX6_punch 51 = .ok (.return_, 1) := dk_177 (dk_at dksX6_punch_2 3 rfl rfl)
abbrev cX6_weld : ByteArray := prog_28_method_56_code
def yX6_weld : MethodName := ⟨RX6, "weld", "(I)V"⟩
def dkwX6_weld_4 : List UInt8 := [167, 0, 4, 28, 79, 177]
abbrev dktX6_weld_4 : List UInt8 := dkwX6_weld_4 ++ []
def dkwX6_weld_3 : List UInt8 := [96, 42, 180, 0, 13, 16, 14, 46, 96, 61, 42, 180, 0, 48, 27, 28, 16, 100, 164, 0, 8, 16, 100]
abbrev dktX6_weld_3 : List UInt8 := dkwX6_weld_3 ++ dktX6_weld_4
def dkwX6_weld_2 : List UInt8 := [153, 0, 52, 42, 89, 180, 1, 150, 4, 27, 120, 128, 181, 1, 150, 16, 30, 16, 10, 42, 180, 1, 79, 104]
abbrev dktX6_weld_2 : List UInt8 := dkwX6_weld_2 ++ dktX6_weld_3
def dkwX6_weld_1 : List UInt8 := [159, 0, 13, 42, 180, 1, 107, 27, 4, 96, 160, 0, 7, 4, 167, 0, 4, 3, 27, 182, 1, 125]
abbrev dktX6_weld_1 : List UInt8 := dkwX6_weld_1 ++ dktX6_weld_2
def dkwX6_weld_0 : List UInt8 := [42, 42, 27, 182, 1, 122, 153, 0, 35, 42, 27, 4, 96, 182, 1, 122, 153, 0, 25, 42, 180, 1, 107, 27]
abbrev dktX6_weld_0 : List UInt8 := dkwX6_weld_0 ++ dktX6_weld_1
theorem dksX6_weld_0 : cX6_weld.data.toList.drop 0 = dktX6_weld_0 := by decide +kernel
theorem dksX6_weld_1 : cX6_weld.data.toList.drop 24 = dktX6_weld_1 := dk_seg dksX6_weld_0 24 rfl rfl
theorem dksX6_weld_2 : cX6_weld.data.toList.drop 46 = dktX6_weld_2 := dk_seg dksX6_weld_1 22 rfl rfl
theorem dksX6_weld_3 : cX6_weld.data.toList.drop 70 = dktX6_weld_3 := dk_seg dksX6_weld_2 24 rfl rfl
theorem dksX6_weld_4 : cX6_weld.data.toList.drop 93 = dktX6_weld_4 := dk_seg dksX6_weld_3 23 rfl rfl
theorem dX6_weld_0 : decode cX6_weld 0 = .ok (.aload_n 0, 1) := dk_42 (dk_at dksX6_weld_0 0 rfl rfl)
theorem dX6_weld_1 : decode cX6_weld 1 = .ok (.aload_n 0, 1) := dk_42 (dk_at dksX6_weld_0 1 rfl rfl)
theorem dX6_weld_2 : decode cX6_weld 2 = .ok (.iload_n 1, 1) := dk_27 (dk_at dksX6_weld_0 2 rfl rfl)
theorem dX6_weld_3 : decode cX6_weld 3 = .ok (.invokevirtual 378, 3) := dk_182 1 122 (dk_at dksX6_weld_0 3 rfl rfl)
theorem dX6_weld_6 : decode cX6_weld 6 = .ok (.ifCond .eq 35, 3) := dk_153 0 35 (dk_at dksX6_weld_0 6 rfl rfl)
theorem dX6_weld_9 : decode cX6_weld 9 = .ok (.aload_n 0, 1) := dk_42 (dk_at dksX6_weld_0 9 rfl rfl)
theorem dX6_weld_10 : decode cX6_weld 10 = .ok (.iload_n 1, 1) := dk_27 (dk_at dksX6_weld_0 10 rfl rfl)
theorem dX6_weld_11 : decode cX6_weld 11 = .ok (.iconst 1, 1) := dk_4 (dk_at dksX6_weld_0 11 rfl rfl)
theorem dX6_weld_12 : decode cX6_weld 12 = .ok (.iadd, 1) := dk_96 (dk_at dksX6_weld_0 12 rfl rfl)
theorem dX6_weld_13 : decode cX6_weld 13 = .ok (.invokevirtual 378, 3) := dk_182 1 122 (dk_at dksX6_weld_0 13 rfl rfl)
theorem dX6_weld_16 : decode cX6_weld 16 = .ok (.ifCond .eq 25, 3) := dk_153 0 25 (dk_at dksX6_weld_0 16 rfl rfl)
theorem dX6_weld_19 : decode cX6_weld 19 = .ok (.aload_n 0, 1) := dk_42 (dk_at dksX6_weld_0 19 rfl rfl)
theorem dX6_weld_20 : decode cX6_weld 20 = .ok (.getfield 363, 3) := dk_180 1 107 (dk_at dksX6_weld_0 20 rfl rfl)
theorem dX6_weld_23 : decode cX6_weld 23 = .ok (.iload_n 1, 1) := dk_27 (dk_at dksX6_weld_0 23 rfl rfl)
theorem dX6_weld_24 : decode cX6_weld 24 = .ok (.if_icmp .eq 13, 3) := dk_159 0 13 (dk_at dksX6_weld_1 0 rfl rfl)
theorem dX6_weld_27 : decode cX6_weld 27 = .ok (.aload_n 0, 1) := dk_42 (dk_at dksX6_weld_1 3 rfl rfl)
theorem dX6_weld_28 : decode cX6_weld 28 = .ok (.getfield 363, 3) := dk_180 1 107 (dk_at dksX6_weld_1 4 rfl rfl)
theorem dX6_weld_31 : decode cX6_weld 31 = .ok (.iload_n 1, 1) := dk_27 (dk_at dksX6_weld_1 7 rfl rfl)
theorem dX6_weld_32 : decode cX6_weld 32 = .ok (.iconst 1, 1) := dk_4 (dk_at dksX6_weld_1 8 rfl rfl)
theorem dX6_weld_33 : decode cX6_weld 33 = .ok (.iadd, 1) := dk_96 (dk_at dksX6_weld_1 9 rfl rfl)
theorem dX6_weld_34 : decode cX6_weld 34 = .ok (.if_icmp .ne 7, 3) := dk_160 0 7 (dk_at dksX6_weld_1 10 rfl rfl)
theorem dX6_weld_37 : decode cX6_weld 37 = .ok (.iconst 1, 1) := dk_4 (dk_at dksX6_weld_1 13 rfl rfl)
theorem dX6_weld_38 : decode cX6_weld 38 = .ok (.goto 4, 3) := dk_167 0 4 (dk_at dksX6_weld_1 14 rfl rfl)
theorem dX6_weld_41 : decode cX6_weld 41 = .ok (.iconst 0, 1) := dk_3 (dk_at dksX6_weld_1 17 rfl rfl)
theorem dX6_weld_42 : decode cX6_weld 42 = .ok (.iload_n 1, 1) := dk_27 (dk_at dksX6_weld_1 18 rfl rfl)
theorem dX6_weld_43 : decode cX6_weld 43 = .ok (.invokevirtual 381, 3) := dk_182 1 125 (dk_at dksX6_weld_1 19 rfl rfl)
theorem dX6_weld_46 : decode cX6_weld 46 = .ok (.ifCond .eq 52, 3) := dk_153 0 52 (dk_at dksX6_weld_2 0 rfl rfl)
theorem dX6_weld_49 : decode cX6_weld 49 = .ok (.aload_n 0, 1) := dk_42 (dk_at dksX6_weld_2 3 rfl rfl)
theorem dX6_weld_50 : decode cX6_weld 50 = .ok (.dup, 1) := dk_89 (dk_at dksX6_weld_2 4 rfl rfl)
theorem dX6_weld_51 : decode cX6_weld 51 = .ok (.getfield 406, 3) := dk_180 1 150 (dk_at dksX6_weld_2 5 rfl rfl)
theorem dX6_weld_54 : decode cX6_weld 54 = .ok (.iconst 1, 1) := dk_4 (dk_at dksX6_weld_2 8 rfl rfl)
theorem dX6_weld_55 : decode cX6_weld 55 = .ok (.iload_n 1, 1) := dk_27 (dk_at dksX6_weld_2 9 rfl rfl)
theorem dX6_weld_56 : decode cX6_weld 56 = .ok (.ishl, 1) := dk_120 (dk_at dksX6_weld_2 10 rfl rfl)
theorem dX6_weld_57 : decode cX6_weld 57 = .ok (.ior, 1) := dk_128 (dk_at dksX6_weld_2 11 rfl rfl)
theorem dX6_weld_58 : decode cX6_weld 58 = .ok (.putfield 406, 3) := dk_181 1 150 (dk_at dksX6_weld_2 12 rfl rfl)
theorem dX6_weld_61 : decode cX6_weld 61 = .ok (.bipush 30, 2) := dk_16 30 (dk_at dksX6_weld_2 15 rfl rfl)
theorem dX6_weld_63 : decode cX6_weld 63 = .ok (.bipush 10, 2) := dk_16 10 (dk_at dksX6_weld_2 17 rfl rfl)
theorem dX6_weld_65 : decode cX6_weld 65 = .ok (.aload_n 0, 1) := dk_42 (dk_at dksX6_weld_2 19 rfl rfl)
theorem dX6_weld_66 : decode cX6_weld 66 = .ok (.getfield 335, 3) := dk_180 1 79 (dk_at dksX6_weld_2 20 rfl rfl)
theorem dX6_weld_69 : decode cX6_weld 69 = .ok (.imul, 1) := dk_104 (dk_at dksX6_weld_2 23 rfl rfl)
theorem dX6_weld_70 : decode cX6_weld 70 = .ok (.iadd, 1) := dk_96 (dk_at dksX6_weld_3 0 rfl rfl)
theorem dX6_weld_71 : decode cX6_weld 71 = .ok (.aload_n 0, 1) := dk_42 (dk_at dksX6_weld_3 1 rfl rfl)
theorem dX6_weld_72 : decode cX6_weld 72 = .ok (.getfield 13, 3) := dk_180 0 13 (dk_at dksX6_weld_3 2 rfl rfl)
theorem dX6_weld_75 : decode cX6_weld 75 = .ok (.bipush 14, 2) := dk_16 14 (dk_at dksX6_weld_3 5 rfl rfl)
theorem dX6_weld_77 : decode cX6_weld 77 = .ok (.iaload, 1) := dk_46 (dk_at dksX6_weld_3 7 rfl rfl)
theorem dX6_weld_78 : decode cX6_weld 78 = .ok (.iadd, 1) := dk_96 (dk_at dksX6_weld_3 8 rfl rfl)
theorem dX6_weld_79 : decode cX6_weld 79 = .ok (.istore_n 2, 1) := dk_61 (dk_at dksX6_weld_3 9 rfl rfl)
theorem dX6_weld_80 : decode cX6_weld 80 = .ok (.aload_n 0, 1) := dk_42 (dk_at dksX6_weld_3 10 rfl rfl)
theorem dX6_weld_81 : decode cX6_weld 81 = .ok (.getfield 48, 3) := dk_180 0 48 (dk_at dksX6_weld_3 11 rfl rfl)
theorem dX6_weld_84 : decode cX6_weld 84 = .ok (.iload_n 1, 1) := dk_27 (dk_at dksX6_weld_3 14 rfl rfl)
theorem dX6_weld_85 : decode cX6_weld 85 = .ok (.iload_n 2, 1) := dk_28 (dk_at dksX6_weld_3 15 rfl rfl)
theorem dX6_weld_86 : decode cX6_weld 86 = .ok (.bipush 100, 2) := dk_16 100 (dk_at dksX6_weld_3 16 rfl rfl)
theorem dX6_weld_88 : decode cX6_weld 88 = .ok (.if_icmp .le 8, 3) := dk_164 0 8 (dk_at dksX6_weld_3 18 rfl rfl)
theorem dX6_weld_91 : decode cX6_weld 91 = .ok (.bipush 100, 2) := dk_16 100 (dk_at dksX6_weld_3 21 rfl rfl)
theorem dX6_weld_93 : decode cX6_weld 93 = .ok (.goto 4, 3) := dk_167 0 4 (dk_at dksX6_weld_4 0 rfl rfl)
theorem dX6_weld_96 : decode cX6_weld 96 = .ok (.iload_n 2, 1) := dk_28 (dk_at dksX6_weld_4 3 rfl rfl)
theorem dX6_weld_97 : decode cX6_weld 97 = .ok (.iastore, 1) := dk_79 (dk_at dksX6_weld_4 4 rfl rfl)
theorem dX6_weld_98 : decode cX6_weld 98 = .ok (.return_, 1) := dk_177 (dk_at dksX6_weld_4 5 rfl rfl)
abbrev cX6_came : ByteArray := prog_28_method_61_code
def yX6_came : MethodName := ⟨RX6, "came", "(I)I"⟩
def dkwX6_came_3 : List UInt8 := [180, 0, 13, 16, 13, 46, 42, 180, 0, 57, 4, 46, 104, 96, 167, 0, 9, 42, 180, 0, 57, 27, 46, 172]
abbrev dktX6_came_3 : List UInt8 := dkwX6_came_3 ++ []
def dkwX6_came_2 : List UInt8 := [167, 0, 47, 27, 16, 13, 160, 0, 35, 42, 180, 0, 13, 16, 12, 46, 42, 180, 0, 57, 3, 46, 104, 42]
abbrev dktX6_came_2 : List UInt8 := dkwX6_came_2 ++ dktX6_came_3
def dkwX6_came_1 : List UInt8 := [17, 252, 24, 172, 27, 16, 12, 160, 0, 20, 42, 180, 0, 13, 16, 11, 46, 42, 180, 0, 57, 3, 46, 104]
abbrev dktX6_came_1 : List UInt8 := dkwX6_came_1 ++ dktX6_came_2
def dkwX6_came_0 : List UInt8 := [42, 3, 181, 0, 112, 42, 180, 1, 183, 153, 0, 15, 27, 133, 9, 20, 1, 186, 184, 0, 118, 154, 0, 7]
abbrev dktX6_came_0 : List UInt8 := dkwX6_came_0 ++ dktX6_came_1
theorem dksX6_came_0 : cX6_came.data.toList.drop 0 = dktX6_came_0 := by decide +kernel
theorem dksX6_came_1 : cX6_came.data.toList.drop 24 = dktX6_came_1 := dk_seg dksX6_came_0 24 rfl rfl
theorem dksX6_came_2 : cX6_came.data.toList.drop 48 = dktX6_came_2 := dk_seg dksX6_came_1 24 rfl rfl
theorem dksX6_came_3 : cX6_came.data.toList.drop 72 = dktX6_came_3 := dk_seg dksX6_came_2 24 rfl rfl
theorem dX6_came_0 : decode cX6_came 0 = .ok (.aload_n 0, 1) := dk_42 (dk_at dksX6_came_0 0 rfl rfl)
theorem dX6_came_1 : decode cX6_came 1 = .ok (.iconst 0, 1) := dk_3 (dk_at dksX6_came_0 1 rfl rfl)
theorem dX6_came_2 : decode cX6_came 2 = .ok (.putfield 112, 3) := dk_181 0 112 (dk_at dksX6_came_0 2 rfl rfl)
theorem dX6_came_5 : decode cX6_came 5 = .ok (.aload_n 0, 1) := dk_42 (dk_at dksX6_came_0 5 rfl rfl)
theorem dX6_came_6 : decode cX6_came 6 = .ok (.getfield 439, 3) := dk_180 1 183 (dk_at dksX6_came_0 6 rfl rfl)
theorem dX6_came_9 : decode cX6_came 9 = .ok (.ifCond .eq 15, 3) := dk_153 0 15 (dk_at dksX6_came_0 9 rfl rfl)
theorem dX6_came_12 : decode cX6_came 12 = .ok (.iload_n 1, 1) := dk_27 (dk_at dksX6_came_0 12 rfl rfl)
theorem dX6_came_13 : decode cX6_came 13 = .ok (.i2l, 1) := dk_133 (dk_at dksX6_came_0 13 rfl rfl)
theorem dX6_came_14 : decode cX6_came 14 = .ok (.lconst 0, 1) := dk_9 (dk_at dksX6_came_0 14 rfl rfl)
theorem dX6_came_15 : decode cX6_came 15 = .ok (.ldc2_w 442, 3) := dk_20 1 186 (dk_at dksX6_came_0 15 rfl rfl)
theorem dX6_came_18 : decode cX6_came 18 = .ok (.invokestatic 118, 3) := dk_184 0 118 (dk_at dksX6_came_0 18 rfl rfl)
theorem dX6_came_21 : decode cX6_came 21 = .ok (.ifCond .ne 7, 3) := dk_154 0 7 (dk_at dksX6_came_0 21 rfl rfl)
theorem dX6_came_24 : decode cX6_came 24 = .ok (.sipush (-1000), 3) := dk_17 252 24 (dk_at dksX6_came_1 0 rfl rfl)
theorem dX6_came_27 : decode cX6_came 27 = .ok (.ireturn, 1) := dk_172 (dk_at dksX6_came_1 3 rfl rfl)
theorem dX6_came_28 : decode cX6_came 28 = .ok (.iload_n 1, 1) := dk_27 (dk_at dksX6_came_1 4 rfl rfl)
theorem dX6_came_29 : decode cX6_came 29 = .ok (.bipush 12, 2) := dk_16 12 (dk_at dksX6_came_1 5 rfl rfl)
theorem dX6_came_31 : decode cX6_came 31 = .ok (.if_icmp .ne 20, 3) := dk_160 0 20 (dk_at dksX6_came_1 7 rfl rfl)
theorem dX6_came_34 : decode cX6_came 34 = .ok (.aload_n 0, 1) := dk_42 (dk_at dksX6_came_1 10 rfl rfl)
theorem dX6_came_35 : decode cX6_came 35 = .ok (.getfield 13, 3) := dk_180 0 13 (dk_at dksX6_came_1 11 rfl rfl)
theorem dX6_came_38 : decode cX6_came 38 = .ok (.bipush 11, 2) := dk_16 11 (dk_at dksX6_came_1 14 rfl rfl)
theorem dX6_came_40 : decode cX6_came 40 = .ok (.iaload, 1) := dk_46 (dk_at dksX6_came_1 16 rfl rfl)
theorem dX6_came_41 : decode cX6_came 41 = .ok (.aload_n 0, 1) := dk_42 (dk_at dksX6_came_1 17 rfl rfl)
theorem dX6_came_42 : decode cX6_came 42 = .ok (.getfield 57, 3) := dk_180 0 57 (dk_at dksX6_came_1 18 rfl rfl)
theorem dX6_came_45 : decode cX6_came 45 = .ok (.iconst 0, 1) := dk_3 (dk_at dksX6_came_1 21 rfl rfl)
theorem dX6_came_46 : decode cX6_came 46 = .ok (.iaload, 1) := dk_46 (dk_at dksX6_came_1 22 rfl rfl)
theorem dX6_came_47 : decode cX6_came 47 = .ok (.imul, 1) := dk_104 (dk_at dksX6_came_1 23 rfl rfl)
theorem dX6_came_48 : decode cX6_came 48 = .ok (.goto 47, 3) := dk_167 0 47 (dk_at dksX6_came_2 0 rfl rfl)
theorem dX6_came_51 : decode cX6_came 51 = .ok (.iload_n 1, 1) := dk_27 (dk_at dksX6_came_2 3 rfl rfl)
theorem dX6_came_52 : decode cX6_came 52 = .ok (.bipush 13, 2) := dk_16 13 (dk_at dksX6_came_2 4 rfl rfl)
theorem dX6_came_54 : decode cX6_came 54 = .ok (.if_icmp .ne 35, 3) := dk_160 0 35 (dk_at dksX6_came_2 6 rfl rfl)
theorem dX6_came_57 : decode cX6_came 57 = .ok (.aload_n 0, 1) := dk_42 (dk_at dksX6_came_2 9 rfl rfl)
theorem dX6_came_58 : decode cX6_came 58 = .ok (.getfield 13, 3) := dk_180 0 13 (dk_at dksX6_came_2 10 rfl rfl)
theorem dX6_came_61 : decode cX6_came 61 = .ok (.bipush 12, 2) := dk_16 12 (dk_at dksX6_came_2 13 rfl rfl)
theorem dX6_came_63 : decode cX6_came 63 = .ok (.iaload, 1) := dk_46 (dk_at dksX6_came_2 15 rfl rfl)
theorem dX6_came_64 : decode cX6_came 64 = .ok (.aload_n 0, 1) := dk_42 (dk_at dksX6_came_2 16 rfl rfl)
theorem dX6_came_65 : decode cX6_came 65 = .ok (.getfield 57, 3) := dk_180 0 57 (dk_at dksX6_came_2 17 rfl rfl)
theorem dX6_came_68 : decode cX6_came 68 = .ok (.iconst 0, 1) := dk_3 (dk_at dksX6_came_2 20 rfl rfl)
theorem dX6_came_69 : decode cX6_came 69 = .ok (.iaload, 1) := dk_46 (dk_at dksX6_came_2 21 rfl rfl)
theorem dX6_came_70 : decode cX6_came 70 = .ok (.imul, 1) := dk_104 (dk_at dksX6_came_2 22 rfl rfl)
theorem dX6_came_71 : decode cX6_came 71 = .ok (.aload_n 0, 1) := dk_42 (dk_at dksX6_came_2 23 rfl rfl)
theorem dX6_came_72 : decode cX6_came 72 = .ok (.getfield 13, 3) := dk_180 0 13 (dk_at dksX6_came_3 0 rfl rfl)
theorem dX6_came_75 : decode cX6_came 75 = .ok (.bipush 13, 2) := dk_16 13 (dk_at dksX6_came_3 3 rfl rfl)
theorem dX6_came_77 : decode cX6_came 77 = .ok (.iaload, 1) := dk_46 (dk_at dksX6_came_3 5 rfl rfl)
theorem dX6_came_78 : decode cX6_came 78 = .ok (.aload_n 0, 1) := dk_42 (dk_at dksX6_came_3 6 rfl rfl)
theorem dX6_came_79 : decode cX6_came 79 = .ok (.getfield 57, 3) := dk_180 0 57 (dk_at dksX6_came_3 7 rfl rfl)
theorem dX6_came_82 : decode cX6_came 82 = .ok (.iconst 1, 1) := dk_4 (dk_at dksX6_came_3 10 rfl rfl)
theorem dX6_came_83 : decode cX6_came 83 = .ok (.iaload, 1) := dk_46 (dk_at dksX6_came_3 11 rfl rfl)
theorem dX6_came_84 : decode cX6_came 84 = .ok (.imul, 1) := dk_104 (dk_at dksX6_came_3 12 rfl rfl)
theorem dX6_came_85 : decode cX6_came 85 = .ok (.iadd, 1) := dk_96 (dk_at dksX6_came_3 13 rfl rfl)
theorem dX6_came_86 : decode cX6_came 86 = .ok (.goto 9, 3) := dk_167 0 9 (dk_at dksX6_came_3 14 rfl rfl)
theorem dX6_came_89 : decode cX6_came 89 = .ok (.aload_n 0, 1) := dk_42 (dk_at dksX6_came_3 17 rfl rfl)
theorem dX6_came_90 : decode cX6_came 90 = .ok (.getfield 57, 3) := dk_180 0 57 (dk_at dksX6_came_3 18 rfl rfl)
theorem dX6_came_93 : decode cX6_came 93 = .ok (.iload_n 1, 1) := dk_27 (dk_at dksX6_came_3 21 rfl rfl)
theorem dX6_came_94 : decode cX6_came 94 = .ok (.iaload, 1) := dk_46 (dk_at dksX6_came_3 22 rfl rfl)
theorem dX6_came_95 : decode cX6_came 95 = .ok (.ireturn, 1) := dk_172 (dk_at dksX6_came_3 23 rfl rfl)
abbrev cX6_iron : ByteArray := prog_28_method_62_code
def yX6_iron : MethodName := ⟨RX6, "iron", "(I)I"⟩
def dkwX6_iron_1 : List UInt8 := [180, 0, 54, 27, 46, 167, 0, 4, 2, 172]
abbrev dktX6_iron_1 : List UInt8 := dkwX6_iron_1 ++ []
def dkwX6_iron_0 : List UInt8 := [42, 3, 181, 0, 112, 27, 133, 9, 42, 180, 1, 183, 133, 10, 101, 184, 0, 118, 153, 0, 12, 42]
abbrev dktX6_iron_0 : List UInt8 := dkwX6_iron_0 ++ dktX6_iron_1
theorem dksX6_iron_0 : cX6_iron.data.toList.drop 0 = dktX6_iron_0 := by decide +kernel
theorem dksX6_iron_1 : cX6_iron.data.toList.drop 22 = dktX6_iron_1 := dk_seg dksX6_iron_0 22 rfl rfl
theorem dX6_iron_0 : decode cX6_iron 0 = .ok (.aload_n 0, 1) := dk_42 (dk_at dksX6_iron_0 0 rfl rfl)
theorem dX6_iron_1 : decode cX6_iron 1 = .ok (.iconst 0, 1) := dk_3 (dk_at dksX6_iron_0 1 rfl rfl)
theorem dX6_iron_2 : decode cX6_iron 2 = .ok (.putfield 112, 3) := dk_181 0 112 (dk_at dksX6_iron_0 2 rfl rfl)
theorem dX6_iron_5 : decode cX6_iron 5 = .ok (.iload_n 1, 1) := dk_27 (dk_at dksX6_iron_0 5 rfl rfl)
theorem dX6_iron_6 : decode cX6_iron 6 = .ok (.i2l, 1) := dk_133 (dk_at dksX6_iron_0 6 rfl rfl)
theorem dX6_iron_7 : decode cX6_iron 7 = .ok (.lconst 0, 1) := dk_9 (dk_at dksX6_iron_0 7 rfl rfl)
theorem dX6_iron_8 : decode cX6_iron 8 = .ok (.aload_n 0, 1) := dk_42 (dk_at dksX6_iron_0 8 rfl rfl)
theorem dX6_iron_9 : decode cX6_iron 9 = .ok (.getfield 439, 3) := dk_180 1 183 (dk_at dksX6_iron_0 9 rfl rfl)
theorem dX6_iron_12 : decode cX6_iron 12 = .ok (.i2l, 1) := dk_133 (dk_at dksX6_iron_0 12 rfl rfl)
theorem dX6_iron_13 : decode cX6_iron 13 = .ok (.lconst 1, 1) := dk_10 (dk_at dksX6_iron_0 13 rfl rfl)
theorem dX6_iron_14 : decode cX6_iron 14 = .ok (.lsub, 1) := dk_101 (dk_at dksX6_iron_0 14 rfl rfl)
theorem dX6_iron_15 : decode cX6_iron 15 = .ok (.invokestatic 118, 3) := dk_184 0 118 (dk_at dksX6_iron_0 15 rfl rfl)
theorem dX6_iron_18 : decode cX6_iron 18 = .ok (.ifCond .eq 12, 3) := dk_153 0 12 (dk_at dksX6_iron_0 18 rfl rfl)
theorem dX6_iron_21 : decode cX6_iron 21 = .ok (.aload_n 0, 1) := dk_42 (dk_at dksX6_iron_0 21 rfl rfl)
theorem dX6_iron_22 : decode cX6_iron 22 = .ok (.getfield 54, 3) := dk_180 0 54 (dk_at dksX6_iron_1 0 rfl rfl)
theorem dX6_iron_25 : decode cX6_iron 25 = .ok (.iload_n 1, 1) := dk_27 (dk_at dksX6_iron_1 3 rfl rfl)
theorem dX6_iron_26 : decode cX6_iron 26 = .ok (.iaload, 1) := dk_46 (dk_at dksX6_iron_1 4 rfl rfl)
theorem dX6_iron_27 : decode cX6_iron 27 = .ok (.goto 4, 3) := dk_167 0 4 (dk_at dksX6_iron_1 5 rfl rfl)
theorem dX6_iron_30 : decode cX6_iron 30 = .ok (.iconst (-1), 1) := dk_2 (dk_at dksX6_iron_1 8 rfl rfl)
theorem dX6_iron_31 : decode cX6_iron 31 = .ok (.ireturn, 1) := dk_172 (dk_at dksX6_iron_1 9 rfl rfl)
abbrev cX6_welds : ByteArray := prog_28_method_63_code
def yX6_welds : MethodName := ⟨RX6, "welds", "(I)J"⟩
def dkwX6_welds_5 : List UInt8 := [154, 0, 10, 32, 22, 6, 109, 167, 0, 8, 22, 4, 22, 6, 109, 173]
abbrev dktX6_welds_5 : List UInt8 := dkwX6_welds_5 ++ []
def dkwX6_welds_4 : List UInt8 := [158, 0, 21, 22, 6, 22, 8, 113, 55, 10, 22, 8, 55, 6, 22, 10, 55, 8, 167, 255, 234, 27]
abbrev dktX6_welds_4 : List UInt8 := dkwX6_welds_4 ++ dktX6_welds_5
def dkwX6_welds_3 : List UInt8 := [20, 0, 149, 105, 55, 4, 132, 6, 1, 167, 255, 212, 32, 55, 6, 22, 4, 55, 8, 22, 8, 9, 148]
abbrev dktX6_welds_3 : List UInt8 := dkwX6_welds_3 ++ dktX6_welds_4
def dkwX6_welds_2 : List UInt8 := [46, 21, 6, 122, 4, 126, 4, 160, 0, 22, 32, 42, 180, 0, 60, 21, 6, 46, 133, 105, 65, 22, 4]
abbrev dktX6_welds_2 : List UInt8 := dkwX6_welds_2 ++ dktX6_welds_3
def dkwX6_welds_1 : List UInt8 := [20, 0, 193, 173, 10, 65, 10, 55, 4, 3, 54, 6, 21, 6, 7, 162, 0, 44, 42, 180, 0, 57, 16, 9]
abbrev dktX6_welds_1 : List UInt8 := dkwX6_welds_1 ++ dktX6_welds_2
def dkwX6_welds_0 : List UInt8 := [42, 3, 181, 0, 112, 42, 180, 1, 183, 153, 0, 13, 27, 133, 9, 10, 184, 0, 118, 154, 0, 7]
abbrev dktX6_welds_0 : List UInt8 := dkwX6_welds_0 ++ dktX6_welds_1
theorem dksX6_welds_0 : cX6_welds.data.toList.drop 0 = dktX6_welds_0 := by decide +kernel
theorem dksX6_welds_1 : cX6_welds.data.toList.drop 22 = dktX6_welds_1 := dk_seg dksX6_welds_0 22 rfl rfl
theorem dksX6_welds_2 : cX6_welds.data.toList.drop 46 = dktX6_welds_2 := dk_seg dksX6_welds_1 24 rfl rfl
theorem dksX6_welds_3 : cX6_welds.data.toList.drop 69 = dktX6_welds_3 := dk_seg dksX6_welds_2 23 rfl rfl
theorem dksX6_welds_4 : cX6_welds.data.toList.drop 92 = dktX6_welds_4 := dk_seg dksX6_welds_3 23 rfl rfl
theorem dksX6_welds_5 : cX6_welds.data.toList.drop 114 = dktX6_welds_5 := dk_seg dksX6_welds_4 22 rfl rfl
theorem dX6_welds_0 : decode cX6_welds 0 = .ok (.aload_n 0, 1) := dk_42 (dk_at dksX6_welds_0 0 rfl rfl)
theorem dX6_welds_1 : decode cX6_welds 1 = .ok (.iconst 0, 1) := dk_3 (dk_at dksX6_welds_0 1 rfl rfl)
theorem dX6_welds_2 : decode cX6_welds 2 = .ok (.putfield 112, 3) := dk_181 0 112 (dk_at dksX6_welds_0 2 rfl rfl)
theorem dX6_welds_5 : decode cX6_welds 5 = .ok (.aload_n 0, 1) := dk_42 (dk_at dksX6_welds_0 5 rfl rfl)
theorem dX6_welds_6 : decode cX6_welds 6 = .ok (.getfield 439, 3) := dk_180 1 183 (dk_at dksX6_welds_0 6 rfl rfl)
theorem dX6_welds_9 : decode cX6_welds 9 = .ok (.ifCond .eq 13, 3) := dk_153 0 13 (dk_at dksX6_welds_0 9 rfl rfl)
theorem dX6_welds_12 : decode cX6_welds 12 = .ok (.iload_n 1, 1) := dk_27 (dk_at dksX6_welds_0 12 rfl rfl)
theorem dX6_welds_13 : decode cX6_welds 13 = .ok (.i2l, 1) := dk_133 (dk_at dksX6_welds_0 13 rfl rfl)
theorem dX6_welds_14 : decode cX6_welds 14 = .ok (.lconst 0, 1) := dk_9 (dk_at dksX6_welds_0 14 rfl rfl)
theorem dX6_welds_15 : decode cX6_welds 15 = .ok (.lconst 1, 1) := dk_10 (dk_at dksX6_welds_0 15 rfl rfl)
theorem dX6_welds_16 : decode cX6_welds 16 = .ok (.invokestatic 118, 3) := dk_184 0 118 (dk_at dksX6_welds_0 16 rfl rfl)
theorem dX6_welds_19 : decode cX6_welds 19 = .ok (.ifCond .ne 7, 3) := dk_154 0 7 (dk_at dksX6_welds_0 19 rfl rfl)
theorem dX6_welds_22 : decode cX6_welds 22 = .ok (.ldc2_w 193, 3) := dk_20 0 193 (dk_at dksX6_welds_1 0 rfl rfl)
theorem dX6_welds_25 : decode cX6_welds 25 = .ok (.lreturn, 1) := dk_173 (dk_at dksX6_welds_1 3 rfl rfl)
theorem dX6_welds_26 : decode cX6_welds 26 = .ok (.lconst 1, 1) := dk_10 (dk_at dksX6_welds_1 4 rfl rfl)
theorem dX6_welds_27 : decode cX6_welds 27 = .ok (.lstore_n 2, 1) := dk_65 (dk_at dksX6_welds_1 5 rfl rfl)
theorem dX6_welds_28 : decode cX6_welds 28 = .ok (.lconst 1, 1) := dk_10 (dk_at dksX6_welds_1 6 rfl rfl)
theorem dX6_welds_29 : decode cX6_welds 29 = .ok (.lstore 4, 2) := dk_55 4 (dk_at dksX6_welds_1 7 rfl rfl)
theorem dX6_welds_31 : decode cX6_welds 31 = .ok (.iconst 0, 1) := dk_3 (dk_at dksX6_welds_1 9 rfl rfl)
theorem dX6_welds_32 : decode cX6_welds 32 = .ok (.istore 6, 2) := dk_54 6 (dk_at dksX6_welds_1 10 rfl rfl)
theorem dX6_welds_34 : decode cX6_welds 34 = .ok (.iload 6, 2) := dk_21 6 (dk_at dksX6_welds_1 12 rfl rfl)
theorem dX6_welds_36 : decode cX6_welds 36 = .ok (.iconst 4, 1) := dk_7 (dk_at dksX6_welds_1 14 rfl rfl)
theorem dX6_welds_37 : decode cX6_welds 37 = .ok (.if_icmp .ge 44, 3) := dk_162 0 44 (dk_at dksX6_welds_1 15 rfl rfl)
theorem dX6_welds_40 : decode cX6_welds 40 = .ok (.aload_n 0, 1) := dk_42 (dk_at dksX6_welds_1 18 rfl rfl)
theorem dX6_welds_41 : decode cX6_welds 41 = .ok (.getfield 57, 3) := dk_180 0 57 (dk_at dksX6_welds_1 19 rfl rfl)
theorem dX6_welds_44 : decode cX6_welds 44 = .ok (.bipush 9, 2) := dk_16 9 (dk_at dksX6_welds_1 22 rfl rfl)
theorem dX6_welds_46 : decode cX6_welds 46 = .ok (.iaload, 1) := dk_46 (dk_at dksX6_welds_2 0 rfl rfl)
theorem dX6_welds_47 : decode cX6_welds 47 = .ok (.iload 6, 2) := dk_21 6 (dk_at dksX6_welds_2 1 rfl rfl)
theorem dX6_welds_49 : decode cX6_welds 49 = .ok (.ishr, 1) := dk_122 (dk_at dksX6_welds_2 3 rfl rfl)
theorem dX6_welds_50 : decode cX6_welds 50 = .ok (.iconst 1, 1) := dk_4 (dk_at dksX6_welds_2 4 rfl rfl)
theorem dX6_welds_51 : decode cX6_welds 51 = .ok (.iand, 1) := dk_126 (dk_at dksX6_welds_2 5 rfl rfl)
theorem dX6_welds_52 : decode cX6_welds 52 = .ok (.iconst 1, 1) := dk_4 (dk_at dksX6_welds_2 6 rfl rfl)
theorem dX6_welds_53 : decode cX6_welds 53 = .ok (.if_icmp .ne 22, 3) := dk_160 0 22 (dk_at dksX6_welds_2 7 rfl rfl)
theorem dX6_welds_56 : decode cX6_welds 56 = .ok (.lload_n 2, 1) := dk_32 (dk_at dksX6_welds_2 10 rfl rfl)
theorem dX6_welds_57 : decode cX6_welds 57 = .ok (.aload_n 0, 1) := dk_42 (dk_at dksX6_welds_2 11 rfl rfl)
theorem dX6_welds_58 : decode cX6_welds 58 = .ok (.getfield 60, 3) := dk_180 0 60 (dk_at dksX6_welds_2 12 rfl rfl)
theorem dX6_welds_61 : decode cX6_welds 61 = .ok (.iload 6, 2) := dk_21 6 (dk_at dksX6_welds_2 15 rfl rfl)
theorem dX6_welds_63 : decode cX6_welds 63 = .ok (.iaload, 1) := dk_46 (dk_at dksX6_welds_2 17 rfl rfl)
theorem dX6_welds_64 : decode cX6_welds 64 = .ok (.i2l, 1) := dk_133 (dk_at dksX6_welds_2 18 rfl rfl)
theorem dX6_welds_65 : decode cX6_welds 65 = .ok (.lmul, 1) := dk_105 (dk_at dksX6_welds_2 19 rfl rfl)
theorem dX6_welds_66 : decode cX6_welds 66 = .ok (.lstore_n 2, 1) := dk_65 (dk_at dksX6_welds_2 20 rfl rfl)
theorem dX6_welds_67 : decode cX6_welds 67 = .ok (.lload 4, 2) := dk_22 4 (dk_at dksX6_welds_2 21 rfl rfl)
theorem dX6_welds_69 : decode cX6_welds 69 = .ok (.ldc2_w 149, 3) := dk_20 0 149 (dk_at dksX6_welds_3 0 rfl rfl)
theorem dX6_welds_72 : decode cX6_welds 72 = .ok (.lmul, 1) := dk_105 (dk_at dksX6_welds_3 3 rfl rfl)
theorem dX6_welds_73 : decode cX6_welds 73 = .ok (.lstore 4, 2) := dk_55 4 (dk_at dksX6_welds_3 4 rfl rfl)
theorem dX6_welds_75 : decode cX6_welds 75 = .ok (.iinc 6 1, 3) := dk_132 6 1 (dk_at dksX6_welds_3 6 rfl rfl)
theorem dX6_welds_78 : decode cX6_welds 78 = .ok (.goto (-44), 3) := dk_167 255 212 (dk_at dksX6_welds_3 9 rfl rfl)
theorem dX6_welds_81 : decode cX6_welds 81 = .ok (.lload_n 2, 1) := dk_32 (dk_at dksX6_welds_3 12 rfl rfl)
theorem dX6_welds_82 : decode cX6_welds 82 = .ok (.lstore 6, 2) := dk_55 6 (dk_at dksX6_welds_3 13 rfl rfl)
theorem dX6_welds_84 : decode cX6_welds 84 = .ok (.lload 4, 2) := dk_22 4 (dk_at dksX6_welds_3 15 rfl rfl)
theorem dX6_welds_86 : decode cX6_welds 86 = .ok (.lstore 8, 2) := dk_55 8 (dk_at dksX6_welds_3 17 rfl rfl)
theorem dX6_welds_88 : decode cX6_welds 88 = .ok (.lload 8, 2) := dk_22 8 (dk_at dksX6_welds_3 19 rfl rfl)
theorem dX6_welds_90 : decode cX6_welds 90 = .ok (.lconst 0, 1) := dk_9 (dk_at dksX6_welds_3 21 rfl rfl)
theorem dX6_welds_91 : decode cX6_welds 91 = .ok (.lcmp, 1) := dk_148 (dk_at dksX6_welds_3 22 rfl rfl)
theorem dX6_welds_92 : decode cX6_welds 92 = .ok (.ifCond .le 21, 3) := dk_158 0 21 (dk_at dksX6_welds_4 0 rfl rfl)
theorem dX6_welds_95 : decode cX6_welds 95 = .ok (.lload 6, 2) := dk_22 6 (dk_at dksX6_welds_4 3 rfl rfl)
theorem dX6_welds_97 : decode cX6_welds 97 = .ok (.lload 8, 2) := dk_22 8 (dk_at dksX6_welds_4 5 rfl rfl)
theorem dX6_welds_99 : decode cX6_welds 99 = .ok (.lrem, 1) := dk_113 (dk_at dksX6_welds_4 7 rfl rfl)
theorem dX6_welds_100 : decode cX6_welds 100 = .ok (.lstore 10, 2) := dk_55 10 (dk_at dksX6_welds_4 8 rfl rfl)
theorem dX6_welds_102 : decode cX6_welds 102 = .ok (.lload 8, 2) := dk_22 8 (dk_at dksX6_welds_4 10 rfl rfl)
theorem dX6_welds_104 : decode cX6_welds 104 = .ok (.lstore 6, 2) := dk_55 6 (dk_at dksX6_welds_4 12 rfl rfl)
theorem dX6_welds_106 : decode cX6_welds 106 = .ok (.lload 10, 2) := dk_22 10 (dk_at dksX6_welds_4 14 rfl rfl)
theorem dX6_welds_108 : decode cX6_welds 108 = .ok (.lstore 8, 2) := dk_55 8 (dk_at dksX6_welds_4 16 rfl rfl)
theorem dX6_welds_110 : decode cX6_welds 110 = .ok (.goto (-22), 3) := dk_167 255 234 (dk_at dksX6_welds_4 18 rfl rfl)
theorem dX6_welds_113 : decode cX6_welds 113 = .ok (.iload_n 1, 1) := dk_27 (dk_at dksX6_welds_4 21 rfl rfl)
theorem dX6_welds_114 : decode cX6_welds 114 = .ok (.ifCond .ne 10, 3) := dk_154 0 10 (dk_at dksX6_welds_5 0 rfl rfl)
theorem dX6_welds_117 : decode cX6_welds 117 = .ok (.lload_n 2, 1) := dk_32 (dk_at dksX6_welds_5 3 rfl rfl)
theorem dX6_welds_118 : decode cX6_welds 118 = .ok (.lload 6, 2) := dk_22 6 (dk_at dksX6_welds_5 4 rfl rfl)
theorem dX6_welds_120 : decode cX6_welds 120 = .ok (.ldiv, 1) := dk_109 (dk_at dksX6_welds_5 6 rfl rfl)
theorem dX6_welds_121 : decode cX6_welds 121 = .ok (.goto 8, 3) := dk_167 0 8 (dk_at dksX6_welds_5 7 rfl rfl)
theorem dX6_welds_124 : decode cX6_welds 124 = .ok (.lload 4, 2) := dk_22 4 (dk_at dksX6_welds_5 10 rfl rfl)
theorem dX6_welds_126 : decode cX6_welds 126 = .ok (.lload 6, 2) := dk_22 6 (dk_at dksX6_welds_5 12 rfl rfl)
theorem dX6_welds_128 : decode cX6_welds 128 = .ok (.ldiv, 1) := dk_109 (dk_at dksX6_welds_5 14 rfl rfl)
theorem dX6_welds_129 : decode cX6_welds 129 = .ok (.lreturn, 1) := dk_173 (dk_at dksX6_welds_5 15 rfl rfl)
abbrev cX6_change : ByteArray := prog_28_method_64_code
def yX6_change : MethodName := ⟨RX6, "change", "(II)I"⟩
def dkwX6_change_7 : List UInt8 := [172]
abbrev dktX6_change_7 : List UInt8 := dkwX6_change_7 ++ []
def dkwX6_change_6 : List UInt8 := [167, 0, 4, 3, 54, 8, 21, 8, 153, 0, 15, 42, 3, 182, 1, 191, 154, 0, 7, 4, 167, 0, 4, 3]
abbrev dktX6_change_6 : List UInt8 := dkwX6_change_6 ++ dktX6_change_7
def dkwX6_change_5 : List UInt8 := [160, 0, 25, 21, 6, 42, 180, 1, 144, 160, 0, 16, 21, 7, 42, 180, 1, 119, 160, 0, 7, 4]
abbrev dktX6_change_5 : List UInt8 := dkwX6_change_5 ++ dktX6_change_6
def dkwX6_change_4 : List UInt8 := [29, 42, 180, 1, 129, 160, 0, 43, 21, 4, 42, 180, 1, 147, 160, 0, 34, 21, 5, 42, 180, 1, 150]
abbrev dktX6_change_4 : List UInt8 := dkwX6_change_4 ++ dktX6_change_5
def dkwX6_change_3 : List UInt8 := [54, 5, 42, 180, 1, 144, 54, 6, 42, 180, 1, 119, 54, 7, 42, 182, 1, 188, 42, 27, 28, 182, 1, 180]
abbrev dktX6_change_3 : List UInt8 := dkwX6_change_3 ++ dktX6_change_4
def dkwX6_change_2 : List UInt8 := [181, 1, 132, 42, 27, 2, 182, 1, 180, 42, 180, 1, 129, 62, 42, 180, 1, 147, 54, 4, 42, 180, 1, 150]
abbrev dktX6_change_2 : List UInt8 := dkwX6_change_2 ++ dktX6_change_3
def dkwX6_change_1 : List UInt8 := [17, 3, 232, 27, 104, 96, 46, 133, 20, 0, 143, 101, 184, 0, 118, 154, 0, 5, 2, 172, 42, 2]
abbrev dktX6_change_1 : List UInt8 := dkwX6_change_1 ++ dktX6_change_2
def dkwX6_change_0 : List UInt8 := [42, 3, 181, 0, 112, 42, 27, 182, 1, 76, 153, 0, 30, 28, 133, 9, 42, 180, 0, 13, 16, 60]
abbrev dktX6_change_0 : List UInt8 := dkwX6_change_0 ++ dktX6_change_1
theorem dksX6_change_0 : cX6_change.data.toList.drop 0 = dktX6_change_0 := by decide +kernel
theorem dksX6_change_1 : cX6_change.data.toList.drop 22 = dktX6_change_1 := dk_seg dksX6_change_0 22 rfl rfl
theorem dksX6_change_2 : cX6_change.data.toList.drop 44 = dktX6_change_2 := dk_seg dksX6_change_1 22 rfl rfl
theorem dksX6_change_3 : cX6_change.data.toList.drop 68 = dktX6_change_3 := dk_seg dksX6_change_2 24 rfl rfl
theorem dksX6_change_4 : cX6_change.data.toList.drop 92 = dktX6_change_4 := dk_seg dksX6_change_3 24 rfl rfl
theorem dksX6_change_5 : cX6_change.data.toList.drop 115 = dktX6_change_5 := dk_seg dksX6_change_4 23 rfl rfl
theorem dksX6_change_6 : cX6_change.data.toList.drop 137 = dktX6_change_6 := dk_seg dksX6_change_5 22 rfl rfl
theorem dksX6_change_7 : cX6_change.data.toList.drop 161 = dktX6_change_7 := dk_seg dksX6_change_6 24 rfl rfl
theorem dX6_change_0 : decode cX6_change 0 = .ok (.aload_n 0, 1) := dk_42 (dk_at dksX6_change_0 0 rfl rfl)
theorem dX6_change_1 : decode cX6_change 1 = .ok (.iconst 0, 1) := dk_3 (dk_at dksX6_change_0 1 rfl rfl)
theorem dX6_change_2 : decode cX6_change 2 = .ok (.putfield 112, 3) := dk_181 0 112 (dk_at dksX6_change_0 2 rfl rfl)
theorem dX6_change_5 : decode cX6_change 5 = .ok (.aload_n 0, 1) := dk_42 (dk_at dksX6_change_0 5 rfl rfl)
theorem dX6_change_6 : decode cX6_change 6 = .ok (.iload_n 1, 1) := dk_27 (dk_at dksX6_change_0 6 rfl rfl)
theorem dX6_change_7 : decode cX6_change 7 = .ok (.invokevirtual 332, 3) := dk_182 1 76 (dk_at dksX6_change_0 7 rfl rfl)
theorem dX6_change_10 : decode cX6_change 10 = .ok (.ifCond .eq 30, 3) := dk_153 0 30 (dk_at dksX6_change_0 10 rfl rfl)
theorem dX6_change_13 : decode cX6_change 13 = .ok (.iload_n 2, 1) := dk_28 (dk_at dksX6_change_0 13 rfl rfl)
theorem dX6_change_14 : decode cX6_change 14 = .ok (.i2l, 1) := dk_133 (dk_at dksX6_change_0 14 rfl rfl)
theorem dX6_change_15 : decode cX6_change 15 = .ok (.lconst 0, 1) := dk_9 (dk_at dksX6_change_0 15 rfl rfl)
theorem dX6_change_16 : decode cX6_change 16 = .ok (.aload_n 0, 1) := dk_42 (dk_at dksX6_change_0 16 rfl rfl)
theorem dX6_change_17 : decode cX6_change 17 = .ok (.getfield 13, 3) := dk_180 0 13 (dk_at dksX6_change_0 17 rfl rfl)
theorem dX6_change_20 : decode cX6_change 20 = .ok (.bipush 60, 2) := dk_16 60 (dk_at dksX6_change_0 20 rfl rfl)
theorem dX6_change_22 : decode cX6_change 22 = .ok (.sipush 1000, 3) := dk_17 3 232 (dk_at dksX6_change_1 0 rfl rfl)
theorem dX6_change_25 : decode cX6_change 25 = .ok (.iload_n 1, 1) := dk_27 (dk_at dksX6_change_1 3 rfl rfl)
theorem dX6_change_26 : decode cX6_change 26 = .ok (.imul, 1) := dk_104 (dk_at dksX6_change_1 4 rfl rfl)
theorem dX6_change_27 : decode cX6_change 27 = .ok (.iadd, 1) := dk_96 (dk_at dksX6_change_1 5 rfl rfl)
theorem dX6_change_28 : decode cX6_change 28 = .ok (.iaload, 1) := dk_46 (dk_at dksX6_change_1 6 rfl rfl)
theorem dX6_change_29 : decode cX6_change 29 = .ok (.i2l, 1) := dk_133 (dk_at dksX6_change_1 7 rfl rfl)
theorem dX6_change_30 : decode cX6_change 30 = .ok (.ldc2_w 143, 3) := dk_20 0 143 (dk_at dksX6_change_1 8 rfl rfl)
theorem dX6_change_33 : decode cX6_change 33 = .ok (.lsub, 1) := dk_101 (dk_at dksX6_change_1 11 rfl rfl)
theorem dX6_change_34 : decode cX6_change 34 = .ok (.invokestatic 118, 3) := dk_184 0 118 (dk_at dksX6_change_1 12 rfl rfl)
theorem dX6_change_37 : decode cX6_change 37 = .ok (.ifCond .ne 5, 3) := dk_154 0 5 (dk_at dksX6_change_1 15 rfl rfl)
theorem dX6_change_40 : decode cX6_change 40 = .ok (.iconst (-1), 1) := dk_2 (dk_at dksX6_change_1 18 rfl rfl)
theorem dX6_change_41 : decode cX6_change 41 = .ok (.ireturn, 1) := dk_172 (dk_at dksX6_change_1 19 rfl rfl)
theorem dX6_change_42 : decode cX6_change 42 = .ok (.aload_n 0, 1) := dk_42 (dk_at dksX6_change_1 20 rfl rfl)
theorem dX6_change_43 : decode cX6_change 43 = .ok (.iconst (-1), 1) := dk_2 (dk_at dksX6_change_1 21 rfl rfl)
theorem dX6_change_44 : decode cX6_change 44 = .ok (.putfield 388, 3) := dk_181 1 132 (dk_at dksX6_change_2 0 rfl rfl)
theorem dX6_change_47 : decode cX6_change 47 = .ok (.aload_n 0, 1) := dk_42 (dk_at dksX6_change_2 3 rfl rfl)
theorem dX6_change_48 : decode cX6_change 48 = .ok (.iload_n 1, 1) := dk_27 (dk_at dksX6_change_2 4 rfl rfl)
theorem dX6_change_49 : decode cX6_change 49 = .ok (.iconst (-1), 1) := dk_2 (dk_at dksX6_change_2 5 rfl rfl)
theorem dX6_change_50 : decode cX6_change 50 = .ok (.invokevirtual 436, 3) := dk_182 1 180 (dk_at dksX6_change_2 6 rfl rfl)
theorem dX6_change_53 : decode cX6_change 53 = .ok (.aload_n 0, 1) := dk_42 (dk_at dksX6_change_2 9 rfl rfl)
theorem dX6_change_54 : decode cX6_change 54 = .ok (.getfield 385, 3) := dk_180 1 129 (dk_at dksX6_change_2 10 rfl rfl)
theorem dX6_change_57 : decode cX6_change 57 = .ok (.istore_n 3, 1) := dk_62 (dk_at dksX6_change_2 13 rfl rfl)
theorem dX6_change_58 : decode cX6_change 58 = .ok (.aload_n 0, 1) := dk_42 (dk_at dksX6_change_2 14 rfl rfl)
theorem dX6_change_59 : decode cX6_change 59 = .ok (.getfield 403, 3) := dk_180 1 147 (dk_at dksX6_change_2 15 rfl rfl)
theorem dX6_change_62 : decode cX6_change 62 = .ok (.istore 4, 2) := dk_54 4 (dk_at dksX6_change_2 18 rfl rfl)
theorem dX6_change_64 : decode cX6_change 64 = .ok (.aload_n 0, 1) := dk_42 (dk_at dksX6_change_2 20 rfl rfl)
theorem dX6_change_65 : decode cX6_change 65 = .ok (.getfield 406, 3) := dk_180 1 150 (dk_at dksX6_change_2 21 rfl rfl)
theorem dX6_change_68 : decode cX6_change 68 = .ok (.istore 5, 2) := dk_54 5 (dk_at dksX6_change_3 0 rfl rfl)
theorem dX6_change_70 : decode cX6_change 70 = .ok (.aload_n 0, 1) := dk_42 (dk_at dksX6_change_3 2 rfl rfl)
theorem dX6_change_71 : decode cX6_change 71 = .ok (.getfield 400, 3) := dk_180 1 144 (dk_at dksX6_change_3 3 rfl rfl)
theorem dX6_change_74 : decode cX6_change 74 = .ok (.istore 6, 2) := dk_54 6 (dk_at dksX6_change_3 6 rfl rfl)
theorem dX6_change_76 : decode cX6_change 76 = .ok (.aload_n 0, 1) := dk_42 (dk_at dksX6_change_3 8 rfl rfl)
theorem dX6_change_77 : decode cX6_change 77 = .ok (.getfield 375, 3) := dk_180 1 119 (dk_at dksX6_change_3 9 rfl rfl)
theorem dX6_change_80 : decode cX6_change 80 = .ok (.istore 7, 2) := dk_54 7 (dk_at dksX6_change_3 12 rfl rfl)
theorem dX6_change_82 : decode cX6_change 82 = .ok (.aload_n 0, 1) := dk_42 (dk_at dksX6_change_3 14 rfl rfl)
theorem dX6_change_83 : decode cX6_change 83 = .ok (.invokevirtual 444, 3) := dk_182 1 188 (dk_at dksX6_change_3 15 rfl rfl)
theorem dX6_change_86 : decode cX6_change 86 = .ok (.aload_n 0, 1) := dk_42 (dk_at dksX6_change_3 18 rfl rfl)
theorem dX6_change_87 : decode cX6_change 87 = .ok (.iload_n 1, 1) := dk_27 (dk_at dksX6_change_3 19 rfl rfl)
theorem dX6_change_88 : decode cX6_change 88 = .ok (.iload_n 2, 1) := dk_28 (dk_at dksX6_change_3 20 rfl rfl)
theorem dX6_change_89 : decode cX6_change 89 = .ok (.invokevirtual 436, 3) := dk_182 1 180 (dk_at dksX6_change_3 21 rfl rfl)
theorem dX6_change_92 : decode cX6_change 92 = .ok (.iload_n 3, 1) := dk_29 (dk_at dksX6_change_4 0 rfl rfl)
theorem dX6_change_93 : decode cX6_change 93 = .ok (.aload_n 0, 1) := dk_42 (dk_at dksX6_change_4 1 rfl rfl)
theorem dX6_change_94 : decode cX6_change 94 = .ok (.getfield 385, 3) := dk_180 1 129 (dk_at dksX6_change_4 2 rfl rfl)
theorem dX6_change_97 : decode cX6_change 97 = .ok (.if_icmp .ne 43, 3) := dk_160 0 43 (dk_at dksX6_change_4 5 rfl rfl)
theorem dX6_change_100 : decode cX6_change 100 = .ok (.iload 4, 2) := dk_21 4 (dk_at dksX6_change_4 8 rfl rfl)
theorem dX6_change_102 : decode cX6_change 102 = .ok (.aload_n 0, 1) := dk_42 (dk_at dksX6_change_4 10 rfl rfl)
theorem dX6_change_103 : decode cX6_change 103 = .ok (.getfield 403, 3) := dk_180 1 147 (dk_at dksX6_change_4 11 rfl rfl)
theorem dX6_change_106 : decode cX6_change 106 = .ok (.if_icmp .ne 34, 3) := dk_160 0 34 (dk_at dksX6_change_4 14 rfl rfl)
theorem dX6_change_109 : decode cX6_change 109 = .ok (.iload 5, 2) := dk_21 5 (dk_at dksX6_change_4 17 rfl rfl)
theorem dX6_change_111 : decode cX6_change 111 = .ok (.aload_n 0, 1) := dk_42 (dk_at dksX6_change_4 19 rfl rfl)
theorem dX6_change_112 : decode cX6_change 112 = .ok (.getfield 406, 3) := dk_180 1 150 (dk_at dksX6_change_4 20 rfl rfl)
theorem dX6_change_115 : decode cX6_change 115 = .ok (.if_icmp .ne 25, 3) := dk_160 0 25 (dk_at dksX6_change_5 0 rfl rfl)
theorem dX6_change_118 : decode cX6_change 118 = .ok (.iload 6, 2) := dk_21 6 (dk_at dksX6_change_5 3 rfl rfl)
theorem dX6_change_120 : decode cX6_change 120 = .ok (.aload_n 0, 1) := dk_42 (dk_at dksX6_change_5 5 rfl rfl)
theorem dX6_change_121 : decode cX6_change 121 = .ok (.getfield 400, 3) := dk_180 1 144 (dk_at dksX6_change_5 6 rfl rfl)
theorem dX6_change_124 : decode cX6_change 124 = .ok (.if_icmp .ne 16, 3) := dk_160 0 16 (dk_at dksX6_change_5 9 rfl rfl)
theorem dX6_change_127 : decode cX6_change 127 = .ok (.iload 7, 2) := dk_21 7 (dk_at dksX6_change_5 12 rfl rfl)
theorem dX6_change_129 : decode cX6_change 129 = .ok (.aload_n 0, 1) := dk_42 (dk_at dksX6_change_5 14 rfl rfl)
theorem dX6_change_130 : decode cX6_change 130 = .ok (.getfield 375, 3) := dk_180 1 119 (dk_at dksX6_change_5 15 rfl rfl)
theorem dX6_change_133 : decode cX6_change 133 = .ok (.if_icmp .ne 7, 3) := dk_160 0 7 (dk_at dksX6_change_5 18 rfl rfl)
theorem dX6_change_136 : decode cX6_change 136 = .ok (.iconst 1, 1) := dk_4 (dk_at dksX6_change_5 21 rfl rfl)
theorem dX6_change_137 : decode cX6_change 137 = .ok (.goto 4, 3) := dk_167 0 4 (dk_at dksX6_change_6 0 rfl rfl)
theorem dX6_change_140 : decode cX6_change 140 = .ok (.iconst 0, 1) := dk_3 (dk_at dksX6_change_6 3 rfl rfl)
theorem dX6_change_141 : decode cX6_change 141 = .ok (.istore 8, 2) := dk_54 8 (dk_at dksX6_change_6 4 rfl rfl)
theorem dX6_change_143 : decode cX6_change 143 = .ok (.iload 8, 2) := dk_21 8 (dk_at dksX6_change_6 6 rfl rfl)
theorem dX6_change_145 : decode cX6_change 145 = .ok (.ifCond .eq 15, 3) := dk_153 0 15 (dk_at dksX6_change_6 8 rfl rfl)
theorem dX6_change_148 : decode cX6_change 148 = .ok (.aload_n 0, 1) := dk_42 (dk_at dksX6_change_6 11 rfl rfl)
theorem dX6_change_149 : decode cX6_change 149 = .ok (.iconst 0, 1) := dk_3 (dk_at dksX6_change_6 12 rfl rfl)
theorem dX6_change_150 : decode cX6_change 150 = .ok (.invokevirtual 447, 3) := dk_182 1 191 (dk_at dksX6_change_6 13 rfl rfl)
theorem dX6_change_153 : decode cX6_change 153 = .ok (.ifCond .ne 7, 3) := dk_154 0 7 (dk_at dksX6_change_6 16 rfl rfl)
theorem dX6_change_156 : decode cX6_change 156 = .ok (.iconst 1, 1) := dk_4 (dk_at dksX6_change_6 19 rfl rfl)
theorem dX6_change_157 : decode cX6_change 157 = .ok (.goto 4, 3) := dk_167 0 4 (dk_at dksX6_change_6 20 rfl rfl)
theorem dX6_change_160 : decode cX6_change 160 = .ok (.iconst 0, 1) := dk_3 (dk_at dksX6_change_6 23 rfl rfl)
theorem dX6_change_161 : decode cX6_change 161 = .ok (.ireturn, 1) := dk_172 (dk_at dksX6_change_7 0 rfl rfl)
abbrev cX6_keepIron : ByteArray := prog_28_method_65_code
def yX6_keepIron : MethodName := ⟨RX6, "keepIron", "()V"⟩
def dkwX6_keepIron_1 : List UInt8 := [167, 255, 236, 177]
abbrev dktX6_keepIron_1 : List UInt8 := dkwX6_keepIron_1 ++ []
def dkwX6_keepIron_0 : List UInt8 := [3, 60, 27, 8, 162, 0, 21, 42, 180, 0, 63, 27, 42, 180, 0, 42, 27, 46, 79, 132, 1, 1]
abbrev dktX6_keepIron_0 : List UInt8 := dkwX6_keepIron_0 ++ dktX6_keepIron_1
theorem dksX6_keepIron_0 : cX6_keepIron.data.toList.drop 0 = dktX6_keepIron_0 := by decide +kernel
theorem dksX6_keepIron_1 : cX6_keepIron.data.toList.drop 22 = dktX6_keepIron_1 := dk_seg dksX6_keepIron_0 22 rfl rfl
theorem dX6_keepIron_0 : decode cX6_keepIron 0 = .ok (.iconst 0, 1) := dk_3 (dk_at dksX6_keepIron_0 0 rfl rfl)
theorem dX6_keepIron_1 : decode cX6_keepIron 1 = .ok (.istore_n 1, 1) := dk_60 (dk_at dksX6_keepIron_0 1 rfl rfl)
theorem dX6_keepIron_2 : decode cX6_keepIron 2 = .ok (.iload_n 1, 1) := dk_27 (dk_at dksX6_keepIron_0 2 rfl rfl)
theorem dX6_keepIron_3 : decode cX6_keepIron 3 = .ok (.iconst 5, 1) := dk_8 (dk_at dksX6_keepIron_0 3 rfl rfl)
theorem dX6_keepIron_4 : decode cX6_keepIron 4 = .ok (.if_icmp .ge 21, 3) := dk_162 0 21 (dk_at dksX6_keepIron_0 4 rfl rfl)
theorem dX6_keepIron_7 : decode cX6_keepIron 7 = .ok (.aload_n 0, 1) := dk_42 (dk_at dksX6_keepIron_0 7 rfl rfl)
theorem dX6_keepIron_8 : decode cX6_keepIron 8 = .ok (.getfield 63, 3) := dk_180 0 63 (dk_at dksX6_keepIron_0 8 rfl rfl)
theorem dX6_keepIron_11 : decode cX6_keepIron 11 = .ok (.iload_n 1, 1) := dk_27 (dk_at dksX6_keepIron_0 11 rfl rfl)
theorem dX6_keepIron_12 : decode cX6_keepIron 12 = .ok (.aload_n 0, 1) := dk_42 (dk_at dksX6_keepIron_0 12 rfl rfl)
theorem dX6_keepIron_13 : decode cX6_keepIron 13 = .ok (.getfield 42, 3) := dk_180 0 42 (dk_at dksX6_keepIron_0 13 rfl rfl)
theorem dX6_keepIron_16 : decode cX6_keepIron 16 = .ok (.iload_n 1, 1) := dk_27 (dk_at dksX6_keepIron_0 16 rfl rfl)
theorem dX6_keepIron_17 : decode cX6_keepIron 17 = .ok (.iaload, 1) := dk_46 (dk_at dksX6_keepIron_0 17 rfl rfl)
theorem dX6_keepIron_18 : decode cX6_keepIron 18 = .ok (.iastore, 1) := dk_79 (dk_at dksX6_keepIron_0 18 rfl rfl)
theorem dX6_keepIron_19 : decode cX6_keepIron 19 = .ok (.iinc 1 1, 3) := dk_132 1 1 (dk_at dksX6_keepIron_0 19 rfl rfl)
theorem dX6_keepIron_22 : decode cX6_keepIron 22 = .ok (.goto (-20), 3) := dk_167 255 236 (dk_at dksX6_keepIron_1 0 rfl rfl)
theorem dX6_keepIron_25 : decode cX6_keepIron 25 = .ok (.return_, 1) := dk_177 (dk_at dksX6_keepIron_1 3 rfl rfl)
abbrev cX6_apart : ByteArray := prog_28_method_66_code
def yX6_apart : MethodName := ⟨RX6, "apart", "(I)I"⟩
def dkwX6_apart_2 : List UInt8 := [61, 132, 3, 1, 167, 255, 208, 28, 172]
abbrev dktX6_apart_2 : List UInt8 := dkwX6_apart_2 ++ []
def dkwX6_apart_1 : List UInt8 := [8, 27, 104, 29, 96, 46, 100, 54, 4, 28, 21, 4, 156, 0, 9, 21, 4, 116, 167, 0, 5, 21, 4, 96]
abbrev dktX6_apart_1 : List UInt8 := dkwX6_apart_1 ++ dktX6_apart_2
def dkwX6_apart_0 : List UInt8 := [3, 61, 3, 62, 29, 42, 180, 0, 13, 3, 46, 162, 0, 44, 42, 180, 0, 42, 29, 46, 42, 180, 0, 63]
abbrev dktX6_apart_0 : List UInt8 := dkwX6_apart_0 ++ dktX6_apart_1
theorem dksX6_apart_0 : cX6_apart.data.toList.drop 0 = dktX6_apart_0 := by decide +kernel
theorem dksX6_apart_1 : cX6_apart.data.toList.drop 24 = dktX6_apart_1 := dk_seg dksX6_apart_0 24 rfl rfl
theorem dksX6_apart_2 : cX6_apart.data.toList.drop 48 = dktX6_apart_2 := dk_seg dksX6_apart_1 24 rfl rfl
theorem dX6_apart_0 : decode cX6_apart 0 = .ok (.iconst 0, 1) := dk_3 (dk_at dksX6_apart_0 0 rfl rfl)
theorem dX6_apart_1 : decode cX6_apart 1 = .ok (.istore_n 2, 1) := dk_61 (dk_at dksX6_apart_0 1 rfl rfl)
theorem dX6_apart_2 : decode cX6_apart 2 = .ok (.iconst 0, 1) := dk_3 (dk_at dksX6_apart_0 2 rfl rfl)
theorem dX6_apart_3 : decode cX6_apart 3 = .ok (.istore_n 3, 1) := dk_62 (dk_at dksX6_apart_0 3 rfl rfl)
theorem dX6_apart_4 : decode cX6_apart 4 = .ok (.iload_n 3, 1) := dk_29 (dk_at dksX6_apart_0 4 rfl rfl)
theorem dX6_apart_5 : decode cX6_apart 5 = .ok (.aload_n 0, 1) := dk_42 (dk_at dksX6_apart_0 5 rfl rfl)
theorem dX6_apart_6 : decode cX6_apart 6 = .ok (.getfield 13, 3) := dk_180 0 13 (dk_at dksX6_apart_0 6 rfl rfl)
theorem dX6_apart_9 : decode cX6_apart 9 = .ok (.iconst 0, 1) := dk_3 (dk_at dksX6_apart_0 9 rfl rfl)
theorem dX6_apart_10 : decode cX6_apart 10 = .ok (.iaload, 1) := dk_46 (dk_at dksX6_apart_0 10 rfl rfl)
theorem dX6_apart_11 : decode cX6_apart 11 = .ok (.if_icmp .ge 44, 3) := dk_162 0 44 (dk_at dksX6_apart_0 11 rfl rfl)
theorem dX6_apart_14 : decode cX6_apart 14 = .ok (.aload_n 0, 1) := dk_42 (dk_at dksX6_apart_0 14 rfl rfl)
theorem dX6_apart_15 : decode cX6_apart 15 = .ok (.getfield 42, 3) := dk_180 0 42 (dk_at dksX6_apart_0 15 rfl rfl)
theorem dX6_apart_18 : decode cX6_apart 18 = .ok (.iload_n 3, 1) := dk_29 (dk_at dksX6_apart_0 18 rfl rfl)
theorem dX6_apart_19 : decode cX6_apart 19 = .ok (.iaload, 1) := dk_46 (dk_at dksX6_apart_0 19 rfl rfl)
theorem dX6_apart_20 : decode cX6_apart 20 = .ok (.aload_n 0, 1) := dk_42 (dk_at dksX6_apart_0 20 rfl rfl)
theorem dX6_apart_21 : decode cX6_apart 21 = .ok (.getfield 63, 3) := dk_180 0 63 (dk_at dksX6_apart_0 21 rfl rfl)
theorem dX6_apart_24 : decode cX6_apart 24 = .ok (.iconst 5, 1) := dk_8 (dk_at dksX6_apart_1 0 rfl rfl)
theorem dX6_apart_25 : decode cX6_apart 25 = .ok (.iload_n 1, 1) := dk_27 (dk_at dksX6_apart_1 1 rfl rfl)
theorem dX6_apart_26 : decode cX6_apart 26 = .ok (.imul, 1) := dk_104 (dk_at dksX6_apart_1 2 rfl rfl)
theorem dX6_apart_27 : decode cX6_apart 27 = .ok (.iload_n 3, 1) := dk_29 (dk_at dksX6_apart_1 3 rfl rfl)
theorem dX6_apart_28 : decode cX6_apart 28 = .ok (.iadd, 1) := dk_96 (dk_at dksX6_apart_1 4 rfl rfl)
theorem dX6_apart_29 : decode cX6_apart 29 = .ok (.iaload, 1) := dk_46 (dk_at dksX6_apart_1 5 rfl rfl)
theorem dX6_apart_30 : decode cX6_apart 30 = .ok (.isub, 1) := dk_100 (dk_at dksX6_apart_1 6 rfl rfl)
theorem dX6_apart_31 : decode cX6_apart 31 = .ok (.istore 4, 2) := dk_54 4 (dk_at dksX6_apart_1 7 rfl rfl)
theorem dX6_apart_33 : decode cX6_apart 33 = .ok (.iload_n 2, 1) := dk_28 (dk_at dksX6_apart_1 9 rfl rfl)
theorem dX6_apart_34 : decode cX6_apart 34 = .ok (.iload 4, 2) := dk_21 4 (dk_at dksX6_apart_1 10 rfl rfl)
theorem dX6_apart_36 : decode cX6_apart 36 = .ok (.ifCond .ge 9, 3) := dk_156 0 9 (dk_at dksX6_apart_1 12 rfl rfl)
theorem dX6_apart_39 : decode cX6_apart 39 = .ok (.iload 4, 2) := dk_21 4 (dk_at dksX6_apart_1 15 rfl rfl)
theorem dX6_apart_41 : decode cX6_apart 41 = .ok (.ineg, 1) := dk_116 (dk_at dksX6_apart_1 17 rfl rfl)
theorem dX6_apart_42 : decode cX6_apart 42 = .ok (.goto 5, 3) := dk_167 0 5 (dk_at dksX6_apart_1 18 rfl rfl)
theorem dX6_apart_45 : decode cX6_apart 45 = .ok (.iload 4, 2) := dk_21 4 (dk_at dksX6_apart_1 21 rfl rfl)
theorem dX6_apart_47 : decode cX6_apart 47 = .ok (.iadd, 1) := dk_96 (dk_at dksX6_apart_1 23 rfl rfl)
theorem dX6_apart_48 : decode cX6_apart 48 = .ok (.istore_n 2, 1) := dk_61 (dk_at dksX6_apart_2 0 rfl rfl)
theorem dX6_apart_49 : decode cX6_apart 49 = .ok (.iinc 3 1, 3) := dk_132 3 1 (dk_at dksX6_apart_2 1 rfl rfl)
theorem dX6_apart_52 : decode cX6_apart 52 = .ok (.goto (-48), 3) := dk_167 255 208 (dk_at dksX6_apart_2 4 rfl rfl)
theorem dX6_apart_55 : decode cX6_apart 55 = .ok (.iload_n 2, 1) := dk_28 (dk_at dksX6_apart_2 7 rfl rfl)
theorem dX6_apart_56 : decode cX6_apart 56 = .ok (.ireturn, 1) := dk_172 (dk_at dksX6_apart_2 8 rfl rfl)
abbrev cX6_made : ByteArray := prog_28_method_67_code
def yX6_made : MethodName := ⟨RX6, "made", "(III)I"⟩
def dkwX6_made_8 : List UInt8 := [132, 9, 1, 167, 255, 190, 21, 8, 172]
abbrev dktX6_made_8 : List UInt8 := dkwX6_made_8 ++ []
def dkwX6_made_7 : List UInt8 := [160, 0, 18, 42, 180, 1, 168, 2, 160, 0, 10, 4, 21, 9, 120, 167, 0, 4, 3, 128, 54, 8]
abbrev dktX6_made_7 : List UInt8 := dkwX6_made_7 ++ dktX6_made_8
def dkwX6_made_6 : List UInt8 := [21, 8, 42, 3, 182, 1, 191, 154, 0, 34, 42, 180, 1, 147, 28, 160, 0, 26, 42, 180, 1, 144, 29]
abbrev dktX6_made_6 : List UInt8 := dkwX6_made_6 ++ dktX6_made_7
def dkwX6_made_5 : List UInt8 := [181, 1, 132, 3, 54, 9, 21, 9, 42, 180, 0, 13, 4, 46, 162, 0, 61, 42, 21, 9, 2, 182, 1, 180]
abbrev dktX6_made_5 : List UInt8 := dkwX6_made_5 ++ dktX6_made_6
def dkwX6_made_4 : List UInt8 := [154, 0, 5, 2, 172, 132, 8, 255, 167, 255, 217, 21, 7, 153, 0, 5, 2, 172, 3, 54, 8, 42, 2]
abbrev dktX6_made_4 : List UInt8 := dkwX6_made_4 ++ dktX6_made_5
def dkwX6_made_3 : List UInt8 := [21, 8, 21, 7, 16, 10, 112, 79, 21, 7, 16, 10, 108, 54, 7, 42, 180, 0, 63, 21, 8, 46]
abbrev dktX6_made_3 : List UInt8 := dkwX6_made_3 ++ dktX6_made_4
def dkwX6_made_2 : List UInt8 := [154, 0, 5, 2, 172, 27, 54, 7, 21, 4, 4, 100, 54, 8, 21, 8, 155, 0, 40, 42, 180, 0, 63]
abbrev dktX6_made_2 : List UInt8 := dkwX6_made_2 ++ dktX6_made_3
def dkwX6_made_1 : List UInt8 := [155, 0, 25, 28, 133, 9, 22, 5, 184, 0, 118, 153, 0, 14, 29, 133, 9, 22, 5, 184, 0, 118]
abbrev dktX6_made_1 : List UInt8 := dkwX6_made_1 ++ dktX6_made_2
def dkwX6_made_0 : List UInt8 := [42, 3, 181, 0, 112, 42, 180, 0, 13, 3, 46, 54, 4, 10, 21, 4, 121, 10, 101, 55, 5, 27]
abbrev dktX6_made_0 : List UInt8 := dkwX6_made_0 ++ dktX6_made_1
theorem dksX6_made_0 : cX6_made.data.toList.drop 0 = dktX6_made_0 := by decide +kernel
theorem dksX6_made_1 : cX6_made.data.toList.drop 22 = dktX6_made_1 := dk_seg dksX6_made_0 22 rfl rfl
theorem dksX6_made_2 : cX6_made.data.toList.drop 44 = dktX6_made_2 := dk_seg dksX6_made_1 22 rfl rfl
theorem dksX6_made_3 : cX6_made.data.toList.drop 67 = dktX6_made_3 := dk_seg dksX6_made_2 23 rfl rfl
theorem dksX6_made_4 : cX6_made.data.toList.drop 89 = dktX6_made_4 := dk_seg dksX6_made_3 22 rfl rfl
theorem dksX6_made_5 : cX6_made.data.toList.drop 112 = dktX6_made_5 := dk_seg dksX6_made_4 23 rfl rfl
theorem dksX6_made_6 : cX6_made.data.toList.drop 136 = dktX6_made_6 := dk_seg dksX6_made_5 24 rfl rfl
theorem dksX6_made_7 : cX6_made.data.toList.drop 159 = dktX6_made_7 := dk_seg dksX6_made_6 23 rfl rfl
theorem dksX6_made_8 : cX6_made.data.toList.drop 181 = dktX6_made_8 := dk_seg dksX6_made_7 22 rfl rfl
theorem dX6_made_0 : decode cX6_made 0 = .ok (.aload_n 0, 1) := dk_42 (dk_at dksX6_made_0 0 rfl rfl)
theorem dX6_made_1 : decode cX6_made 1 = .ok (.iconst 0, 1) := dk_3 (dk_at dksX6_made_0 1 rfl rfl)
theorem dX6_made_2 : decode cX6_made 2 = .ok (.putfield 112, 3) := dk_181 0 112 (dk_at dksX6_made_0 2 rfl rfl)
theorem dX6_made_5 : decode cX6_made 5 = .ok (.aload_n 0, 1) := dk_42 (dk_at dksX6_made_0 5 rfl rfl)
theorem dX6_made_6 : decode cX6_made 6 = .ok (.getfield 13, 3) := dk_180 0 13 (dk_at dksX6_made_0 6 rfl rfl)
theorem dX6_made_9 : decode cX6_made 9 = .ok (.iconst 0, 1) := dk_3 (dk_at dksX6_made_0 9 rfl rfl)
theorem dX6_made_10 : decode cX6_made 10 = .ok (.iaload, 1) := dk_46 (dk_at dksX6_made_0 10 rfl rfl)
theorem dX6_made_11 : decode cX6_made 11 = .ok (.istore 4, 2) := dk_54 4 (dk_at dksX6_made_0 11 rfl rfl)
theorem dX6_made_13 : decode cX6_made 13 = .ok (.lconst 1, 1) := dk_10 (dk_at dksX6_made_0 13 rfl rfl)
theorem dX6_made_14 : decode cX6_made 14 = .ok (.iload 4, 2) := dk_21 4 (dk_at dksX6_made_0 14 rfl rfl)
theorem dX6_made_16 : decode cX6_made 16 = .ok (.lshl, 1) := dk_121 (dk_at dksX6_made_0 16 rfl rfl)
theorem dX6_made_17 : decode cX6_made 17 = .ok (.lconst 1, 1) := dk_10 (dk_at dksX6_made_0 17 rfl rfl)
theorem dX6_made_18 : decode cX6_made 18 = .ok (.lsub, 1) := dk_101 (dk_at dksX6_made_0 18 rfl rfl)
theorem dX6_made_19 : decode cX6_made 19 = .ok (.lstore 5, 2) := dk_55 5 (dk_at dksX6_made_0 19 rfl rfl)
theorem dX6_made_21 : decode cX6_made 21 = .ok (.iload_n 1, 1) := dk_27 (dk_at dksX6_made_0 21 rfl rfl)
theorem dX6_made_22 : decode cX6_made 22 = .ok (.ifCond .lt 25, 3) := dk_155 0 25 (dk_at dksX6_made_1 0 rfl rfl)
theorem dX6_made_25 : decode cX6_made 25 = .ok (.iload_n 2, 1) := dk_28 (dk_at dksX6_made_1 3 rfl rfl)
theorem dX6_made_26 : decode cX6_made 26 = .ok (.i2l, 1) := dk_133 (dk_at dksX6_made_1 4 rfl rfl)
theorem dX6_made_27 : decode cX6_made 27 = .ok (.lconst 0, 1) := dk_9 (dk_at dksX6_made_1 5 rfl rfl)
theorem dX6_made_28 : decode cX6_made 28 = .ok (.lload 5, 2) := dk_22 5 (dk_at dksX6_made_1 6 rfl rfl)
theorem dX6_made_30 : decode cX6_made 30 = .ok (.invokestatic 118, 3) := dk_184 0 118 (dk_at dksX6_made_1 8 rfl rfl)
theorem dX6_made_33 : decode cX6_made 33 = .ok (.ifCond .eq 14, 3) := dk_153 0 14 (dk_at dksX6_made_1 11 rfl rfl)
theorem dX6_made_36 : decode cX6_made 36 = .ok (.iload_n 3, 1) := dk_29 (dk_at dksX6_made_1 14 rfl rfl)
theorem dX6_made_37 : decode cX6_made 37 = .ok (.i2l, 1) := dk_133 (dk_at dksX6_made_1 15 rfl rfl)
theorem dX6_made_38 : decode cX6_made 38 = .ok (.lconst 0, 1) := dk_9 (dk_at dksX6_made_1 16 rfl rfl)
theorem dX6_made_39 : decode cX6_made 39 = .ok (.lload 5, 2) := dk_22 5 (dk_at dksX6_made_1 17 rfl rfl)
theorem dX6_made_41 : decode cX6_made 41 = .ok (.invokestatic 118, 3) := dk_184 0 118 (dk_at dksX6_made_1 19 rfl rfl)
theorem dX6_made_44 : decode cX6_made 44 = .ok (.ifCond .ne 5, 3) := dk_154 0 5 (dk_at dksX6_made_2 0 rfl rfl)
theorem dX6_made_47 : decode cX6_made 47 = .ok (.iconst (-1), 1) := dk_2 (dk_at dksX6_made_2 3 rfl rfl)
theorem dX6_made_48 : decode cX6_made 48 = .ok (.ireturn, 1) := dk_172 (dk_at dksX6_made_2 4 rfl rfl)
theorem dX6_made_49 : decode cX6_made 49 = .ok (.iload_n 1, 1) := dk_27 (dk_at dksX6_made_2 5 rfl rfl)
theorem dX6_made_50 : decode cX6_made 50 = .ok (.istore 7, 2) := dk_54 7 (dk_at dksX6_made_2 6 rfl rfl)
theorem dX6_made_52 : decode cX6_made 52 = .ok (.iload 4, 2) := dk_21 4 (dk_at dksX6_made_2 8 rfl rfl)
theorem dX6_made_54 : decode cX6_made 54 = .ok (.iconst 1, 1) := dk_4 (dk_at dksX6_made_2 10 rfl rfl)
theorem dX6_made_55 : decode cX6_made 55 = .ok (.isub, 1) := dk_100 (dk_at dksX6_made_2 11 rfl rfl)
theorem dX6_made_56 : decode cX6_made 56 = .ok (.istore 8, 2) := dk_54 8 (dk_at dksX6_made_2 12 rfl rfl)
theorem dX6_made_58 : decode cX6_made 58 = .ok (.iload 8, 2) := dk_21 8 (dk_at dksX6_made_2 14 rfl rfl)
theorem dX6_made_60 : decode cX6_made 60 = .ok (.ifCond .lt 40, 3) := dk_155 0 40 (dk_at dksX6_made_2 16 rfl rfl)
theorem dX6_made_63 : decode cX6_made 63 = .ok (.aload_n 0, 1) := dk_42 (dk_at dksX6_made_2 19 rfl rfl)
theorem dX6_made_64 : decode cX6_made 64 = .ok (.getfield 63, 3) := dk_180 0 63 (dk_at dksX6_made_2 20 rfl rfl)
theorem dX6_made_67 : decode cX6_made 67 = .ok (.iload 8, 2) := dk_21 8 (dk_at dksX6_made_3 0 rfl rfl)
theorem dX6_made_69 : decode cX6_made 69 = .ok (.iload 7, 2) := dk_21 7 (dk_at dksX6_made_3 2 rfl rfl)
theorem dX6_made_71 : decode cX6_made 71 = .ok (.bipush 10, 2) := dk_16 10 (dk_at dksX6_made_3 4 rfl rfl)
theorem dX6_made_73 : decode cX6_made 73 = .ok (.irem, 1) := dk_112 (dk_at dksX6_made_3 6 rfl rfl)
theorem dX6_made_74 : decode cX6_made 74 = .ok (.iastore, 1) := dk_79 (dk_at dksX6_made_3 7 rfl rfl)
theorem dX6_made_75 : decode cX6_made 75 = .ok (.iload 7, 2) := dk_21 7 (dk_at dksX6_made_3 8 rfl rfl)
theorem dX6_made_77 : decode cX6_made 77 = .ok (.bipush 10, 2) := dk_16 10 (dk_at dksX6_made_3 10 rfl rfl)
theorem dX6_made_79 : decode cX6_made 79 = .ok (.idiv, 1) := dk_108 (dk_at dksX6_made_3 12 rfl rfl)
theorem dX6_made_80 : decode cX6_made 80 = .ok (.istore 7, 2) := dk_54 7 (dk_at dksX6_made_3 13 rfl rfl)
theorem dX6_made_82 : decode cX6_made 82 = .ok (.aload_n 0, 1) := dk_42 (dk_at dksX6_made_3 15 rfl rfl)
theorem dX6_made_83 : decode cX6_made 83 = .ok (.getfield 63, 3) := dk_180 0 63 (dk_at dksX6_made_3 16 rfl rfl)
theorem dX6_made_86 : decode cX6_made 86 = .ok (.iload 8, 2) := dk_21 8 (dk_at dksX6_made_3 19 rfl rfl)
theorem dX6_made_88 : decode cX6_made 88 = .ok (.iaload, 1) := dk_46 (dk_at dksX6_made_3 21 rfl rfl)
theorem dX6_made_89 : decode cX6_made 89 = .ok (.ifCond .ne 5, 3) := dk_154 0 5 (dk_at dksX6_made_4 0 rfl rfl)
theorem dX6_made_92 : decode cX6_made 92 = .ok (.iconst (-1), 1) := dk_2 (dk_at dksX6_made_4 3 rfl rfl)
theorem dX6_made_93 : decode cX6_made 93 = .ok (.ireturn, 1) := dk_172 (dk_at dksX6_made_4 4 rfl rfl)
theorem dX6_made_94 : decode cX6_made 94 = .ok (.iinc 8 (-1), 3) := dk_132 8 255 (dk_at dksX6_made_4 5 rfl rfl)
theorem dX6_made_97 : decode cX6_made 97 = .ok (.goto (-39), 3) := dk_167 255 217 (dk_at dksX6_made_4 8 rfl rfl)
theorem dX6_made_100 : decode cX6_made 100 = .ok (.iload 7, 2) := dk_21 7 (dk_at dksX6_made_4 11 rfl rfl)
theorem dX6_made_102 : decode cX6_made 102 = .ok (.ifCond .eq 5, 3) := dk_153 0 5 (dk_at dksX6_made_4 13 rfl rfl)
theorem dX6_made_105 : decode cX6_made 105 = .ok (.iconst (-1), 1) := dk_2 (dk_at dksX6_made_4 16 rfl rfl)
theorem dX6_made_106 : decode cX6_made 106 = .ok (.ireturn, 1) := dk_172 (dk_at dksX6_made_4 17 rfl rfl)
theorem dX6_made_107 : decode cX6_made 107 = .ok (.iconst 0, 1) := dk_3 (dk_at dksX6_made_4 18 rfl rfl)
theorem dX6_made_108 : decode cX6_made 108 = .ok (.istore 8, 2) := dk_54 8 (dk_at dksX6_made_4 19 rfl rfl)
theorem dX6_made_110 : decode cX6_made 110 = .ok (.aload_n 0, 1) := dk_42 (dk_at dksX6_made_4 21 rfl rfl)
theorem dX6_made_111 : decode cX6_made 111 = .ok (.iconst (-1), 1) := dk_2 (dk_at dksX6_made_4 22 rfl rfl)
theorem dX6_made_112 : decode cX6_made 112 = .ok (.putfield 388, 3) := dk_181 1 132 (dk_at dksX6_made_5 0 rfl rfl)
theorem dX6_made_115 : decode cX6_made 115 = .ok (.iconst 0, 1) := dk_3 (dk_at dksX6_made_5 3 rfl rfl)
theorem dX6_made_116 : decode cX6_made 116 = .ok (.istore 9, 2) := dk_54 9 (dk_at dksX6_made_5 4 rfl rfl)
theorem dX6_made_118 : decode cX6_made 118 = .ok (.iload 9, 2) := dk_21 9 (dk_at dksX6_made_5 6 rfl rfl)
theorem dX6_made_120 : decode cX6_made 120 = .ok (.aload_n 0, 1) := dk_42 (dk_at dksX6_made_5 8 rfl rfl)
theorem dX6_made_121 : decode cX6_made 121 = .ok (.getfield 13, 3) := dk_180 0 13 (dk_at dksX6_made_5 9 rfl rfl)
theorem dX6_made_124 : decode cX6_made 124 = .ok (.iconst 1, 1) := dk_4 (dk_at dksX6_made_5 12 rfl rfl)
theorem dX6_made_125 : decode cX6_made 125 = .ok (.iaload, 1) := dk_46 (dk_at dksX6_made_5 13 rfl rfl)
theorem dX6_made_126 : decode cX6_made 126 = .ok (.if_icmp .ge 61, 3) := dk_162 0 61 (dk_at dksX6_made_5 14 rfl rfl)
theorem dX6_made_129 : decode cX6_made 129 = .ok (.aload_n 0, 1) := dk_42 (dk_at dksX6_made_5 17 rfl rfl)
theorem dX6_made_130 : decode cX6_made 130 = .ok (.iload 9, 2) := dk_21 9 (dk_at dksX6_made_5 18 rfl rfl)
theorem dX6_made_132 : decode cX6_made 132 = .ok (.iconst (-1), 1) := dk_2 (dk_at dksX6_made_5 20 rfl rfl)
theorem dX6_made_133 : decode cX6_made 133 = .ok (.invokevirtual 436, 3) := dk_182 1 180 (dk_at dksX6_made_5 21 rfl rfl)
theorem dX6_made_136 : decode cX6_made 136 = .ok (.iload 8, 2) := dk_21 8 (dk_at dksX6_made_6 0 rfl rfl)
theorem dX6_made_138 : decode cX6_made 138 = .ok (.aload_n 0, 1) := dk_42 (dk_at dksX6_made_6 2 rfl rfl)
theorem dX6_made_139 : decode cX6_made 139 = .ok (.iconst 0, 1) := dk_3 (dk_at dksX6_made_6 3 rfl rfl)
theorem dX6_made_140 : decode cX6_made 140 = .ok (.invokevirtual 447, 3) := dk_182 1 191 (dk_at dksX6_made_6 4 rfl rfl)
theorem dX6_made_143 : decode cX6_made 143 = .ok (.ifCond .ne 34, 3) := dk_154 0 34 (dk_at dksX6_made_6 7 rfl rfl)
theorem dX6_made_146 : decode cX6_made 146 = .ok (.aload_n 0, 1) := dk_42 (dk_at dksX6_made_6 10 rfl rfl)
theorem dX6_made_147 : decode cX6_made 147 = .ok (.getfield 403, 3) := dk_180 1 147 (dk_at dksX6_made_6 11 rfl rfl)
theorem dX6_made_150 : decode cX6_made 150 = .ok (.iload_n 2, 1) := dk_28 (dk_at dksX6_made_6 14 rfl rfl)
theorem dX6_made_151 : decode cX6_made 151 = .ok (.if_icmp .ne 26, 3) := dk_160 0 26 (dk_at dksX6_made_6 15 rfl rfl)
theorem dX6_made_154 : decode cX6_made 154 = .ok (.aload_n 0, 1) := dk_42 (dk_at dksX6_made_6 18 rfl rfl)
theorem dX6_made_155 : decode cX6_made 155 = .ok (.getfield 400, 3) := dk_180 1 144 (dk_at dksX6_made_6 19 rfl rfl)
theorem dX6_made_158 : decode cX6_made 158 = .ok (.iload_n 3, 1) := dk_29 (dk_at dksX6_made_6 22 rfl rfl)
theorem dX6_made_159 : decode cX6_made 159 = .ok (.if_icmp .ne 18, 3) := dk_160 0 18 (dk_at dksX6_made_7 0 rfl rfl)
theorem dX6_made_162 : decode cX6_made 162 = .ok (.aload_n 0, 1) := dk_42 (dk_at dksX6_made_7 3 rfl rfl)
theorem dX6_made_163 : decode cX6_made 163 = .ok (.getfield 424, 3) := dk_180 1 168 (dk_at dksX6_made_7 4 rfl rfl)
theorem dX6_made_166 : decode cX6_made 166 = .ok (.iconst (-1), 1) := dk_2 (dk_at dksX6_made_7 7 rfl rfl)
theorem dX6_made_167 : decode cX6_made 167 = .ok (.if_icmp .ne 10, 3) := dk_160 0 10 (dk_at dksX6_made_7 8 rfl rfl)
theorem dX6_made_170 : decode cX6_made 170 = .ok (.iconst 1, 1) := dk_4 (dk_at dksX6_made_7 11 rfl rfl)
theorem dX6_made_171 : decode cX6_made 171 = .ok (.iload 9, 2) := dk_21 9 (dk_at dksX6_made_7 12 rfl rfl)
theorem dX6_made_173 : decode cX6_made 173 = .ok (.ishl, 1) := dk_120 (dk_at dksX6_made_7 14 rfl rfl)
theorem dX6_made_174 : decode cX6_made 174 = .ok (.goto 4, 3) := dk_167 0 4 (dk_at dksX6_made_7 15 rfl rfl)
theorem dX6_made_177 : decode cX6_made 177 = .ok (.iconst 0, 1) := dk_3 (dk_at dksX6_made_7 18 rfl rfl)
theorem dX6_made_178 : decode cX6_made 178 = .ok (.ior, 1) := dk_128 (dk_at dksX6_made_7 19 rfl rfl)
theorem dX6_made_179 : decode cX6_made 179 = .ok (.istore 8, 2) := dk_54 8 (dk_at dksX6_made_7 20 rfl rfl)
theorem dX6_made_181 : decode cX6_made 181 = .ok (.iinc 9 1, 3) := dk_132 9 1 (dk_at dksX6_made_8 0 rfl rfl)
theorem dX6_made_184 : decode cX6_made 184 = .ok (.goto (-66), 3) := dk_167 255 190 (dk_at dksX6_made_8 3 rfl rfl)
theorem dX6_made_187 : decode cX6_made 187 = .ok (.iload 8, 2) := dk_21 8 (dk_at dksX6_made_8 6 rfl rfl)
theorem dX6_made_189 : decode cX6_made 189 = .ok (.ireturn, 1) := dk_172 (dk_at dksX6_made_8 8 rfl rfl)
abbrev cX6_twelve : ByteArray := prog_28_method_68_code
def yX6_twelve : MethodName := ⟨RX6, "twelve", "(IIII)I"⟩
def dkwX6_twelve_11 : List UInt8 := [21, 7, 172]
abbrev dktX6_twelve_11 : List UInt8 := dkwX6_twelve_11 ++ []
def dkwX6_twelve_10 : List UInt8 := [167, 255, 227, 21, 4, 154, 0, 8, 21, 5, 167, 0, 16, 21, 4, 4, 160, 0, 8, 21, 6, 167, 0, 5]
abbrev dktX6_twelve_10 : List UInt8 := dkwX6_twelve_10 ++ dktX6_twelve_11
def dkwX6_twelve_9 : List UInt8 := [21, 7, 42, 21, 8, 182, 1, 191, 154, 0, 7, 4, 167, 0, 4, 3, 96, 54, 7, 132, 8, 1]
abbrev dktX6_twelve_9 : List UInt8 := dkwX6_twelve_9 ++ dktX6_twelve_10
def dkwX6_twelve_8 : List UInt8 := [42, 2, 181, 1, 132, 42, 27, 2, 182, 1, 180, 3, 54, 7, 3, 54, 8, 21, 8, 16, 12, 162, 0, 28]
abbrev dktX6_twelve_8 : List UInt8 := dkwX6_twelve_8 ++ dktX6_twelve_9
def dkwX6_twelve_7 : List UInt8 := [164, 0, 8, 21, 9, 167, 0, 5, 21, 6, 54, 6, 132, 8, 1, 167, 255, 222, 132, 7, 1, 167, 255, 148]
abbrev dktX6_twelve_7 : List UInt8 := dkwX6_twelve_7 ++ dktX6_twelve_8
def dkwX6_twelve_6 : List UInt8 := [3, 54, 8, 21, 8, 21, 7, 162, 0, 33, 42, 21, 8, 182, 1, 191, 54, 9, 21, 9, 21, 6]
abbrev dktX6_twelve_6 : List UInt8 := dkwX6_twelve_6 ++ dktX6_twelve_7
def dkwX6_twelve_5 : List UInt8 := [132, 8, 1, 167, 255, 228, 21, 5, 42, 3, 182, 1, 191, 154, 0, 7, 4, 167, 0, 4, 3, 96, 54, 5]
abbrev dktX6_twelve_5 : List UInt8 := dkwX6_twelve_5 ++ dktX6_twelve_6
def dkwX6_twelve_4 : List UInt8 := [162, 0, 28, 42, 180, 0, 63, 8, 21, 7, 104, 21, 8, 96, 42, 180, 0, 42, 21, 8, 46, 79]
abbrev dktX6_twelve_4 : List UInt8 := dkwX6_twelve_4 ++ dktX6_twelve_5
def dkwX6_twelve_3 : List UInt8 := [54, 6, 3, 54, 7, 21, 7, 16, 12, 162, 0, 107, 42, 27, 2, 182, 1, 180, 3, 54, 8, 21, 8, 8]
abbrev dktX6_twelve_3 : List UInt8 := dkwX6_twelve_3 ++ dktX6_twelve_4
def dkwX6_twelve_2 : List UInt8 := [184, 0, 118, 154, 0, 5, 2, 172, 42, 28, 181, 1, 132, 42, 29, 133, 181, 1, 94, 3, 54, 5, 3]
abbrev dktX6_twelve_2 : List UInt8 := dkwX6_twelve_2 ++ dktX6_twelve_3
def dkwX6_twelve_1 : List UInt8 := [153, 0, 28, 29, 133, 9, 20, 1, 194, 184, 0, 118, 153, 0, 16, 21, 4, 133, 9, 20, 0, 143]
abbrev dktX6_twelve_1 : List UInt8 := dkwX6_twelve_1 ++ dktX6_twelve_2
def dkwX6_twelve_0 : List UInt8 := [42, 3, 181, 0, 112, 42, 27, 182, 1, 76, 153, 0, 40, 28, 133, 9, 20, 0, 149, 184, 0, 118]
abbrev dktX6_twelve_0 : List UInt8 := dkwX6_twelve_0 ++ dktX6_twelve_1
theorem dksX6_twelve_0 : cX6_twelve.data.toList.drop 0 = dktX6_twelve_0 := by decide +kernel
theorem dksX6_twelve_1 : cX6_twelve.data.toList.drop 22 = dktX6_twelve_1 := dk_seg dksX6_twelve_0 22 rfl rfl
theorem dksX6_twelve_2 : cX6_twelve.data.toList.drop 44 = dktX6_twelve_2 := dk_seg dksX6_twelve_1 22 rfl rfl
theorem dksX6_twelve_3 : cX6_twelve.data.toList.drop 67 = dktX6_twelve_3 := dk_seg dksX6_twelve_2 23 rfl rfl
theorem dksX6_twelve_4 : cX6_twelve.data.toList.drop 91 = dktX6_twelve_4 := dk_seg dksX6_twelve_3 24 rfl rfl
theorem dksX6_twelve_5 : cX6_twelve.data.toList.drop 113 = dktX6_twelve_5 := dk_seg dksX6_twelve_4 22 rfl rfl
theorem dksX6_twelve_6 : cX6_twelve.data.toList.drop 137 = dktX6_twelve_6 := dk_seg dksX6_twelve_5 24 rfl rfl
theorem dksX6_twelve_7 : cX6_twelve.data.toList.drop 159 = dktX6_twelve_7 := dk_seg dksX6_twelve_6 22 rfl rfl
theorem dksX6_twelve_8 : cX6_twelve.data.toList.drop 183 = dktX6_twelve_8 := dk_seg dksX6_twelve_7 24 rfl rfl
theorem dksX6_twelve_9 : cX6_twelve.data.toList.drop 207 = dktX6_twelve_9 := dk_seg dksX6_twelve_8 24 rfl rfl
theorem dksX6_twelve_10 : cX6_twelve.data.toList.drop 229 = dktX6_twelve_10 := dk_seg dksX6_twelve_9 22 rfl rfl
theorem dksX6_twelve_11 : cX6_twelve.data.toList.drop 253 = dktX6_twelve_11 := dk_seg dksX6_twelve_10 24 rfl rfl
theorem dX6_twelve_0 : decode cX6_twelve 0 = .ok (.aload_n 0, 1) := dk_42 (dk_at dksX6_twelve_0 0 rfl rfl)
theorem dX6_twelve_1 : decode cX6_twelve 1 = .ok (.iconst 0, 1) := dk_3 (dk_at dksX6_twelve_0 1 rfl rfl)
theorem dX6_twelve_2 : decode cX6_twelve 2 = .ok (.putfield 112, 3) := dk_181 0 112 (dk_at dksX6_twelve_0 2 rfl rfl)
theorem dX6_twelve_5 : decode cX6_twelve 5 = .ok (.aload_n 0, 1) := dk_42 (dk_at dksX6_twelve_0 5 rfl rfl)
theorem dX6_twelve_6 : decode cX6_twelve 6 = .ok (.iload_n 1, 1) := dk_27 (dk_at dksX6_twelve_0 6 rfl rfl)
theorem dX6_twelve_7 : decode cX6_twelve 7 = .ok (.invokevirtual 332, 3) := dk_182 1 76 (dk_at dksX6_twelve_0 7 rfl rfl)
theorem dX6_twelve_10 : decode cX6_twelve 10 = .ok (.ifCond .eq 40, 3) := dk_153 0 40 (dk_at dksX6_twelve_0 10 rfl rfl)
theorem dX6_twelve_13 : decode cX6_twelve 13 = .ok (.iload_n 2, 1) := dk_28 (dk_at dksX6_twelve_0 13 rfl rfl)
theorem dX6_twelve_14 : decode cX6_twelve 14 = .ok (.i2l, 1) := dk_133 (dk_at dksX6_twelve_0 14 rfl rfl)
theorem dX6_twelve_15 : decode cX6_twelve 15 = .ok (.lconst 0, 1) := dk_9 (dk_at dksX6_twelve_0 15 rfl rfl)
theorem dX6_twelve_16 : decode cX6_twelve 16 = .ok (.ldc2_w 149, 3) := dk_20 0 149 (dk_at dksX6_twelve_0 16 rfl rfl)
theorem dX6_twelve_19 : decode cX6_twelve 19 = .ok (.invokestatic 118, 3) := dk_184 0 118 (dk_at dksX6_twelve_0 19 rfl rfl)
theorem dX6_twelve_22 : decode cX6_twelve 22 = .ok (.ifCond .eq 28, 3) := dk_153 0 28 (dk_at dksX6_twelve_1 0 rfl rfl)
theorem dX6_twelve_25 : decode cX6_twelve 25 = .ok (.iload_n 3, 1) := dk_29 (dk_at dksX6_twelve_1 3 rfl rfl)
theorem dX6_twelve_26 : decode cX6_twelve 26 = .ok (.i2l, 1) := dk_133 (dk_at dksX6_twelve_1 4 rfl rfl)
theorem dX6_twelve_27 : decode cX6_twelve 27 = .ok (.lconst 0, 1) := dk_9 (dk_at dksX6_twelve_1 5 rfl rfl)
theorem dX6_twelve_28 : decode cX6_twelve 28 = .ok (.ldc2_w 450, 3) := dk_20 1 194 (dk_at dksX6_twelve_1 6 rfl rfl)
theorem dX6_twelve_31 : decode cX6_twelve 31 = .ok (.invokestatic 118, 3) := dk_184 0 118 (dk_at dksX6_twelve_1 9 rfl rfl)
theorem dX6_twelve_34 : decode cX6_twelve 34 = .ok (.ifCond .eq 16, 3) := dk_153 0 16 (dk_at dksX6_twelve_1 12 rfl rfl)
theorem dX6_twelve_37 : decode cX6_twelve 37 = .ok (.iload 4, 2) := dk_21 4 (dk_at dksX6_twelve_1 15 rfl rfl)
theorem dX6_twelve_39 : decode cX6_twelve 39 = .ok (.i2l, 1) := dk_133 (dk_at dksX6_twelve_1 17 rfl rfl)
theorem dX6_twelve_40 : decode cX6_twelve 40 = .ok (.lconst 0, 1) := dk_9 (dk_at dksX6_twelve_1 18 rfl rfl)
theorem dX6_twelve_41 : decode cX6_twelve 41 = .ok (.ldc2_w 143, 3) := dk_20 0 143 (dk_at dksX6_twelve_1 19 rfl rfl)
theorem dX6_twelve_44 : decode cX6_twelve 44 = .ok (.invokestatic 118, 3) := dk_184 0 118 (dk_at dksX6_twelve_2 0 rfl rfl)
theorem dX6_twelve_47 : decode cX6_twelve 47 = .ok (.ifCond .ne 5, 3) := dk_154 0 5 (dk_at dksX6_twelve_2 3 rfl rfl)
theorem dX6_twelve_50 : decode cX6_twelve 50 = .ok (.iconst (-1), 1) := dk_2 (dk_at dksX6_twelve_2 6 rfl rfl)
theorem dX6_twelve_51 : decode cX6_twelve 51 = .ok (.ireturn, 1) := dk_172 (dk_at dksX6_twelve_2 7 rfl rfl)
theorem dX6_twelve_52 : decode cX6_twelve 52 = .ok (.aload_n 0, 1) := dk_42 (dk_at dksX6_twelve_2 8 rfl rfl)
theorem dX6_twelve_53 : decode cX6_twelve 53 = .ok (.iload_n 2, 1) := dk_28 (dk_at dksX6_twelve_2 9 rfl rfl)
theorem dX6_twelve_54 : decode cX6_twelve 54 = .ok (.putfield 388, 3) := dk_181 1 132 (dk_at dksX6_twelve_2 10 rfl rfl)
theorem dX6_twelve_57 : decode cX6_twelve 57 = .ok (.aload_n 0, 1) := dk_42 (dk_at dksX6_twelve_2 13 rfl rfl)
theorem dX6_twelve_58 : decode cX6_twelve 58 = .ok (.iload_n 3, 1) := dk_29 (dk_at dksX6_twelve_2 14 rfl rfl)
theorem dX6_twelve_59 : decode cX6_twelve 59 = .ok (.i2l, 1) := dk_133 (dk_at dksX6_twelve_2 15 rfl rfl)
theorem dX6_twelve_60 : decode cX6_twelve 60 = .ok (.putfield 350, 3) := dk_181 1 94 (dk_at dksX6_twelve_2 16 rfl rfl)
theorem dX6_twelve_63 : decode cX6_twelve 63 = .ok (.iconst 0, 1) := dk_3 (dk_at dksX6_twelve_2 19 rfl rfl)
theorem dX6_twelve_64 : decode cX6_twelve 64 = .ok (.istore 5, 2) := dk_54 5 (dk_at dksX6_twelve_2 20 rfl rfl)
theorem dX6_twelve_66 : decode cX6_twelve 66 = .ok (.iconst 0, 1) := dk_3 (dk_at dksX6_twelve_2 22 rfl rfl)
theorem dX6_twelve_67 : decode cX6_twelve 67 = .ok (.istore 6, 2) := dk_54 6 (dk_at dksX6_twelve_3 0 rfl rfl)
theorem dX6_twelve_69 : decode cX6_twelve 69 = .ok (.iconst 0, 1) := dk_3 (dk_at dksX6_twelve_3 2 rfl rfl)
theorem dX6_twelve_70 : decode cX6_twelve 70 = .ok (.istore 7, 2) := dk_54 7 (dk_at dksX6_twelve_3 3 rfl rfl)
theorem dX6_twelve_72 : decode cX6_twelve 72 = .ok (.iload 7, 2) := dk_21 7 (dk_at dksX6_twelve_3 5 rfl rfl)
theorem dX6_twelve_74 : decode cX6_twelve 74 = .ok (.bipush 12, 2) := dk_16 12 (dk_at dksX6_twelve_3 7 rfl rfl)
theorem dX6_twelve_76 : decode cX6_twelve 76 = .ok (.if_icmp .ge 107, 3) := dk_162 0 107 (dk_at dksX6_twelve_3 9 rfl rfl)
theorem dX6_twelve_79 : decode cX6_twelve 79 = .ok (.aload_n 0, 1) := dk_42 (dk_at dksX6_twelve_3 12 rfl rfl)
theorem dX6_twelve_80 : decode cX6_twelve 80 = .ok (.iload_n 1, 1) := dk_27 (dk_at dksX6_twelve_3 13 rfl rfl)
theorem dX6_twelve_81 : decode cX6_twelve 81 = .ok (.iconst (-1), 1) := dk_2 (dk_at dksX6_twelve_3 14 rfl rfl)
theorem dX6_twelve_82 : decode cX6_twelve 82 = .ok (.invokevirtual 436, 3) := dk_182 1 180 (dk_at dksX6_twelve_3 15 rfl rfl)
theorem dX6_twelve_85 : decode cX6_twelve 85 = .ok (.iconst 0, 1) := dk_3 (dk_at dksX6_twelve_3 18 rfl rfl)
theorem dX6_twelve_86 : decode cX6_twelve 86 = .ok (.istore 8, 2) := dk_54 8 (dk_at dksX6_twelve_3 19 rfl rfl)
theorem dX6_twelve_88 : decode cX6_twelve 88 = .ok (.iload 8, 2) := dk_21 8 (dk_at dksX6_twelve_3 21 rfl rfl)
theorem dX6_twelve_90 : decode cX6_twelve 90 = .ok (.iconst 5, 1) := dk_8 (dk_at dksX6_twelve_3 23 rfl rfl)
theorem dX6_twelve_91 : decode cX6_twelve 91 = .ok (.if_icmp .ge 28, 3) := dk_162 0 28 (dk_at dksX6_twelve_4 0 rfl rfl)
theorem dX6_twelve_94 : decode cX6_twelve 94 = .ok (.aload_n 0, 1) := dk_42 (dk_at dksX6_twelve_4 3 rfl rfl)
theorem dX6_twelve_95 : decode cX6_twelve 95 = .ok (.getfield 63, 3) := dk_180 0 63 (dk_at dksX6_twelve_4 4 rfl rfl)
theorem dX6_twelve_98 : decode cX6_twelve 98 = .ok (.iconst 5, 1) := dk_8 (dk_at dksX6_twelve_4 7 rfl rfl)
theorem dX6_twelve_99 : decode cX6_twelve 99 = .ok (.iload 7, 2) := dk_21 7 (dk_at dksX6_twelve_4 8 rfl rfl)
theorem dX6_twelve_101 : decode cX6_twelve 101 = .ok (.imul, 1) := dk_104 (dk_at dksX6_twelve_4 10 rfl rfl)
theorem dX6_twelve_102 : decode cX6_twelve 102 = .ok (.iload 8, 2) := dk_21 8 (dk_at dksX6_twelve_4 11 rfl rfl)
theorem dX6_twelve_104 : decode cX6_twelve 104 = .ok (.iadd, 1) := dk_96 (dk_at dksX6_twelve_4 13 rfl rfl)
theorem dX6_twelve_105 : decode cX6_twelve 105 = .ok (.aload_n 0, 1) := dk_42 (dk_at dksX6_twelve_4 14 rfl rfl)
theorem dX6_twelve_106 : decode cX6_twelve 106 = .ok (.getfield 42, 3) := dk_180 0 42 (dk_at dksX6_twelve_4 15 rfl rfl)
theorem dX6_twelve_109 : decode cX6_twelve 109 = .ok (.iload 8, 2) := dk_21 8 (dk_at dksX6_twelve_4 18 rfl rfl)
theorem dX6_twelve_111 : decode cX6_twelve 111 = .ok (.iaload, 1) := dk_46 (dk_at dksX6_twelve_4 20 rfl rfl)
theorem dX6_twelve_112 : decode cX6_twelve 112 = .ok (.iastore, 1) := dk_79 (dk_at dksX6_twelve_4 21 rfl rfl)
theorem dX6_twelve_113 : decode cX6_twelve 113 = .ok (.iinc 8 1, 3) := dk_132 8 1 (dk_at dksX6_twelve_5 0 rfl rfl)
theorem dX6_twelve_116 : decode cX6_twelve 116 = .ok (.goto (-28), 3) := dk_167 255 228 (dk_at dksX6_twelve_5 3 rfl rfl)
theorem dX6_twelve_119 : decode cX6_twelve 119 = .ok (.iload 5, 2) := dk_21 5 (dk_at dksX6_twelve_5 6 rfl rfl)
theorem dX6_twelve_121 : decode cX6_twelve 121 = .ok (.aload_n 0, 1) := dk_42 (dk_at dksX6_twelve_5 8 rfl rfl)
theorem dX6_twelve_122 : decode cX6_twelve 122 = .ok (.iconst 0, 1) := dk_3 (dk_at dksX6_twelve_5 9 rfl rfl)
theorem dX6_twelve_123 : decode cX6_twelve 123 = .ok (.invokevirtual 447, 3) := dk_182 1 191 (dk_at dksX6_twelve_5 10 rfl rfl)
theorem dX6_twelve_126 : decode cX6_twelve 126 = .ok (.ifCond .ne 7, 3) := dk_154 0 7 (dk_at dksX6_twelve_5 13 rfl rfl)
theorem dX6_twelve_129 : decode cX6_twelve 129 = .ok (.iconst 1, 1) := dk_4 (dk_at dksX6_twelve_5 16 rfl rfl)
theorem dX6_twelve_130 : decode cX6_twelve 130 = .ok (.goto 4, 3) := dk_167 0 4 (dk_at dksX6_twelve_5 17 rfl rfl)
theorem dX6_twelve_133 : decode cX6_twelve 133 = .ok (.iconst 0, 1) := dk_3 (dk_at dksX6_twelve_5 20 rfl rfl)
theorem dX6_twelve_134 : decode cX6_twelve 134 = .ok (.iadd, 1) := dk_96 (dk_at dksX6_twelve_5 21 rfl rfl)
theorem dX6_twelve_135 : decode cX6_twelve 135 = .ok (.istore 5, 2) := dk_54 5 (dk_at dksX6_twelve_5 22 rfl rfl)
theorem dX6_twelve_137 : decode cX6_twelve 137 = .ok (.iconst 0, 1) := dk_3 (dk_at dksX6_twelve_6 0 rfl rfl)
theorem dX6_twelve_138 : decode cX6_twelve 138 = .ok (.istore 8, 2) := dk_54 8 (dk_at dksX6_twelve_6 1 rfl rfl)
theorem dX6_twelve_140 : decode cX6_twelve 140 = .ok (.iload 8, 2) := dk_21 8 (dk_at dksX6_twelve_6 3 rfl rfl)
theorem dX6_twelve_142 : decode cX6_twelve 142 = .ok (.iload 7, 2) := dk_21 7 (dk_at dksX6_twelve_6 5 rfl rfl)
theorem dX6_twelve_144 : decode cX6_twelve 144 = .ok (.if_icmp .ge 33, 3) := dk_162 0 33 (dk_at dksX6_twelve_6 7 rfl rfl)
theorem dX6_twelve_147 : decode cX6_twelve 147 = .ok (.aload_n 0, 1) := dk_42 (dk_at dksX6_twelve_6 10 rfl rfl)
theorem dX6_twelve_148 : decode cX6_twelve 148 = .ok (.iload 8, 2) := dk_21 8 (dk_at dksX6_twelve_6 11 rfl rfl)
theorem dX6_twelve_150 : decode cX6_twelve 150 = .ok (.invokevirtual 447, 3) := dk_182 1 191 (dk_at dksX6_twelve_6 13 rfl rfl)
theorem dX6_twelve_153 : decode cX6_twelve 153 = .ok (.istore 9, 2) := dk_54 9 (dk_at dksX6_twelve_6 16 rfl rfl)
theorem dX6_twelve_155 : decode cX6_twelve 155 = .ok (.iload 9, 2) := dk_21 9 (dk_at dksX6_twelve_6 18 rfl rfl)
theorem dX6_twelve_157 : decode cX6_twelve 157 = .ok (.iload 6, 2) := dk_21 6 (dk_at dksX6_twelve_6 20 rfl rfl)
theorem dX6_twelve_159 : decode cX6_twelve 159 = .ok (.if_icmp .le 8, 3) := dk_164 0 8 (dk_at dksX6_twelve_7 0 rfl rfl)
theorem dX6_twelve_162 : decode cX6_twelve 162 = .ok (.iload 9, 2) := dk_21 9 (dk_at dksX6_twelve_7 3 rfl rfl)
theorem dX6_twelve_164 : decode cX6_twelve 164 = .ok (.goto 5, 3) := dk_167 0 5 (dk_at dksX6_twelve_7 5 rfl rfl)
theorem dX6_twelve_167 : decode cX6_twelve 167 = .ok (.iload 6, 2) := dk_21 6 (dk_at dksX6_twelve_7 8 rfl rfl)
theorem dX6_twelve_169 : decode cX6_twelve 169 = .ok (.istore 6, 2) := dk_54 6 (dk_at dksX6_twelve_7 10 rfl rfl)
theorem dX6_twelve_171 : decode cX6_twelve 171 = .ok (.iinc 8 1, 3) := dk_132 8 1 (dk_at dksX6_twelve_7 12 rfl rfl)
theorem dX6_twelve_174 : decode cX6_twelve 174 = .ok (.goto (-34), 3) := dk_167 255 222 (dk_at dksX6_twelve_7 15 rfl rfl)
theorem dX6_twelve_177 : decode cX6_twelve 177 = .ok (.iinc 7 1, 3) := dk_132 7 1 (dk_at dksX6_twelve_7 18 rfl rfl)
theorem dX6_twelve_180 : decode cX6_twelve 180 = .ok (.goto (-108), 3) := dk_167 255 148 (dk_at dksX6_twelve_7 21 rfl rfl)
theorem dX6_twelve_183 : decode cX6_twelve 183 = .ok (.aload_n 0, 1) := dk_42 (dk_at dksX6_twelve_8 0 rfl rfl)
theorem dX6_twelve_184 : decode cX6_twelve 184 = .ok (.iconst (-1), 1) := dk_2 (dk_at dksX6_twelve_8 1 rfl rfl)
theorem dX6_twelve_185 : decode cX6_twelve 185 = .ok (.putfield 388, 3) := dk_181 1 132 (dk_at dksX6_twelve_8 2 rfl rfl)
theorem dX6_twelve_188 : decode cX6_twelve 188 = .ok (.aload_n 0, 1) := dk_42 (dk_at dksX6_twelve_8 5 rfl rfl)
theorem dX6_twelve_189 : decode cX6_twelve 189 = .ok (.iload_n 1, 1) := dk_27 (dk_at dksX6_twelve_8 6 rfl rfl)
theorem dX6_twelve_190 : decode cX6_twelve 190 = .ok (.iconst (-1), 1) := dk_2 (dk_at dksX6_twelve_8 7 rfl rfl)
theorem dX6_twelve_191 : decode cX6_twelve 191 = .ok (.invokevirtual 436, 3) := dk_182 1 180 (dk_at dksX6_twelve_8 8 rfl rfl)
theorem dX6_twelve_194 : decode cX6_twelve 194 = .ok (.iconst 0, 1) := dk_3 (dk_at dksX6_twelve_8 11 rfl rfl)
theorem dX6_twelve_195 : decode cX6_twelve 195 = .ok (.istore 7, 2) := dk_54 7 (dk_at dksX6_twelve_8 12 rfl rfl)
theorem dX6_twelve_197 : decode cX6_twelve 197 = .ok (.iconst 0, 1) := dk_3 (dk_at dksX6_twelve_8 14 rfl rfl)
theorem dX6_twelve_198 : decode cX6_twelve 198 = .ok (.istore 8, 2) := dk_54 8 (dk_at dksX6_twelve_8 15 rfl rfl)
theorem dX6_twelve_200 : decode cX6_twelve 200 = .ok (.iload 8, 2) := dk_21 8 (dk_at dksX6_twelve_8 17 rfl rfl)
theorem dX6_twelve_202 : decode cX6_twelve 202 = .ok (.bipush 12, 2) := dk_16 12 (dk_at dksX6_twelve_8 19 rfl rfl)
theorem dX6_twelve_204 : decode cX6_twelve 204 = .ok (.if_icmp .ge 28, 3) := dk_162 0 28 (dk_at dksX6_twelve_8 21 rfl rfl)
theorem dX6_twelve_207 : decode cX6_twelve 207 = .ok (.iload 7, 2) := dk_21 7 (dk_at dksX6_twelve_9 0 rfl rfl)
theorem dX6_twelve_209 : decode cX6_twelve 209 = .ok (.aload_n 0, 1) := dk_42 (dk_at dksX6_twelve_9 2 rfl rfl)
theorem dX6_twelve_210 : decode cX6_twelve 210 = .ok (.iload 8, 2) := dk_21 8 (dk_at dksX6_twelve_9 3 rfl rfl)
theorem dX6_twelve_212 : decode cX6_twelve 212 = .ok (.invokevirtual 447, 3) := dk_182 1 191 (dk_at dksX6_twelve_9 5 rfl rfl)
theorem dX6_twelve_215 : decode cX6_twelve 215 = .ok (.ifCond .ne 7, 3) := dk_154 0 7 (dk_at dksX6_twelve_9 8 rfl rfl)
theorem dX6_twelve_218 : decode cX6_twelve 218 = .ok (.iconst 1, 1) := dk_4 (dk_at dksX6_twelve_9 11 rfl rfl)
theorem dX6_twelve_219 : decode cX6_twelve 219 = .ok (.goto 4, 3) := dk_167 0 4 (dk_at dksX6_twelve_9 12 rfl rfl)
theorem dX6_twelve_222 : decode cX6_twelve 222 = .ok (.iconst 0, 1) := dk_3 (dk_at dksX6_twelve_9 15 rfl rfl)
theorem dX6_twelve_223 : decode cX6_twelve 223 = .ok (.iadd, 1) := dk_96 (dk_at dksX6_twelve_9 16 rfl rfl)
theorem dX6_twelve_224 : decode cX6_twelve 224 = .ok (.istore 7, 2) := dk_54 7 (dk_at dksX6_twelve_9 17 rfl rfl)
theorem dX6_twelve_226 : decode cX6_twelve 226 = .ok (.iinc 8 1, 3) := dk_132 8 1 (dk_at dksX6_twelve_9 19 rfl rfl)
theorem dX6_twelve_229 : decode cX6_twelve 229 = .ok (.goto (-29), 3) := dk_167 255 227 (dk_at dksX6_twelve_10 0 rfl rfl)
theorem dX6_twelve_232 : decode cX6_twelve 232 = .ok (.iload 4, 2) := dk_21 4 (dk_at dksX6_twelve_10 3 rfl rfl)
theorem dX6_twelve_234 : decode cX6_twelve 234 = .ok (.ifCond .ne 8, 3) := dk_154 0 8 (dk_at dksX6_twelve_10 5 rfl rfl)
theorem dX6_twelve_237 : decode cX6_twelve 237 = .ok (.iload 5, 2) := dk_21 5 (dk_at dksX6_twelve_10 8 rfl rfl)
theorem dX6_twelve_239 : decode cX6_twelve 239 = .ok (.goto 16, 3) := dk_167 0 16 (dk_at dksX6_twelve_10 10 rfl rfl)
theorem dX6_twelve_242 : decode cX6_twelve 242 = .ok (.iload 4, 2) := dk_21 4 (dk_at dksX6_twelve_10 13 rfl rfl)
theorem dX6_twelve_244 : decode cX6_twelve 244 = .ok (.iconst 1, 1) := dk_4 (dk_at dksX6_twelve_10 15 rfl rfl)
theorem dX6_twelve_245 : decode cX6_twelve 245 = .ok (.if_icmp .ne 8, 3) := dk_160 0 8 (dk_at dksX6_twelve_10 16 rfl rfl)
theorem dX6_twelve_248 : decode cX6_twelve 248 = .ok (.iload 6, 2) := dk_21 6 (dk_at dksX6_twelve_10 19 rfl rfl)
theorem dX6_twelve_250 : decode cX6_twelve 250 = .ok (.goto 5, 3) := dk_167 0 5 (dk_at dksX6_twelve_10 21 rfl rfl)
theorem dX6_twelve_253 : decode cX6_twelve 253 = .ok (.iload 7, 2) := dk_21 7 (dk_at dksX6_twelve_11 0 rfl rfl)
theorem dX6_twelve_255 : decode cX6_twelve 255 = .ok (.ireturn, 1) := dk_172 (dk_at dksX6_twelve_11 2 rfl rfl)
abbrev cX6_reached : ByteArray := prog_28_method_77_code
def yX6_reached : MethodName := ⟨RX6, "reached", "(I)I"⟩
def dkwX6_reached_4 : List UInt8 := [28, 172]
abbrev dktX6_reached_4 : List UInt8 := dkwX6_reached_4 ++ []
def dkwX6_reached_3 : List UInt8 := [18, 69, 162, 0, 22, 28, 42, 180, 0, 70, 29, 46, 27, 122, 4, 126, 96, 61, 132, 3, 1, 167, 255, 234]
abbrev dktX6_reached_3 : List UInt8 := dkwX6_reached_3 ++ dktX6_reached_4
def dkwX6_reached_2 : List UInt8 := [182, 1, 224, 61, 42, 28, 2, 160, 0, 7, 27, 167, 0, 4, 2, 181, 0, 88, 3, 61, 3, 62, 29]
abbrev dktX6_reached_2 : List UInt8 := dkwX6_reached_2 ++ dktX6_reached_3
def dkwX6_reached_1 : List UInt8 := [162, 0, 41, 42, 182, 1, 218, 42, 42, 16, 20, 182, 1, 221, 42, 180, 0, 13, 16, 10, 46, 2, 27]
abbrev dktX6_reached_1 : List UInt8 := dkwX6_reached_1 ++ dktX6_reached_2
def dkwX6_reached_0 : List UInt8 := [42, 3, 181, 0, 112, 27, 133, 9, 20, 1, 216, 184, 0, 118, 154, 0, 5, 2, 172, 42, 180, 0, 88, 27]
abbrev dktX6_reached_0 : List UInt8 := dkwX6_reached_0 ++ dktX6_reached_1
theorem dksX6_reached_0 : cX6_reached.data.toList.drop 0 = dktX6_reached_0 := by decide +kernel
theorem dksX6_reached_1 : cX6_reached.data.toList.drop 24 = dktX6_reached_1 := dk_seg dksX6_reached_0 24 rfl rfl
theorem dksX6_reached_2 : cX6_reached.data.toList.drop 47 = dktX6_reached_2 := dk_seg dksX6_reached_1 23 rfl rfl
theorem dksX6_reached_3 : cX6_reached.data.toList.drop 70 = dktX6_reached_3 := dk_seg dksX6_reached_2 23 rfl rfl
theorem dksX6_reached_4 : cX6_reached.data.toList.drop 94 = dktX6_reached_4 := dk_seg dksX6_reached_3 24 rfl rfl
theorem dX6_reached_0 : decode cX6_reached 0 = .ok (.aload_n 0, 1) := dk_42 (dk_at dksX6_reached_0 0 rfl rfl)
theorem dX6_reached_1 : decode cX6_reached 1 = .ok (.iconst 0, 1) := dk_3 (dk_at dksX6_reached_0 1 rfl rfl)
theorem dX6_reached_2 : decode cX6_reached 2 = .ok (.putfield 112, 3) := dk_181 0 112 (dk_at dksX6_reached_0 2 rfl rfl)
theorem dX6_reached_5 : decode cX6_reached 5 = .ok (.iload_n 1, 1) := dk_27 (dk_at dksX6_reached_0 5 rfl rfl)
theorem dX6_reached_6 : decode cX6_reached 6 = .ok (.i2l, 1) := dk_133 (dk_at dksX6_reached_0 6 rfl rfl)
theorem dX6_reached_7 : decode cX6_reached 7 = .ok (.lconst 0, 1) := dk_9 (dk_at dksX6_reached_0 7 rfl rfl)
theorem dX6_reached_8 : decode cX6_reached 8 = .ok (.ldc2_w 472, 3) := dk_20 1 216 (dk_at dksX6_reached_0 8 rfl rfl)
theorem dX6_reached_11 : decode cX6_reached 11 = .ok (.invokestatic 118, 3) := dk_184 0 118 (dk_at dksX6_reached_0 11 rfl rfl)
theorem dX6_reached_14 : decode cX6_reached 14 = .ok (.ifCond .ne 5, 3) := dk_154 0 5 (dk_at dksX6_reached_0 14 rfl rfl)
theorem dX6_reached_17 : decode cX6_reached 17 = .ok (.iconst (-1), 1) := dk_2 (dk_at dksX6_reached_0 17 rfl rfl)
theorem dX6_reached_18 : decode cX6_reached 18 = .ok (.ireturn, 1) := dk_172 (dk_at dksX6_reached_0 18 rfl rfl)
theorem dX6_reached_19 : decode cX6_reached 19 = .ok (.aload_n 0, 1) := dk_42 (dk_at dksX6_reached_0 19 rfl rfl)
theorem dX6_reached_20 : decode cX6_reached 20 = .ok (.getfield 88, 3) := dk_180 0 88 (dk_at dksX6_reached_0 20 rfl rfl)
theorem dX6_reached_23 : decode cX6_reached 23 = .ok (.iload_n 1, 1) := dk_27 (dk_at dksX6_reached_0 23 rfl rfl)
theorem dX6_reached_24 : decode cX6_reached 24 = .ok (.if_icmp .ge 41, 3) := dk_162 0 41 (dk_at dksX6_reached_1 0 rfl rfl)
theorem dX6_reached_27 : decode cX6_reached 27 = .ok (.aload_n 0, 1) := dk_42 (dk_at dksX6_reached_1 3 rfl rfl)
theorem dX6_reached_28 : decode cX6_reached 28 = .ok (.invokevirtual 474, 3) := dk_182 1 218 (dk_at dksX6_reached_1 4 rfl rfl)
theorem dX6_reached_31 : decode cX6_reached 31 = .ok (.aload_n 0, 1) := dk_42 (dk_at dksX6_reached_1 7 rfl rfl)
theorem dX6_reached_32 : decode cX6_reached 32 = .ok (.aload_n 0, 1) := dk_42 (dk_at dksX6_reached_1 8 rfl rfl)
theorem dX6_reached_33 : decode cX6_reached 33 = .ok (.bipush 20, 2) := dk_16 20 (dk_at dksX6_reached_1 9 rfl rfl)
theorem dX6_reached_35 : decode cX6_reached 35 = .ok (.invokevirtual 477, 3) := dk_182 1 221 (dk_at dksX6_reached_1 11 rfl rfl)
theorem dX6_reached_38 : decode cX6_reached 38 = .ok (.aload_n 0, 1) := dk_42 (dk_at dksX6_reached_1 14 rfl rfl)
theorem dX6_reached_39 : decode cX6_reached 39 = .ok (.getfield 13, 3) := dk_180 0 13 (dk_at dksX6_reached_1 15 rfl rfl)
theorem dX6_reached_42 : decode cX6_reached 42 = .ok (.bipush 10, 2) := dk_16 10 (dk_at dksX6_reached_1 18 rfl rfl)
theorem dX6_reached_44 : decode cX6_reached 44 = .ok (.iaload, 1) := dk_46 (dk_at dksX6_reached_1 20 rfl rfl)
theorem dX6_reached_45 : decode cX6_reached 45 = .ok (.iconst (-1), 1) := dk_2 (dk_at dksX6_reached_1 21 rfl rfl)
theorem dX6_reached_46 : decode cX6_reached 46 = .ok (.iload_n 1, 1) := dk_27 (dk_at dksX6_reached_1 22 rfl rfl)
theorem dX6_reached_47 : decode cX6_reached 47 = .ok (.invokevirtual 480, 3) := dk_182 1 224 (dk_at dksX6_reached_2 0 rfl rfl)
theorem dX6_reached_50 : decode cX6_reached 50 = .ok (.istore_n 2, 1) := dk_61 (dk_at dksX6_reached_2 3 rfl rfl)
theorem dX6_reached_51 : decode cX6_reached 51 = .ok (.aload_n 0, 1) := dk_42 (dk_at dksX6_reached_2 4 rfl rfl)
theorem dX6_reached_52 : decode cX6_reached 52 = .ok (.iload_n 2, 1) := dk_28 (dk_at dksX6_reached_2 5 rfl rfl)
theorem dX6_reached_53 : decode cX6_reached 53 = .ok (.iconst (-1), 1) := dk_2 (dk_at dksX6_reached_2 6 rfl rfl)
theorem dX6_reached_54 : decode cX6_reached 54 = .ok (.if_icmp .ne 7, 3) := dk_160 0 7 (dk_at dksX6_reached_2 7 rfl rfl)
theorem dX6_reached_57 : decode cX6_reached 57 = .ok (.iload_n 1, 1) := dk_27 (dk_at dksX6_reached_2 10 rfl rfl)
theorem dX6_reached_58 : decode cX6_reached 58 = .ok (.goto 4, 3) := dk_167 0 4 (dk_at dksX6_reached_2 11 rfl rfl)
theorem dX6_reached_61 : decode cX6_reached 61 = .ok (.iconst (-1), 1) := dk_2 (dk_at dksX6_reached_2 14 rfl rfl)
theorem dX6_reached_62 : decode cX6_reached 62 = .ok (.putfield 88, 3) := dk_181 0 88 (dk_at dksX6_reached_2 15 rfl rfl)
theorem dX6_reached_65 : decode cX6_reached 65 = .ok (.iconst 0, 1) := dk_3 (dk_at dksX6_reached_2 18 rfl rfl)
theorem dX6_reached_66 : decode cX6_reached 66 = .ok (.istore_n 2, 1) := dk_61 (dk_at dksX6_reached_2 19 rfl rfl)
theorem dX6_reached_67 : decode cX6_reached 67 = .ok (.iconst 0, 1) := dk_3 (dk_at dksX6_reached_2 20 rfl rfl)
theorem dX6_reached_68 : decode cX6_reached 68 = .ok (.istore_n 3, 1) := dk_62 (dk_at dksX6_reached_2 21 rfl rfl)
theorem dX6_reached_69 : decode cX6_reached 69 = .ok (.iload_n 3, 1) := dk_29 (dk_at dksX6_reached_2 22 rfl rfl)
theorem dX6_reached_70 : decode cX6_reached 70 = .ok (.ldc 69, 2) := dk_18 69 (dk_at dksX6_reached_3 0 rfl rfl)
theorem dX6_reached_72 : decode cX6_reached 72 = .ok (.if_icmp .ge 22, 3) := dk_162 0 22 (dk_at dksX6_reached_3 2 rfl rfl)
theorem dX6_reached_75 : decode cX6_reached 75 = .ok (.iload_n 2, 1) := dk_28 (dk_at dksX6_reached_3 5 rfl rfl)
theorem dX6_reached_76 : decode cX6_reached 76 = .ok (.aload_n 0, 1) := dk_42 (dk_at dksX6_reached_3 6 rfl rfl)
theorem dX6_reached_77 : decode cX6_reached 77 = .ok (.getfield 70, 3) := dk_180 0 70 (dk_at dksX6_reached_3 7 rfl rfl)
theorem dX6_reached_80 : decode cX6_reached 80 = .ok (.iload_n 3, 1) := dk_29 (dk_at dksX6_reached_3 10 rfl rfl)
theorem dX6_reached_81 : decode cX6_reached 81 = .ok (.iaload, 1) := dk_46 (dk_at dksX6_reached_3 11 rfl rfl)
theorem dX6_reached_82 : decode cX6_reached 82 = .ok (.iload_n 1, 1) := dk_27 (dk_at dksX6_reached_3 12 rfl rfl)
theorem dX6_reached_83 : decode cX6_reached 83 = .ok (.ishr, 1) := dk_122 (dk_at dksX6_reached_3 13 rfl rfl)
theorem dX6_reached_84 : decode cX6_reached 84 = .ok (.iconst 1, 1) := dk_4 (dk_at dksX6_reached_3 14 rfl rfl)
theorem dX6_reached_85 : decode cX6_reached 85 = .ok (.iand, 1) := dk_126 (dk_at dksX6_reached_3 15 rfl rfl)
theorem dX6_reached_86 : decode cX6_reached 86 = .ok (.iadd, 1) := dk_96 (dk_at dksX6_reached_3 16 rfl rfl)
theorem dX6_reached_87 : decode cX6_reached 87 = .ok (.istore_n 2, 1) := dk_61 (dk_at dksX6_reached_3 17 rfl rfl)
theorem dX6_reached_88 : decode cX6_reached 88 = .ok (.iinc 3 1, 3) := dk_132 3 1 (dk_at dksX6_reached_3 18 rfl rfl)
theorem dX6_reached_91 : decode cX6_reached 91 = .ok (.goto (-22), 3) := dk_167 255 234 (dk_at dksX6_reached_3 21 rfl rfl)
theorem dX6_reached_94 : decode cX6_reached 94 = .ok (.iload_n 2, 1) := dk_28 (dk_at dksX6_reached_4 0 rfl rfl)
theorem dX6_reached_95 : decode cX6_reached 95 = .ok (.ireturn, 1) := dk_172 (dk_at dksX6_reached_4 1 rfl rfl)
abbrev cX6_findWeights : ByteArray := prog_28_method_70_code
def yX6_findWeights : MethodName := ⟨RX6, "findWeights", "()V"⟩
def dkwX6_findWeights_1 : List UInt8 := [16, 9, 104, 60, 132, 2, 255, 167, 255, 237, 177]
abbrev dktX6_findWeights_1 : List UInt8 := dkwX6_findWeights_1 ++ []
def dkwX6_findWeights_0 : List UInt8 := [4, 60, 42, 180, 0, 13, 3, 46, 4, 100, 61, 28, 155, 0, 21, 42, 180, 0, 66, 28, 27, 79, 27]
abbrev dktX6_findWeights_0 : List UInt8 := dkwX6_findWeights_0 ++ dktX6_findWeights_1
theorem dksX6_findWeights_0 : cX6_findWeights.data.toList.drop 0 = dktX6_findWeights_0 := by decide +kernel
theorem dksX6_findWeights_1 : cX6_findWeights.data.toList.drop 23 = dktX6_findWeights_1 := dk_seg dksX6_findWeights_0 23 rfl rfl
theorem dX6_findWeights_0 : decode cX6_findWeights 0 = .ok (.iconst 1, 1) := dk_4 (dk_at dksX6_findWeights_0 0 rfl rfl)
theorem dX6_findWeights_1 : decode cX6_findWeights 1 = .ok (.istore_n 1, 1) := dk_60 (dk_at dksX6_findWeights_0 1 rfl rfl)
theorem dX6_findWeights_2 : decode cX6_findWeights 2 = .ok (.aload_n 0, 1) := dk_42 (dk_at dksX6_findWeights_0 2 rfl rfl)
theorem dX6_findWeights_3 : decode cX6_findWeights 3 = .ok (.getfield 13, 3) := dk_180 0 13 (dk_at dksX6_findWeights_0 3 rfl rfl)
theorem dX6_findWeights_6 : decode cX6_findWeights 6 = .ok (.iconst 0, 1) := dk_3 (dk_at dksX6_findWeights_0 6 rfl rfl)
theorem dX6_findWeights_7 : decode cX6_findWeights 7 = .ok (.iaload, 1) := dk_46 (dk_at dksX6_findWeights_0 7 rfl rfl)
theorem dX6_findWeights_8 : decode cX6_findWeights 8 = .ok (.iconst 1, 1) := dk_4 (dk_at dksX6_findWeights_0 8 rfl rfl)
theorem dX6_findWeights_9 : decode cX6_findWeights 9 = .ok (.isub, 1) := dk_100 (dk_at dksX6_findWeights_0 9 rfl rfl)
theorem dX6_findWeights_10 : decode cX6_findWeights 10 = .ok (.istore_n 2, 1) := dk_61 (dk_at dksX6_findWeights_0 10 rfl rfl)
theorem dX6_findWeights_11 : decode cX6_findWeights 11 = .ok (.iload_n 2, 1) := dk_28 (dk_at dksX6_findWeights_0 11 rfl rfl)
theorem dX6_findWeights_12 : decode cX6_findWeights 12 = .ok (.ifCond .lt 21, 3) := dk_155 0 21 (dk_at dksX6_findWeights_0 12 rfl rfl)
theorem dX6_findWeights_15 : decode cX6_findWeights 15 = .ok (.aload_n 0, 1) := dk_42 (dk_at dksX6_findWeights_0 15 rfl rfl)
theorem dX6_findWeights_16 : decode cX6_findWeights 16 = .ok (.getfield 66, 3) := dk_180 0 66 (dk_at dksX6_findWeights_0 16 rfl rfl)
theorem dX6_findWeights_19 : decode cX6_findWeights 19 = .ok (.iload_n 2, 1) := dk_28 (dk_at dksX6_findWeights_0 19 rfl rfl)
theorem dX6_findWeights_20 : decode cX6_findWeights 20 = .ok (.iload_n 1, 1) := dk_27 (dk_at dksX6_findWeights_0 20 rfl rfl)
theorem dX6_findWeights_21 : decode cX6_findWeights 21 = .ok (.iastore, 1) := dk_79 (dk_at dksX6_findWeights_0 21 rfl rfl)
theorem dX6_findWeights_22 : decode cX6_findWeights 22 = .ok (.iload_n 1, 1) := dk_27 (dk_at dksX6_findWeights_0 22 rfl rfl)
theorem dX6_findWeights_23 : decode cX6_findWeights 23 = .ok (.bipush 9, 2) := dk_16 9 (dk_at dksX6_findWeights_1 0 rfl rfl)
theorem dX6_findWeights_25 : decode cX6_findWeights 25 = .ok (.imul, 1) := dk_104 (dk_at dksX6_findWeights_1 2 rfl rfl)
theorem dX6_findWeights_26 : decode cX6_findWeights 26 = .ok (.istore_n 1, 1) := dk_60 (dk_at dksX6_findWeights_1 3 rfl rfl)
theorem dX6_findWeights_27 : decode cX6_findWeights 27 = .ok (.iinc 2 (-1), 3) := dk_132 2 255 (dk_at dksX6_findWeights_1 4 rfl rfl)
theorem dX6_findWeights_30 : decode cX6_findWeights 30 = .ok (.goto (-19), 3) := dk_167 255 237 (dk_at dksX6_findWeights_1 7 rfl rfl)
theorem dX6_findWeights_33 : decode cX6_findWeights 33 = .ok (.return_, 1) := dk_177 (dk_at dksX6_findWeights_1 10 rfl rfl)
abbrev cX6_rowAt : ByteArray := prog_28_method_71_code
def yX6_rowAt : MethodName := ⟨RX6, "rowAt", "(I)I"⟩
def dkwX6_rowAt_1 : List UInt8 := [180, 0, 13, 27, 29, 96, 46, 4, 100, 104, 96, 61, 132, 3, 1, 167, 255, 223, 28, 172]
abbrev dktX6_rowAt_1 : List UInt8 := dkwX6_rowAt_1 ++ []
def dkwX6_rowAt_0 : List UInt8 := [3, 61, 3, 62, 29, 42, 180, 0, 13, 3, 46, 162, 0, 29, 28, 42, 180, 0, 66, 29, 46, 42]
abbrev dktX6_rowAt_0 : List UInt8 := dkwX6_rowAt_0 ++ dktX6_rowAt_1
theorem dksX6_rowAt_0 : cX6_rowAt.data.toList.drop 0 = dktX6_rowAt_0 := by decide +kernel
theorem dksX6_rowAt_1 : cX6_rowAt.data.toList.drop 22 = dktX6_rowAt_1 := dk_seg dksX6_rowAt_0 22 rfl rfl
theorem dX6_rowAt_0 : decode cX6_rowAt 0 = .ok (.iconst 0, 1) := dk_3 (dk_at dksX6_rowAt_0 0 rfl rfl)
theorem dX6_rowAt_1 : decode cX6_rowAt 1 = .ok (.istore_n 2, 1) := dk_61 (dk_at dksX6_rowAt_0 1 rfl rfl)
theorem dX6_rowAt_2 : decode cX6_rowAt 2 = .ok (.iconst 0, 1) := dk_3 (dk_at dksX6_rowAt_0 2 rfl rfl)
theorem dX6_rowAt_3 : decode cX6_rowAt 3 = .ok (.istore_n 3, 1) := dk_62 (dk_at dksX6_rowAt_0 3 rfl rfl)
theorem dX6_rowAt_4 : decode cX6_rowAt 4 = .ok (.iload_n 3, 1) := dk_29 (dk_at dksX6_rowAt_0 4 rfl rfl)
theorem dX6_rowAt_5 : decode cX6_rowAt 5 = .ok (.aload_n 0, 1) := dk_42 (dk_at dksX6_rowAt_0 5 rfl rfl)
theorem dX6_rowAt_6 : decode cX6_rowAt 6 = .ok (.getfield 13, 3) := dk_180 0 13 (dk_at dksX6_rowAt_0 6 rfl rfl)
theorem dX6_rowAt_9 : decode cX6_rowAt 9 = .ok (.iconst 0, 1) := dk_3 (dk_at dksX6_rowAt_0 9 rfl rfl)
theorem dX6_rowAt_10 : decode cX6_rowAt 10 = .ok (.iaload, 1) := dk_46 (dk_at dksX6_rowAt_0 10 rfl rfl)
theorem dX6_rowAt_11 : decode cX6_rowAt 11 = .ok (.if_icmp .ge 29, 3) := dk_162 0 29 (dk_at dksX6_rowAt_0 11 rfl rfl)
theorem dX6_rowAt_14 : decode cX6_rowAt 14 = .ok (.iload_n 2, 1) := dk_28 (dk_at dksX6_rowAt_0 14 rfl rfl)
theorem dX6_rowAt_15 : decode cX6_rowAt 15 = .ok (.aload_n 0, 1) := dk_42 (dk_at dksX6_rowAt_0 15 rfl rfl)
theorem dX6_rowAt_16 : decode cX6_rowAt 16 = .ok (.getfield 66, 3) := dk_180 0 66 (dk_at dksX6_rowAt_0 16 rfl rfl)
theorem dX6_rowAt_19 : decode cX6_rowAt 19 = .ok (.iload_n 3, 1) := dk_29 (dk_at dksX6_rowAt_0 19 rfl rfl)
theorem dX6_rowAt_20 : decode cX6_rowAt 20 = .ok (.iaload, 1) := dk_46 (dk_at dksX6_rowAt_0 20 rfl rfl)
theorem dX6_rowAt_21 : decode cX6_rowAt 21 = .ok (.aload_n 0, 1) := dk_42 (dk_at dksX6_rowAt_0 21 rfl rfl)
theorem dX6_rowAt_22 : decode cX6_rowAt 22 = .ok (.getfield 13, 3) := dk_180 0 13 (dk_at dksX6_rowAt_1 0 rfl rfl)
theorem dX6_rowAt_25 : decode cX6_rowAt 25 = .ok (.iload_n 1, 1) := dk_27 (dk_at dksX6_rowAt_1 3 rfl rfl)
theorem dX6_rowAt_26 : decode cX6_rowAt 26 = .ok (.iload_n 3, 1) := dk_29 (dk_at dksX6_rowAt_1 4 rfl rfl)
theorem dX6_rowAt_27 : decode cX6_rowAt 27 = .ok (.iadd, 1) := dk_96 (dk_at dksX6_rowAt_1 5 rfl rfl)
theorem dX6_rowAt_28 : decode cX6_rowAt 28 = .ok (.iaload, 1) := dk_46 (dk_at dksX6_rowAt_1 6 rfl rfl)
theorem dX6_rowAt_29 : decode cX6_rowAt 29 = .ok (.iconst 1, 1) := dk_4 (dk_at dksX6_rowAt_1 7 rfl rfl)
theorem dX6_rowAt_30 : decode cX6_rowAt 30 = .ok (.isub, 1) := dk_100 (dk_at dksX6_rowAt_1 8 rfl rfl)
theorem dX6_rowAt_31 : decode cX6_rowAt 31 = .ok (.imul, 1) := dk_104 (dk_at dksX6_rowAt_1 9 rfl rfl)
theorem dX6_rowAt_32 : decode cX6_rowAt 32 = .ok (.iadd, 1) := dk_96 (dk_at dksX6_rowAt_1 10 rfl rfl)
theorem dX6_rowAt_33 : decode cX6_rowAt 33 = .ok (.istore_n 2, 1) := dk_61 (dk_at dksX6_rowAt_1 11 rfl rfl)
theorem dX6_rowAt_34 : decode cX6_rowAt 34 = .ok (.iinc 3 1, 3) := dk_132 3 1 (dk_at dksX6_rowAt_1 12 rfl rfl)
theorem dX6_rowAt_37 : decode cX6_rowAt 37 = .ok (.goto (-33), 3) := dk_167 255 223 (dk_at dksX6_rowAt_1 15 rfl rfl)
theorem dX6_rowAt_40 : decode cX6_rowAt 40 = .ok (.iload_n 2, 1) := dk_28 (dk_at dksX6_rowAt_1 18 rfl rfl)
theorem dX6_rowAt_41 : decode cX6_rowAt 41 = .ok (.ireturn, 1) := dk_172 (dk_at dksX6_rowAt_1 19 rfl rfl)
abbrev cX6_findLevels : ByteArray := prog_28_method_76_code
def yX6_findLevels : MethodName := ⟨RX6, "findLevels", "(IIII)I"⟩
def dkwX6_findLevels_8 : List UInt8 := [21, 4, 167, 0, 4, 2, 172]
abbrev dktX6_findLevels_8 : List UInt8 := dkwX6_findLevels_8 ++ []
def dkwX6_findLevels_7 : List UInt8 := [167, 255, 123, 29, 2, 159, 0, 23, 42, 180, 0, 70, 29, 46, 21, 4, 122, 4, 126, 4, 160, 0, 8]
abbrev dktX6_findLevels_7 : List UInt8 := dkwX6_findLevels_7 ++ dktX6_findLevels_8
def dkwX6_findLevels_6 : List UInt8 := [120, 128, 79, 132, 8, 1, 167, 255, 223, 132, 7, 1, 167, 255, 178, 132, 6, 1, 167, 255, 162, 132, 5, 1]
abbrev dktX6_findLevels_6 : List UInt8 := dkwX6_findLevels_6 ++ dktX6_findLevels_7
def dkwX6_findLevels_5 : List UInt8 := [180, 1, 199, 162, 0, 30, 42, 180, 0, 70, 42, 180, 0, 85, 21, 8, 46, 92, 46, 4, 21, 5, 4, 96]
abbrev dktX6_findLevels_5 : List UInt8 := dkwX6_findLevels_5 ++ dktX6_findLevels_6
def dkwX6_findLevels_4 : List UInt8 := [21, 5, 122, 4, 126, 4, 160, 0, 57, 42, 21, 6, 21, 7, 28, 182, 1, 212, 3, 54, 8, 21, 8, 42]
abbrev dktX6_findLevels_4 : List UInt8 := dkwX6_findLevels_4 ++ dktX6_findLevels_5
def dkwX6_findLevels_3 : List UInt8 := [162, 0, 93, 3, 54, 7, 21, 7, 42, 180, 0, 13, 3, 46, 162, 0, 73, 42, 180, 0, 70, 21, 6, 46]
abbrev dktX6_findLevels_3 : List UInt8 := dkwX6_findLevels_3 ++ dktX6_findLevels_4
def dkwX6_findLevels_2 : List UInt8 := [180, 0, 70, 29, 46, 21, 5, 122, 4, 126, 4, 160, 0, 6, 21, 5, 172, 3, 54, 6, 21, 6, 18, 69]
abbrev dktX6_findLevels_2 : List UInt8 := dkwX6_findLevels_2 ++ dktX6_findLevels_3
def dkwX6_findLevels_1 : List UInt8 := [42, 180, 0, 70, 27, 4, 79, 3, 54, 5, 21, 5, 21, 4, 162, 0, 132, 29, 2, 159, 0, 21, 42]
abbrev dktX6_findLevels_1 : List UInt8 := dkwX6_findLevels_1 ++ dktX6_findLevels_2
def dkwX6_findLevels_0 : List UInt8 := [3, 54, 5, 21, 5, 18, 69, 162, 0, 17, 42, 180, 0, 70, 21, 5, 3, 79, 132, 5, 1, 167, 255, 238]
abbrev dktX6_findLevels_0 : List UInt8 := dkwX6_findLevels_0 ++ dktX6_findLevels_1
theorem dksX6_findLevels_0 : cX6_findLevels.data.toList.drop 0 = dktX6_findLevels_0 := by decide +kernel
theorem dksX6_findLevels_1 : cX6_findLevels.data.toList.drop 24 = dktX6_findLevels_1 := dk_seg dksX6_findLevels_0 24 rfl rfl
theorem dksX6_findLevels_2 : cX6_findLevels.data.toList.drop 47 = dktX6_findLevels_2 := dk_seg dksX6_findLevels_1 23 rfl rfl
theorem dksX6_findLevels_3 : cX6_findLevels.data.toList.drop 71 = dktX6_findLevels_3 := dk_seg dksX6_findLevels_2 24 rfl rfl
theorem dksX6_findLevels_4 : cX6_findLevels.data.toList.drop 95 = dktX6_findLevels_4 := dk_seg dksX6_findLevels_3 24 rfl rfl
theorem dksX6_findLevels_5 : cX6_findLevels.data.toList.drop 119 = dktX6_findLevels_5 := dk_seg dksX6_findLevels_4 24 rfl rfl
theorem dksX6_findLevels_6 : cX6_findLevels.data.toList.drop 143 = dktX6_findLevels_6 := dk_seg dksX6_findLevels_5 24 rfl rfl
theorem dksX6_findLevels_7 : cX6_findLevels.data.toList.drop 167 = dktX6_findLevels_7 := dk_seg dksX6_findLevels_6 24 rfl rfl
theorem dksX6_findLevels_8 : cX6_findLevels.data.toList.drop 190 = dktX6_findLevels_8 := dk_seg dksX6_findLevels_7 23 rfl rfl
theorem dX6_findLevels_0 : decode cX6_findLevels 0 = .ok (.iconst 0, 1) := dk_3 (dk_at dksX6_findLevels_0 0 rfl rfl)
theorem dX6_findLevels_1 : decode cX6_findLevels 1 = .ok (.istore 5, 2) := dk_54 5 (dk_at dksX6_findLevels_0 1 rfl rfl)
theorem dX6_findLevels_3 : decode cX6_findLevels 3 = .ok (.iload 5, 2) := dk_21 5 (dk_at dksX6_findLevels_0 3 rfl rfl)
theorem dX6_findLevels_5 : decode cX6_findLevels 5 = .ok (.ldc 69, 2) := dk_18 69 (dk_at dksX6_findLevels_0 5 rfl rfl)
theorem dX6_findLevels_7 : decode cX6_findLevels 7 = .ok (.if_icmp .ge 17, 3) := dk_162 0 17 (dk_at dksX6_findLevels_0 7 rfl rfl)
theorem dX6_findLevels_10 : decode cX6_findLevels 10 = .ok (.aload_n 0, 1) := dk_42 (dk_at dksX6_findLevels_0 10 rfl rfl)
theorem dX6_findLevels_11 : decode cX6_findLevels 11 = .ok (.getfield 70, 3) := dk_180 0 70 (dk_at dksX6_findLevels_0 11 rfl rfl)
theorem dX6_findLevels_14 : decode cX6_findLevels 14 = .ok (.iload 5, 2) := dk_21 5 (dk_at dksX6_findLevels_0 14 rfl rfl)
theorem dX6_findLevels_16 : decode cX6_findLevels 16 = .ok (.iconst 0, 1) := dk_3 (dk_at dksX6_findLevels_0 16 rfl rfl)
theorem dX6_findLevels_17 : decode cX6_findLevels 17 = .ok (.iastore, 1) := dk_79 (dk_at dksX6_findLevels_0 17 rfl rfl)
theorem dX6_findLevels_18 : decode cX6_findLevels 18 = .ok (.iinc 5 1, 3) := dk_132 5 1 (dk_at dksX6_findLevels_0 18 rfl rfl)
theorem dX6_findLevels_21 : decode cX6_findLevels 21 = .ok (.goto (-18), 3) := dk_167 255 238 (dk_at dksX6_findLevels_0 21 rfl rfl)
theorem dX6_findLevels_24 : decode cX6_findLevels 24 = .ok (.aload_n 0, 1) := dk_42 (dk_at dksX6_findLevels_1 0 rfl rfl)
theorem dX6_findLevels_25 : decode cX6_findLevels 25 = .ok (.getfield 70, 3) := dk_180 0 70 (dk_at dksX6_findLevels_1 1 rfl rfl)
theorem dX6_findLevels_28 : decode cX6_findLevels 28 = .ok (.iload_n 1, 1) := dk_27 (dk_at dksX6_findLevels_1 4 rfl rfl)
theorem dX6_findLevels_29 : decode cX6_findLevels 29 = .ok (.iconst 1, 1) := dk_4 (dk_at dksX6_findLevels_1 5 rfl rfl)
theorem dX6_findLevels_30 : decode cX6_findLevels 30 = .ok (.iastore, 1) := dk_79 (dk_at dksX6_findLevels_1 6 rfl rfl)
theorem dX6_findLevels_31 : decode cX6_findLevels 31 = .ok (.iconst 0, 1) := dk_3 (dk_at dksX6_findLevels_1 7 rfl rfl)
theorem dX6_findLevels_32 : decode cX6_findLevels 32 = .ok (.istore 5, 2) := dk_54 5 (dk_at dksX6_findLevels_1 8 rfl rfl)
theorem dX6_findLevels_34 : decode cX6_findLevels 34 = .ok (.iload 5, 2) := dk_21 5 (dk_at dksX6_findLevels_1 10 rfl rfl)
theorem dX6_findLevels_36 : decode cX6_findLevels 36 = .ok (.iload 4, 2) := dk_21 4 (dk_at dksX6_findLevels_1 12 rfl rfl)
theorem dX6_findLevels_38 : decode cX6_findLevels 38 = .ok (.if_icmp .ge 132, 3) := dk_162 0 132 (dk_at dksX6_findLevels_1 14 rfl rfl)
theorem dX6_findLevels_41 : decode cX6_findLevels 41 = .ok (.iload_n 3, 1) := dk_29 (dk_at dksX6_findLevels_1 17 rfl rfl)
theorem dX6_findLevels_42 : decode cX6_findLevels 42 = .ok (.iconst (-1), 1) := dk_2 (dk_at dksX6_findLevels_1 18 rfl rfl)
theorem dX6_findLevels_43 : decode cX6_findLevels 43 = .ok (.if_icmp .eq 21, 3) := dk_159 0 21 (dk_at dksX6_findLevels_1 19 rfl rfl)
theorem dX6_findLevels_46 : decode cX6_findLevels 46 = .ok (.aload_n 0, 1) := dk_42 (dk_at dksX6_findLevels_1 22 rfl rfl)
theorem dX6_findLevels_47 : decode cX6_findLevels 47 = .ok (.getfield 70, 3) := dk_180 0 70 (dk_at dksX6_findLevels_2 0 rfl rfl)
theorem dX6_findLevels_50 : decode cX6_findLevels 50 = .ok (.iload_n 3, 1) := dk_29 (dk_at dksX6_findLevels_2 3 rfl rfl)
theorem dX6_findLevels_51 : decode cX6_findLevels 51 = .ok (.iaload, 1) := dk_46 (dk_at dksX6_findLevels_2 4 rfl rfl)
theorem dX6_findLevels_52 : decode cX6_findLevels 52 = .ok (.iload 5, 2) := dk_21 5 (dk_at dksX6_findLevels_2 5 rfl rfl)
theorem dX6_findLevels_54 : decode cX6_findLevels 54 = .ok (.ishr, 1) := dk_122 (dk_at dksX6_findLevels_2 7 rfl rfl)
theorem dX6_findLevels_55 : decode cX6_findLevels 55 = .ok (.iconst 1, 1) := dk_4 (dk_at dksX6_findLevels_2 8 rfl rfl)
theorem dX6_findLevels_56 : decode cX6_findLevels 56 = .ok (.iand, 1) := dk_126 (dk_at dksX6_findLevels_2 9 rfl rfl)
theorem dX6_findLevels_57 : decode cX6_findLevels 57 = .ok (.iconst 1, 1) := dk_4 (dk_at dksX6_findLevels_2 10 rfl rfl)
theorem dX6_findLevels_58 : decode cX6_findLevels 58 = .ok (.if_icmp .ne 6, 3) := dk_160 0 6 (dk_at dksX6_findLevels_2 11 rfl rfl)
theorem dX6_findLevels_61 : decode cX6_findLevels 61 = .ok (.iload 5, 2) := dk_21 5 (dk_at dksX6_findLevels_2 14 rfl rfl)
theorem dX6_findLevels_63 : decode cX6_findLevels 63 = .ok (.ireturn, 1) := dk_172 (dk_at dksX6_findLevels_2 16 rfl rfl)
theorem dX6_findLevels_64 : decode cX6_findLevels 64 = .ok (.iconst 0, 1) := dk_3 (dk_at dksX6_findLevels_2 17 rfl rfl)
theorem dX6_findLevels_65 : decode cX6_findLevels 65 = .ok (.istore 6, 2) := dk_54 6 (dk_at dksX6_findLevels_2 18 rfl rfl)
theorem dX6_findLevels_67 : decode cX6_findLevels 67 = .ok (.iload 6, 2) := dk_21 6 (dk_at dksX6_findLevels_2 20 rfl rfl)
theorem dX6_findLevels_69 : decode cX6_findLevels 69 = .ok (.ldc 69, 2) := dk_18 69 (dk_at dksX6_findLevels_2 22 rfl rfl)
theorem dX6_findLevels_71 : decode cX6_findLevels 71 = .ok (.if_icmp .ge 93, 3) := dk_162 0 93 (dk_at dksX6_findLevels_3 0 rfl rfl)
theorem dX6_findLevels_74 : decode cX6_findLevels 74 = .ok (.iconst 0, 1) := dk_3 (dk_at dksX6_findLevels_3 3 rfl rfl)
theorem dX6_findLevels_75 : decode cX6_findLevels 75 = .ok (.istore 7, 2) := dk_54 7 (dk_at dksX6_findLevels_3 4 rfl rfl)
theorem dX6_findLevels_77 : decode cX6_findLevels 77 = .ok (.iload 7, 2) := dk_21 7 (dk_at dksX6_findLevels_3 6 rfl rfl)
theorem dX6_findLevels_79 : decode cX6_findLevels 79 = .ok (.aload_n 0, 1) := dk_42 (dk_at dksX6_findLevels_3 8 rfl rfl)
theorem dX6_findLevels_80 : decode cX6_findLevels 80 = .ok (.getfield 13, 3) := dk_180 0 13 (dk_at dksX6_findLevels_3 9 rfl rfl)
theorem dX6_findLevels_83 : decode cX6_findLevels 83 = .ok (.iconst 0, 1) := dk_3 (dk_at dksX6_findLevels_3 12 rfl rfl)
theorem dX6_findLevels_84 : decode cX6_findLevels 84 = .ok (.iaload, 1) := dk_46 (dk_at dksX6_findLevels_3 13 rfl rfl)
theorem dX6_findLevels_85 : decode cX6_findLevels 85 = .ok (.if_icmp .ge 73, 3) := dk_162 0 73 (dk_at dksX6_findLevels_3 14 rfl rfl)
theorem dX6_findLevels_88 : decode cX6_findLevels 88 = .ok (.aload_n 0, 1) := dk_42 (dk_at dksX6_findLevels_3 17 rfl rfl)
theorem dX6_findLevels_89 : decode cX6_findLevels 89 = .ok (.getfield 70, 3) := dk_180 0 70 (dk_at dksX6_findLevels_3 18 rfl rfl)
theorem dX6_findLevels_92 : decode cX6_findLevels 92 = .ok (.iload 6, 2) := dk_21 6 (dk_at dksX6_findLevels_3 21 rfl rfl)
theorem dX6_findLevels_94 : decode cX6_findLevels 94 = .ok (.iaload, 1) := dk_46 (dk_at dksX6_findLevels_3 23 rfl rfl)
theorem dX6_findLevels_95 : decode cX6_findLevels 95 = .ok (.iload 5, 2) := dk_21 5 (dk_at dksX6_findLevels_4 0 rfl rfl)
theorem dX6_findLevels_97 : decode cX6_findLevels 97 = .ok (.ishr, 1) := dk_122 (dk_at dksX6_findLevels_4 2 rfl rfl)
theorem dX6_findLevels_98 : decode cX6_findLevels 98 = .ok (.iconst 1, 1) := dk_4 (dk_at dksX6_findLevels_4 3 rfl rfl)
theorem dX6_findLevels_99 : decode cX6_findLevels 99 = .ok (.iand, 1) := dk_126 (dk_at dksX6_findLevels_4 4 rfl rfl)
theorem dX6_findLevels_100 : decode cX6_findLevels 100 = .ok (.iconst 1, 1) := dk_4 (dk_at dksX6_findLevels_4 5 rfl rfl)
theorem dX6_findLevels_101 : decode cX6_findLevels 101 = .ok (.if_icmp .ne 57, 3) := dk_160 0 57 (dk_at dksX6_findLevels_4 6 rfl rfl)
theorem dX6_findLevels_104 : decode cX6_findLevels 104 = .ok (.aload_n 0, 1) := dk_42 (dk_at dksX6_findLevels_4 9 rfl rfl)
theorem dX6_findLevels_105 : decode cX6_findLevels 105 = .ok (.iload 6, 2) := dk_21 6 (dk_at dksX6_findLevels_4 10 rfl rfl)
theorem dX6_findLevels_107 : decode cX6_findLevels 107 = .ok (.iload 7, 2) := dk_21 7 (dk_at dksX6_findLevels_4 12 rfl rfl)
theorem dX6_findLevels_109 : decode cX6_findLevels 109 = .ok (.iload_n 2, 1) := dk_28 (dk_at dksX6_findLevels_4 14 rfl rfl)
theorem dX6_findLevels_110 : decode cX6_findLevels 110 = .ok (.invokevirtual 468, 3) := dk_182 1 212 (dk_at dksX6_findLevels_4 15 rfl rfl)
theorem dX6_findLevels_113 : decode cX6_findLevels 113 = .ok (.iconst 0, 1) := dk_3 (dk_at dksX6_findLevels_4 18 rfl rfl)
theorem dX6_findLevels_114 : decode cX6_findLevels 114 = .ok (.istore 8, 2) := dk_54 8 (dk_at dksX6_findLevels_4 19 rfl rfl)
theorem dX6_findLevels_116 : decode cX6_findLevels 116 = .ok (.iload 8, 2) := dk_21 8 (dk_at dksX6_findLevels_4 21 rfl rfl)
theorem dX6_findLevels_118 : decode cX6_findLevels 118 = .ok (.aload_n 0, 1) := dk_42 (dk_at dksX6_findLevels_4 23 rfl rfl)
theorem dX6_findLevels_119 : decode cX6_findLevels 119 = .ok (.getfield 455, 3) := dk_180 1 199 (dk_at dksX6_findLevels_5 0 rfl rfl)
theorem dX6_findLevels_122 : decode cX6_findLevels 122 = .ok (.if_icmp .ge 30, 3) := dk_162 0 30 (dk_at dksX6_findLevels_5 3 rfl rfl)
theorem dX6_findLevels_125 : decode cX6_findLevels 125 = .ok (.aload_n 0, 1) := dk_42 (dk_at dksX6_findLevels_5 6 rfl rfl)
theorem dX6_findLevels_126 : decode cX6_findLevels 126 = .ok (.getfield 70, 3) := dk_180 0 70 (dk_at dksX6_findLevels_5 7 rfl rfl)
theorem dX6_findLevels_129 : decode cX6_findLevels 129 = .ok (.aload_n 0, 1) := dk_42 (dk_at dksX6_findLevels_5 10 rfl rfl)
theorem dX6_findLevels_130 : decode cX6_findLevels 130 = .ok (.getfield 85, 3) := dk_180 0 85 (dk_at dksX6_findLevels_5 11 rfl rfl)
theorem dX6_findLevels_133 : decode cX6_findLevels 133 = .ok (.iload 8, 2) := dk_21 8 (dk_at dksX6_findLevels_5 14 rfl rfl)
theorem dX6_findLevels_135 : decode cX6_findLevels 135 = .ok (.iaload, 1) := dk_46 (dk_at dksX6_findLevels_5 16 rfl rfl)
theorem dX6_findLevels_136 : decode cX6_findLevels 136 = .ok (.dup2, 1) := dk_92 (dk_at dksX6_findLevels_5 17 rfl rfl)
theorem dX6_findLevels_137 : decode cX6_findLevels 137 = .ok (.iaload, 1) := dk_46 (dk_at dksX6_findLevels_5 18 rfl rfl)
theorem dX6_findLevels_138 : decode cX6_findLevels 138 = .ok (.iconst 1, 1) := dk_4 (dk_at dksX6_findLevels_5 19 rfl rfl)
theorem dX6_findLevels_139 : decode cX6_findLevels 139 = .ok (.iload 5, 2) := dk_21 5 (dk_at dksX6_findLevels_5 20 rfl rfl)
theorem dX6_findLevels_141 : decode cX6_findLevels 141 = .ok (.iconst 1, 1) := dk_4 (dk_at dksX6_findLevels_5 22 rfl rfl)
theorem dX6_findLevels_142 : decode cX6_findLevels 142 = .ok (.iadd, 1) := dk_96 (dk_at dksX6_findLevels_5 23 rfl rfl)
theorem dX6_findLevels_143 : decode cX6_findLevels 143 = .ok (.ishl, 1) := dk_120 (dk_at dksX6_findLevels_6 0 rfl rfl)
theorem dX6_findLevels_144 : decode cX6_findLevels 144 = .ok (.ior, 1) := dk_128 (dk_at dksX6_findLevels_6 1 rfl rfl)
theorem dX6_findLevels_145 : decode cX6_findLevels 145 = .ok (.iastore, 1) := dk_79 (dk_at dksX6_findLevels_6 2 rfl rfl)
theorem dX6_findLevels_146 : decode cX6_findLevels 146 = .ok (.iinc 8 1, 3) := dk_132 8 1 (dk_at dksX6_findLevels_6 3 rfl rfl)
theorem dX6_findLevels_149 : decode cX6_findLevels 149 = .ok (.goto (-33), 3) := dk_167 255 223 (dk_at dksX6_findLevels_6 6 rfl rfl)
theorem dX6_findLevels_152 : decode cX6_findLevels 152 = .ok (.iinc 7 1, 3) := dk_132 7 1 (dk_at dksX6_findLevels_6 9 rfl rfl)
theorem dX6_findLevels_155 : decode cX6_findLevels 155 = .ok (.goto (-78), 3) := dk_167 255 178 (dk_at dksX6_findLevels_6 12 rfl rfl)
theorem dX6_findLevels_158 : decode cX6_findLevels 158 = .ok (.iinc 6 1, 3) := dk_132 6 1 (dk_at dksX6_findLevels_6 15 rfl rfl)
theorem dX6_findLevels_161 : decode cX6_findLevels 161 = .ok (.goto (-94), 3) := dk_167 255 162 (dk_at dksX6_findLevels_6 18 rfl rfl)
theorem dX6_findLevels_164 : decode cX6_findLevels 164 = .ok (.iinc 5 1, 3) := dk_132 5 1 (dk_at dksX6_findLevels_6 21 rfl rfl)
theorem dX6_findLevels_167 : decode cX6_findLevels 167 = .ok (.goto (-133), 3) := dk_167 255 123 (dk_at dksX6_findLevels_7 0 rfl rfl)
theorem dX6_findLevels_170 : decode cX6_findLevels 170 = .ok (.iload_n 3, 1) := dk_29 (dk_at dksX6_findLevels_7 3 rfl rfl)
theorem dX6_findLevels_171 : decode cX6_findLevels 171 = .ok (.iconst (-1), 1) := dk_2 (dk_at dksX6_findLevels_7 4 rfl rfl)
theorem dX6_findLevels_172 : decode cX6_findLevels 172 = .ok (.if_icmp .eq 23, 3) := dk_159 0 23 (dk_at dksX6_findLevels_7 5 rfl rfl)
theorem dX6_findLevels_175 : decode cX6_findLevels 175 = .ok (.aload_n 0, 1) := dk_42 (dk_at dksX6_findLevels_7 8 rfl rfl)
theorem dX6_findLevels_176 : decode cX6_findLevels 176 = .ok (.getfield 70, 3) := dk_180 0 70 (dk_at dksX6_findLevels_7 9 rfl rfl)
theorem dX6_findLevels_179 : decode cX6_findLevels 179 = .ok (.iload_n 3, 1) := dk_29 (dk_at dksX6_findLevels_7 12 rfl rfl)
theorem dX6_findLevels_180 : decode cX6_findLevels 180 = .ok (.iaload, 1) := dk_46 (dk_at dksX6_findLevels_7 13 rfl rfl)
theorem dX6_findLevels_181 : decode cX6_findLevels 181 = .ok (.iload 4, 2) := dk_21 4 (dk_at dksX6_findLevels_7 14 rfl rfl)
theorem dX6_findLevels_183 : decode cX6_findLevels 183 = .ok (.ishr, 1) := dk_122 (dk_at dksX6_findLevels_7 16 rfl rfl)
theorem dX6_findLevels_184 : decode cX6_findLevels 184 = .ok (.iconst 1, 1) := dk_4 (dk_at dksX6_findLevels_7 17 rfl rfl)
theorem dX6_findLevels_185 : decode cX6_findLevels 185 = .ok (.iand, 1) := dk_126 (dk_at dksX6_findLevels_7 18 rfl rfl)
theorem dX6_findLevels_186 : decode cX6_findLevels 186 = .ok (.iconst 1, 1) := dk_4 (dk_at dksX6_findLevels_7 19 rfl rfl)
theorem dX6_findLevels_187 : decode cX6_findLevels 187 = .ok (.if_icmp .ne 8, 3) := dk_160 0 8 (dk_at dksX6_findLevels_7 20 rfl rfl)
theorem dX6_findLevels_190 : decode cX6_findLevels 190 = .ok (.iload 4, 2) := dk_21 4 (dk_at dksX6_findLevels_8 0 rfl rfl)
theorem dX6_findLevels_192 : decode cX6_findLevels 192 = .ok (.goto 4, 3) := dk_167 0 4 (dk_at dksX6_findLevels_8 2 rfl rfl)
theorem dX6_findLevels_195 : decode cX6_findLevels 195 = .ok (.iconst (-1), 1) := dk_2 (dk_at dksX6_findLevels_8 5 rfl rfl)
theorem dX6_findLevels_196 : decode cX6_findLevels 196 = .ok (.ireturn, 1) := dk_172 (dk_at dksX6_findLevels_8 6 rfl rfl)
abbrev cX6_findSpread : ByteArray := prog_28_method_74_code
def yX6_findSpread : MethodName := ⟨RX6, "findSpread", "(III)V"⟩
def dkwX6_findSpread_7 : List UInt8 := [167, 255, 208, 177]
abbrev dktX6_findSpread_7 : List UInt8 := dkwX6_findSpread_7 ++ []
def dkwX6_findSpread_6 : List UInt8 := [42, 180, 0, 85, 21, 8, 46, 28, 182, 1, 209, 132, 8, 1, 167, 255, 234, 21, 7, 54, 5, 132, 6, 1]
abbrev dktX6_findSpread_6 : List UInt8 := dkwX6_findSpread_6 ++ dktX6_findSpread_7
def dkwX6_findSpread_5 : List UInt8 := [21, 6, 29, 162, 0, 48, 42, 180, 1, 199, 54, 7, 21, 5, 54, 8, 21, 8, 21, 7, 162, 0, 21, 42]
abbrev dktX6_findSpread_5 : List UInt8 := dkwX6_findSpread_5 ++ dktX6_findSpread_6
def dkwX6_findSpread_4 : List UInt8 := [164, 0, 14, 27, 42, 180, 0, 66, 28, 46, 100, 167, 0, 4, 27, 182, 1, 206, 3, 54, 5, 3, 54, 6]
abbrev dktX6_findSpread_4 : List UInt8 := dkwX6_findSpread_4 ++ dktX6_findSpread_5
def dkwX6_findSpread_3 : List UInt8 := [54, 4, 132, 5, 1, 167, 255, 201, 21, 4, 154, 0, 4, 177, 42, 42, 27, 28, 182, 1, 202, 4]
abbrev dktX6_findSpread_3 : List UInt8 := dkwX6_findSpread_3 ++ dktX6_findSpread_4
def dkwX6_findSpread_2 : List UInt8 := [180, 0, 13, 6, 46, 42, 27, 21, 5, 182, 1, 202, 122, 4, 126, 4, 160, 0, 7, 4, 167, 0, 4, 3]
abbrev dktX6_findSpread_2 : List UInt8 := dkwX6_findSpread_2 ++ dktX6_findSpread_3
def dkwX6_findSpread_1 : List UInt8 := [180, 0, 13, 3, 46, 162, 0, 50, 21, 4, 154, 0, 32, 21, 5, 28, 184, 1, 103, 154, 0, 27, 42]
abbrev dktX6_findSpread_1 : List UInt8 := dkwX6_findSpread_1 ++ dktX6_findSpread_2
def dkwX6_findSpread_0 : List UInt8 := [42, 89, 180, 1, 196, 4, 96, 181, 1, 196, 42, 3, 181, 1, 199, 3, 54, 4, 3, 54, 5, 21, 5, 42]
abbrev dktX6_findSpread_0 : List UInt8 := dkwX6_findSpread_0 ++ dktX6_findSpread_1
theorem dksX6_findSpread_0 : cX6_findSpread.data.toList.drop 0 = dktX6_findSpread_0 := by decide +kernel
theorem dksX6_findSpread_1 : cX6_findSpread.data.toList.drop 24 = dktX6_findSpread_1 := dk_seg dksX6_findSpread_0 24 rfl rfl
theorem dksX6_findSpread_2 : cX6_findSpread.data.toList.drop 47 = dktX6_findSpread_2 := dk_seg dksX6_findSpread_1 23 rfl rfl
theorem dksX6_findSpread_3 : cX6_findSpread.data.toList.drop 71 = dktX6_findSpread_3 := dk_seg dksX6_findSpread_2 24 rfl rfl
theorem dksX6_findSpread_4 : cX6_findSpread.data.toList.drop 93 = dktX6_findSpread_4 := dk_seg dksX6_findSpread_3 22 rfl rfl
theorem dksX6_findSpread_5 : cX6_findSpread.data.toList.drop 117 = dktX6_findSpread_5 := dk_seg dksX6_findSpread_4 24 rfl rfl
theorem dksX6_findSpread_6 : cX6_findSpread.data.toList.drop 141 = dktX6_findSpread_6 := dk_seg dksX6_findSpread_5 24 rfl rfl
theorem dksX6_findSpread_7 : cX6_findSpread.data.toList.drop 165 = dktX6_findSpread_7 := dk_seg dksX6_findSpread_6 24 rfl rfl
theorem dX6_findSpread_0 : decode cX6_findSpread 0 = .ok (.aload_n 0, 1) := dk_42 (dk_at dksX6_findSpread_0 0 rfl rfl)
theorem dX6_findSpread_1 : decode cX6_findSpread 1 = .ok (.dup, 1) := dk_89 (dk_at dksX6_findSpread_0 1 rfl rfl)
theorem dX6_findSpread_2 : decode cX6_findSpread 2 = .ok (.getfield 452, 3) := dk_180 1 196 (dk_at dksX6_findSpread_0 2 rfl rfl)
theorem dX6_findSpread_5 : decode cX6_findSpread 5 = .ok (.iconst 1, 1) := dk_4 (dk_at dksX6_findSpread_0 5 rfl rfl)
theorem dX6_findSpread_6 : decode cX6_findSpread 6 = .ok (.iadd, 1) := dk_96 (dk_at dksX6_findSpread_0 6 rfl rfl)
theorem dX6_findSpread_7 : decode cX6_findSpread 7 = .ok (.putfield 452, 3) := dk_181 1 196 (dk_at dksX6_findSpread_0 7 rfl rfl)
theorem dX6_findSpread_10 : decode cX6_findSpread 10 = .ok (.aload_n 0, 1) := dk_42 (dk_at dksX6_findSpread_0 10 rfl rfl)
theorem dX6_findSpread_11 : decode cX6_findSpread 11 = .ok (.iconst 0, 1) := dk_3 (dk_at dksX6_findSpread_0 11 rfl rfl)
theorem dX6_findSpread_12 : decode cX6_findSpread 12 = .ok (.putfield 455, 3) := dk_181 1 199 (dk_at dksX6_findSpread_0 12 rfl rfl)
theorem dX6_findSpread_15 : decode cX6_findSpread 15 = .ok (.iconst 0, 1) := dk_3 (dk_at dksX6_findSpread_0 15 rfl rfl)
theorem dX6_findSpread_16 : decode cX6_findSpread 16 = .ok (.istore 4, 2) := dk_54 4 (dk_at dksX6_findSpread_0 16 rfl rfl)
theorem dX6_findSpread_18 : decode cX6_findSpread 18 = .ok (.iconst 0, 1) := dk_3 (dk_at dksX6_findSpread_0 18 rfl rfl)
theorem dX6_findSpread_19 : decode cX6_findSpread 19 = .ok (.istore 5, 2) := dk_54 5 (dk_at dksX6_findSpread_0 19 rfl rfl)
theorem dX6_findSpread_21 : decode cX6_findSpread 21 = .ok (.iload 5, 2) := dk_21 5 (dk_at dksX6_findSpread_0 21 rfl rfl)
theorem dX6_findSpread_23 : decode cX6_findSpread 23 = .ok (.aload_n 0, 1) := dk_42 (dk_at dksX6_findSpread_0 23 rfl rfl)
theorem dX6_findSpread_24 : decode cX6_findSpread 24 = .ok (.getfield 13, 3) := dk_180 0 13 (dk_at dksX6_findSpread_1 0 rfl rfl)
theorem dX6_findSpread_27 : decode cX6_findSpread 27 = .ok (.iconst 0, 1) := dk_3 (dk_at dksX6_findSpread_1 3 rfl rfl)
theorem dX6_findSpread_28 : decode cX6_findSpread 28 = .ok (.iaload, 1) := dk_46 (dk_at dksX6_findSpread_1 4 rfl rfl)
theorem dX6_findSpread_29 : decode cX6_findSpread 29 = .ok (.if_icmp .ge 50, 3) := dk_162 0 50 (dk_at dksX6_findSpread_1 5 rfl rfl)
theorem dX6_findSpread_32 : decode cX6_findSpread 32 = .ok (.iload 4, 2) := dk_21 4 (dk_at dksX6_findSpread_1 8 rfl rfl)
theorem dX6_findSpread_34 : decode cX6_findSpread 34 = .ok (.ifCond .ne 32, 3) := dk_154 0 32 (dk_at dksX6_findSpread_1 10 rfl rfl)
theorem dX6_findSpread_37 : decode cX6_findSpread 37 = .ok (.iload 5, 2) := dk_21 5 (dk_at dksX6_findSpread_1 13 rfl rfl)
theorem dX6_findSpread_39 : decode cX6_findSpread 39 = .ok (.iload_n 2, 1) := dk_28 (dk_at dksX6_findSpread_1 15 rfl rfl)
theorem dX6_findSpread_40 : decode cX6_findSpread 40 = .ok (.invokestatic 359, 3) := dk_184 1 103 (dk_at dksX6_findSpread_1 16 rfl rfl)
theorem dX6_findSpread_43 : decode cX6_findSpread 43 = .ok (.ifCond .ne 27, 3) := dk_154 0 27 (dk_at dksX6_findSpread_1 19 rfl rfl)
theorem dX6_findSpread_46 : decode cX6_findSpread 46 = .ok (.aload_n 0, 1) := dk_42 (dk_at dksX6_findSpread_1 22 rfl rfl)
theorem dX6_findSpread_47 : decode cX6_findSpread 47 = .ok (.getfield 13, 3) := dk_180 0 13 (dk_at dksX6_findSpread_2 0 rfl rfl)
theorem dX6_findSpread_50 : decode cX6_findSpread 50 = .ok (.iconst 3, 1) := dk_6 (dk_at dksX6_findSpread_2 3 rfl rfl)
theorem dX6_findSpread_51 : decode cX6_findSpread 51 = .ok (.iaload, 1) := dk_46 (dk_at dksX6_findSpread_2 4 rfl rfl)
theorem dX6_findSpread_52 : decode cX6_findSpread 52 = .ok (.aload_n 0, 1) := dk_42 (dk_at dksX6_findSpread_2 5 rfl rfl)
theorem dX6_findSpread_53 : decode cX6_findSpread 53 = .ok (.iload_n 1, 1) := dk_27 (dk_at dksX6_findSpread_2 6 rfl rfl)
theorem dX6_findSpread_54 : decode cX6_findSpread 54 = .ok (.iload 5, 2) := dk_21 5 (dk_at dksX6_findSpread_2 7 rfl rfl)
theorem dX6_findSpread_56 : decode cX6_findSpread 56 = .ok (.invokevirtual 458, 3) := dk_182 1 202 (dk_at dksX6_findSpread_2 9 rfl rfl)
theorem dX6_findSpread_59 : decode cX6_findSpread 59 = .ok (.ishr, 1) := dk_122 (dk_at dksX6_findSpread_2 12 rfl rfl)
theorem dX6_findSpread_60 : decode cX6_findSpread 60 = .ok (.iconst 1, 1) := dk_4 (dk_at dksX6_findSpread_2 13 rfl rfl)
theorem dX6_findSpread_61 : decode cX6_findSpread 61 = .ok (.iand, 1) := dk_126 (dk_at dksX6_findSpread_2 14 rfl rfl)
theorem dX6_findSpread_62 : decode cX6_findSpread 62 = .ok (.iconst 1, 1) := dk_4 (dk_at dksX6_findSpread_2 15 rfl rfl)
theorem dX6_findSpread_63 : decode cX6_findSpread 63 = .ok (.if_icmp .ne 7, 3) := dk_160 0 7 (dk_at dksX6_findSpread_2 16 rfl rfl)
theorem dX6_findSpread_66 : decode cX6_findSpread 66 = .ok (.iconst 1, 1) := dk_4 (dk_at dksX6_findSpread_2 19 rfl rfl)
theorem dX6_findSpread_67 : decode cX6_findSpread 67 = .ok (.goto 4, 3) := dk_167 0 4 (dk_at dksX6_findSpread_2 20 rfl rfl)
theorem dX6_findSpread_70 : decode cX6_findSpread 70 = .ok (.iconst 0, 1) := dk_3 (dk_at dksX6_findSpread_2 23 rfl rfl)
theorem dX6_findSpread_71 : decode cX6_findSpread 71 = .ok (.istore 4, 2) := dk_54 4 (dk_at dksX6_findSpread_3 0 rfl rfl)
theorem dX6_findSpread_73 : decode cX6_findSpread 73 = .ok (.iinc 5 1, 3) := dk_132 5 1 (dk_at dksX6_findSpread_3 2 rfl rfl)
theorem dX6_findSpread_76 : decode cX6_findSpread 76 = .ok (.goto (-55), 3) := dk_167 255 201 (dk_at dksX6_findSpread_3 5 rfl rfl)
theorem dX6_findSpread_79 : decode cX6_findSpread 79 = .ok (.iload 4, 2) := dk_21 4 (dk_at dksX6_findSpread_3 8 rfl rfl)
theorem dX6_findSpread_81 : decode cX6_findSpread 81 = .ok (.ifCond .ne 4, 3) := dk_154 0 4 (dk_at dksX6_findSpread_3 10 rfl rfl)
theorem dX6_findSpread_84 : decode cX6_findSpread 84 = .ok (.return_, 1) := dk_177 (dk_at dksX6_findSpread_3 13 rfl rfl)
theorem dX6_findSpread_85 : decode cX6_findSpread 85 = .ok (.aload_n 0, 1) := dk_42 (dk_at dksX6_findSpread_3 14 rfl rfl)
theorem dX6_findSpread_86 : decode cX6_findSpread 86 = .ok (.aload_n 0, 1) := dk_42 (dk_at dksX6_findSpread_3 15 rfl rfl)
theorem dX6_findSpread_87 : decode cX6_findSpread 87 = .ok (.iload_n 1, 1) := dk_27 (dk_at dksX6_findSpread_3 16 rfl rfl)
theorem dX6_findSpread_88 : decode cX6_findSpread 88 = .ok (.iload_n 2, 1) := dk_28 (dk_at dksX6_findSpread_3 17 rfl rfl)
theorem dX6_findSpread_89 : decode cX6_findSpread 89 = .ok (.invokevirtual 458, 3) := dk_182 1 202 (dk_at dksX6_findSpread_3 18 rfl rfl)
theorem dX6_findSpread_92 : decode cX6_findSpread 92 = .ok (.iconst 1, 1) := dk_4 (dk_at dksX6_findSpread_3 21 rfl rfl)
theorem dX6_findSpread_93 : decode cX6_findSpread 93 = .ok (.if_icmp .le 14, 3) := dk_164 0 14 (dk_at dksX6_findSpread_4 0 rfl rfl)
theorem dX6_findSpread_96 : decode cX6_findSpread 96 = .ok (.iload_n 1, 1) := dk_27 (dk_at dksX6_findSpread_4 3 rfl rfl)
theorem dX6_findSpread_97 : decode cX6_findSpread 97 = .ok (.aload_n 0, 1) := dk_42 (dk_at dksX6_findSpread_4 4 rfl rfl)
theorem dX6_findSpread_98 : decode cX6_findSpread 98 = .ok (.getfield 66, 3) := dk_180 0 66 (dk_at dksX6_findSpread_4 5 rfl rfl)
theorem dX6_findSpread_101 : decode cX6_findSpread 101 = .ok (.iload_n 2, 1) := dk_28 (dk_at dksX6_findSpread_4 8 rfl rfl)
theorem dX6_findSpread_102 : decode cX6_findSpread 102 = .ok (.iaload, 1) := dk_46 (dk_at dksX6_findSpread_4 9 rfl rfl)
theorem dX6_findSpread_103 : decode cX6_findSpread 103 = .ok (.isub, 1) := dk_100 (dk_at dksX6_findSpread_4 10 rfl rfl)
theorem dX6_findSpread_104 : decode cX6_findSpread 104 = .ok (.goto 4, 3) := dk_167 0 4 (dk_at dksX6_findSpread_4 11 rfl rfl)
theorem dX6_findSpread_107 : decode cX6_findSpread 107 = .ok (.iload_n 1, 1) := dk_27 (dk_at dksX6_findSpread_4 14 rfl rfl)
theorem dX6_findSpread_108 : decode cX6_findSpread 108 = .ok (.invokevirtual 462, 3) := dk_182 1 206 (dk_at dksX6_findSpread_4 15 rfl rfl)
theorem dX6_findSpread_111 : decode cX6_findSpread 111 = .ok (.iconst 0, 1) := dk_3 (dk_at dksX6_findSpread_4 18 rfl rfl)
theorem dX6_findSpread_112 : decode cX6_findSpread 112 = .ok (.istore 5, 2) := dk_54 5 (dk_at dksX6_findSpread_4 19 rfl rfl)
theorem dX6_findSpread_114 : decode cX6_findSpread 114 = .ok (.iconst 0, 1) := dk_3 (dk_at dksX6_findSpread_4 21 rfl rfl)
theorem dX6_findSpread_115 : decode cX6_findSpread 115 = .ok (.istore 6, 2) := dk_54 6 (dk_at dksX6_findSpread_4 22 rfl rfl)
theorem dX6_findSpread_117 : decode cX6_findSpread 117 = .ok (.iload 6, 2) := dk_21 6 (dk_at dksX6_findSpread_5 0 rfl rfl)
theorem dX6_findSpread_119 : decode cX6_findSpread 119 = .ok (.iload_n 3, 1) := dk_29 (dk_at dksX6_findSpread_5 2 rfl rfl)
theorem dX6_findSpread_120 : decode cX6_findSpread 120 = .ok (.if_icmp .ge 48, 3) := dk_162 0 48 (dk_at dksX6_findSpread_5 3 rfl rfl)
theorem dX6_findSpread_123 : decode cX6_findSpread 123 = .ok (.aload_n 0, 1) := dk_42 (dk_at dksX6_findSpread_5 6 rfl rfl)
theorem dX6_findSpread_124 : decode cX6_findSpread 124 = .ok (.getfield 455, 3) := dk_180 1 199 (dk_at dksX6_findSpread_5 7 rfl rfl)
theorem dX6_findSpread_127 : decode cX6_findSpread 127 = .ok (.istore 7, 2) := dk_54 7 (dk_at dksX6_findSpread_5 10 rfl rfl)
theorem dX6_findSpread_129 : decode cX6_findSpread 129 = .ok (.iload 5, 2) := dk_21 5 (dk_at dksX6_findSpread_5 12 rfl rfl)
theorem dX6_findSpread_131 : decode cX6_findSpread 131 = .ok (.istore 8, 2) := dk_54 8 (dk_at dksX6_findSpread_5 14 rfl rfl)
theorem dX6_findSpread_133 : decode cX6_findSpread 133 = .ok (.iload 8, 2) := dk_21 8 (dk_at dksX6_findSpread_5 16 rfl rfl)
theorem dX6_findSpread_135 : decode cX6_findSpread 135 = .ok (.iload 7, 2) := dk_21 7 (dk_at dksX6_findSpread_5 18 rfl rfl)
theorem dX6_findSpread_137 : decode cX6_findSpread 137 = .ok (.if_icmp .ge 21, 3) := dk_162 0 21 (dk_at dksX6_findSpread_5 20 rfl rfl)
theorem dX6_findSpread_140 : decode cX6_findSpread 140 = .ok (.aload_n 0, 1) := dk_42 (dk_at dksX6_findSpread_5 23 rfl rfl)
theorem dX6_findSpread_141 : decode cX6_findSpread 141 = .ok (.aload_n 0, 1) := dk_42 (dk_at dksX6_findSpread_6 0 rfl rfl)
theorem dX6_findSpread_142 : decode cX6_findSpread 142 = .ok (.getfield 85, 3) := dk_180 0 85 (dk_at dksX6_findSpread_6 1 rfl rfl)
theorem dX6_findSpread_145 : decode cX6_findSpread 145 = .ok (.iload 8, 2) := dk_21 8 (dk_at dksX6_findSpread_6 4 rfl rfl)
theorem dX6_findSpread_147 : decode cX6_findSpread 147 = .ok (.iaload, 1) := dk_46 (dk_at dksX6_findSpread_6 6 rfl rfl)
theorem dX6_findSpread_148 : decode cX6_findSpread 148 = .ok (.iload_n 2, 1) := dk_28 (dk_at dksX6_findSpread_6 7 rfl rfl)
theorem dX6_findSpread_149 : decode cX6_findSpread 149 = .ok (.invokevirtual 465, 3) := dk_182 1 209 (dk_at dksX6_findSpread_6 8 rfl rfl)
theorem dX6_findSpread_152 : decode cX6_findSpread 152 = .ok (.iinc 8 1, 3) := dk_132 8 1 (dk_at dksX6_findSpread_6 11 rfl rfl)
theorem dX6_findSpread_155 : decode cX6_findSpread 155 = .ok (.goto (-22), 3) := dk_167 255 234 (dk_at dksX6_findSpread_6 14 rfl rfl)
theorem dX6_findSpread_158 : decode cX6_findSpread 158 = .ok (.iload 7, 2) := dk_21 7 (dk_at dksX6_findSpread_6 17 rfl rfl)
theorem dX6_findSpread_160 : decode cX6_findSpread 160 = .ok (.istore 5, 2) := dk_54 5 (dk_at dksX6_findSpread_6 19 rfl rfl)
theorem dX6_findSpread_162 : decode cX6_findSpread 162 = .ok (.iinc 6 1, 3) := dk_132 6 1 (dk_at dksX6_findSpread_6 21 rfl rfl)
theorem dX6_findSpread_165 : decode cX6_findSpread 165 = .ok (.goto (-48), 3) := dk_167 255 208 (dk_at dksX6_findSpread_7 0 rfl rfl)
theorem dX6_findSpread_168 : decode cX6_findSpread 168 = .ok (.return_, 1) := dk_177 (dk_at dksX6_findSpread_7 3 rfl rfl)
abbrev cX6_ironOf : ByteArray := prog_28_method_72_code
def yX6_ironOf : MethodName := ⟨RX6, "ironOf", "(II)I"⟩
def dkwX6_ironOf_0 : List UInt8 := [27, 42, 180, 0, 66, 28, 46, 108, 16, 9, 112, 4, 96, 172]
abbrev dktX6_ironOf_0 : List UInt8 := dkwX6_ironOf_0 ++ []
theorem dksX6_ironOf_0 : cX6_ironOf.data.toList.drop 0 = dktX6_ironOf_0 := by decide +kernel
theorem dX6_ironOf_0 : decode cX6_ironOf 0 = .ok (.iload_n 1, 1) := dk_27 (dk_at dksX6_ironOf_0 0 rfl rfl)
theorem dX6_ironOf_1 : decode cX6_ironOf 1 = .ok (.aload_n 0, 1) := dk_42 (dk_at dksX6_ironOf_0 1 rfl rfl)
theorem dX6_ironOf_2 : decode cX6_ironOf 2 = .ok (.getfield 66, 3) := dk_180 0 66 (dk_at dksX6_ironOf_0 2 rfl rfl)
theorem dX6_ironOf_5 : decode cX6_ironOf 5 = .ok (.iload_n 2, 1) := dk_28 (dk_at dksX6_ironOf_0 5 rfl rfl)
theorem dX6_ironOf_6 : decode cX6_ironOf 6 = .ok (.iaload, 1) := dk_46 (dk_at dksX6_ironOf_0 6 rfl rfl)
theorem dX6_ironOf_7 : decode cX6_ironOf 7 = .ok (.idiv, 1) := dk_108 (dk_at dksX6_ironOf_0 7 rfl rfl)
theorem dX6_ironOf_8 : decode cX6_ironOf 8 = .ok (.bipush 9, 2) := dk_16 9 (dk_at dksX6_ironOf_0 8 rfl rfl)
theorem dX6_ironOf_10 : decode cX6_ironOf 10 = .ok (.irem, 1) := dk_112 (dk_at dksX6_ironOf_0 10 rfl rfl)
theorem dX6_ironOf_11 : decode cX6_ironOf 11 = .ok (.iconst 1, 1) := dk_4 (dk_at dksX6_ironOf_0 11 rfl rfl)
theorem dX6_ironOf_12 : decode cX6_ironOf 12 = .ok (.iadd, 1) := dk_96 (dk_at dksX6_ironOf_0 12 rfl rfl)
theorem dX6_ironOf_13 : decode cX6_ironOf 13 = .ok (.ireturn, 1) := dk_172 (dk_at dksX6_ironOf_0 13 rfl rfl)
abbrev cX6_reach : ByteArray := prog_28_method_73_code
def yX6_reach : MethodName := ⟨RX6, "reach", "(I)V"⟩
def dkwX6_reach_1 : List UInt8 := [180, 0, 85, 42, 180, 1, 199, 27, 79, 42, 89, 180, 1, 199, 4, 96, 181, 1, 199, 177]
abbrev dktX6_reach_1 : List UInt8 := dkwX6_reach_1 ++ []
def dkwX6_reach_0 : List UInt8 := [42, 180, 0, 82, 27, 46, 42, 180, 1, 196, 159, 0, 33, 42, 180, 0, 82, 27, 42, 180, 1, 196, 79, 42]
abbrev dktX6_reach_0 : List UInt8 := dkwX6_reach_0 ++ dktX6_reach_1
theorem dksX6_reach_0 : cX6_reach.data.toList.drop 0 = dktX6_reach_0 := by decide +kernel
theorem dksX6_reach_1 : cX6_reach.data.toList.drop 24 = dktX6_reach_1 := dk_seg dksX6_reach_0 24 rfl rfl
theorem dX6_reach_0 : decode cX6_reach 0 = .ok (.aload_n 0, 1) := dk_42 (dk_at dksX6_reach_0 0 rfl rfl)
theorem dX6_reach_1 : decode cX6_reach 1 = .ok (.getfield 82, 3) := dk_180 0 82 (dk_at dksX6_reach_0 1 rfl rfl)
theorem dX6_reach_4 : decode cX6_reach 4 = .ok (.iload_n 1, 1) := dk_27 (dk_at dksX6_reach_0 4 rfl rfl)
theorem dX6_reach_5 : decode cX6_reach 5 = .ok (.iaload, 1) := dk_46 (dk_at dksX6_reach_0 5 rfl rfl)
theorem dX6_reach_6 : decode cX6_reach 6 = .ok (.aload_n 0, 1) := dk_42 (dk_at dksX6_reach_0 6 rfl rfl)
theorem dX6_reach_7 : decode cX6_reach 7 = .ok (.getfield 452, 3) := dk_180 1 196 (dk_at dksX6_reach_0 7 rfl rfl)
theorem dX6_reach_10 : decode cX6_reach 10 = .ok (.if_icmp .eq 33, 3) := dk_159 0 33 (dk_at dksX6_reach_0 10 rfl rfl)
theorem dX6_reach_13 : decode cX6_reach 13 = .ok (.aload_n 0, 1) := dk_42 (dk_at dksX6_reach_0 13 rfl rfl)
theorem dX6_reach_14 : decode cX6_reach 14 = .ok (.getfield 82, 3) := dk_180 0 82 (dk_at dksX6_reach_0 14 rfl rfl)
theorem dX6_reach_17 : decode cX6_reach 17 = .ok (.iload_n 1, 1) := dk_27 (dk_at dksX6_reach_0 17 rfl rfl)
theorem dX6_reach_18 : decode cX6_reach 18 = .ok (.aload_n 0, 1) := dk_42 (dk_at dksX6_reach_0 18 rfl rfl)
theorem dX6_reach_19 : decode cX6_reach 19 = .ok (.getfield 452, 3) := dk_180 1 196 (dk_at dksX6_reach_0 19 rfl rfl)
theorem dX6_reach_22 : decode cX6_reach 22 = .ok (.iastore, 1) := dk_79 (dk_at dksX6_reach_0 22 rfl rfl)
theorem dX6_reach_23 : decode cX6_reach 23 = .ok (.aload_n 0, 1) := dk_42 (dk_at dksX6_reach_0 23 rfl rfl)
theorem dX6_reach_24 : decode cX6_reach 24 = .ok (.getfield 85, 3) := dk_180 0 85 (dk_at dksX6_reach_1 0 rfl rfl)
theorem dX6_reach_27 : decode cX6_reach 27 = .ok (.aload_n 0, 1) := dk_42 (dk_at dksX6_reach_1 3 rfl rfl)
theorem dX6_reach_28 : decode cX6_reach 28 = .ok (.getfield 455, 3) := dk_180 1 199 (dk_at dksX6_reach_1 4 rfl rfl)
theorem dX6_reach_31 : decode cX6_reach 31 = .ok (.iload_n 1, 1) := dk_27 (dk_at dksX6_reach_1 7 rfl rfl)
theorem dX6_reach_32 : decode cX6_reach 32 = .ok (.iastore, 1) := dk_79 (dk_at dksX6_reach_1 8 rfl rfl)
theorem dX6_reach_33 : decode cX6_reach 33 = .ok (.aload_n 0, 1) := dk_42 (dk_at dksX6_reach_1 9 rfl rfl)
theorem dX6_reach_34 : decode cX6_reach 34 = .ok (.dup, 1) := dk_89 (dk_at dksX6_reach_1 10 rfl rfl)
theorem dX6_reach_35 : decode cX6_reach 35 = .ok (.getfield 455, 3) := dk_180 1 199 (dk_at dksX6_reach_1 11 rfl rfl)
theorem dX6_reach_38 : decode cX6_reach 38 = .ok (.iconst 1, 1) := dk_4 (dk_at dksX6_reach_1 14 rfl rfl)
theorem dX6_reach_39 : decode cX6_reach 39 = .ok (.iadd, 1) := dk_96 (dk_at dksX6_reach_1 15 rfl rfl)
theorem dX6_reach_40 : decode cX6_reach 40 = .ok (.putfield 455, 3) := dk_181 1 199 (dk_at dksX6_reach_1 16 rfl rfl)
theorem dX6_reach_43 : decode cX6_reach 43 = .ok (.return_, 1) := dk_177 (dk_at dksX6_reach_1 19 rfl rfl)
abbrev cX6_moveAll : ByteArray := prog_28_method_75_code
def yX6_moveAll : MethodName := ⟨RX6, "moveAll", "(II)V"⟩
def dkwX6_moveAll_5 : List UInt8 := [177]
abbrev dktX6_moveAll_5 : List UInt8 := dkwX6_moveAll_5 ++ []
def dkwX6_moveAll_4 : List UInt8 := [100, 42, 180, 0, 66, 21, 4, 46, 96, 182, 1, 206, 132, 4, 2, 167, 255, 164, 132, 3, 1, 167, 255, 143]
abbrev dktX6_moveAll_4 : List UInt8 := dkwX6_moveAll_4 ++ dktX6_moveAll_5
def dkwX6_moveAll_3 : List UInt8 := [5, 161, 0, 35, 42, 27, 21, 4, 182, 1, 202, 16, 9, 162, 0, 23, 42, 27, 42, 180, 0, 66, 29, 46]
abbrev dktX6_moveAll_3 : List UInt8 := dkwX6_moveAll_3 ++ dktX6_moveAll_4
def dkwX6_moveAll_2 : List UInt8 := [184, 1, 103, 153, 0, 7, 4, 167, 0, 4, 3, 54, 5, 21, 5, 153, 0, 45, 42, 27, 29, 182, 1, 202]
abbrev dktX6_moveAll_2 : List UInt8 := dkwX6_moveAll_2 ++ dktX6_moveAll_3
def dkwX6_moveAll_1 : List UInt8 := [163, 0, 90, 42, 21, 4, 133, 182, 0, 133, 153, 0, 24, 29, 28, 184, 1, 103, 154, 0, 12, 21, 4, 28]
abbrev dktX6_moveAll_1 : List UInt8 := dkwX6_moveAll_1 ++ dktX6_moveAll_2
def dkwX6_moveAll_0 : List UInt8 := [3, 62, 29, 42, 180, 0, 13, 3, 46, 162, 0, 109, 29, 4, 100, 54, 4, 21, 4, 29, 4, 96]
abbrev dktX6_moveAll_0 : List UInt8 := dkwX6_moveAll_0 ++ dktX6_moveAll_1
theorem dksX6_moveAll_0 : cX6_moveAll.data.toList.drop 0 = dktX6_moveAll_0 := by decide +kernel
theorem dksX6_moveAll_1 : cX6_moveAll.data.toList.drop 22 = dktX6_moveAll_1 := dk_seg dksX6_moveAll_0 22 rfl rfl
theorem dksX6_moveAll_2 : cX6_moveAll.data.toList.drop 46 = dktX6_moveAll_2 := dk_seg dksX6_moveAll_1 24 rfl rfl
theorem dksX6_moveAll_3 : cX6_moveAll.data.toList.drop 70 = dktX6_moveAll_3 := dk_seg dksX6_moveAll_2 24 rfl rfl
theorem dksX6_moveAll_4 : cX6_moveAll.data.toList.drop 94 = dktX6_moveAll_4 := dk_seg dksX6_moveAll_3 24 rfl rfl
theorem dksX6_moveAll_5 : cX6_moveAll.data.toList.drop 118 = dktX6_moveAll_5 := dk_seg dksX6_moveAll_4 24 rfl rfl
theorem dX6_moveAll_0 : decode cX6_moveAll 0 = .ok (.iconst 0, 1) := dk_3 (dk_at dksX6_moveAll_0 0 rfl rfl)
theorem dX6_moveAll_1 : decode cX6_moveAll 1 = .ok (.istore_n 3, 1) := dk_62 (dk_at dksX6_moveAll_0 1 rfl rfl)
theorem dX6_moveAll_2 : decode cX6_moveAll 2 = .ok (.iload_n 3, 1) := dk_29 (dk_at dksX6_moveAll_0 2 rfl rfl)
theorem dX6_moveAll_3 : decode cX6_moveAll 3 = .ok (.aload_n 0, 1) := dk_42 (dk_at dksX6_moveAll_0 3 rfl rfl)
theorem dX6_moveAll_4 : decode cX6_moveAll 4 = .ok (.getfield 13, 3) := dk_180 0 13 (dk_at dksX6_moveAll_0 4 rfl rfl)
theorem dX6_moveAll_7 : decode cX6_moveAll 7 = .ok (.iconst 0, 1) := dk_3 (dk_at dksX6_moveAll_0 7 rfl rfl)
theorem dX6_moveAll_8 : decode cX6_moveAll 8 = .ok (.iaload, 1) := dk_46 (dk_at dksX6_moveAll_0 8 rfl rfl)
theorem dX6_moveAll_9 : decode cX6_moveAll 9 = .ok (.if_icmp .ge 109, 3) := dk_162 0 109 (dk_at dksX6_moveAll_0 9 rfl rfl)
theorem dX6_moveAll_12 : decode cX6_moveAll 12 = .ok (.iload_n 3, 1) := dk_29 (dk_at dksX6_moveAll_0 12 rfl rfl)
theorem dX6_moveAll_13 : decode cX6_moveAll 13 = .ok (.iconst 1, 1) := dk_4 (dk_at dksX6_moveAll_0 13 rfl rfl)
theorem dX6_moveAll_14 : decode cX6_moveAll 14 = .ok (.isub, 1) := dk_100 (dk_at dksX6_moveAll_0 14 rfl rfl)
theorem dX6_moveAll_15 : decode cX6_moveAll 15 = .ok (.istore 4, 2) := dk_54 4 (dk_at dksX6_moveAll_0 15 rfl rfl)
theorem dX6_moveAll_17 : decode cX6_moveAll 17 = .ok (.iload 4, 2) := dk_21 4 (dk_at dksX6_moveAll_0 17 rfl rfl)
theorem dX6_moveAll_19 : decode cX6_moveAll 19 = .ok (.iload_n 3, 1) := dk_29 (dk_at dksX6_moveAll_0 19 rfl rfl)
theorem dX6_moveAll_20 : decode cX6_moveAll 20 = .ok (.iconst 1, 1) := dk_4 (dk_at dksX6_moveAll_0 20 rfl rfl)
theorem dX6_moveAll_21 : decode cX6_moveAll 21 = .ok (.iadd, 1) := dk_96 (dk_at dksX6_moveAll_0 21 rfl rfl)
theorem dX6_moveAll_22 : decode cX6_moveAll 22 = .ok (.if_icmp .gt 90, 3) := dk_163 0 90 (dk_at dksX6_moveAll_1 0 rfl rfl)
theorem dX6_moveAll_25 : decode cX6_moveAll 25 = .ok (.aload_n 0, 1) := dk_42 (dk_at dksX6_moveAll_1 3 rfl rfl)
theorem dX6_moveAll_26 : decode cX6_moveAll 26 = .ok (.iload 4, 2) := dk_21 4 (dk_at dksX6_moveAll_1 4 rfl rfl)
theorem dX6_moveAll_28 : decode cX6_moveAll 28 = .ok (.i2l, 1) := dk_133 (dk_at dksX6_moveAll_1 6 rfl rfl)
theorem dX6_moveAll_29 : decode cX6_moveAll 29 = .ok (.invokevirtual 133, 3) := dk_182 0 133 (dk_at dksX6_moveAll_1 7 rfl rfl)
theorem dX6_moveAll_32 : decode cX6_moveAll 32 = .ok (.ifCond .eq 24, 3) := dk_153 0 24 (dk_at dksX6_moveAll_1 10 rfl rfl)
theorem dX6_moveAll_35 : decode cX6_moveAll 35 = .ok (.iload_n 3, 1) := dk_29 (dk_at dksX6_moveAll_1 13 rfl rfl)
theorem dX6_moveAll_36 : decode cX6_moveAll 36 = .ok (.iload_n 2, 1) := dk_28 (dk_at dksX6_moveAll_1 14 rfl rfl)
theorem dX6_moveAll_37 : decode cX6_moveAll 37 = .ok (.invokestatic 359, 3) := dk_184 1 103 (dk_at dksX6_moveAll_1 15 rfl rfl)
theorem dX6_moveAll_40 : decode cX6_moveAll 40 = .ok (.ifCond .ne 12, 3) := dk_154 0 12 (dk_at dksX6_moveAll_1 18 rfl rfl)
theorem dX6_moveAll_43 : decode cX6_moveAll 43 = .ok (.iload 4, 2) := dk_21 4 (dk_at dksX6_moveAll_1 21 rfl rfl)
theorem dX6_moveAll_45 : decode cX6_moveAll 45 = .ok (.iload_n 2, 1) := dk_28 (dk_at dksX6_moveAll_1 23 rfl rfl)
theorem dX6_moveAll_46 : decode cX6_moveAll 46 = .ok (.invokestatic 359, 3) := dk_184 1 103 (dk_at dksX6_moveAll_2 0 rfl rfl)
theorem dX6_moveAll_49 : decode cX6_moveAll 49 = .ok (.ifCond .eq 7, 3) := dk_153 0 7 (dk_at dksX6_moveAll_2 3 rfl rfl)
theorem dX6_moveAll_52 : decode cX6_moveAll 52 = .ok (.iconst 1, 1) := dk_4 (dk_at dksX6_moveAll_2 6 rfl rfl)
theorem dX6_moveAll_53 : decode cX6_moveAll 53 = .ok (.goto 4, 3) := dk_167 0 4 (dk_at dksX6_moveAll_2 7 rfl rfl)
theorem dX6_moveAll_56 : decode cX6_moveAll 56 = .ok (.iconst 0, 1) := dk_3 (dk_at dksX6_moveAll_2 10 rfl rfl)
theorem dX6_moveAll_57 : decode cX6_moveAll 57 = .ok (.istore 5, 2) := dk_54 5 (dk_at dksX6_moveAll_2 11 rfl rfl)
theorem dX6_moveAll_59 : decode cX6_moveAll 59 = .ok (.iload 5, 2) := dk_21 5 (dk_at dksX6_moveAll_2 13 rfl rfl)
theorem dX6_moveAll_61 : decode cX6_moveAll 61 = .ok (.ifCond .eq 45, 3) := dk_153 0 45 (dk_at dksX6_moveAll_2 15 rfl rfl)
theorem dX6_moveAll_64 : decode cX6_moveAll 64 = .ok (.aload_n 0, 1) := dk_42 (dk_at dksX6_moveAll_2 18 rfl rfl)
theorem dX6_moveAll_65 : decode cX6_moveAll 65 = .ok (.iload_n 1, 1) := dk_27 (dk_at dksX6_moveAll_2 19 rfl rfl)
theorem dX6_moveAll_66 : decode cX6_moveAll 66 = .ok (.iload_n 3, 1) := dk_29 (dk_at dksX6_moveAll_2 20 rfl rfl)
theorem dX6_moveAll_67 : decode cX6_moveAll 67 = .ok (.invokevirtual 458, 3) := dk_182 1 202 (dk_at dksX6_moveAll_2 21 rfl rfl)
theorem dX6_moveAll_70 : decode cX6_moveAll 70 = .ok (.iconst 2, 1) := dk_5 (dk_at dksX6_moveAll_3 0 rfl rfl)
theorem dX6_moveAll_71 : decode cX6_moveAll 71 = .ok (.if_icmp .lt 35, 3) := dk_161 0 35 (dk_at dksX6_moveAll_3 1 rfl rfl)
theorem dX6_moveAll_74 : decode cX6_moveAll 74 = .ok (.aload_n 0, 1) := dk_42 (dk_at dksX6_moveAll_3 4 rfl rfl)
theorem dX6_moveAll_75 : decode cX6_moveAll 75 = .ok (.iload_n 1, 1) := dk_27 (dk_at dksX6_moveAll_3 5 rfl rfl)
theorem dX6_moveAll_76 : decode cX6_moveAll 76 = .ok (.iload 4, 2) := dk_21 4 (dk_at dksX6_moveAll_3 6 rfl rfl)
theorem dX6_moveAll_78 : decode cX6_moveAll 78 = .ok (.invokevirtual 458, 3) := dk_182 1 202 (dk_at dksX6_moveAll_3 8 rfl rfl)
theorem dX6_moveAll_81 : decode cX6_moveAll 81 = .ok (.bipush 9, 2) := dk_16 9 (dk_at dksX6_moveAll_3 11 rfl rfl)
theorem dX6_moveAll_83 : decode cX6_moveAll 83 = .ok (.if_icmp .ge 23, 3) := dk_162 0 23 (dk_at dksX6_moveAll_3 13 rfl rfl)
theorem dX6_moveAll_86 : decode cX6_moveAll 86 = .ok (.aload_n 0, 1) := dk_42 (dk_at dksX6_moveAll_3 16 rfl rfl)
theorem dX6_moveAll_87 : decode cX6_moveAll 87 = .ok (.iload_n 1, 1) := dk_27 (dk_at dksX6_moveAll_3 17 rfl rfl)
theorem dX6_moveAll_88 : decode cX6_moveAll 88 = .ok (.aload_n 0, 1) := dk_42 (dk_at dksX6_moveAll_3 18 rfl rfl)
theorem dX6_moveAll_89 : decode cX6_moveAll 89 = .ok (.getfield 66, 3) := dk_180 0 66 (dk_at dksX6_moveAll_3 19 rfl rfl)
theorem dX6_moveAll_92 : decode cX6_moveAll 92 = .ok (.iload_n 3, 1) := dk_29 (dk_at dksX6_moveAll_3 22 rfl rfl)
theorem dX6_moveAll_93 : decode cX6_moveAll 93 = .ok (.iaload, 1) := dk_46 (dk_at dksX6_moveAll_3 23 rfl rfl)
theorem dX6_moveAll_94 : decode cX6_moveAll 94 = .ok (.isub, 1) := dk_100 (dk_at dksX6_moveAll_4 0 rfl rfl)
theorem dX6_moveAll_95 : decode cX6_moveAll 95 = .ok (.aload_n 0, 1) := dk_42 (dk_at dksX6_moveAll_4 1 rfl rfl)
theorem dX6_moveAll_96 : decode cX6_moveAll 96 = .ok (.getfield 66, 3) := dk_180 0 66 (dk_at dksX6_moveAll_4 2 rfl rfl)
theorem dX6_moveAll_99 : decode cX6_moveAll 99 = .ok (.iload 4, 2) := dk_21 4 (dk_at dksX6_moveAll_4 5 rfl rfl)
theorem dX6_moveAll_101 : decode cX6_moveAll 101 = .ok (.iaload, 1) := dk_46 (dk_at dksX6_moveAll_4 7 rfl rfl)
theorem dX6_moveAll_102 : decode cX6_moveAll 102 = .ok (.iadd, 1) := dk_96 (dk_at dksX6_moveAll_4 8 rfl rfl)
theorem dX6_moveAll_103 : decode cX6_moveAll 103 = .ok (.invokevirtual 462, 3) := dk_182 1 206 (dk_at dksX6_moveAll_4 9 rfl rfl)
theorem dX6_moveAll_106 : decode cX6_moveAll 106 = .ok (.iinc 4 2, 3) := dk_132 4 2 (dk_at dksX6_moveAll_4 12 rfl rfl)
theorem dX6_moveAll_109 : decode cX6_moveAll 109 = .ok (.goto (-92), 3) := dk_167 255 164 (dk_at dksX6_moveAll_4 15 rfl rfl)
theorem dX6_moveAll_112 : decode cX6_moveAll 112 = .ok (.iinc 3 1, 3) := dk_132 3 1 (dk_at dksX6_moveAll_4 18 rfl rfl)
theorem dX6_moveAll_115 : decode cX6_moveAll 115 = .ok (.goto (-113), 3) := dk_167 255 143 (dk_at dksX6_moveAll_4 21 rfl rfl)
theorem dX6_moveAll_118 : decode cX6_moveAll 118 = .ok (.return_, 1) := dk_177 (dk_at dksX6_moveAll_5 0 rfl rfl)
abbrev cX6_heats : ByteArray := prog_28_method_82_code
def yX6_heats : MethodName := ⟨RX6, "heats", "()I"⟩
def dkwX6_heats_0 : List UInt8 := [42, 3, 181, 0, 112, 42, 182, 1, 238, 42, 180, 0, 91, 172]
abbrev dktX6_heats_0 : List UInt8 := dkwX6_heats_0 ++ []
theorem dksX6_heats_0 : cX6_heats.data.toList.drop 0 = dktX6_heats_0 := by decide +kernel
theorem dX6_heats_0 : decode cX6_heats 0 = .ok (.aload_n 0, 1) := dk_42 (dk_at dksX6_heats_0 0 rfl rfl)
theorem dX6_heats_1 : decode cX6_heats 1 = .ok (.iconst 0, 1) := dk_3 (dk_at dksX6_heats_0 1 rfl rfl)
theorem dX6_heats_2 : decode cX6_heats 2 = .ok (.putfield 112, 3) := dk_181 0 112 (dk_at dksX6_heats_0 2 rfl rfl)
theorem dX6_heats_5 : decode cX6_heats 5 = .ok (.aload_n 0, 1) := dk_42 (dk_at dksX6_heats_0 5 rfl rfl)
theorem dX6_heats_6 : decode cX6_heats 6 = .ok (.invokevirtual 494, 3) := dk_182 1 238 (dk_at dksX6_heats_0 6 rfl rfl)
theorem dX6_heats_9 : decode cX6_heats 9 = .ok (.aload_n 0, 1) := dk_42 (dk_at dksX6_heats_0 9 rfl rfl)
theorem dX6_heats_10 : decode cX6_heats 10 = .ok (.getfield 91, 3) := dk_180 0 91 (dk_at dksX6_heats_0 10 rfl rfl)
theorem dX6_heats_13 : decode cX6_heats 13 = .ok (.ireturn, 1) := dk_172 (dk_at dksX6_heats_0 13 rfl rfl)
abbrev cX6_findPlan : ByteArray := prog_28_method_81_code
def yX6_findPlan : MethodName := ⟨RX6, "findPlan", "()V"⟩
def dkwX6_findPlan_13 : List UInt8 := [167, 255, 190, 42, 180, 0, 97, 29, 4, 96, 21, 4, 79, 132, 3, 1, 167, 255, 137, 177]
abbrev dktX6_findPlan_13 : List UInt8 := dkwX6_findPlan_13 ++ []
def dkwX6_findPlan_12 : List UInt8 := [21, 4, 162, 0, 13, 42, 180, 0, 85, 21, 5, 46, 167, 0, 5, 21, 4, 54, 4, 132, 5, 1]
abbrev dktX6_findPlan_12 : List UInt8 := dkwX6_findPlan_12 ++ dktX6_findPlan_13
def dkwX6_findPlan_11 : List UInt8 := [29, 4, 96, 122, 4, 126, 4, 160, 0, 31, 21, 4, 2, 159, 0, 15, 42, 180, 0, 85, 21, 5, 46]
abbrev dktX6_findPlan_11 : List UInt8 := dkwX6_findPlan_11 ++ dktX6_findPlan_12
def dkwX6_findPlan_10 : List UInt8 := [3, 54, 5, 21, 5, 42, 180, 1, 199, 162, 0, 63, 42, 180, 0, 79, 42, 180, 0, 85, 21, 5, 46, 46]
abbrev dktX6_findPlan_10 : List UInt8 := dkwX6_findPlan_10 ++ dktX6_findPlan_11
def dkwX6_findPlan_9 : List UInt8 := [180, 0, 97, 29, 46, 42, 180, 0, 94, 29, 46, 42, 180, 0, 13, 16, 10, 46, 182, 1, 212, 2, 54, 4]
abbrev dktX6_findPlan_9 : List UInt8 := dkwX6_findPlan_9 ++ dktX6_findPlan_10
def dkwX6_findPlan_8 : List UInt8 := [167, 255, 179, 42, 180, 0, 97, 3, 27, 79, 3, 62, 29, 42, 180, 0, 91, 162, 0, 117, 42, 42]
abbrev dktX6_findPlan_8 : List UInt8 := dkwX6_findPlan_8 ++ dktX6_findPlan_9
def dkwX6_findPlan_7 : List UInt8 := [182, 1, 228, 153, 0, 9, 4, 29, 120, 167, 0, 4, 3, 128, 79, 132, 4, 1, 167, 255, 192, 132, 3, 255]
abbrev dktX6_findPlan_7 : List UInt8 := dkwX6_findPlan_7 ++ dktX6_findPlan_8
def dkwX6_findPlan_6 : List UInt8 := [29, 122, 4, 126, 4, 160, 0, 31, 42, 21, 4, 42, 180, 0, 94, 29, 46, 42, 180, 0, 79, 29, 4, 96]
abbrev dktX6_findPlan_6 : List UInt8 := dkwX6_findPlan_6 ++ dktX6_findPlan_7
def dkwX6_findPlan_5 : List UInt8 := [54, 4, 21, 4, 18, 69, 162, 0, 63, 42, 180, 0, 79, 21, 4, 92, 46, 42, 180, 0, 76, 21, 4, 46]
abbrev dktX6_findPlan_5 : List UInt8 := dkwX6_findPlan_5 ++ dktX6_findPlan_6
def dkwX6_findPlan_4 : List UInt8 := [42, 180, 0, 79, 28, 4, 42, 180, 0, 91, 120, 79, 42, 180, 0, 91, 4, 100, 62, 29, 155, 0, 79, 3]
abbrev dktX6_findPlan_4 : List UInt8 := dkwX6_findPlan_4 ++ dktX6_findPlan_5
def dkwX6_findPlan_3 : List UInt8 := [27, 4, 79, 3, 62, 29, 42, 180, 0, 91, 162, 0, 14, 42, 29, 182, 1, 235, 132, 3, 1, 167, 255, 240]
abbrev dktX6_findPlan_3 : List UInt8 := dkwX6_findPlan_3 ++ dktX6_findPlan_4
def dkwX6_findPlan_2 : List UInt8 := [182, 1, 224, 181, 0, 91, 42, 180, 0, 91, 2, 160, 0, 4, 177, 42, 28, 182, 1, 232, 42, 180, 0, 76]
abbrev dktX6_findPlan_2 : List UInt8 := dkwX6_findPlan_2 ++ dktX6_findPlan_3
def dkwX6_findPlan_1 : List UInt8 := [182, 1, 221, 60, 42, 16, 30, 182, 1, 221, 61, 42, 42, 27, 42, 180, 0, 13, 16, 10, 46, 28, 16, 6]
abbrev dktX6_findPlan_1 : List UInt8 := dkwX6_findPlan_1 ++ dktX6_findPlan_2
def dkwX6_findPlan_0 : List UInt8 := [42, 180, 0, 91, 16, 254, 159, 0, 4, 177, 42, 182, 1, 218, 42, 2, 181, 0, 88, 42, 16, 20]
abbrev dktX6_findPlan_0 : List UInt8 := dkwX6_findPlan_0 ++ dktX6_findPlan_1
theorem dksX6_findPlan_0 : cX6_findPlan.data.toList.drop 0 = dktX6_findPlan_0 := by decide +kernel
theorem dksX6_findPlan_1 : cX6_findPlan.data.toList.drop 22 = dktX6_findPlan_1 := dk_seg dksX6_findPlan_0 22 rfl rfl
theorem dksX6_findPlan_2 : cX6_findPlan.data.toList.drop 46 = dktX6_findPlan_2 := dk_seg dksX6_findPlan_1 24 rfl rfl
theorem dksX6_findPlan_3 : cX6_findPlan.data.toList.drop 70 = dktX6_findPlan_3 := dk_seg dksX6_findPlan_2 24 rfl rfl
theorem dksX6_findPlan_4 : cX6_findPlan.data.toList.drop 94 = dktX6_findPlan_4 := dk_seg dksX6_findPlan_3 24 rfl rfl
theorem dksX6_findPlan_5 : cX6_findPlan.data.toList.drop 118 = dktX6_findPlan_5 := dk_seg dksX6_findPlan_4 24 rfl rfl
theorem dksX6_findPlan_6 : cX6_findPlan.data.toList.drop 142 = dktX6_findPlan_6 := dk_seg dksX6_findPlan_5 24 rfl rfl
theorem dksX6_findPlan_7 : cX6_findPlan.data.toList.drop 166 = dktX6_findPlan_7 := dk_seg dksX6_findPlan_6 24 rfl rfl
theorem dksX6_findPlan_8 : cX6_findPlan.data.toList.drop 190 = dktX6_findPlan_8 := dk_seg dksX6_findPlan_7 24 rfl rfl
theorem dksX6_findPlan_9 : cX6_findPlan.data.toList.drop 212 = dktX6_findPlan_9 := dk_seg dksX6_findPlan_8 22 rfl rfl
theorem dksX6_findPlan_10 : cX6_findPlan.data.toList.drop 236 = dktX6_findPlan_10 := dk_seg dksX6_findPlan_9 24 rfl rfl
theorem dksX6_findPlan_11 : cX6_findPlan.data.toList.drop 260 = dktX6_findPlan_11 := dk_seg dksX6_findPlan_10 24 rfl rfl
theorem dksX6_findPlan_12 : cX6_findPlan.data.toList.drop 283 = dktX6_findPlan_12 := dk_seg dksX6_findPlan_11 23 rfl rfl
theorem dksX6_findPlan_13 : cX6_findPlan.data.toList.drop 305 = dktX6_findPlan_13 := dk_seg dksX6_findPlan_12 22 rfl rfl
theorem dX6_findPlan_0 : decode cX6_findPlan 0 = .ok (.aload_n 0, 1) := dk_42 (dk_at dksX6_findPlan_0 0 rfl rfl)
theorem dX6_findPlan_1 : decode cX6_findPlan 1 = .ok (.getfield 91, 3) := dk_180 0 91 (dk_at dksX6_findPlan_0 1 rfl rfl)
theorem dX6_findPlan_4 : decode cX6_findPlan 4 = .ok (.bipush (-2), 2) := dk_16 254 (dk_at dksX6_findPlan_0 4 rfl rfl)
theorem dX6_findPlan_6 : decode cX6_findPlan 6 = .ok (.if_icmp .eq 4, 3) := dk_159 0 4 (dk_at dksX6_findPlan_0 6 rfl rfl)
theorem dX6_findPlan_9 : decode cX6_findPlan 9 = .ok (.return_, 1) := dk_177 (dk_at dksX6_findPlan_0 9 rfl rfl)
theorem dX6_findPlan_10 : decode cX6_findPlan 10 = .ok (.aload_n 0, 1) := dk_42 (dk_at dksX6_findPlan_0 10 rfl rfl)
theorem dX6_findPlan_11 : decode cX6_findPlan 11 = .ok (.invokevirtual 474, 3) := dk_182 1 218 (dk_at dksX6_findPlan_0 11 rfl rfl)
theorem dX6_findPlan_14 : decode cX6_findPlan 14 = .ok (.aload_n 0, 1) := dk_42 (dk_at dksX6_findPlan_0 14 rfl rfl)
theorem dX6_findPlan_15 : decode cX6_findPlan 15 = .ok (.iconst (-1), 1) := dk_2 (dk_at dksX6_findPlan_0 15 rfl rfl)
theorem dX6_findPlan_16 : decode cX6_findPlan 16 = .ok (.putfield 88, 3) := dk_181 0 88 (dk_at dksX6_findPlan_0 16 rfl rfl)
theorem dX6_findPlan_19 : decode cX6_findPlan 19 = .ok (.aload_n 0, 1) := dk_42 (dk_at dksX6_findPlan_0 19 rfl rfl)
theorem dX6_findPlan_20 : decode cX6_findPlan 20 = .ok (.bipush 20, 2) := dk_16 20 (dk_at dksX6_findPlan_0 20 rfl rfl)
theorem dX6_findPlan_22 : decode cX6_findPlan 22 = .ok (.invokevirtual 477, 3) := dk_182 1 221 (dk_at dksX6_findPlan_1 0 rfl rfl)
theorem dX6_findPlan_25 : decode cX6_findPlan 25 = .ok (.istore_n 1, 1) := dk_60 (dk_at dksX6_findPlan_1 3 rfl rfl)
theorem dX6_findPlan_26 : decode cX6_findPlan 26 = .ok (.aload_n 0, 1) := dk_42 (dk_at dksX6_findPlan_1 4 rfl rfl)
theorem dX6_findPlan_27 : decode cX6_findPlan 27 = .ok (.bipush 30, 2) := dk_16 30 (dk_at dksX6_findPlan_1 5 rfl rfl)
theorem dX6_findPlan_29 : decode cX6_findPlan 29 = .ok (.invokevirtual 477, 3) := dk_182 1 221 (dk_at dksX6_findPlan_1 7 rfl rfl)
theorem dX6_findPlan_32 : decode cX6_findPlan 32 = .ok (.istore_n 2, 1) := dk_61 (dk_at dksX6_findPlan_1 10 rfl rfl)
theorem dX6_findPlan_33 : decode cX6_findPlan 33 = .ok (.aload_n 0, 1) := dk_42 (dk_at dksX6_findPlan_1 11 rfl rfl)
theorem dX6_findPlan_34 : decode cX6_findPlan 34 = .ok (.aload_n 0, 1) := dk_42 (dk_at dksX6_findPlan_1 12 rfl rfl)
theorem dX6_findPlan_35 : decode cX6_findPlan 35 = .ok (.iload_n 1, 1) := dk_27 (dk_at dksX6_findPlan_1 13 rfl rfl)
theorem dX6_findPlan_36 : decode cX6_findPlan 36 = .ok (.aload_n 0, 1) := dk_42 (dk_at dksX6_findPlan_1 14 rfl rfl)
theorem dX6_findPlan_37 : decode cX6_findPlan 37 = .ok (.getfield 13, 3) := dk_180 0 13 (dk_at dksX6_findPlan_1 15 rfl rfl)
theorem dX6_findPlan_40 : decode cX6_findPlan 40 = .ok (.bipush 10, 2) := dk_16 10 (dk_at dksX6_findPlan_1 18 rfl rfl)
theorem dX6_findPlan_42 : decode cX6_findPlan 42 = .ok (.iaload, 1) := dk_46 (dk_at dksX6_findPlan_1 20 rfl rfl)
theorem dX6_findPlan_43 : decode cX6_findPlan 43 = .ok (.iload_n 2, 1) := dk_28 (dk_at dksX6_findPlan_1 21 rfl rfl)
theorem dX6_findPlan_44 : decode cX6_findPlan 44 = .ok (.bipush 6, 2) := dk_16 6 (dk_at dksX6_findPlan_1 22 rfl rfl)
theorem dX6_findPlan_46 : decode cX6_findPlan 46 = .ok (.invokevirtual 480, 3) := dk_182 1 224 (dk_at dksX6_findPlan_2 0 rfl rfl)
theorem dX6_findPlan_49 : decode cX6_findPlan 49 = .ok (.putfield 91, 3) := dk_181 0 91 (dk_at dksX6_findPlan_2 3 rfl rfl)
theorem dX6_findPlan_52 : decode cX6_findPlan 52 = .ok (.aload_n 0, 1) := dk_42 (dk_at dksX6_findPlan_2 6 rfl rfl)
theorem dX6_findPlan_53 : decode cX6_findPlan 53 = .ok (.getfield 91, 3) := dk_180 0 91 (dk_at dksX6_findPlan_2 7 rfl rfl)
theorem dX6_findPlan_56 : decode cX6_findPlan 56 = .ok (.iconst (-1), 1) := dk_2 (dk_at dksX6_findPlan_2 10 rfl rfl)
theorem dX6_findPlan_57 : decode cX6_findPlan 57 = .ok (.if_icmp .ne 4, 3) := dk_160 0 4 (dk_at dksX6_findPlan_2 11 rfl rfl)
theorem dX6_findPlan_60 : decode cX6_findPlan 60 = .ok (.return_, 1) := dk_177 (dk_at dksX6_findPlan_2 14 rfl rfl)
theorem dX6_findPlan_61 : decode cX6_findPlan 61 = .ok (.aload_n 0, 1) := dk_42 (dk_at dksX6_findPlan_2 15 rfl rfl)
theorem dX6_findPlan_62 : decode cX6_findPlan 62 = .ok (.iload_n 2, 1) := dk_28 (dk_at dksX6_findPlan_2 16 rfl rfl)
theorem dX6_findPlan_63 : decode cX6_findPlan 63 = .ok (.invokevirtual 488, 3) := dk_182 1 232 (dk_at dksX6_findPlan_2 17 rfl rfl)
theorem dX6_findPlan_66 : decode cX6_findPlan 66 = .ok (.aload_n 0, 1) := dk_42 (dk_at dksX6_findPlan_2 20 rfl rfl)
theorem dX6_findPlan_67 : decode cX6_findPlan 67 = .ok (.getfield 76, 3) := dk_180 0 76 (dk_at dksX6_findPlan_2 21 rfl rfl)
theorem dX6_findPlan_70 : decode cX6_findPlan 70 = .ok (.iload_n 1, 1) := dk_27 (dk_at dksX6_findPlan_3 0 rfl rfl)
theorem dX6_findPlan_71 : decode cX6_findPlan 71 = .ok (.iconst 1, 1) := dk_4 (dk_at dksX6_findPlan_3 1 rfl rfl)
theorem dX6_findPlan_72 : decode cX6_findPlan 72 = .ok (.iastore, 1) := dk_79 (dk_at dksX6_findPlan_3 2 rfl rfl)
theorem dX6_findPlan_73 : decode cX6_findPlan 73 = .ok (.iconst 0, 1) := dk_3 (dk_at dksX6_findPlan_3 3 rfl rfl)
theorem dX6_findPlan_74 : decode cX6_findPlan 74 = .ok (.istore_n 3, 1) := dk_62 (dk_at dksX6_findPlan_3 4 rfl rfl)
theorem dX6_findPlan_75 : decode cX6_findPlan 75 = .ok (.iload_n 3, 1) := dk_29 (dk_at dksX6_findPlan_3 5 rfl rfl)
theorem dX6_findPlan_76 : decode cX6_findPlan 76 = .ok (.aload_n 0, 1) := dk_42 (dk_at dksX6_findPlan_3 6 rfl rfl)
theorem dX6_findPlan_77 : decode cX6_findPlan 77 = .ok (.getfield 91, 3) := dk_180 0 91 (dk_at dksX6_findPlan_3 7 rfl rfl)
theorem dX6_findPlan_80 : decode cX6_findPlan 80 = .ok (.if_icmp .ge 14, 3) := dk_162 0 14 (dk_at dksX6_findPlan_3 10 rfl rfl)
theorem dX6_findPlan_83 : decode cX6_findPlan 83 = .ok (.aload_n 0, 1) := dk_42 (dk_at dksX6_findPlan_3 13 rfl rfl)
theorem dX6_findPlan_84 : decode cX6_findPlan 84 = .ok (.iload_n 3, 1) := dk_29 (dk_at dksX6_findPlan_3 14 rfl rfl)
theorem dX6_findPlan_85 : decode cX6_findPlan 85 = .ok (.invokevirtual 491, 3) := dk_182 1 235 (dk_at dksX6_findPlan_3 15 rfl rfl)
theorem dX6_findPlan_88 : decode cX6_findPlan 88 = .ok (.iinc 3 1, 3) := dk_132 3 1 (dk_at dksX6_findPlan_3 18 rfl rfl)
theorem dX6_findPlan_91 : decode cX6_findPlan 91 = .ok (.goto (-16), 3) := dk_167 255 240 (dk_at dksX6_findPlan_3 21 rfl rfl)
theorem dX6_findPlan_94 : decode cX6_findPlan 94 = .ok (.aload_n 0, 1) := dk_42 (dk_at dksX6_findPlan_4 0 rfl rfl)
theorem dX6_findPlan_95 : decode cX6_findPlan 95 = .ok (.getfield 79, 3) := dk_180 0 79 (dk_at dksX6_findPlan_4 1 rfl rfl)
theorem dX6_findPlan_98 : decode cX6_findPlan 98 = .ok (.iload_n 2, 1) := dk_28 (dk_at dksX6_findPlan_4 4 rfl rfl)
theorem dX6_findPlan_99 : decode cX6_findPlan 99 = .ok (.iconst 1, 1) := dk_4 (dk_at dksX6_findPlan_4 5 rfl rfl)
theorem dX6_findPlan_100 : decode cX6_findPlan 100 = .ok (.aload_n 0, 1) := dk_42 (dk_at dksX6_findPlan_4 6 rfl rfl)
theorem dX6_findPlan_101 : decode cX6_findPlan 101 = .ok (.getfield 91, 3) := dk_180 0 91 (dk_at dksX6_findPlan_4 7 rfl rfl)
theorem dX6_findPlan_104 : decode cX6_findPlan 104 = .ok (.ishl, 1) := dk_120 (dk_at dksX6_findPlan_4 10 rfl rfl)
theorem dX6_findPlan_105 : decode cX6_findPlan 105 = .ok (.iastore, 1) := dk_79 (dk_at dksX6_findPlan_4 11 rfl rfl)
theorem dX6_findPlan_106 : decode cX6_findPlan 106 = .ok (.aload_n 0, 1) := dk_42 (dk_at dksX6_findPlan_4 12 rfl rfl)
theorem dX6_findPlan_107 : decode cX6_findPlan 107 = .ok (.getfield 91, 3) := dk_180 0 91 (dk_at dksX6_findPlan_4 13 rfl rfl)
theorem dX6_findPlan_110 : decode cX6_findPlan 110 = .ok (.iconst 1, 1) := dk_4 (dk_at dksX6_findPlan_4 16 rfl rfl)
theorem dX6_findPlan_111 : decode cX6_findPlan 111 = .ok (.isub, 1) := dk_100 (dk_at dksX6_findPlan_4 17 rfl rfl)
theorem dX6_findPlan_112 : decode cX6_findPlan 112 = .ok (.istore_n 3, 1) := dk_62 (dk_at dksX6_findPlan_4 18 rfl rfl)
theorem dX6_findPlan_113 : decode cX6_findPlan 113 = .ok (.iload_n 3, 1) := dk_29 (dk_at dksX6_findPlan_4 19 rfl rfl)
theorem dX6_findPlan_114 : decode cX6_findPlan 114 = .ok (.ifCond .lt 79, 3) := dk_155 0 79 (dk_at dksX6_findPlan_4 20 rfl rfl)
theorem dX6_findPlan_117 : decode cX6_findPlan 117 = .ok (.iconst 0, 1) := dk_3 (dk_at dksX6_findPlan_4 23 rfl rfl)
theorem dX6_findPlan_118 : decode cX6_findPlan 118 = .ok (.istore 4, 2) := dk_54 4 (dk_at dksX6_findPlan_5 0 rfl rfl)
theorem dX6_findPlan_120 : decode cX6_findPlan 120 = .ok (.iload 4, 2) := dk_21 4 (dk_at dksX6_findPlan_5 2 rfl rfl)
theorem dX6_findPlan_122 : decode cX6_findPlan 122 = .ok (.ldc 69, 2) := dk_18 69 (dk_at dksX6_findPlan_5 4 rfl rfl)
theorem dX6_findPlan_124 : decode cX6_findPlan 124 = .ok (.if_icmp .ge 63, 3) := dk_162 0 63 (dk_at dksX6_findPlan_5 6 rfl rfl)
theorem dX6_findPlan_127 : decode cX6_findPlan 127 = .ok (.aload_n 0, 1) := dk_42 (dk_at dksX6_findPlan_5 9 rfl rfl)
theorem dX6_findPlan_128 : decode cX6_findPlan 128 = .ok (.getfield 79, 3) := dk_180 0 79 (dk_at dksX6_findPlan_5 10 rfl rfl)
theorem dX6_findPlan_131 : decode cX6_findPlan 131 = .ok (.iload 4, 2) := dk_21 4 (dk_at dksX6_findPlan_5 13 rfl rfl)
theorem dX6_findPlan_133 : decode cX6_findPlan 133 = .ok (.dup2, 1) := dk_92 (dk_at dksX6_findPlan_5 15 rfl rfl)
theorem dX6_findPlan_134 : decode cX6_findPlan 134 = .ok (.iaload, 1) := dk_46 (dk_at dksX6_findPlan_5 16 rfl rfl)
theorem dX6_findPlan_135 : decode cX6_findPlan 135 = .ok (.aload_n 0, 1) := dk_42 (dk_at dksX6_findPlan_5 17 rfl rfl)
theorem dX6_findPlan_136 : decode cX6_findPlan 136 = .ok (.getfield 76, 3) := dk_180 0 76 (dk_at dksX6_findPlan_5 18 rfl rfl)
theorem dX6_findPlan_139 : decode cX6_findPlan 139 = .ok (.iload 4, 2) := dk_21 4 (dk_at dksX6_findPlan_5 21 rfl rfl)
theorem dX6_findPlan_141 : decode cX6_findPlan 141 = .ok (.iaload, 1) := dk_46 (dk_at dksX6_findPlan_5 23 rfl rfl)
theorem dX6_findPlan_142 : decode cX6_findPlan 142 = .ok (.iload_n 3, 1) := dk_29 (dk_at dksX6_findPlan_6 0 rfl rfl)
theorem dX6_findPlan_143 : decode cX6_findPlan 143 = .ok (.ishr, 1) := dk_122 (dk_at dksX6_findPlan_6 1 rfl rfl)
theorem dX6_findPlan_144 : decode cX6_findPlan 144 = .ok (.iconst 1, 1) := dk_4 (dk_at dksX6_findPlan_6 2 rfl rfl)
theorem dX6_findPlan_145 : decode cX6_findPlan 145 = .ok (.iand, 1) := dk_126 (dk_at dksX6_findPlan_6 3 rfl rfl)
theorem dX6_findPlan_146 : decode cX6_findPlan 146 = .ok (.iconst 1, 1) := dk_4 (dk_at dksX6_findPlan_6 4 rfl rfl)
theorem dX6_findPlan_147 : decode cX6_findPlan 147 = .ok (.if_icmp .ne 31, 3) := dk_160 0 31 (dk_at dksX6_findPlan_6 5 rfl rfl)
theorem dX6_findPlan_150 : decode cX6_findPlan 150 = .ok (.aload_n 0, 1) := dk_42 (dk_at dksX6_findPlan_6 8 rfl rfl)
theorem dX6_findPlan_151 : decode cX6_findPlan 151 = .ok (.iload 4, 2) := dk_21 4 (dk_at dksX6_findPlan_6 9 rfl rfl)
theorem dX6_findPlan_153 : decode cX6_findPlan 153 = .ok (.aload_n 0, 1) := dk_42 (dk_at dksX6_findPlan_6 11 rfl rfl)
theorem dX6_findPlan_154 : decode cX6_findPlan 154 = .ok (.getfield 94, 3) := dk_180 0 94 (dk_at dksX6_findPlan_6 12 rfl rfl)
theorem dX6_findPlan_157 : decode cX6_findPlan 157 = .ok (.iload_n 3, 1) := dk_29 (dk_at dksX6_findPlan_6 15 rfl rfl)
theorem dX6_findPlan_158 : decode cX6_findPlan 158 = .ok (.iaload, 1) := dk_46 (dk_at dksX6_findPlan_6 16 rfl rfl)
theorem dX6_findPlan_159 : decode cX6_findPlan 159 = .ok (.aload_n 0, 1) := dk_42 (dk_at dksX6_findPlan_6 17 rfl rfl)
theorem dX6_findPlan_160 : decode cX6_findPlan 160 = .ok (.getfield 79, 3) := dk_180 0 79 (dk_at dksX6_findPlan_6 18 rfl rfl)
theorem dX6_findPlan_163 : decode cX6_findPlan 163 = .ok (.iload_n 3, 1) := dk_29 (dk_at dksX6_findPlan_6 21 rfl rfl)
theorem dX6_findPlan_164 : decode cX6_findPlan 164 = .ok (.iconst 1, 1) := dk_4 (dk_at dksX6_findPlan_6 22 rfl rfl)
theorem dX6_findPlan_165 : decode cX6_findPlan 165 = .ok (.iadd, 1) := dk_96 (dk_at dksX6_findPlan_6 23 rfl rfl)
theorem dX6_findPlan_166 : decode cX6_findPlan 166 = .ok (.invokevirtual 484, 3) := dk_182 1 228 (dk_at dksX6_findPlan_7 0 rfl rfl)
theorem dX6_findPlan_169 : decode cX6_findPlan 169 = .ok (.ifCond .eq 9, 3) := dk_153 0 9 (dk_at dksX6_findPlan_7 3 rfl rfl)
theorem dX6_findPlan_172 : decode cX6_findPlan 172 = .ok (.iconst 1, 1) := dk_4 (dk_at dksX6_findPlan_7 6 rfl rfl)
theorem dX6_findPlan_173 : decode cX6_findPlan 173 = .ok (.iload_n 3, 1) := dk_29 (dk_at dksX6_findPlan_7 7 rfl rfl)
theorem dX6_findPlan_174 : decode cX6_findPlan 174 = .ok (.ishl, 1) := dk_120 (dk_at dksX6_findPlan_7 8 rfl rfl)
theorem dX6_findPlan_175 : decode cX6_findPlan 175 = .ok (.goto 4, 3) := dk_167 0 4 (dk_at dksX6_findPlan_7 9 rfl rfl)
theorem dX6_findPlan_178 : decode cX6_findPlan 178 = .ok (.iconst 0, 1) := dk_3 (dk_at dksX6_findPlan_7 12 rfl rfl)
theorem dX6_findPlan_179 : decode cX6_findPlan 179 = .ok (.ior, 1) := dk_128 (dk_at dksX6_findPlan_7 13 rfl rfl)
theorem dX6_findPlan_180 : decode cX6_findPlan 180 = .ok (.iastore, 1) := dk_79 (dk_at dksX6_findPlan_7 14 rfl rfl)
theorem dX6_findPlan_181 : decode cX6_findPlan 181 = .ok (.iinc 4 1, 3) := dk_132 4 1 (dk_at dksX6_findPlan_7 15 rfl rfl)
theorem dX6_findPlan_184 : decode cX6_findPlan 184 = .ok (.goto (-64), 3) := dk_167 255 192 (dk_at dksX6_findPlan_7 18 rfl rfl)
theorem dX6_findPlan_187 : decode cX6_findPlan 187 = .ok (.iinc 3 (-1), 3) := dk_132 3 255 (dk_at dksX6_findPlan_7 21 rfl rfl)
theorem dX6_findPlan_190 : decode cX6_findPlan 190 = .ok (.goto (-77), 3) := dk_167 255 179 (dk_at dksX6_findPlan_8 0 rfl rfl)
theorem dX6_findPlan_193 : decode cX6_findPlan 193 = .ok (.aload_n 0, 1) := dk_42 (dk_at dksX6_findPlan_8 3 rfl rfl)
theorem dX6_findPlan_194 : decode cX6_findPlan 194 = .ok (.getfield 97, 3) := dk_180 0 97 (dk_at dksX6_findPlan_8 4 rfl rfl)
theorem dX6_findPlan_197 : decode cX6_findPlan 197 = .ok (.iconst 0, 1) := dk_3 (dk_at dksX6_findPlan_8 7 rfl rfl)
theorem dX6_findPlan_198 : decode cX6_findPlan 198 = .ok (.iload_n 1, 1) := dk_27 (dk_at dksX6_findPlan_8 8 rfl rfl)
theorem dX6_findPlan_199 : decode cX6_findPlan 199 = .ok (.iastore, 1) := dk_79 (dk_at dksX6_findPlan_8 9 rfl rfl)
theorem dX6_findPlan_200 : decode cX6_findPlan 200 = .ok (.iconst 0, 1) := dk_3 (dk_at dksX6_findPlan_8 10 rfl rfl)
theorem dX6_findPlan_201 : decode cX6_findPlan 201 = .ok (.istore_n 3, 1) := dk_62 (dk_at dksX6_findPlan_8 11 rfl rfl)
theorem dX6_findPlan_202 : decode cX6_findPlan 202 = .ok (.iload_n 3, 1) := dk_29 (dk_at dksX6_findPlan_8 12 rfl rfl)
theorem dX6_findPlan_203 : decode cX6_findPlan 203 = .ok (.aload_n 0, 1) := dk_42 (dk_at dksX6_findPlan_8 13 rfl rfl)
theorem dX6_findPlan_204 : decode cX6_findPlan 204 = .ok (.getfield 91, 3) := dk_180 0 91 (dk_at dksX6_findPlan_8 14 rfl rfl)
theorem dX6_findPlan_207 : decode cX6_findPlan 207 = .ok (.if_icmp .ge 117, 3) := dk_162 0 117 (dk_at dksX6_findPlan_8 17 rfl rfl)
theorem dX6_findPlan_210 : decode cX6_findPlan 210 = .ok (.aload_n 0, 1) := dk_42 (dk_at dksX6_findPlan_8 20 rfl rfl)
theorem dX6_findPlan_211 : decode cX6_findPlan 211 = .ok (.aload_n 0, 1) := dk_42 (dk_at dksX6_findPlan_8 21 rfl rfl)
theorem dX6_findPlan_212 : decode cX6_findPlan 212 = .ok (.getfield 97, 3) := dk_180 0 97 (dk_at dksX6_findPlan_9 0 rfl rfl)
theorem dX6_findPlan_215 : decode cX6_findPlan 215 = .ok (.iload_n 3, 1) := dk_29 (dk_at dksX6_findPlan_9 3 rfl rfl)
theorem dX6_findPlan_216 : decode cX6_findPlan 216 = .ok (.iaload, 1) := dk_46 (dk_at dksX6_findPlan_9 4 rfl rfl)
theorem dX6_findPlan_217 : decode cX6_findPlan 217 = .ok (.aload_n 0, 1) := dk_42 (dk_at dksX6_findPlan_9 5 rfl rfl)
theorem dX6_findPlan_218 : decode cX6_findPlan 218 = .ok (.getfield 94, 3) := dk_180 0 94 (dk_at dksX6_findPlan_9 6 rfl rfl)
theorem dX6_findPlan_221 : decode cX6_findPlan 221 = .ok (.iload_n 3, 1) := dk_29 (dk_at dksX6_findPlan_9 9 rfl rfl)
theorem dX6_findPlan_222 : decode cX6_findPlan 222 = .ok (.iaload, 1) := dk_46 (dk_at dksX6_findPlan_9 10 rfl rfl)
theorem dX6_findPlan_223 : decode cX6_findPlan 223 = .ok (.aload_n 0, 1) := dk_42 (dk_at dksX6_findPlan_9 11 rfl rfl)
theorem dX6_findPlan_224 : decode cX6_findPlan 224 = .ok (.getfield 13, 3) := dk_180 0 13 (dk_at dksX6_findPlan_9 12 rfl rfl)
theorem dX6_findPlan_227 : decode cX6_findPlan 227 = .ok (.bipush 10, 2) := dk_16 10 (dk_at dksX6_findPlan_9 15 rfl rfl)
theorem dX6_findPlan_229 : decode cX6_findPlan 229 = .ok (.iaload, 1) := dk_46 (dk_at dksX6_findPlan_9 17 rfl rfl)
theorem dX6_findPlan_230 : decode cX6_findPlan 230 = .ok (.invokevirtual 468, 3) := dk_182 1 212 (dk_at dksX6_findPlan_9 18 rfl rfl)
theorem dX6_findPlan_233 : decode cX6_findPlan 233 = .ok (.iconst (-1), 1) := dk_2 (dk_at dksX6_findPlan_9 21 rfl rfl)
theorem dX6_findPlan_234 : decode cX6_findPlan 234 = .ok (.istore 4, 2) := dk_54 4 (dk_at dksX6_findPlan_9 22 rfl rfl)
theorem dX6_findPlan_236 : decode cX6_findPlan 236 = .ok (.iconst 0, 1) := dk_3 (dk_at dksX6_findPlan_10 0 rfl rfl)
theorem dX6_findPlan_237 : decode cX6_findPlan 237 = .ok (.istore 5, 2) := dk_54 5 (dk_at dksX6_findPlan_10 1 rfl rfl)
theorem dX6_findPlan_239 : decode cX6_findPlan 239 = .ok (.iload 5, 2) := dk_21 5 (dk_at dksX6_findPlan_10 3 rfl rfl)
theorem dX6_findPlan_241 : decode cX6_findPlan 241 = .ok (.aload_n 0, 1) := dk_42 (dk_at dksX6_findPlan_10 5 rfl rfl)
theorem dX6_findPlan_242 : decode cX6_findPlan 242 = .ok (.getfield 455, 3) := dk_180 1 199 (dk_at dksX6_findPlan_10 6 rfl rfl)
theorem dX6_findPlan_245 : decode cX6_findPlan 245 = .ok (.if_icmp .ge 63, 3) := dk_162 0 63 (dk_at dksX6_findPlan_10 9 rfl rfl)
theorem dX6_findPlan_248 : decode cX6_findPlan 248 = .ok (.aload_n 0, 1) := dk_42 (dk_at dksX6_findPlan_10 12 rfl rfl)
theorem dX6_findPlan_249 : decode cX6_findPlan 249 = .ok (.getfield 79, 3) := dk_180 0 79 (dk_at dksX6_findPlan_10 13 rfl rfl)
theorem dX6_findPlan_252 : decode cX6_findPlan 252 = .ok (.aload_n 0, 1) := dk_42 (dk_at dksX6_findPlan_10 16 rfl rfl)
theorem dX6_findPlan_253 : decode cX6_findPlan 253 = .ok (.getfield 85, 3) := dk_180 0 85 (dk_at dksX6_findPlan_10 17 rfl rfl)
theorem dX6_findPlan_256 : decode cX6_findPlan 256 = .ok (.iload 5, 2) := dk_21 5 (dk_at dksX6_findPlan_10 20 rfl rfl)
theorem dX6_findPlan_258 : decode cX6_findPlan 258 = .ok (.iaload, 1) := dk_46 (dk_at dksX6_findPlan_10 22 rfl rfl)
theorem dX6_findPlan_259 : decode cX6_findPlan 259 = .ok (.iaload, 1) := dk_46 (dk_at dksX6_findPlan_10 23 rfl rfl)
theorem dX6_findPlan_260 : decode cX6_findPlan 260 = .ok (.iload_n 3, 1) := dk_29 (dk_at dksX6_findPlan_11 0 rfl rfl)
theorem dX6_findPlan_261 : decode cX6_findPlan 261 = .ok (.iconst 1, 1) := dk_4 (dk_at dksX6_findPlan_11 1 rfl rfl)
theorem dX6_findPlan_262 : decode cX6_findPlan 262 = .ok (.iadd, 1) := dk_96 (dk_at dksX6_findPlan_11 2 rfl rfl)
theorem dX6_findPlan_263 : decode cX6_findPlan 263 = .ok (.ishr, 1) := dk_122 (dk_at dksX6_findPlan_11 3 rfl rfl)
theorem dX6_findPlan_264 : decode cX6_findPlan 264 = .ok (.iconst 1, 1) := dk_4 (dk_at dksX6_findPlan_11 4 rfl rfl)
theorem dX6_findPlan_265 : decode cX6_findPlan 265 = .ok (.iand, 1) := dk_126 (dk_at dksX6_findPlan_11 5 rfl rfl)
theorem dX6_findPlan_266 : decode cX6_findPlan 266 = .ok (.iconst 1, 1) := dk_4 (dk_at dksX6_findPlan_11 6 rfl rfl)
theorem dX6_findPlan_267 : decode cX6_findPlan 267 = .ok (.if_icmp .ne 31, 3) := dk_160 0 31 (dk_at dksX6_findPlan_11 7 rfl rfl)
theorem dX6_findPlan_270 : decode cX6_findPlan 270 = .ok (.iload 4, 2) := dk_21 4 (dk_at dksX6_findPlan_11 10 rfl rfl)
theorem dX6_findPlan_272 : decode cX6_findPlan 272 = .ok (.iconst (-1), 1) := dk_2 (dk_at dksX6_findPlan_11 12 rfl rfl)
theorem dX6_findPlan_273 : decode cX6_findPlan 273 = .ok (.if_icmp .eq 15, 3) := dk_159 0 15 (dk_at dksX6_findPlan_11 13 rfl rfl)
theorem dX6_findPlan_276 : decode cX6_findPlan 276 = .ok (.aload_n 0, 1) := dk_42 (dk_at dksX6_findPlan_11 16 rfl rfl)
theorem dX6_findPlan_277 : decode cX6_findPlan 277 = .ok (.getfield 85, 3) := dk_180 0 85 (dk_at dksX6_findPlan_11 17 rfl rfl)
theorem dX6_findPlan_280 : decode cX6_findPlan 280 = .ok (.iload 5, 2) := dk_21 5 (dk_at dksX6_findPlan_11 20 rfl rfl)
theorem dX6_findPlan_282 : decode cX6_findPlan 282 = .ok (.iaload, 1) := dk_46 (dk_at dksX6_findPlan_11 22 rfl rfl)
theorem dX6_findPlan_283 : decode cX6_findPlan 283 = .ok (.iload 4, 2) := dk_21 4 (dk_at dksX6_findPlan_12 0 rfl rfl)
theorem dX6_findPlan_285 : decode cX6_findPlan 285 = .ok (.if_icmp .ge 13, 3) := dk_162 0 13 (dk_at dksX6_findPlan_12 2 rfl rfl)
theorem dX6_findPlan_288 : decode cX6_findPlan 288 = .ok (.aload_n 0, 1) := dk_42 (dk_at dksX6_findPlan_12 5 rfl rfl)
theorem dX6_findPlan_289 : decode cX6_findPlan 289 = .ok (.getfield 85, 3) := dk_180 0 85 (dk_at dksX6_findPlan_12 6 rfl rfl)
theorem dX6_findPlan_292 : decode cX6_findPlan 292 = .ok (.iload 5, 2) := dk_21 5 (dk_at dksX6_findPlan_12 9 rfl rfl)
theorem dX6_findPlan_294 : decode cX6_findPlan 294 = .ok (.iaload, 1) := dk_46 (dk_at dksX6_findPlan_12 11 rfl rfl)
theorem dX6_findPlan_295 : decode cX6_findPlan 295 = .ok (.goto 5, 3) := dk_167 0 5 (dk_at dksX6_findPlan_12 12 rfl rfl)
theorem dX6_findPlan_298 : decode cX6_findPlan 298 = .ok (.iload 4, 2) := dk_21 4 (dk_at dksX6_findPlan_12 15 rfl rfl)
theorem dX6_findPlan_300 : decode cX6_findPlan 300 = .ok (.istore 4, 2) := dk_54 4 (dk_at dksX6_findPlan_12 17 rfl rfl)
theorem dX6_findPlan_302 : decode cX6_findPlan 302 = .ok (.iinc 5 1, 3) := dk_132 5 1 (dk_at dksX6_findPlan_12 19 rfl rfl)
theorem dX6_findPlan_305 : decode cX6_findPlan 305 = .ok (.goto (-66), 3) := dk_167 255 190 (dk_at dksX6_findPlan_13 0 rfl rfl)
theorem dX6_findPlan_308 : decode cX6_findPlan 308 = .ok (.aload_n 0, 1) := dk_42 (dk_at dksX6_findPlan_13 3 rfl rfl)
theorem dX6_findPlan_309 : decode cX6_findPlan 309 = .ok (.getfield 97, 3) := dk_180 0 97 (dk_at dksX6_findPlan_13 4 rfl rfl)
theorem dX6_findPlan_312 : decode cX6_findPlan 312 = .ok (.iload_n 3, 1) := dk_29 (dk_at dksX6_findPlan_13 7 rfl rfl)
theorem dX6_findPlan_313 : decode cX6_findPlan 313 = .ok (.iconst 1, 1) := dk_4 (dk_at dksX6_findPlan_13 8 rfl rfl)
theorem dX6_findPlan_314 : decode cX6_findPlan 314 = .ok (.iadd, 1) := dk_96 (dk_at dksX6_findPlan_13 9 rfl rfl)
theorem dX6_findPlan_315 : decode cX6_findPlan 315 = .ok (.iload 4, 2) := dk_21 4 (dk_at dksX6_findPlan_13 10 rfl rfl)
theorem dX6_findPlan_317 : decode cX6_findPlan 317 = .ok (.iastore, 1) := dk_79 (dk_at dksX6_findPlan_13 12 rfl rfl)
theorem dX6_findPlan_318 : decode cX6_findPlan 318 = .ok (.iinc 3 1, 3) := dk_132 3 1 (dk_at dksX6_findPlan_13 13 rfl rfl)
theorem dX6_findPlan_321 : decode cX6_findPlan 321 = .ok (.goto (-119), 3) := dk_167 255 137 (dk_at dksX6_findPlan_13 16 rfl rfl)
theorem dX6_findPlan_324 : decode cX6_findPlan 324 = .ok (.return_, 1) := dk_177 (dk_at dksX6_findPlan_13 19 rfl rfl)
abbrev cX6_findToGo : ByteArray := prog_28_method_79_code
def yX6_findToGo : MethodName := ⟨RX6, "findToGo", "(I)V"⟩
def dkwX6_findToGo_6 : List UInt8 := [3, 128, 79, 132, 3, 1, 167, 255, 168, 132, 2, 255, 167, 255, 156, 177]
abbrev dktX6_findToGo_6 : List UInt8 := dkwX6_findToGo_6 ++ []
def dkwX6_findToGo_5 : List UInt8 := [132, 5, 1, 167, 255, 207, 42, 180, 0, 73, 29, 92, 46, 21, 4, 153, 0, 9, 4, 28, 120, 167, 0, 4]
abbrev dktX6_findToGo_5 : List UInt8 := dkwX6_findToGo_5 ++ dktX6_findToGo_6
def dkwX6_findToGo_4 : List UInt8 := [28, 122, 4, 126, 4, 160, 0, 25, 42, 29, 21, 5, 42, 180, 0, 73, 28, 4, 96, 182, 1, 228, 54, 4]
abbrev dktX6_findToGo_4 : List UInt8 := dkwX6_findToGo_4 ++ dktX6_findToGo_5
def dkwX6_findToGo_3 : List UInt8 := [54, 5, 21, 5, 42, 180, 0, 13, 3, 46, 162, 0, 44, 21, 4, 154, 0, 39, 42, 180, 0, 70, 29, 46]
abbrev dktX6_findToGo_3 : List UInt8 := dkwX6_findToGo_3 ++ dktX6_findToGo_4
def dkwX6_findToGo_2 : List UInt8 := [42, 180, 0, 91, 4, 100, 61, 28, 155, 0, 102, 3, 62, 29, 18, 69, 162, 0, 88, 3, 54, 4, 3]
abbrev dktX6_findToGo_2 : List UInt8 := dkwX6_findToGo_2 ++ dktX6_findToGo_3
def dkwX6_findToGo_1 : List UInt8 := [180, 0, 79, 28, 3, 79, 132, 2, 1, 167, 255, 226, 42, 180, 0, 73, 27, 4, 42, 180, 0, 91, 120, 79]
abbrev dktX6_findToGo_1 : List UInt8 := dkwX6_findToGo_1 ++ dktX6_findToGo_2
def dkwX6_findToGo_0 : List UInt8 := [3, 61, 28, 18, 69, 162, 0, 30, 42, 180, 0, 73, 28, 3, 79, 42, 180, 0, 76, 28, 3, 79, 42]
abbrev dktX6_findToGo_0 : List UInt8 := dkwX6_findToGo_0 ++ dktX6_findToGo_1
theorem dksX6_findToGo_0 : cX6_findToGo.data.toList.drop 0 = dktX6_findToGo_0 := by decide +kernel
theorem dksX6_findToGo_1 : cX6_findToGo.data.toList.drop 23 = dktX6_findToGo_1 := dk_seg dksX6_findToGo_0 23 rfl rfl
theorem dksX6_findToGo_2 : cX6_findToGo.data.toList.drop 47 = dktX6_findToGo_2 := dk_seg dksX6_findToGo_1 24 rfl rfl
theorem dksX6_findToGo_3 : cX6_findToGo.data.toList.drop 70 = dktX6_findToGo_3 := dk_seg dksX6_findToGo_2 23 rfl rfl
theorem dksX6_findToGo_4 : cX6_findToGo.data.toList.drop 94 = dktX6_findToGo_4 := dk_seg dksX6_findToGo_3 24 rfl rfl
theorem dksX6_findToGo_5 : cX6_findToGo.data.toList.drop 118 = dktX6_findToGo_5 := dk_seg dksX6_findToGo_4 24 rfl rfl
theorem dksX6_findToGo_6 : cX6_findToGo.data.toList.drop 142 = dktX6_findToGo_6 := dk_seg dksX6_findToGo_5 24 rfl rfl
theorem dX6_findToGo_0 : decode cX6_findToGo 0 = .ok (.iconst 0, 1) := dk_3 (dk_at dksX6_findToGo_0 0 rfl rfl)
theorem dX6_findToGo_1 : decode cX6_findToGo 1 = .ok (.istore_n 2, 1) := dk_61 (dk_at dksX6_findToGo_0 1 rfl rfl)
theorem dX6_findToGo_2 : decode cX6_findToGo 2 = .ok (.iload_n 2, 1) := dk_28 (dk_at dksX6_findToGo_0 2 rfl rfl)
theorem dX6_findToGo_3 : decode cX6_findToGo 3 = .ok (.ldc 69, 2) := dk_18 69 (dk_at dksX6_findToGo_0 3 rfl rfl)
theorem dX6_findToGo_5 : decode cX6_findToGo 5 = .ok (.if_icmp .ge 30, 3) := dk_162 0 30 (dk_at dksX6_findToGo_0 5 rfl rfl)
theorem dX6_findToGo_8 : decode cX6_findToGo 8 = .ok (.aload_n 0, 1) := dk_42 (dk_at dksX6_findToGo_0 8 rfl rfl)
theorem dX6_findToGo_9 : decode cX6_findToGo 9 = .ok (.getfield 73, 3) := dk_180 0 73 (dk_at dksX6_findToGo_0 9 rfl rfl)
theorem dX6_findToGo_12 : decode cX6_findToGo 12 = .ok (.iload_n 2, 1) := dk_28 (dk_at dksX6_findToGo_0 12 rfl rfl)
theorem dX6_findToGo_13 : decode cX6_findToGo 13 = .ok (.iconst 0, 1) := dk_3 (dk_at dksX6_findToGo_0 13 rfl rfl)
theorem dX6_findToGo_14 : decode cX6_findToGo 14 = .ok (.iastore, 1) := dk_79 (dk_at dksX6_findToGo_0 14 rfl rfl)
theorem dX6_findToGo_15 : decode cX6_findToGo 15 = .ok (.aload_n 0, 1) := dk_42 (dk_at dksX6_findToGo_0 15 rfl rfl)
theorem dX6_findToGo_16 : decode cX6_findToGo 16 = .ok (.getfield 76, 3) := dk_180 0 76 (dk_at dksX6_findToGo_0 16 rfl rfl)
theorem dX6_findToGo_19 : decode cX6_findToGo 19 = .ok (.iload_n 2, 1) := dk_28 (dk_at dksX6_findToGo_0 19 rfl rfl)
theorem dX6_findToGo_20 : decode cX6_findToGo 20 = .ok (.iconst 0, 1) := dk_3 (dk_at dksX6_findToGo_0 20 rfl rfl)
theorem dX6_findToGo_21 : decode cX6_findToGo 21 = .ok (.iastore, 1) := dk_79 (dk_at dksX6_findToGo_0 21 rfl rfl)
theorem dX6_findToGo_22 : decode cX6_findToGo 22 = .ok (.aload_n 0, 1) := dk_42 (dk_at dksX6_findToGo_0 22 rfl rfl)
theorem dX6_findToGo_23 : decode cX6_findToGo 23 = .ok (.getfield 79, 3) := dk_180 0 79 (dk_at dksX6_findToGo_1 0 rfl rfl)
theorem dX6_findToGo_26 : decode cX6_findToGo 26 = .ok (.iload_n 2, 1) := dk_28 (dk_at dksX6_findToGo_1 3 rfl rfl)
theorem dX6_findToGo_27 : decode cX6_findToGo 27 = .ok (.iconst 0, 1) := dk_3 (dk_at dksX6_findToGo_1 4 rfl rfl)
theorem dX6_findToGo_28 : decode cX6_findToGo 28 = .ok (.iastore, 1) := dk_79 (dk_at dksX6_findToGo_1 5 rfl rfl)
theorem dX6_findToGo_29 : decode cX6_findToGo 29 = .ok (.iinc 2 1, 3) := dk_132 2 1 (dk_at dksX6_findToGo_1 6 rfl rfl)
theorem dX6_findToGo_32 : decode cX6_findToGo 32 = .ok (.goto (-30), 3) := dk_167 255 226 (dk_at dksX6_findToGo_1 9 rfl rfl)
theorem dX6_findToGo_35 : decode cX6_findToGo 35 = .ok (.aload_n 0, 1) := dk_42 (dk_at dksX6_findToGo_1 12 rfl rfl)
theorem dX6_findToGo_36 : decode cX6_findToGo 36 = .ok (.getfield 73, 3) := dk_180 0 73 (dk_at dksX6_findToGo_1 13 rfl rfl)
theorem dX6_findToGo_39 : decode cX6_findToGo 39 = .ok (.iload_n 1, 1) := dk_27 (dk_at dksX6_findToGo_1 16 rfl rfl)
theorem dX6_findToGo_40 : decode cX6_findToGo 40 = .ok (.iconst 1, 1) := dk_4 (dk_at dksX6_findToGo_1 17 rfl rfl)
theorem dX6_findToGo_41 : decode cX6_findToGo 41 = .ok (.aload_n 0, 1) := dk_42 (dk_at dksX6_findToGo_1 18 rfl rfl)
theorem dX6_findToGo_42 : decode cX6_findToGo 42 = .ok (.getfield 91, 3) := dk_180 0 91 (dk_at dksX6_findToGo_1 19 rfl rfl)
theorem dX6_findToGo_45 : decode cX6_findToGo 45 = .ok (.ishl, 1) := dk_120 (dk_at dksX6_findToGo_1 22 rfl rfl)
theorem dX6_findToGo_46 : decode cX6_findToGo 46 = .ok (.iastore, 1) := dk_79 (dk_at dksX6_findToGo_1 23 rfl rfl)
theorem dX6_findToGo_47 : decode cX6_findToGo 47 = .ok (.aload_n 0, 1) := dk_42 (dk_at dksX6_findToGo_2 0 rfl rfl)
theorem dX6_findToGo_48 : decode cX6_findToGo 48 = .ok (.getfield 91, 3) := dk_180 0 91 (dk_at dksX6_findToGo_2 1 rfl rfl)
theorem dX6_findToGo_51 : decode cX6_findToGo 51 = .ok (.iconst 1, 1) := dk_4 (dk_at dksX6_findToGo_2 4 rfl rfl)
theorem dX6_findToGo_52 : decode cX6_findToGo 52 = .ok (.isub, 1) := dk_100 (dk_at dksX6_findToGo_2 5 rfl rfl)
theorem dX6_findToGo_53 : decode cX6_findToGo 53 = .ok (.istore_n 2, 1) := dk_61 (dk_at dksX6_findToGo_2 6 rfl rfl)
theorem dX6_findToGo_54 : decode cX6_findToGo 54 = .ok (.iload_n 2, 1) := dk_28 (dk_at dksX6_findToGo_2 7 rfl rfl)
theorem dX6_findToGo_55 : decode cX6_findToGo 55 = .ok (.ifCond .lt 102, 3) := dk_155 0 102 (dk_at dksX6_findToGo_2 8 rfl rfl)
theorem dX6_findToGo_58 : decode cX6_findToGo 58 = .ok (.iconst 0, 1) := dk_3 (dk_at dksX6_findToGo_2 11 rfl rfl)
theorem dX6_findToGo_59 : decode cX6_findToGo 59 = .ok (.istore_n 3, 1) := dk_62 (dk_at dksX6_findToGo_2 12 rfl rfl)
theorem dX6_findToGo_60 : decode cX6_findToGo 60 = .ok (.iload_n 3, 1) := dk_29 (dk_at dksX6_findToGo_2 13 rfl rfl)
theorem dX6_findToGo_61 : decode cX6_findToGo 61 = .ok (.ldc 69, 2) := dk_18 69 (dk_at dksX6_findToGo_2 14 rfl rfl)
theorem dX6_findToGo_63 : decode cX6_findToGo 63 = .ok (.if_icmp .ge 88, 3) := dk_162 0 88 (dk_at dksX6_findToGo_2 16 rfl rfl)
theorem dX6_findToGo_66 : decode cX6_findToGo 66 = .ok (.iconst 0, 1) := dk_3 (dk_at dksX6_findToGo_2 19 rfl rfl)
theorem dX6_findToGo_67 : decode cX6_findToGo 67 = .ok (.istore 4, 2) := dk_54 4 (dk_at dksX6_findToGo_2 20 rfl rfl)
theorem dX6_findToGo_69 : decode cX6_findToGo 69 = .ok (.iconst 0, 1) := dk_3 (dk_at dksX6_findToGo_2 22 rfl rfl)
theorem dX6_findToGo_70 : decode cX6_findToGo 70 = .ok (.istore 5, 2) := dk_54 5 (dk_at dksX6_findToGo_3 0 rfl rfl)
theorem dX6_findToGo_72 : decode cX6_findToGo 72 = .ok (.iload 5, 2) := dk_21 5 (dk_at dksX6_findToGo_3 2 rfl rfl)
theorem dX6_findToGo_74 : decode cX6_findToGo 74 = .ok (.aload_n 0, 1) := dk_42 (dk_at dksX6_findToGo_3 4 rfl rfl)
theorem dX6_findToGo_75 : decode cX6_findToGo 75 = .ok (.getfield 13, 3) := dk_180 0 13 (dk_at dksX6_findToGo_3 5 rfl rfl)
theorem dX6_findToGo_78 : decode cX6_findToGo 78 = .ok (.iconst 0, 1) := dk_3 (dk_at dksX6_findToGo_3 8 rfl rfl)
theorem dX6_findToGo_79 : decode cX6_findToGo 79 = .ok (.iaload, 1) := dk_46 (dk_at dksX6_findToGo_3 9 rfl rfl)
theorem dX6_findToGo_80 : decode cX6_findToGo 80 = .ok (.if_icmp .ge 44, 3) := dk_162 0 44 (dk_at dksX6_findToGo_3 10 rfl rfl)
theorem dX6_findToGo_83 : decode cX6_findToGo 83 = .ok (.iload 4, 2) := dk_21 4 (dk_at dksX6_findToGo_3 13 rfl rfl)
theorem dX6_findToGo_85 : decode cX6_findToGo 85 = .ok (.ifCond .ne 39, 3) := dk_154 0 39 (dk_at dksX6_findToGo_3 15 rfl rfl)
theorem dX6_findToGo_88 : decode cX6_findToGo 88 = .ok (.aload_n 0, 1) := dk_42 (dk_at dksX6_findToGo_3 18 rfl rfl)
theorem dX6_findToGo_89 : decode cX6_findToGo 89 = .ok (.getfield 70, 3) := dk_180 0 70 (dk_at dksX6_findToGo_3 19 rfl rfl)
theorem dX6_findToGo_92 : decode cX6_findToGo 92 = .ok (.iload_n 3, 1) := dk_29 (dk_at dksX6_findToGo_3 22 rfl rfl)
theorem dX6_findToGo_93 : decode cX6_findToGo 93 = .ok (.iaload, 1) := dk_46 (dk_at dksX6_findToGo_3 23 rfl rfl)
theorem dX6_findToGo_94 : decode cX6_findToGo 94 = .ok (.iload_n 2, 1) := dk_28 (dk_at dksX6_findToGo_4 0 rfl rfl)
theorem dX6_findToGo_95 : decode cX6_findToGo 95 = .ok (.ishr, 1) := dk_122 (dk_at dksX6_findToGo_4 1 rfl rfl)
theorem dX6_findToGo_96 : decode cX6_findToGo 96 = .ok (.iconst 1, 1) := dk_4 (dk_at dksX6_findToGo_4 2 rfl rfl)
theorem dX6_findToGo_97 : decode cX6_findToGo 97 = .ok (.iand, 1) := dk_126 (dk_at dksX6_findToGo_4 3 rfl rfl)
theorem dX6_findToGo_98 : decode cX6_findToGo 98 = .ok (.iconst 1, 1) := dk_4 (dk_at dksX6_findToGo_4 4 rfl rfl)
theorem dX6_findToGo_99 : decode cX6_findToGo 99 = .ok (.if_icmp .ne 25, 3) := dk_160 0 25 (dk_at dksX6_findToGo_4 5 rfl rfl)
theorem dX6_findToGo_102 : decode cX6_findToGo 102 = .ok (.aload_n 0, 1) := dk_42 (dk_at dksX6_findToGo_4 8 rfl rfl)
theorem dX6_findToGo_103 : decode cX6_findToGo 103 = .ok (.iload_n 3, 1) := dk_29 (dk_at dksX6_findToGo_4 9 rfl rfl)
theorem dX6_findToGo_104 : decode cX6_findToGo 104 = .ok (.iload 5, 2) := dk_21 5 (dk_at dksX6_findToGo_4 10 rfl rfl)
theorem dX6_findToGo_106 : decode cX6_findToGo 106 = .ok (.aload_n 0, 1) := dk_42 (dk_at dksX6_findToGo_4 12 rfl rfl)
theorem dX6_findToGo_107 : decode cX6_findToGo 107 = .ok (.getfield 73, 3) := dk_180 0 73 (dk_at dksX6_findToGo_4 13 rfl rfl)
theorem dX6_findToGo_110 : decode cX6_findToGo 110 = .ok (.iload_n 2, 1) := dk_28 (dk_at dksX6_findToGo_4 16 rfl rfl)
theorem dX6_findToGo_111 : decode cX6_findToGo 111 = .ok (.iconst 1, 1) := dk_4 (dk_at dksX6_findToGo_4 17 rfl rfl)
theorem dX6_findToGo_112 : decode cX6_findToGo 112 = .ok (.iadd, 1) := dk_96 (dk_at dksX6_findToGo_4 18 rfl rfl)
theorem dX6_findToGo_113 : decode cX6_findToGo 113 = .ok (.invokevirtual 484, 3) := dk_182 1 228 (dk_at dksX6_findToGo_4 19 rfl rfl)
theorem dX6_findToGo_116 : decode cX6_findToGo 116 = .ok (.istore 4, 2) := dk_54 4 (dk_at dksX6_findToGo_4 22 rfl rfl)
theorem dX6_findToGo_118 : decode cX6_findToGo 118 = .ok (.iinc 5 1, 3) := dk_132 5 1 (dk_at dksX6_findToGo_5 0 rfl rfl)
theorem dX6_findToGo_121 : decode cX6_findToGo 121 = .ok (.goto (-49), 3) := dk_167 255 207 (dk_at dksX6_findToGo_5 3 rfl rfl)
theorem dX6_findToGo_124 : decode cX6_findToGo 124 = .ok (.aload_n 0, 1) := dk_42 (dk_at dksX6_findToGo_5 6 rfl rfl)
theorem dX6_findToGo_125 : decode cX6_findToGo 125 = .ok (.getfield 73, 3) := dk_180 0 73 (dk_at dksX6_findToGo_5 7 rfl rfl)
theorem dX6_findToGo_128 : decode cX6_findToGo 128 = .ok (.iload_n 3, 1) := dk_29 (dk_at dksX6_findToGo_5 10 rfl rfl)
theorem dX6_findToGo_129 : decode cX6_findToGo 129 = .ok (.dup2, 1) := dk_92 (dk_at dksX6_findToGo_5 11 rfl rfl)
theorem dX6_findToGo_130 : decode cX6_findToGo 130 = .ok (.iaload, 1) := dk_46 (dk_at dksX6_findToGo_5 12 rfl rfl)
theorem dX6_findToGo_131 : decode cX6_findToGo 131 = .ok (.iload 4, 2) := dk_21 4 (dk_at dksX6_findToGo_5 13 rfl rfl)
theorem dX6_findToGo_133 : decode cX6_findToGo 133 = .ok (.ifCond .eq 9, 3) := dk_153 0 9 (dk_at dksX6_findToGo_5 15 rfl rfl)
theorem dX6_findToGo_136 : decode cX6_findToGo 136 = .ok (.iconst 1, 1) := dk_4 (dk_at dksX6_findToGo_5 18 rfl rfl)
theorem dX6_findToGo_137 : decode cX6_findToGo 137 = .ok (.iload_n 2, 1) := dk_28 (dk_at dksX6_findToGo_5 19 rfl rfl)
theorem dX6_findToGo_138 : decode cX6_findToGo 138 = .ok (.ishl, 1) := dk_120 (dk_at dksX6_findToGo_5 20 rfl rfl)
theorem dX6_findToGo_139 : decode cX6_findToGo 139 = .ok (.goto 4, 3) := dk_167 0 4 (dk_at dksX6_findToGo_5 21 rfl rfl)
theorem dX6_findToGo_142 : decode cX6_findToGo 142 = .ok (.iconst 0, 1) := dk_3 (dk_at dksX6_findToGo_6 0 rfl rfl)
theorem dX6_findToGo_143 : decode cX6_findToGo 143 = .ok (.ior, 1) := dk_128 (dk_at dksX6_findToGo_6 1 rfl rfl)
theorem dX6_findToGo_144 : decode cX6_findToGo 144 = .ok (.iastore, 1) := dk_79 (dk_at dksX6_findToGo_6 2 rfl rfl)
theorem dX6_findToGo_145 : decode cX6_findToGo 145 = .ok (.iinc 3 1, 3) := dk_132 3 1 (dk_at dksX6_findToGo_6 3 rfl rfl)
theorem dX6_findToGo_148 : decode cX6_findToGo 148 = .ok (.goto (-88), 3) := dk_167 255 168 (dk_at dksX6_findToGo_6 6 rfl rfl)
theorem dX6_findToGo_151 : decode cX6_findToGo 151 = .ok (.iinc 2 (-1), 3) := dk_132 2 255 (dk_at dksX6_findToGo_6 9 rfl rfl)
theorem dX6_findToGo_154 : decode cX6_findToGo 154 = .ok (.goto (-100), 3) := dk_167 255 156 (dk_at dksX6_findToGo_6 12 rfl rfl)
theorem dX6_findToGo_157 : decode cX6_findToGo 157 = .ok (.return_, 1) := dk_177 (dk_at dksX6_findToGo_6 15 rfl rfl)
abbrev cX6_leads : ByteArray := prog_28_method_78_code
def yX6_leads : MethodName := ⟨RX6, "leads", "(II[II)Z"⟩
def dkwX6_leads_2 : List UInt8 := [126, 4, 160, 0, 7, 4, 167, 0, 4, 3, 54, 5, 132, 6, 1, 167, 255, 214, 21, 5, 172]
abbrev dktX6_leads_2 : List UInt8 := dkwX6_leads_2 ++ []
def dkwX6_leads_1 : List UInt8 := [180, 1, 199, 162, 0, 39, 21, 5, 154, 0, 21, 45, 42, 180, 0, 85, 21, 6, 46, 46, 21, 4, 122, 4]
abbrev dktX6_leads_1 : List UInt8 := dkwX6_leads_1 ++ dktX6_leads_2
def dkwX6_leads_0 : List UInt8 := [42, 27, 28, 42, 180, 0, 13, 16, 10, 46, 182, 1, 212, 3, 54, 5, 3, 54, 6, 21, 6, 42]
abbrev dktX6_leads_0 : List UInt8 := dkwX6_leads_0 ++ dktX6_leads_1
theorem dksX6_leads_0 : cX6_leads.data.toList.drop 0 = dktX6_leads_0 := by decide +kernel
theorem dksX6_leads_1 : cX6_leads.data.toList.drop 22 = dktX6_leads_1 := dk_seg dksX6_leads_0 22 rfl rfl
theorem dksX6_leads_2 : cX6_leads.data.toList.drop 46 = dktX6_leads_2 := dk_seg dksX6_leads_1 24 rfl rfl
theorem dX6_leads_0 : decode cX6_leads 0 = .ok (.aload_n 0, 1) := dk_42 (dk_at dksX6_leads_0 0 rfl rfl)
theorem dX6_leads_1 : decode cX6_leads 1 = .ok (.iload_n 1, 1) := dk_27 (dk_at dksX6_leads_0 1 rfl rfl)
theorem dX6_leads_2 : decode cX6_leads 2 = .ok (.iload_n 2, 1) := dk_28 (dk_at dksX6_leads_0 2 rfl rfl)
theorem dX6_leads_3 : decode cX6_leads 3 = .ok (.aload_n 0, 1) := dk_42 (dk_at dksX6_leads_0 3 rfl rfl)
theorem dX6_leads_4 : decode cX6_leads 4 = .ok (.getfield 13, 3) := dk_180 0 13 (dk_at dksX6_leads_0 4 rfl rfl)
theorem dX6_leads_7 : decode cX6_leads 7 = .ok (.bipush 10, 2) := dk_16 10 (dk_at dksX6_leads_0 7 rfl rfl)
theorem dX6_leads_9 : decode cX6_leads 9 = .ok (.iaload, 1) := dk_46 (dk_at dksX6_leads_0 9 rfl rfl)
theorem dX6_leads_10 : decode cX6_leads 10 = .ok (.invokevirtual 468, 3) := dk_182 1 212 (dk_at dksX6_leads_0 10 rfl rfl)
theorem dX6_leads_13 : decode cX6_leads 13 = .ok (.iconst 0, 1) := dk_3 (dk_at dksX6_leads_0 13 rfl rfl)
theorem dX6_leads_14 : decode cX6_leads 14 = .ok (.istore 5, 2) := dk_54 5 (dk_at dksX6_leads_0 14 rfl rfl)
theorem dX6_leads_16 : decode cX6_leads 16 = .ok (.iconst 0, 1) := dk_3 (dk_at dksX6_leads_0 16 rfl rfl)
theorem dX6_leads_17 : decode cX6_leads 17 = .ok (.istore 6, 2) := dk_54 6 (dk_at dksX6_leads_0 17 rfl rfl)
theorem dX6_leads_19 : decode cX6_leads 19 = .ok (.iload 6, 2) := dk_21 6 (dk_at dksX6_leads_0 19 rfl rfl)
theorem dX6_leads_21 : decode cX6_leads 21 = .ok (.aload_n 0, 1) := dk_42 (dk_at dksX6_leads_0 21 rfl rfl)
theorem dX6_leads_22 : decode cX6_leads 22 = .ok (.getfield 455, 3) := dk_180 1 199 (dk_at dksX6_leads_1 0 rfl rfl)
theorem dX6_leads_25 : decode cX6_leads 25 = .ok (.if_icmp .ge 39, 3) := dk_162 0 39 (dk_at dksX6_leads_1 3 rfl rfl)
theorem dX6_leads_28 : decode cX6_leads 28 = .ok (.iload 5, 2) := dk_21 5 (dk_at dksX6_leads_1 6 rfl rfl)
theorem dX6_leads_30 : decode cX6_leads 30 = .ok (.ifCond .ne 21, 3) := dk_154 0 21 (dk_at dksX6_leads_1 8 rfl rfl)
theorem dX6_leads_33 : decode cX6_leads 33 = .ok (.aload_n 3, 1) := dk_45 (dk_at dksX6_leads_1 11 rfl rfl)
theorem dX6_leads_34 : decode cX6_leads 34 = .ok (.aload_n 0, 1) := dk_42 (dk_at dksX6_leads_1 12 rfl rfl)
theorem dX6_leads_35 : decode cX6_leads 35 = .ok (.getfield 85, 3) := dk_180 0 85 (dk_at dksX6_leads_1 13 rfl rfl)
theorem dX6_leads_38 : decode cX6_leads 38 = .ok (.iload 6, 2) := dk_21 6 (dk_at dksX6_leads_1 16 rfl rfl)
theorem dX6_leads_40 : decode cX6_leads 40 = .ok (.iaload, 1) := dk_46 (dk_at dksX6_leads_1 18 rfl rfl)
theorem dX6_leads_41 : decode cX6_leads 41 = .ok (.iaload, 1) := dk_46 (dk_at dksX6_leads_1 19 rfl rfl)
theorem dX6_leads_42 : decode cX6_leads 42 = .ok (.iload 4, 2) := dk_21 4 (dk_at dksX6_leads_1 20 rfl rfl)
theorem dX6_leads_44 : decode cX6_leads 44 = .ok (.ishr, 1) := dk_122 (dk_at dksX6_leads_1 22 rfl rfl)
theorem dX6_leads_45 : decode cX6_leads 45 = .ok (.iconst 1, 1) := dk_4 (dk_at dksX6_leads_1 23 rfl rfl)
theorem dX6_leads_46 : decode cX6_leads 46 = .ok (.iand, 1) := dk_126 (dk_at dksX6_leads_2 0 rfl rfl)
theorem dX6_leads_47 : decode cX6_leads 47 = .ok (.iconst 1, 1) := dk_4 (dk_at dksX6_leads_2 1 rfl rfl)
theorem dX6_leads_48 : decode cX6_leads 48 = .ok (.if_icmp .ne 7, 3) := dk_160 0 7 (dk_at dksX6_leads_2 2 rfl rfl)
theorem dX6_leads_51 : decode cX6_leads 51 = .ok (.iconst 1, 1) := dk_4 (dk_at dksX6_leads_2 5 rfl rfl)
theorem dX6_leads_52 : decode cX6_leads 52 = .ok (.goto 4, 3) := dk_167 0 4 (dk_at dksX6_leads_2 6 rfl rfl)
theorem dX6_leads_55 : decode cX6_leads 55 = .ok (.iconst 0, 1) := dk_3 (dk_at dksX6_leads_2 9 rfl rfl)
theorem dX6_leads_56 : decode cX6_leads 56 = .ok (.istore 5, 2) := dk_54 5 (dk_at dksX6_leads_2 10 rfl rfl)
theorem dX6_leads_58 : decode cX6_leads 58 = .ok (.iinc 6 1, 3) := dk_132 6 1 (dk_at dksX6_leads_2 12 rfl rfl)
theorem dX6_leads_61 : decode cX6_leads 61 = .ok (.goto (-42), 3) := dk_167 255 214 (dk_at dksX6_leads_2 15 rfl rfl)
theorem dX6_leads_64 : decode cX6_leads 64 = .ok (.iload 5, 2) := dk_21 5 (dk_at dksX6_leads_2 18 rfl rfl)
theorem dX6_leads_66 : decode cX6_leads 66 = .ok (.ireturn, 1) := dk_172 (dk_at dksX6_leads_2 20 rfl rfl)
abbrev cX6_chooseCell : ByteArray := prog_28_method_80_code
def yX6_chooseCell : MethodName := ⟨RX6, "chooseCell", "(I)V"⟩
def dkwX6_chooseCell_8 : List UInt8 := [167, 255, 198, 132, 3, 1, 167, 255, 156, 177]
abbrev dktX6_chooseCell_8 : List UInt8 := dkwX6_chooseCell_8 ++ []
def dkwX6_chooseCell_7 : List UInt8 := [27, 4, 96, 122, 4, 126, 4, 160, 0, 11, 4, 27, 4, 96, 120, 167, 0, 4, 3, 128, 79, 132, 4, 1]
abbrev dktX6_chooseCell_7 : List UInt8 := dkwX6_chooseCell_7 ++ dktX6_chooseCell_8
def dkwX6_chooseCell_6 : List UInt8 := [180, 0, 76, 42, 180, 0, 85, 21, 4, 46, 92, 46, 42, 180, 0, 73, 42, 180, 0, 85, 21, 4, 46, 46]
abbrev dktX6_chooseCell_6 : List UInt8 := dkwX6_chooseCell_6 ++ dktX6_chooseCell_7
def dkwX6_chooseCell_5 : List UInt8 := [180, 0, 13, 16, 10, 46, 182, 1, 212, 3, 54, 4, 21, 4, 42, 180, 1, 199, 162, 0, 55, 42]
abbrev dktX6_chooseCell_5 : List UInt8 := dkwX6_chooseCell_5 ++ dktX6_chooseCell_6
def dkwX6_chooseCell_4 : List UInt8 := [18, 69, 162, 0, 100, 42, 180, 0, 76, 29, 46, 27, 122, 4, 126, 4, 160, 0, 80, 42, 29, 28, 42]
abbrev dktX6_chooseCell_4 : List UInt8 := dkwX6_chooseCell_4 ++ dktX6_chooseCell_5
def dkwX6_chooseCell_3 : List UInt8 := [2, 61, 132, 4, 1, 167, 255, 203, 132, 3, 1, 167, 255, 179, 42, 180, 0, 94, 27, 28, 79, 3, 62, 29]
abbrev dktX6_chooseCell_3 : List UInt8 := dkwX6_chooseCell_3 ++ dktX6_chooseCell_4
def dkwX6_chooseCell_2 : List UInt8 := [160, 0, 24, 42, 21, 4, 29, 42, 180, 0, 73, 27, 4, 96, 182, 1, 228, 153, 0, 7, 29, 167, 0, 4]
abbrev dktX6_chooseCell_2 : List UInt8 := dkwX6_chooseCell_2 ++ dktX6_chooseCell_3
def dkwX6_chooseCell_1 : List UInt8 := [18, 69, 162, 0, 52, 28, 2, 160, 0, 47, 42, 180, 0, 76, 21, 4, 46, 27, 122, 4, 126, 4]
abbrev dktX6_chooseCell_1 : List UInt8 := dkwX6_chooseCell_1 ++ dktX6_chooseCell_2
def dkwX6_chooseCell_0 : List UInt8 := [2, 61, 3, 62, 29, 42, 180, 0, 13, 3, 46, 162, 0, 73, 28, 2, 160, 0, 68, 3, 54, 4, 21, 4]
abbrev dktX6_chooseCell_0 : List UInt8 := dkwX6_chooseCell_0 ++ dktX6_chooseCell_1
theorem dksX6_chooseCell_0 : cX6_chooseCell.data.toList.drop 0 = dktX6_chooseCell_0 := by decide +kernel
theorem dksX6_chooseCell_1 : cX6_chooseCell.data.toList.drop 24 = dktX6_chooseCell_1 := dk_seg dksX6_chooseCell_0 24 rfl rfl
theorem dksX6_chooseCell_2 : cX6_chooseCell.data.toList.drop 46 = dktX6_chooseCell_2 := dk_seg dksX6_chooseCell_1 22 rfl rfl
theorem dksX6_chooseCell_3 : cX6_chooseCell.data.toList.drop 70 = dktX6_chooseCell_3 := dk_seg dksX6_chooseCell_2 24 rfl rfl
theorem dksX6_chooseCell_4 : cX6_chooseCell.data.toList.drop 94 = dktX6_chooseCell_4 := dk_seg dksX6_chooseCell_3 24 rfl rfl
theorem dksX6_chooseCell_5 : cX6_chooseCell.data.toList.drop 117 = dktX6_chooseCell_5 := dk_seg dksX6_chooseCell_4 23 rfl rfl
theorem dksX6_chooseCell_6 : cX6_chooseCell.data.toList.drop 139 = dktX6_chooseCell_6 := dk_seg dksX6_chooseCell_5 22 rfl rfl
theorem dksX6_chooseCell_7 : cX6_chooseCell.data.toList.drop 163 = dktX6_chooseCell_7 := dk_seg dksX6_chooseCell_6 24 rfl rfl
theorem dksX6_chooseCell_8 : cX6_chooseCell.data.toList.drop 187 = dktX6_chooseCell_8 := dk_seg dksX6_chooseCell_7 24 rfl rfl
theorem dX6_chooseCell_0 : decode cX6_chooseCell 0 = .ok (.iconst (-1), 1) := dk_2 (dk_at dksX6_chooseCell_0 0 rfl rfl)
theorem dX6_chooseCell_1 : decode cX6_chooseCell 1 = .ok (.istore_n 2, 1) := dk_61 (dk_at dksX6_chooseCell_0 1 rfl rfl)
theorem dX6_chooseCell_2 : decode cX6_chooseCell 2 = .ok (.iconst 0, 1) := dk_3 (dk_at dksX6_chooseCell_0 2 rfl rfl)
theorem dX6_chooseCell_3 : decode cX6_chooseCell 3 = .ok (.istore_n 3, 1) := dk_62 (dk_at dksX6_chooseCell_0 3 rfl rfl)
theorem dX6_chooseCell_4 : decode cX6_chooseCell 4 = .ok (.iload_n 3, 1) := dk_29 (dk_at dksX6_chooseCell_0 4 rfl rfl)
theorem dX6_chooseCell_5 : decode cX6_chooseCell 5 = .ok (.aload_n 0, 1) := dk_42 (dk_at dksX6_chooseCell_0 5 rfl rfl)
theorem dX6_chooseCell_6 : decode cX6_chooseCell 6 = .ok (.getfield 13, 3) := dk_180 0 13 (dk_at dksX6_chooseCell_0 6 rfl rfl)
theorem dX6_chooseCell_9 : decode cX6_chooseCell 9 = .ok (.iconst 0, 1) := dk_3 (dk_at dksX6_chooseCell_0 9 rfl rfl)
theorem dX6_chooseCell_10 : decode cX6_chooseCell 10 = .ok (.iaload, 1) := dk_46 (dk_at dksX6_chooseCell_0 10 rfl rfl)
theorem dX6_chooseCell_11 : decode cX6_chooseCell 11 = .ok (.if_icmp .ge 73, 3) := dk_162 0 73 (dk_at dksX6_chooseCell_0 11 rfl rfl)
theorem dX6_chooseCell_14 : decode cX6_chooseCell 14 = .ok (.iload_n 2, 1) := dk_28 (dk_at dksX6_chooseCell_0 14 rfl rfl)
theorem dX6_chooseCell_15 : decode cX6_chooseCell 15 = .ok (.iconst (-1), 1) := dk_2 (dk_at dksX6_chooseCell_0 15 rfl rfl)
theorem dX6_chooseCell_16 : decode cX6_chooseCell 16 = .ok (.if_icmp .ne 68, 3) := dk_160 0 68 (dk_at dksX6_chooseCell_0 16 rfl rfl)
theorem dX6_chooseCell_19 : decode cX6_chooseCell 19 = .ok (.iconst 0, 1) := dk_3 (dk_at dksX6_chooseCell_0 19 rfl rfl)
theorem dX6_chooseCell_20 : decode cX6_chooseCell 20 = .ok (.istore 4, 2) := dk_54 4 (dk_at dksX6_chooseCell_0 20 rfl rfl)
theorem dX6_chooseCell_22 : decode cX6_chooseCell 22 = .ok (.iload 4, 2) := dk_21 4 (dk_at dksX6_chooseCell_0 22 rfl rfl)
theorem dX6_chooseCell_24 : decode cX6_chooseCell 24 = .ok (.ldc 69, 2) := dk_18 69 (dk_at dksX6_chooseCell_1 0 rfl rfl)
theorem dX6_chooseCell_26 : decode cX6_chooseCell 26 = .ok (.if_icmp .ge 52, 3) := dk_162 0 52 (dk_at dksX6_chooseCell_1 2 rfl rfl)
theorem dX6_chooseCell_29 : decode cX6_chooseCell 29 = .ok (.iload_n 2, 1) := dk_28 (dk_at dksX6_chooseCell_1 5 rfl rfl)
theorem dX6_chooseCell_30 : decode cX6_chooseCell 30 = .ok (.iconst (-1), 1) := dk_2 (dk_at dksX6_chooseCell_1 6 rfl rfl)
theorem dX6_chooseCell_31 : decode cX6_chooseCell 31 = .ok (.if_icmp .ne 47, 3) := dk_160 0 47 (dk_at dksX6_chooseCell_1 7 rfl rfl)
theorem dX6_chooseCell_34 : decode cX6_chooseCell 34 = .ok (.aload_n 0, 1) := dk_42 (dk_at dksX6_chooseCell_1 10 rfl rfl)
theorem dX6_chooseCell_35 : decode cX6_chooseCell 35 = .ok (.getfield 76, 3) := dk_180 0 76 (dk_at dksX6_chooseCell_1 11 rfl rfl)
theorem dX6_chooseCell_38 : decode cX6_chooseCell 38 = .ok (.iload 4, 2) := dk_21 4 (dk_at dksX6_chooseCell_1 14 rfl rfl)
theorem dX6_chooseCell_40 : decode cX6_chooseCell 40 = .ok (.iaload, 1) := dk_46 (dk_at dksX6_chooseCell_1 16 rfl rfl)
theorem dX6_chooseCell_41 : decode cX6_chooseCell 41 = .ok (.iload_n 1, 1) := dk_27 (dk_at dksX6_chooseCell_1 17 rfl rfl)
theorem dX6_chooseCell_42 : decode cX6_chooseCell 42 = .ok (.ishr, 1) := dk_122 (dk_at dksX6_chooseCell_1 18 rfl rfl)
theorem dX6_chooseCell_43 : decode cX6_chooseCell 43 = .ok (.iconst 1, 1) := dk_4 (dk_at dksX6_chooseCell_1 19 rfl rfl)
theorem dX6_chooseCell_44 : decode cX6_chooseCell 44 = .ok (.iand, 1) := dk_126 (dk_at dksX6_chooseCell_1 20 rfl rfl)
theorem dX6_chooseCell_45 : decode cX6_chooseCell 45 = .ok (.iconst 1, 1) := dk_4 (dk_at dksX6_chooseCell_1 21 rfl rfl)
theorem dX6_chooseCell_46 : decode cX6_chooseCell 46 = .ok (.if_icmp .ne 24, 3) := dk_160 0 24 (dk_at dksX6_chooseCell_2 0 rfl rfl)
theorem dX6_chooseCell_49 : decode cX6_chooseCell 49 = .ok (.aload_n 0, 1) := dk_42 (dk_at dksX6_chooseCell_2 3 rfl rfl)
theorem dX6_chooseCell_50 : decode cX6_chooseCell 50 = .ok (.iload 4, 2) := dk_21 4 (dk_at dksX6_chooseCell_2 4 rfl rfl)
theorem dX6_chooseCell_52 : decode cX6_chooseCell 52 = .ok (.iload_n 3, 1) := dk_29 (dk_at dksX6_chooseCell_2 6 rfl rfl)
theorem dX6_chooseCell_53 : decode cX6_chooseCell 53 = .ok (.aload_n 0, 1) := dk_42 (dk_at dksX6_chooseCell_2 7 rfl rfl)
theorem dX6_chooseCell_54 : decode cX6_chooseCell 54 = .ok (.getfield 73, 3) := dk_180 0 73 (dk_at dksX6_chooseCell_2 8 rfl rfl)
theorem dX6_chooseCell_57 : decode cX6_chooseCell 57 = .ok (.iload_n 1, 1) := dk_27 (dk_at dksX6_chooseCell_2 11 rfl rfl)
theorem dX6_chooseCell_58 : decode cX6_chooseCell 58 = .ok (.iconst 1, 1) := dk_4 (dk_at dksX6_chooseCell_2 12 rfl rfl)
theorem dX6_chooseCell_59 : decode cX6_chooseCell 59 = .ok (.iadd, 1) := dk_96 (dk_at dksX6_chooseCell_2 13 rfl rfl)
theorem dX6_chooseCell_60 : decode cX6_chooseCell 60 = .ok (.invokevirtual 484, 3) := dk_182 1 228 (dk_at dksX6_chooseCell_2 14 rfl rfl)
theorem dX6_chooseCell_63 : decode cX6_chooseCell 63 = .ok (.ifCond .eq 7, 3) := dk_153 0 7 (dk_at dksX6_chooseCell_2 17 rfl rfl)
theorem dX6_chooseCell_66 : decode cX6_chooseCell 66 = .ok (.iload_n 3, 1) := dk_29 (dk_at dksX6_chooseCell_2 20 rfl rfl)
theorem dX6_chooseCell_67 : decode cX6_chooseCell 67 = .ok (.goto 4, 3) := dk_167 0 4 (dk_at dksX6_chooseCell_2 21 rfl rfl)
theorem dX6_chooseCell_70 : decode cX6_chooseCell 70 = .ok (.iconst (-1), 1) := dk_2 (dk_at dksX6_chooseCell_3 0 rfl rfl)
theorem dX6_chooseCell_71 : decode cX6_chooseCell 71 = .ok (.istore_n 2, 1) := dk_61 (dk_at dksX6_chooseCell_3 1 rfl rfl)
theorem dX6_chooseCell_72 : decode cX6_chooseCell 72 = .ok (.iinc 4 1, 3) := dk_132 4 1 (dk_at dksX6_chooseCell_3 2 rfl rfl)
theorem dX6_chooseCell_75 : decode cX6_chooseCell 75 = .ok (.goto (-53), 3) := dk_167 255 203 (dk_at dksX6_chooseCell_3 5 rfl rfl)
theorem dX6_chooseCell_78 : decode cX6_chooseCell 78 = .ok (.iinc 3 1, 3) := dk_132 3 1 (dk_at dksX6_chooseCell_3 8 rfl rfl)
theorem dX6_chooseCell_81 : decode cX6_chooseCell 81 = .ok (.goto (-77), 3) := dk_167 255 179 (dk_at dksX6_chooseCell_3 11 rfl rfl)
theorem dX6_chooseCell_84 : decode cX6_chooseCell 84 = .ok (.aload_n 0, 1) := dk_42 (dk_at dksX6_chooseCell_3 14 rfl rfl)
theorem dX6_chooseCell_85 : decode cX6_chooseCell 85 = .ok (.getfield 94, 3) := dk_180 0 94 (dk_at dksX6_chooseCell_3 15 rfl rfl)
theorem dX6_chooseCell_88 : decode cX6_chooseCell 88 = .ok (.iload_n 1, 1) := dk_27 (dk_at dksX6_chooseCell_3 18 rfl rfl)
theorem dX6_chooseCell_89 : decode cX6_chooseCell 89 = .ok (.iload_n 2, 1) := dk_28 (dk_at dksX6_chooseCell_3 19 rfl rfl)
theorem dX6_chooseCell_90 : decode cX6_chooseCell 90 = .ok (.iastore, 1) := dk_79 (dk_at dksX6_chooseCell_3 20 rfl rfl)
theorem dX6_chooseCell_91 : decode cX6_chooseCell 91 = .ok (.iconst 0, 1) := dk_3 (dk_at dksX6_chooseCell_3 21 rfl rfl)
theorem dX6_chooseCell_92 : decode cX6_chooseCell 92 = .ok (.istore_n 3, 1) := dk_62 (dk_at dksX6_chooseCell_3 22 rfl rfl)
theorem dX6_chooseCell_93 : decode cX6_chooseCell 93 = .ok (.iload_n 3, 1) := dk_29 (dk_at dksX6_chooseCell_3 23 rfl rfl)
theorem dX6_chooseCell_94 : decode cX6_chooseCell 94 = .ok (.ldc 69, 2) := dk_18 69 (dk_at dksX6_chooseCell_4 0 rfl rfl)
theorem dX6_chooseCell_96 : decode cX6_chooseCell 96 = .ok (.if_icmp .ge 100, 3) := dk_162 0 100 (dk_at dksX6_chooseCell_4 2 rfl rfl)
theorem dX6_chooseCell_99 : decode cX6_chooseCell 99 = .ok (.aload_n 0, 1) := dk_42 (dk_at dksX6_chooseCell_4 5 rfl rfl)
theorem dX6_chooseCell_100 : decode cX6_chooseCell 100 = .ok (.getfield 76, 3) := dk_180 0 76 (dk_at dksX6_chooseCell_4 6 rfl rfl)
theorem dX6_chooseCell_103 : decode cX6_chooseCell 103 = .ok (.iload_n 3, 1) := dk_29 (dk_at dksX6_chooseCell_4 9 rfl rfl)
theorem dX6_chooseCell_104 : decode cX6_chooseCell 104 = .ok (.iaload, 1) := dk_46 (dk_at dksX6_chooseCell_4 10 rfl rfl)
theorem dX6_chooseCell_105 : decode cX6_chooseCell 105 = .ok (.iload_n 1, 1) := dk_27 (dk_at dksX6_chooseCell_4 11 rfl rfl)
theorem dX6_chooseCell_106 : decode cX6_chooseCell 106 = .ok (.ishr, 1) := dk_122 (dk_at dksX6_chooseCell_4 12 rfl rfl)
theorem dX6_chooseCell_107 : decode cX6_chooseCell 107 = .ok (.iconst 1, 1) := dk_4 (dk_at dksX6_chooseCell_4 13 rfl rfl)
theorem dX6_chooseCell_108 : decode cX6_chooseCell 108 = .ok (.iand, 1) := dk_126 (dk_at dksX6_chooseCell_4 14 rfl rfl)
theorem dX6_chooseCell_109 : decode cX6_chooseCell 109 = .ok (.iconst 1, 1) := dk_4 (dk_at dksX6_chooseCell_4 15 rfl rfl)
theorem dX6_chooseCell_110 : decode cX6_chooseCell 110 = .ok (.if_icmp .ne 80, 3) := dk_160 0 80 (dk_at dksX6_chooseCell_4 16 rfl rfl)
theorem dX6_chooseCell_113 : decode cX6_chooseCell 113 = .ok (.aload_n 0, 1) := dk_42 (dk_at dksX6_chooseCell_4 19 rfl rfl)
theorem dX6_chooseCell_114 : decode cX6_chooseCell 114 = .ok (.iload_n 3, 1) := dk_29 (dk_at dksX6_chooseCell_4 20 rfl rfl)
theorem dX6_chooseCell_115 : decode cX6_chooseCell 115 = .ok (.iload_n 2, 1) := dk_28 (dk_at dksX6_chooseCell_4 21 rfl rfl)
theorem dX6_chooseCell_116 : decode cX6_chooseCell 116 = .ok (.aload_n 0, 1) := dk_42 (dk_at dksX6_chooseCell_4 22 rfl rfl)
theorem dX6_chooseCell_117 : decode cX6_chooseCell 117 = .ok (.getfield 13, 3) := dk_180 0 13 (dk_at dksX6_chooseCell_5 0 rfl rfl)
theorem dX6_chooseCell_120 : decode cX6_chooseCell 120 = .ok (.bipush 10, 2) := dk_16 10 (dk_at dksX6_chooseCell_5 3 rfl rfl)
theorem dX6_chooseCell_122 : decode cX6_chooseCell 122 = .ok (.iaload, 1) := dk_46 (dk_at dksX6_chooseCell_5 5 rfl rfl)
theorem dX6_chooseCell_123 : decode cX6_chooseCell 123 = .ok (.invokevirtual 468, 3) := dk_182 1 212 (dk_at dksX6_chooseCell_5 6 rfl rfl)
theorem dX6_chooseCell_126 : decode cX6_chooseCell 126 = .ok (.iconst 0, 1) := dk_3 (dk_at dksX6_chooseCell_5 9 rfl rfl)
theorem dX6_chooseCell_127 : decode cX6_chooseCell 127 = .ok (.istore 4, 2) := dk_54 4 (dk_at dksX6_chooseCell_5 10 rfl rfl)
theorem dX6_chooseCell_129 : decode cX6_chooseCell 129 = .ok (.iload 4, 2) := dk_21 4 (dk_at dksX6_chooseCell_5 12 rfl rfl)
theorem dX6_chooseCell_131 : decode cX6_chooseCell 131 = .ok (.aload_n 0, 1) := dk_42 (dk_at dksX6_chooseCell_5 14 rfl rfl)
theorem dX6_chooseCell_132 : decode cX6_chooseCell 132 = .ok (.getfield 455, 3) := dk_180 1 199 (dk_at dksX6_chooseCell_5 15 rfl rfl)
theorem dX6_chooseCell_135 : decode cX6_chooseCell 135 = .ok (.if_icmp .ge 55, 3) := dk_162 0 55 (dk_at dksX6_chooseCell_5 18 rfl rfl)
theorem dX6_chooseCell_138 : decode cX6_chooseCell 138 = .ok (.aload_n 0, 1) := dk_42 (dk_at dksX6_chooseCell_5 21 rfl rfl)
theorem dX6_chooseCell_139 : decode cX6_chooseCell 139 = .ok (.getfield 76, 3) := dk_180 0 76 (dk_at dksX6_chooseCell_6 0 rfl rfl)
theorem dX6_chooseCell_142 : decode cX6_chooseCell 142 = .ok (.aload_n 0, 1) := dk_42 (dk_at dksX6_chooseCell_6 3 rfl rfl)
theorem dX6_chooseCell_143 : decode cX6_chooseCell 143 = .ok (.getfield 85, 3) := dk_180 0 85 (dk_at dksX6_chooseCell_6 4 rfl rfl)
theorem dX6_chooseCell_146 : decode cX6_chooseCell 146 = .ok (.iload 4, 2) := dk_21 4 (dk_at dksX6_chooseCell_6 7 rfl rfl)
theorem dX6_chooseCell_148 : decode cX6_chooseCell 148 = .ok (.iaload, 1) := dk_46 (dk_at dksX6_chooseCell_6 9 rfl rfl)
theorem dX6_chooseCell_149 : decode cX6_chooseCell 149 = .ok (.dup2, 1) := dk_92 (dk_at dksX6_chooseCell_6 10 rfl rfl)
theorem dX6_chooseCell_150 : decode cX6_chooseCell 150 = .ok (.iaload, 1) := dk_46 (dk_at dksX6_chooseCell_6 11 rfl rfl)
theorem dX6_chooseCell_151 : decode cX6_chooseCell 151 = .ok (.aload_n 0, 1) := dk_42 (dk_at dksX6_chooseCell_6 12 rfl rfl)
theorem dX6_chooseCell_152 : decode cX6_chooseCell 152 = .ok (.getfield 73, 3) := dk_180 0 73 (dk_at dksX6_chooseCell_6 13 rfl rfl)
theorem dX6_chooseCell_155 : decode cX6_chooseCell 155 = .ok (.aload_n 0, 1) := dk_42 (dk_at dksX6_chooseCell_6 16 rfl rfl)
theorem dX6_chooseCell_156 : decode cX6_chooseCell 156 = .ok (.getfield 85, 3) := dk_180 0 85 (dk_at dksX6_chooseCell_6 17 rfl rfl)
theorem dX6_chooseCell_159 : decode cX6_chooseCell 159 = .ok (.iload 4, 2) := dk_21 4 (dk_at dksX6_chooseCell_6 20 rfl rfl)
theorem dX6_chooseCell_161 : decode cX6_chooseCell 161 = .ok (.iaload, 1) := dk_46 (dk_at dksX6_chooseCell_6 22 rfl rfl)
theorem dX6_chooseCell_162 : decode cX6_chooseCell 162 = .ok (.iaload, 1) := dk_46 (dk_at dksX6_chooseCell_6 23 rfl rfl)
theorem dX6_chooseCell_163 : decode cX6_chooseCell 163 = .ok (.iload_n 1, 1) := dk_27 (dk_at dksX6_chooseCell_7 0 rfl rfl)
theorem dX6_chooseCell_164 : decode cX6_chooseCell 164 = .ok (.iconst 1, 1) := dk_4 (dk_at dksX6_chooseCell_7 1 rfl rfl)
theorem dX6_chooseCell_165 : decode cX6_chooseCell 165 = .ok (.iadd, 1) := dk_96 (dk_at dksX6_chooseCell_7 2 rfl rfl)
theorem dX6_chooseCell_166 : decode cX6_chooseCell 166 = .ok (.ishr, 1) := dk_122 (dk_at dksX6_chooseCell_7 3 rfl rfl)
theorem dX6_chooseCell_167 : decode cX6_chooseCell 167 = .ok (.iconst 1, 1) := dk_4 (dk_at dksX6_chooseCell_7 4 rfl rfl)
theorem dX6_chooseCell_168 : decode cX6_chooseCell 168 = .ok (.iand, 1) := dk_126 (dk_at dksX6_chooseCell_7 5 rfl rfl)
theorem dX6_chooseCell_169 : decode cX6_chooseCell 169 = .ok (.iconst 1, 1) := dk_4 (dk_at dksX6_chooseCell_7 6 rfl rfl)
theorem dX6_chooseCell_170 : decode cX6_chooseCell 170 = .ok (.if_icmp .ne 11, 3) := dk_160 0 11 (dk_at dksX6_chooseCell_7 7 rfl rfl)
theorem dX6_chooseCell_173 : decode cX6_chooseCell 173 = .ok (.iconst 1, 1) := dk_4 (dk_at dksX6_chooseCell_7 10 rfl rfl)
theorem dX6_chooseCell_174 : decode cX6_chooseCell 174 = .ok (.iload_n 1, 1) := dk_27 (dk_at dksX6_chooseCell_7 11 rfl rfl)
theorem dX6_chooseCell_175 : decode cX6_chooseCell 175 = .ok (.iconst 1, 1) := dk_4 (dk_at dksX6_chooseCell_7 12 rfl rfl)
theorem dX6_chooseCell_176 : decode cX6_chooseCell 176 = .ok (.iadd, 1) := dk_96 (dk_at dksX6_chooseCell_7 13 rfl rfl)
theorem dX6_chooseCell_177 : decode cX6_chooseCell 177 = .ok (.ishl, 1) := dk_120 (dk_at dksX6_chooseCell_7 14 rfl rfl)
theorem dX6_chooseCell_178 : decode cX6_chooseCell 178 = .ok (.goto 4, 3) := dk_167 0 4 (dk_at dksX6_chooseCell_7 15 rfl rfl)
theorem dX6_chooseCell_181 : decode cX6_chooseCell 181 = .ok (.iconst 0, 1) := dk_3 (dk_at dksX6_chooseCell_7 18 rfl rfl)
theorem dX6_chooseCell_182 : decode cX6_chooseCell 182 = .ok (.ior, 1) := dk_128 (dk_at dksX6_chooseCell_7 19 rfl rfl)
theorem dX6_chooseCell_183 : decode cX6_chooseCell 183 = .ok (.iastore, 1) := dk_79 (dk_at dksX6_chooseCell_7 20 rfl rfl)
theorem dX6_chooseCell_184 : decode cX6_chooseCell 184 = .ok (.iinc 4 1, 3) := dk_132 4 1 (dk_at dksX6_chooseCell_7 21 rfl rfl)
theorem dX6_chooseCell_187 : decode cX6_chooseCell 187 = .ok (.goto (-58), 3) := dk_167 255 198 (dk_at dksX6_chooseCell_8 0 rfl rfl)
theorem dX6_chooseCell_190 : decode cX6_chooseCell 190 = .ok (.iinc 3 1, 3) := dk_132 3 1 (dk_at dksX6_chooseCell_8 3 rfl rfl)
theorem dX6_chooseCell_193 : decode cX6_chooseCell 193 = .ok (.goto (-100), 3) := dk_167 255 156 (dk_at dksX6_chooseCell_8 6 rfl rfl)
theorem dX6_chooseCell_196 : decode cX6_chooseCell 196 = .ok (.return_, 1) := dk_177 (dk_at dksX6_chooseCell_8 9 rfl rfl)
abbrev cX6_plan : ByteArray := prog_28_method_83_code
def yX6_plan : MethodName := ⟨RX6, "plan", "(II)I"⟩
def dkwX6_plan_2 : List UInt8 := [42, 180, 0, 94, 27, 46, 167, 0, 16, 42, 42, 180, 0, 97, 27, 4, 96, 46, 28, 182, 1, 202, 172]
abbrev dktX6_plan_2 : List UInt8 := dkwX6_plan_2 ++ []
def dkwX6_plan_1 : List UInt8 := [153, 0, 17, 28, 2, 159, 0, 14, 42, 28, 133, 182, 0, 133, 154, 0, 5, 2, 172, 28, 2, 160, 0, 12]
abbrev dktX6_plan_1 : List UInt8 := dkwX6_plan_1 ++ dktX6_plan_2
def dkwX6_plan_0 : List UInt8 := [42, 3, 181, 0, 112, 42, 182, 1, 238, 27, 133, 9, 42, 180, 0, 91, 133, 10, 101, 184, 0, 118]
abbrev dktX6_plan_0 : List UInt8 := dkwX6_plan_0 ++ dktX6_plan_1
theorem dksX6_plan_0 : cX6_plan.data.toList.drop 0 = dktX6_plan_0 := by decide +kernel
theorem dksX6_plan_1 : cX6_plan.data.toList.drop 22 = dktX6_plan_1 := dk_seg dksX6_plan_0 22 rfl rfl
theorem dksX6_plan_2 : cX6_plan.data.toList.drop 46 = dktX6_plan_2 := dk_seg dksX6_plan_1 24 rfl rfl
theorem dX6_plan_0 : decode cX6_plan 0 = .ok (.aload_n 0, 1) := dk_42 (dk_at dksX6_plan_0 0 rfl rfl)
theorem dX6_plan_1 : decode cX6_plan 1 = .ok (.iconst 0, 1) := dk_3 (dk_at dksX6_plan_0 1 rfl rfl)
theorem dX6_plan_2 : decode cX6_plan 2 = .ok (.putfield 112, 3) := dk_181 0 112 (dk_at dksX6_plan_0 2 rfl rfl)
theorem dX6_plan_5 : decode cX6_plan 5 = .ok (.aload_n 0, 1) := dk_42 (dk_at dksX6_plan_0 5 rfl rfl)
theorem dX6_plan_6 : decode cX6_plan 6 = .ok (.invokevirtual 494, 3) := dk_182 1 238 (dk_at dksX6_plan_0 6 rfl rfl)
theorem dX6_plan_9 : decode cX6_plan 9 = .ok (.iload_n 1, 1) := dk_27 (dk_at dksX6_plan_0 9 rfl rfl)
theorem dX6_plan_10 : decode cX6_plan 10 = .ok (.i2l, 1) := dk_133 (dk_at dksX6_plan_0 10 rfl rfl)
theorem dX6_plan_11 : decode cX6_plan 11 = .ok (.lconst 0, 1) := dk_9 (dk_at dksX6_plan_0 11 rfl rfl)
theorem dX6_plan_12 : decode cX6_plan 12 = .ok (.aload_n 0, 1) := dk_42 (dk_at dksX6_plan_0 12 rfl rfl)
theorem dX6_plan_13 : decode cX6_plan 13 = .ok (.getfield 91, 3) := dk_180 0 91 (dk_at dksX6_plan_0 13 rfl rfl)
theorem dX6_plan_16 : decode cX6_plan 16 = .ok (.i2l, 1) := dk_133 (dk_at dksX6_plan_0 16 rfl rfl)
theorem dX6_plan_17 : decode cX6_plan 17 = .ok (.lconst 1, 1) := dk_10 (dk_at dksX6_plan_0 17 rfl rfl)
theorem dX6_plan_18 : decode cX6_plan 18 = .ok (.lsub, 1) := dk_101 (dk_at dksX6_plan_0 18 rfl rfl)
theorem dX6_plan_19 : decode cX6_plan 19 = .ok (.invokestatic 118, 3) := dk_184 0 118 (dk_at dksX6_plan_0 19 rfl rfl)
theorem dX6_plan_22 : decode cX6_plan 22 = .ok (.ifCond .eq 17, 3) := dk_153 0 17 (dk_at dksX6_plan_1 0 rfl rfl)
theorem dX6_plan_25 : decode cX6_plan 25 = .ok (.iload_n 2, 1) := dk_28 (dk_at dksX6_plan_1 3 rfl rfl)
theorem dX6_plan_26 : decode cX6_plan 26 = .ok (.iconst (-1), 1) := dk_2 (dk_at dksX6_plan_1 4 rfl rfl)
theorem dX6_plan_27 : decode cX6_plan 27 = .ok (.if_icmp .eq 14, 3) := dk_159 0 14 (dk_at dksX6_plan_1 5 rfl rfl)
theorem dX6_plan_30 : decode cX6_plan 30 = .ok (.aload_n 0, 1) := dk_42 (dk_at dksX6_plan_1 8 rfl rfl)
theorem dX6_plan_31 : decode cX6_plan 31 = .ok (.iload_n 2, 1) := dk_28 (dk_at dksX6_plan_1 9 rfl rfl)
theorem dX6_plan_32 : decode cX6_plan 32 = .ok (.i2l, 1) := dk_133 (dk_at dksX6_plan_1 10 rfl rfl)
theorem dX6_plan_33 : decode cX6_plan 33 = .ok (.invokevirtual 133, 3) := dk_182 0 133 (dk_at dksX6_plan_1 11 rfl rfl)
theorem dX6_plan_36 : decode cX6_plan 36 = .ok (.ifCond .ne 5, 3) := dk_154 0 5 (dk_at dksX6_plan_1 14 rfl rfl)
theorem dX6_plan_39 : decode cX6_plan 39 = .ok (.iconst (-1), 1) := dk_2 (dk_at dksX6_plan_1 17 rfl rfl)
theorem dX6_plan_40 : decode cX6_plan 40 = .ok (.ireturn, 1) := dk_172 (dk_at dksX6_plan_1 18 rfl rfl)
theorem dX6_plan_41 : decode cX6_plan 41 = .ok (.iload_n 2, 1) := dk_28 (dk_at dksX6_plan_1 19 rfl rfl)
theorem dX6_plan_42 : decode cX6_plan 42 = .ok (.iconst (-1), 1) := dk_2 (dk_at dksX6_plan_1 20 rfl rfl)
theorem dX6_plan_43 : decode cX6_plan 43 = .ok (.if_icmp .ne 12, 3) := dk_160 0 12 (dk_at dksX6_plan_1 21 rfl rfl)
theorem dX6_plan_46 : decode cX6_plan 46 = .ok (.aload_n 0, 1) := dk_42 (dk_at dksX6_plan_2 0 rfl rfl)
theorem dX6_plan_47 : decode cX6_plan 47 = .ok (.getfield 94, 3) := dk_180 0 94 (dk_at dksX6_plan_2 1 rfl rfl)
theorem dX6_plan_50 : decode cX6_plan 50 = .ok (.iload_n 1, 1) := dk_27 (dk_at dksX6_plan_2 4 rfl rfl)
theorem dX6_plan_51 : decode cX6_plan 51 = .ok (.iaload, 1) := dk_46 (dk_at dksX6_plan_2 5 rfl rfl)
theorem dX6_plan_52 : decode cX6_plan 52 = .ok (.goto 16, 3) := dk_167 0 16 (dk_at dksX6_plan_2 6 rfl rfl)
theorem dX6_plan_55 : decode cX6_plan 55 = .ok (.aload_n 0, 1) := dk_42 (dk_at dksX6_plan_2 9 rfl rfl)
theorem dX6_plan_56 : decode cX6_plan 56 = .ok (.aload_n 0, 1) := dk_42 (dk_at dksX6_plan_2 10 rfl rfl)
theorem dX6_plan_57 : decode cX6_plan 57 = .ok (.getfield 97, 3) := dk_180 0 97 (dk_at dksX6_plan_2 11 rfl rfl)
theorem dX6_plan_60 : decode cX6_plan 60 = .ok (.iload_n 1, 1) := dk_27 (dk_at dksX6_plan_2 14 rfl rfl)
theorem dX6_plan_61 : decode cX6_plan 61 = .ok (.iconst 1, 1) := dk_4 (dk_at dksX6_plan_2 15 rfl rfl)
theorem dX6_plan_62 : decode cX6_plan 62 = .ok (.iadd, 1) := dk_96 (dk_at dksX6_plan_2 16 rfl rfl)
theorem dX6_plan_63 : decode cX6_plan 63 = .ok (.iaload, 1) := dk_46 (dk_at dksX6_plan_2 17 rfl rfl)
theorem dX6_plan_64 : decode cX6_plan 64 = .ok (.iload_n 2, 1) := dk_28 (dk_at dksX6_plan_2 18 rfl rfl)
theorem dX6_plan_65 : decode cX6_plan 65 = .ok (.invokevirtual 458, 3) := dk_182 1 202 (dk_at dksX6_plan_2 19 rfl rfl)
theorem dX6_plan_68 : decode cX6_plan 68 = .ok (.ireturn, 1) := dk_172 (dk_at dksX6_plan_2 22 rfl rfl)
abbrev cX6_even : ByteArray := prog_28_method_84_code
def yX6_even : MethodName := ⟨RX6, "even", "()I"⟩
def dkwX6_even_6 : List UInt8 := [182, 1, 224, 2, 159, 0, 5, 29, 172, 132, 3, 1, 167, 255, 161, 2, 172]
abbrev dktX6_even_6 : List UInt8 := dkwX6_even_6 ++ []
def dkwX6_even_5 : List UInt8 := [20, 1, 216, 184, 0, 118, 153, 0, 25, 42, 21, 4, 42, 180, 0, 13, 16, 10, 46, 27, 16, 6]
abbrev dktX6_even_5 : List UInt8 := dkwX6_even_5 ++ dktX6_even_6
def dkwX6_even_4 : List UInt8 := [132, 5, 1, 167, 255, 226, 29, 42, 180, 0, 13, 3, 46, 104, 28, 100, 54, 5, 21, 5, 133, 9]
abbrev dktX6_even_4 : List UInt8 := dkwX6_even_4 ++ dktX6_even_5
def dkwX6_even_3 : List UInt8 := [180, 0, 13, 3, 46, 162, 0, 25, 21, 4, 42, 180, 0, 66, 21, 5, 46, 29, 4, 100, 104, 96, 54, 4]
abbrev dktX6_even_3 : List UInt8 := dkwX6_even_3 ++ dktX6_even_4
def dkwX6_even_2 : List UInt8 := [132, 3, 1, 167, 255, 231, 4, 62, 29, 16, 9, 163, 0, 95, 3, 54, 4, 3, 54, 5, 21, 5, 42]
abbrev dktX6_even_2 : List UInt8 := dkwX6_even_2 ++ dktX6_even_3
def dkwX6_even_1 : List UInt8 := [62, 29, 42, 180, 0, 13, 3, 46, 162, 0, 21, 28, 42, 180, 0, 13, 16, 30, 29, 96, 46, 96, 61]
abbrev dktX6_even_1 : List UInt8 := dkwX6_even_1 ++ dktX6_even_2
def dkwX6_even_0 : List UInt8 := [42, 3, 181, 0, 112, 42, 182, 1, 218, 42, 2, 181, 0, 88, 42, 16, 30, 182, 1, 221, 60, 3, 61, 3]
abbrev dktX6_even_0 : List UInt8 := dkwX6_even_0 ++ dktX6_even_1
theorem dksX6_even_0 : cX6_even.data.toList.drop 0 = dktX6_even_0 := by decide +kernel
theorem dksX6_even_1 : cX6_even.data.toList.drop 24 = dktX6_even_1 := dk_seg dksX6_even_0 24 rfl rfl
theorem dksX6_even_2 : cX6_even.data.toList.drop 47 = dktX6_even_2 := dk_seg dksX6_even_1 23 rfl rfl
theorem dksX6_even_3 : cX6_even.data.toList.drop 70 = dktX6_even_3 := dk_seg dksX6_even_2 23 rfl rfl
theorem dksX6_even_4 : cX6_even.data.toList.drop 94 = dktX6_even_4 := dk_seg dksX6_even_3 24 rfl rfl
theorem dksX6_even_5 : cX6_even.data.toList.drop 116 = dktX6_even_5 := dk_seg dksX6_even_4 22 rfl rfl
theorem dksX6_even_6 : cX6_even.data.toList.drop 138 = dktX6_even_6 := dk_seg dksX6_even_5 22 rfl rfl
theorem dX6_even_0 : decode cX6_even 0 = .ok (.aload_n 0, 1) := dk_42 (dk_at dksX6_even_0 0 rfl rfl)
theorem dX6_even_1 : decode cX6_even 1 = .ok (.iconst 0, 1) := dk_3 (dk_at dksX6_even_0 1 rfl rfl)
theorem dX6_even_2 : decode cX6_even 2 = .ok (.putfield 112, 3) := dk_181 0 112 (dk_at dksX6_even_0 2 rfl rfl)
theorem dX6_even_5 : decode cX6_even 5 = .ok (.aload_n 0, 1) := dk_42 (dk_at dksX6_even_0 5 rfl rfl)
theorem dX6_even_6 : decode cX6_even 6 = .ok (.invokevirtual 474, 3) := dk_182 1 218 (dk_at dksX6_even_0 6 rfl rfl)
theorem dX6_even_9 : decode cX6_even 9 = .ok (.aload_n 0, 1) := dk_42 (dk_at dksX6_even_0 9 rfl rfl)
theorem dX6_even_10 : decode cX6_even 10 = .ok (.iconst (-1), 1) := dk_2 (dk_at dksX6_even_0 10 rfl rfl)
theorem dX6_even_11 : decode cX6_even 11 = .ok (.putfield 88, 3) := dk_181 0 88 (dk_at dksX6_even_0 11 rfl rfl)
theorem dX6_even_14 : decode cX6_even 14 = .ok (.aload_n 0, 1) := dk_42 (dk_at dksX6_even_0 14 rfl rfl)
theorem dX6_even_15 : decode cX6_even 15 = .ok (.bipush 30, 2) := dk_16 30 (dk_at dksX6_even_0 15 rfl rfl)
theorem dX6_even_17 : decode cX6_even 17 = .ok (.invokevirtual 477, 3) := dk_182 1 221 (dk_at dksX6_even_0 17 rfl rfl)
theorem dX6_even_20 : decode cX6_even 20 = .ok (.istore_n 1, 1) := dk_60 (dk_at dksX6_even_0 20 rfl rfl)
theorem dX6_even_21 : decode cX6_even 21 = .ok (.iconst 0, 1) := dk_3 (dk_at dksX6_even_0 21 rfl rfl)
theorem dX6_even_22 : decode cX6_even 22 = .ok (.istore_n 2, 1) := dk_61 (dk_at dksX6_even_0 22 rfl rfl)
theorem dX6_even_23 : decode cX6_even 23 = .ok (.iconst 0, 1) := dk_3 (dk_at dksX6_even_0 23 rfl rfl)
theorem dX6_even_24 : decode cX6_even 24 = .ok (.istore_n 3, 1) := dk_62 (dk_at dksX6_even_1 0 rfl rfl)
theorem dX6_even_25 : decode cX6_even 25 = .ok (.iload_n 3, 1) := dk_29 (dk_at dksX6_even_1 1 rfl rfl)
theorem dX6_even_26 : decode cX6_even 26 = .ok (.aload_n 0, 1) := dk_42 (dk_at dksX6_even_1 2 rfl rfl)
theorem dX6_even_27 : decode cX6_even 27 = .ok (.getfield 13, 3) := dk_180 0 13 (dk_at dksX6_even_1 3 rfl rfl)
theorem dX6_even_30 : decode cX6_even 30 = .ok (.iconst 0, 1) := dk_3 (dk_at dksX6_even_1 6 rfl rfl)
theorem dX6_even_31 : decode cX6_even 31 = .ok (.iaload, 1) := dk_46 (dk_at dksX6_even_1 7 rfl rfl)
theorem dX6_even_32 : decode cX6_even 32 = .ok (.if_icmp .ge 21, 3) := dk_162 0 21 (dk_at dksX6_even_1 8 rfl rfl)
theorem dX6_even_35 : decode cX6_even 35 = .ok (.iload_n 2, 1) := dk_28 (dk_at dksX6_even_1 11 rfl rfl)
theorem dX6_even_36 : decode cX6_even 36 = .ok (.aload_n 0, 1) := dk_42 (dk_at dksX6_even_1 12 rfl rfl)
theorem dX6_even_37 : decode cX6_even 37 = .ok (.getfield 13, 3) := dk_180 0 13 (dk_at dksX6_even_1 13 rfl rfl)
theorem dX6_even_40 : decode cX6_even 40 = .ok (.bipush 30, 2) := dk_16 30 (dk_at dksX6_even_1 16 rfl rfl)
theorem dX6_even_42 : decode cX6_even 42 = .ok (.iload_n 3, 1) := dk_29 (dk_at dksX6_even_1 18 rfl rfl)
theorem dX6_even_43 : decode cX6_even 43 = .ok (.iadd, 1) := dk_96 (dk_at dksX6_even_1 19 rfl rfl)
theorem dX6_even_44 : decode cX6_even 44 = .ok (.iaload, 1) := dk_46 (dk_at dksX6_even_1 20 rfl rfl)
theorem dX6_even_45 : decode cX6_even 45 = .ok (.iadd, 1) := dk_96 (dk_at dksX6_even_1 21 rfl rfl)
theorem dX6_even_46 : decode cX6_even 46 = .ok (.istore_n 2, 1) := dk_61 (dk_at dksX6_even_1 22 rfl rfl)
theorem dX6_even_47 : decode cX6_even 47 = .ok (.iinc 3 1, 3) := dk_132 3 1 (dk_at dksX6_even_2 0 rfl rfl)
theorem dX6_even_50 : decode cX6_even 50 = .ok (.goto (-25), 3) := dk_167 255 231 (dk_at dksX6_even_2 3 rfl rfl)
theorem dX6_even_53 : decode cX6_even 53 = .ok (.iconst 1, 1) := dk_4 (dk_at dksX6_even_2 6 rfl rfl)
theorem dX6_even_54 : decode cX6_even 54 = .ok (.istore_n 3, 1) := dk_62 (dk_at dksX6_even_2 7 rfl rfl)
theorem dX6_even_55 : decode cX6_even 55 = .ok (.iload_n 3, 1) := dk_29 (dk_at dksX6_even_2 8 rfl rfl)
theorem dX6_even_56 : decode cX6_even 56 = .ok (.bipush 9, 2) := dk_16 9 (dk_at dksX6_even_2 9 rfl rfl)
theorem dX6_even_58 : decode cX6_even 58 = .ok (.if_icmp .gt 95, 3) := dk_163 0 95 (dk_at dksX6_even_2 11 rfl rfl)
theorem dX6_even_61 : decode cX6_even 61 = .ok (.iconst 0, 1) := dk_3 (dk_at dksX6_even_2 14 rfl rfl)
theorem dX6_even_62 : decode cX6_even 62 = .ok (.istore 4, 2) := dk_54 4 (dk_at dksX6_even_2 15 rfl rfl)
theorem dX6_even_64 : decode cX6_even 64 = .ok (.iconst 0, 1) := dk_3 (dk_at dksX6_even_2 17 rfl rfl)
theorem dX6_even_65 : decode cX6_even 65 = .ok (.istore 5, 2) := dk_54 5 (dk_at dksX6_even_2 18 rfl rfl)
theorem dX6_even_67 : decode cX6_even 67 = .ok (.iload 5, 2) := dk_21 5 (dk_at dksX6_even_2 20 rfl rfl)
theorem dX6_even_69 : decode cX6_even 69 = .ok (.aload_n 0, 1) := dk_42 (dk_at dksX6_even_2 22 rfl rfl)
theorem dX6_even_70 : decode cX6_even 70 = .ok (.getfield 13, 3) := dk_180 0 13 (dk_at dksX6_even_3 0 rfl rfl)
theorem dX6_even_73 : decode cX6_even 73 = .ok (.iconst 0, 1) := dk_3 (dk_at dksX6_even_3 3 rfl rfl)
theorem dX6_even_74 : decode cX6_even 74 = .ok (.iaload, 1) := dk_46 (dk_at dksX6_even_3 4 rfl rfl)
theorem dX6_even_75 : decode cX6_even 75 = .ok (.if_icmp .ge 25, 3) := dk_162 0 25 (dk_at dksX6_even_3 5 rfl rfl)
theorem dX6_even_78 : decode cX6_even 78 = .ok (.iload 4, 2) := dk_21 4 (dk_at dksX6_even_3 8 rfl rfl)
theorem dX6_even_80 : decode cX6_even 80 = .ok (.aload_n 0, 1) := dk_42 (dk_at dksX6_even_3 10 rfl rfl)
theorem dX6_even_81 : decode cX6_even 81 = .ok (.getfield 66, 3) := dk_180 0 66 (dk_at dksX6_even_3 11 rfl rfl)
theorem dX6_even_84 : decode cX6_even 84 = .ok (.iload 5, 2) := dk_21 5 (dk_at dksX6_even_3 14 rfl rfl)
theorem dX6_even_86 : decode cX6_even 86 = .ok (.iaload, 1) := dk_46 (dk_at dksX6_even_3 16 rfl rfl)
theorem dX6_even_87 : decode cX6_even 87 = .ok (.iload_n 3, 1) := dk_29 (dk_at dksX6_even_3 17 rfl rfl)
theorem dX6_even_88 : decode cX6_even 88 = .ok (.iconst 1, 1) := dk_4 (dk_at dksX6_even_3 18 rfl rfl)
theorem dX6_even_89 : decode cX6_even 89 = .ok (.isub, 1) := dk_100 (dk_at dksX6_even_3 19 rfl rfl)
theorem dX6_even_90 : decode cX6_even 90 = .ok (.imul, 1) := dk_104 (dk_at dksX6_even_3 20 rfl rfl)
theorem dX6_even_91 : decode cX6_even 91 = .ok (.iadd, 1) := dk_96 (dk_at dksX6_even_3 21 rfl rfl)
theorem dX6_even_92 : decode cX6_even 92 = .ok (.istore 4, 2) := dk_54 4 (dk_at dksX6_even_3 22 rfl rfl)
theorem dX6_even_94 : decode cX6_even 94 = .ok (.iinc 5 1, 3) := dk_132 5 1 (dk_at dksX6_even_4 0 rfl rfl)
theorem dX6_even_97 : decode cX6_even 97 = .ok (.goto (-30), 3) := dk_167 255 226 (dk_at dksX6_even_4 3 rfl rfl)
theorem dX6_even_100 : decode cX6_even 100 = .ok (.iload_n 3, 1) := dk_29 (dk_at dksX6_even_4 6 rfl rfl)
theorem dX6_even_101 : decode cX6_even 101 = .ok (.aload_n 0, 1) := dk_42 (dk_at dksX6_even_4 7 rfl rfl)
theorem dX6_even_102 : decode cX6_even 102 = .ok (.getfield 13, 3) := dk_180 0 13 (dk_at dksX6_even_4 8 rfl rfl)
theorem dX6_even_105 : decode cX6_even 105 = .ok (.iconst 0, 1) := dk_3 (dk_at dksX6_even_4 11 rfl rfl)
theorem dX6_even_106 : decode cX6_even 106 = .ok (.iaload, 1) := dk_46 (dk_at dksX6_even_4 12 rfl rfl)
theorem dX6_even_107 : decode cX6_even 107 = .ok (.imul, 1) := dk_104 (dk_at dksX6_even_4 13 rfl rfl)
theorem dX6_even_108 : decode cX6_even 108 = .ok (.iload_n 2, 1) := dk_28 (dk_at dksX6_even_4 14 rfl rfl)
theorem dX6_even_109 : decode cX6_even 109 = .ok (.isub, 1) := dk_100 (dk_at dksX6_even_4 15 rfl rfl)
theorem dX6_even_110 : decode cX6_even 110 = .ok (.istore 5, 2) := dk_54 5 (dk_at dksX6_even_4 16 rfl rfl)
theorem dX6_even_112 : decode cX6_even 112 = .ok (.iload 5, 2) := dk_21 5 (dk_at dksX6_even_4 18 rfl rfl)
theorem dX6_even_114 : decode cX6_even 114 = .ok (.i2l, 1) := dk_133 (dk_at dksX6_even_4 20 rfl rfl)
theorem dX6_even_115 : decode cX6_even 115 = .ok (.lconst 0, 1) := dk_9 (dk_at dksX6_even_4 21 rfl rfl)
theorem dX6_even_116 : decode cX6_even 116 = .ok (.ldc2_w 472, 3) := dk_20 1 216 (dk_at dksX6_even_5 0 rfl rfl)
theorem dX6_even_119 : decode cX6_even 119 = .ok (.invokestatic 118, 3) := dk_184 0 118 (dk_at dksX6_even_5 3 rfl rfl)
theorem dX6_even_122 : decode cX6_even 122 = .ok (.ifCond .eq 25, 3) := dk_153 0 25 (dk_at dksX6_even_5 6 rfl rfl)
theorem dX6_even_125 : decode cX6_even 125 = .ok (.aload_n 0, 1) := dk_42 (dk_at dksX6_even_5 9 rfl rfl)
theorem dX6_even_126 : decode cX6_even 126 = .ok (.iload 4, 2) := dk_21 4 (dk_at dksX6_even_5 10 rfl rfl)
theorem dX6_even_128 : decode cX6_even 128 = .ok (.aload_n 0, 1) := dk_42 (dk_at dksX6_even_5 12 rfl rfl)
theorem dX6_even_129 : decode cX6_even 129 = .ok (.getfield 13, 3) := dk_180 0 13 (dk_at dksX6_even_5 13 rfl rfl)
theorem dX6_even_132 : decode cX6_even 132 = .ok (.bipush 10, 2) := dk_16 10 (dk_at dksX6_even_5 16 rfl rfl)
theorem dX6_even_134 : decode cX6_even 134 = .ok (.iaload, 1) := dk_46 (dk_at dksX6_even_5 18 rfl rfl)
theorem dX6_even_135 : decode cX6_even 135 = .ok (.iload_n 1, 1) := dk_27 (dk_at dksX6_even_5 19 rfl rfl)
theorem dX6_even_136 : decode cX6_even 136 = .ok (.bipush 6, 2) := dk_16 6 (dk_at dksX6_even_5 20 rfl rfl)
theorem dX6_even_138 : decode cX6_even 138 = .ok (.invokevirtual 480, 3) := dk_182 1 224 (dk_at dksX6_even_6 0 rfl rfl)
theorem dX6_even_141 : decode cX6_even 141 = .ok (.iconst (-1), 1) := dk_2 (dk_at dksX6_even_6 3 rfl rfl)
theorem dX6_even_142 : decode cX6_even 142 = .ok (.if_icmp .eq 5, 3) := dk_159 0 5 (dk_at dksX6_even_6 4 rfl rfl)
theorem dX6_even_145 : decode cX6_even 145 = .ok (.iload_n 3, 1) := dk_29 (dk_at dksX6_even_6 7 rfl rfl)
theorem dX6_even_146 : decode cX6_even 146 = .ok (.ireturn, 1) := dk_172 (dk_at dksX6_even_6 8 rfl rfl)
theorem dX6_even_147 : decode cX6_even 147 = .ok (.iinc 3 1, 3) := dk_132 3 1 (dk_at dksX6_even_6 9 rfl rfl)
theorem dX6_even_150 : decode cX6_even 150 = .ok (.goto (-95), 3) := dk_167 255 161 (dk_at dksX6_even_6 12 rfl rfl)
theorem dX6_even_153 : decode cX6_even 153 = .ok (.iconst (-1), 1) := dk_2 (dk_at dksX6_even_6 15 rfl rfl)
theorem dX6_even_154 : decode cX6_even 154 = .ok (.ireturn, 1) := dk_172 (dk_at dksX6_even_6 16 rfl rfl)
abbrev cX6_striker : ByteArray := prog_28_method_85_code
def yX6_striker : MethodName := ⟨RX6, "striker", "()I"⟩
def dkwX6_striker_2 : List UInt8 := [182, 1, 224, 60, 27, 2, 160, 0, 7, 2, 167, 0, 9, 42, 180, 0, 91, 27, 100, 172]
abbrev dktX6_striker_2 : List UInt8 := dkwX6_striker_2 ++ []
def dkwX6_striker_1 : List UInt8 := [42, 42, 16, 20, 182, 1, 221, 42, 180, 0, 13, 16, 10, 46, 4, 96, 42, 16, 30, 182, 1, 221, 16, 6]
abbrev dktX6_striker_1 : List UInt8 := dkwX6_striker_1 ++ dktX6_striker_2
def dkwX6_striker_0 : List UInt8 := [42, 3, 181, 0, 112, 42, 182, 1, 238, 42, 180, 0, 91, 2, 160, 0, 5, 2, 172, 42, 2, 181, 0, 88]
abbrev dktX6_striker_0 : List UInt8 := dkwX6_striker_0 ++ dktX6_striker_1
theorem dksX6_striker_0 : cX6_striker.data.toList.drop 0 = dktX6_striker_0 := by decide +kernel
theorem dksX6_striker_1 : cX6_striker.data.toList.drop 24 = dktX6_striker_1 := dk_seg dksX6_striker_0 24 rfl rfl
theorem dksX6_striker_2 : cX6_striker.data.toList.drop 48 = dktX6_striker_2 := dk_seg dksX6_striker_1 24 rfl rfl
theorem dX6_striker_0 : decode cX6_striker 0 = .ok (.aload_n 0, 1) := dk_42 (dk_at dksX6_striker_0 0 rfl rfl)
theorem dX6_striker_1 : decode cX6_striker 1 = .ok (.iconst 0, 1) := dk_3 (dk_at dksX6_striker_0 1 rfl rfl)
theorem dX6_striker_2 : decode cX6_striker 2 = .ok (.putfield 112, 3) := dk_181 0 112 (dk_at dksX6_striker_0 2 rfl rfl)
theorem dX6_striker_5 : decode cX6_striker 5 = .ok (.aload_n 0, 1) := dk_42 (dk_at dksX6_striker_0 5 rfl rfl)
theorem dX6_striker_6 : decode cX6_striker 6 = .ok (.invokevirtual 494, 3) := dk_182 1 238 (dk_at dksX6_striker_0 6 rfl rfl)
theorem dX6_striker_9 : decode cX6_striker 9 = .ok (.aload_n 0, 1) := dk_42 (dk_at dksX6_striker_0 9 rfl rfl)
theorem dX6_striker_10 : decode cX6_striker 10 = .ok (.getfield 91, 3) := dk_180 0 91 (dk_at dksX6_striker_0 10 rfl rfl)
theorem dX6_striker_13 : decode cX6_striker 13 = .ok (.iconst (-1), 1) := dk_2 (dk_at dksX6_striker_0 13 rfl rfl)
theorem dX6_striker_14 : decode cX6_striker 14 = .ok (.if_icmp .ne 5, 3) := dk_160 0 5 (dk_at dksX6_striker_0 14 rfl rfl)
theorem dX6_striker_17 : decode cX6_striker 17 = .ok (.iconst (-1), 1) := dk_2 (dk_at dksX6_striker_0 17 rfl rfl)
theorem dX6_striker_18 : decode cX6_striker 18 = .ok (.ireturn, 1) := dk_172 (dk_at dksX6_striker_0 18 rfl rfl)
theorem dX6_striker_19 : decode cX6_striker 19 = .ok (.aload_n 0, 1) := dk_42 (dk_at dksX6_striker_0 19 rfl rfl)
theorem dX6_striker_20 : decode cX6_striker 20 = .ok (.iconst (-1), 1) := dk_2 (dk_at dksX6_striker_0 20 rfl rfl)
theorem dX6_striker_21 : decode cX6_striker 21 = .ok (.putfield 88, 3) := dk_181 0 88 (dk_at dksX6_striker_0 21 rfl rfl)
theorem dX6_striker_24 : decode cX6_striker 24 = .ok (.aload_n 0, 1) := dk_42 (dk_at dksX6_striker_1 0 rfl rfl)
theorem dX6_striker_25 : decode cX6_striker 25 = .ok (.aload_n 0, 1) := dk_42 (dk_at dksX6_striker_1 1 rfl rfl)
theorem dX6_striker_26 : decode cX6_striker 26 = .ok (.bipush 20, 2) := dk_16 20 (dk_at dksX6_striker_1 2 rfl rfl)
theorem dX6_striker_28 : decode cX6_striker 28 = .ok (.invokevirtual 477, 3) := dk_182 1 221 (dk_at dksX6_striker_1 4 rfl rfl)
theorem dX6_striker_31 : decode cX6_striker 31 = .ok (.aload_n 0, 1) := dk_42 (dk_at dksX6_striker_1 7 rfl rfl)
theorem dX6_striker_32 : decode cX6_striker 32 = .ok (.getfield 13, 3) := dk_180 0 13 (dk_at dksX6_striker_1 8 rfl rfl)
theorem dX6_striker_35 : decode cX6_striker 35 = .ok (.bipush 10, 2) := dk_16 10 (dk_at dksX6_striker_1 11 rfl rfl)
theorem dX6_striker_37 : decode cX6_striker 37 = .ok (.iaload, 1) := dk_46 (dk_at dksX6_striker_1 13 rfl rfl)
theorem dX6_striker_38 : decode cX6_striker 38 = .ok (.iconst 1, 1) := dk_4 (dk_at dksX6_striker_1 14 rfl rfl)
theorem dX6_striker_39 : decode cX6_striker 39 = .ok (.iadd, 1) := dk_96 (dk_at dksX6_striker_1 15 rfl rfl)
theorem dX6_striker_40 : decode cX6_striker 40 = .ok (.aload_n 0, 1) := dk_42 (dk_at dksX6_striker_1 16 rfl rfl)
theorem dX6_striker_41 : decode cX6_striker 41 = .ok (.bipush 30, 2) := dk_16 30 (dk_at dksX6_striker_1 17 rfl rfl)
theorem dX6_striker_43 : decode cX6_striker 43 = .ok (.invokevirtual 477, 3) := dk_182 1 221 (dk_at dksX6_striker_1 19 rfl rfl)
theorem dX6_striker_46 : decode cX6_striker 46 = .ok (.bipush 6, 2) := dk_16 6 (dk_at dksX6_striker_1 22 rfl rfl)
theorem dX6_striker_48 : decode cX6_striker 48 = .ok (.invokevirtual 480, 3) := dk_182 1 224 (dk_at dksX6_striker_2 0 rfl rfl)
theorem dX6_striker_51 : decode cX6_striker 51 = .ok (.istore_n 1, 1) := dk_60 (dk_at dksX6_striker_2 3 rfl rfl)
theorem dX6_striker_52 : decode cX6_striker 52 = .ok (.iload_n 1, 1) := dk_27 (dk_at dksX6_striker_2 4 rfl rfl)
theorem dX6_striker_53 : decode cX6_striker 53 = .ok (.iconst (-1), 1) := dk_2 (dk_at dksX6_striker_2 5 rfl rfl)
theorem dX6_striker_54 : decode cX6_striker 54 = .ok (.if_icmp .ne 7, 3) := dk_160 0 7 (dk_at dksX6_striker_2 6 rfl rfl)
theorem dX6_striker_57 : decode cX6_striker 57 = .ok (.iconst (-1), 1) := dk_2 (dk_at dksX6_striker_2 9 rfl rfl)
theorem dX6_striker_58 : decode cX6_striker 58 = .ok (.goto 9, 3) := dk_167 0 9 (dk_at dksX6_striker_2 10 rfl rfl)
theorem dX6_striker_61 : decode cX6_striker 61 = .ok (.aload_n 0, 1) := dk_42 (dk_at dksX6_striker_2 13 rfl rfl)
theorem dX6_striker_62 : decode cX6_striker 62 = .ok (.getfield 91, 3) := dk_180 0 91 (dk_at dksX6_striker_2 14 rfl rfl)
theorem dX6_striker_65 : decode cX6_striker 65 = .ok (.iload_n 1, 1) := dk_27 (dk_at dksX6_striker_2 17 rfl rfl)
theorem dX6_striker_66 : decode cX6_striker 66 = .ok (.isub, 1) := dk_100 (dk_at dksX6_striker_2 18 rfl rfl)
theorem dX6_striker_67 : decode cX6_striker 67 = .ok (.ireturn, 1) := dk_172 (dk_at dksX6_striker_2 19 rfl rfl)
abbrev cX6_piece : ByteArray := prog_28_method_86_code
def yX6_piece : MethodName := ⟨RX6, "piece", "(II)I"⟩
def dkwX6_piece_5 : List UInt8 := [180, 0, 13, 5, 46, 4, 100, 182, 0, 122, 172]
abbrev dktX6_piece_5 : List UInt8 := dkwX6_piece_5 ++ []
def dkwX6_piece_4 : List UInt8 := [180, 0, 13, 5, 46, 104, 96, 4, 96, 28, 79, 42, 180, 0, 13, 5, 92, 46, 4, 96, 79, 42, 42]
abbrev dktX6_piece_4 : List UInt8 := dkwX6_piece_4 ++ dktX6_piece_5
def dkwX6_piece_3 : List UInt8 := [180, 0, 13, 16, 40, 5, 42, 180, 0, 13, 5, 46, 104, 96, 27, 79, 42, 180, 0, 13, 16, 40, 5, 42]
abbrev dktX6_piece_3 : List UInt8 := dkwX6_piece_3 ++ dktX6_piece_4
def dkwX6_piece_2 : List UInt8 := [182, 0, 122, 172, 42, 180, 0, 13, 5, 46, 16, 8, 160, 0, 10, 42, 16, 251, 182, 0, 122, 172, 42]
abbrev dktX6_piece_2 : List UInt8 := dkwX6_piece_2 ++ dktX6_piece_3
def dkwX6_piece_1 : List UInt8 := [133, 20, 0, 193, 42, 180, 0, 13, 5, 46, 133, 10, 101, 184, 0, 118, 154, 0, 10, 42, 16, 254]
abbrev dktX6_piece_1 : List UInt8 := dkwX6_piece_1 ++ dktX6_piece_2
def dkwX6_piece_0 : List UInt8 := [42, 3, 181, 0, 112, 27, 133, 10, 20, 1, 241, 184, 0, 118, 154, 0, 9, 42, 2, 182, 0, 122, 172, 28]
abbrev dktX6_piece_0 : List UInt8 := dkwX6_piece_0 ++ dktX6_piece_1
theorem dksX6_piece_0 : cX6_piece.data.toList.drop 0 = dktX6_piece_0 := by decide +kernel
theorem dksX6_piece_1 : cX6_piece.data.toList.drop 24 = dktX6_piece_1 := dk_seg dksX6_piece_0 24 rfl rfl
theorem dksX6_piece_2 : cX6_piece.data.toList.drop 46 = dktX6_piece_2 := dk_seg dksX6_piece_1 22 rfl rfl
theorem dksX6_piece_3 : cX6_piece.data.toList.drop 69 = dktX6_piece_3 := dk_seg dksX6_piece_2 23 rfl rfl
theorem dksX6_piece_4 : cX6_piece.data.toList.drop 93 = dktX6_piece_4 := dk_seg dksX6_piece_3 24 rfl rfl
theorem dksX6_piece_5 : cX6_piece.data.toList.drop 116 = dktX6_piece_5 := dk_seg dksX6_piece_4 23 rfl rfl
theorem dX6_piece_0 : decode cX6_piece 0 = .ok (.aload_n 0, 1) := dk_42 (dk_at dksX6_piece_0 0 rfl rfl)
theorem dX6_piece_1 : decode cX6_piece 1 = .ok (.iconst 0, 1) := dk_3 (dk_at dksX6_piece_0 1 rfl rfl)
theorem dX6_piece_2 : decode cX6_piece 2 = .ok (.putfield 112, 3) := dk_181 0 112 (dk_at dksX6_piece_0 2 rfl rfl)
theorem dX6_piece_5 : decode cX6_piece 5 = .ok (.iload_n 1, 1) := dk_27 (dk_at dksX6_piece_0 5 rfl rfl)
theorem dX6_piece_6 : decode cX6_piece 6 = .ok (.i2l, 1) := dk_133 (dk_at dksX6_piece_0 6 rfl rfl)
theorem dX6_piece_7 : decode cX6_piece 7 = .ok (.lconst 1, 1) := dk_10 (dk_at dksX6_piece_0 7 rfl rfl)
theorem dX6_piece_8 : decode cX6_piece 8 = .ok (.ldc2_w 497, 3) := dk_20 1 241 (dk_at dksX6_piece_0 8 rfl rfl)
theorem dX6_piece_11 : decode cX6_piece 11 = .ok (.invokestatic 118, 3) := dk_184 0 118 (dk_at dksX6_piece_0 11 rfl rfl)
theorem dX6_piece_14 : decode cX6_piece 14 = .ok (.ifCond .ne 9, 3) := dk_154 0 9 (dk_at dksX6_piece_0 14 rfl rfl)
theorem dX6_piece_17 : decode cX6_piece 17 = .ok (.aload_n 0, 1) := dk_42 (dk_at dksX6_piece_0 17 rfl rfl)
theorem dX6_piece_18 : decode cX6_piece 18 = .ok (.iconst (-1), 1) := dk_2 (dk_at dksX6_piece_0 18 rfl rfl)
theorem dX6_piece_19 : decode cX6_piece 19 = .ok (.invokevirtual 122, 3) := dk_182 0 122 (dk_at dksX6_piece_0 19 rfl rfl)
theorem dX6_piece_22 : decode cX6_piece 22 = .ok (.ireturn, 1) := dk_172 (dk_at dksX6_piece_0 22 rfl rfl)
theorem dX6_piece_23 : decode cX6_piece 23 = .ok (.iload_n 2, 1) := dk_28 (dk_at dksX6_piece_0 23 rfl rfl)
theorem dX6_piece_24 : decode cX6_piece 24 = .ok (.i2l, 1) := dk_133 (dk_at dksX6_piece_1 0 rfl rfl)
theorem dX6_piece_25 : decode cX6_piece 25 = .ok (.ldc2_w 193, 3) := dk_20 0 193 (dk_at dksX6_piece_1 1 rfl rfl)
theorem dX6_piece_28 : decode cX6_piece 28 = .ok (.aload_n 0, 1) := dk_42 (dk_at dksX6_piece_1 4 rfl rfl)
theorem dX6_piece_29 : decode cX6_piece 29 = .ok (.getfield 13, 3) := dk_180 0 13 (dk_at dksX6_piece_1 5 rfl rfl)
theorem dX6_piece_32 : decode cX6_piece 32 = .ok (.iconst 2, 1) := dk_5 (dk_at dksX6_piece_1 8 rfl rfl)
theorem dX6_piece_33 : decode cX6_piece 33 = .ok (.iaload, 1) := dk_46 (dk_at dksX6_piece_1 9 rfl rfl)
theorem dX6_piece_34 : decode cX6_piece 34 = .ok (.i2l, 1) := dk_133 (dk_at dksX6_piece_1 10 rfl rfl)
theorem dX6_piece_35 : decode cX6_piece 35 = .ok (.lconst 1, 1) := dk_10 (dk_at dksX6_piece_1 11 rfl rfl)
theorem dX6_piece_36 : decode cX6_piece 36 = .ok (.lsub, 1) := dk_101 (dk_at dksX6_piece_1 12 rfl rfl)
theorem dX6_piece_37 : decode cX6_piece 37 = .ok (.invokestatic 118, 3) := dk_184 0 118 (dk_at dksX6_piece_1 13 rfl rfl)
theorem dX6_piece_40 : decode cX6_piece 40 = .ok (.ifCond .ne 10, 3) := dk_154 0 10 (dk_at dksX6_piece_1 16 rfl rfl)
theorem dX6_piece_43 : decode cX6_piece 43 = .ok (.aload_n 0, 1) := dk_42 (dk_at dksX6_piece_1 19 rfl rfl)
theorem dX6_piece_44 : decode cX6_piece 44 = .ok (.bipush (-2), 2) := dk_16 254 (dk_at dksX6_piece_1 20 rfl rfl)
theorem dX6_piece_46 : decode cX6_piece 46 = .ok (.invokevirtual 122, 3) := dk_182 0 122 (dk_at dksX6_piece_2 0 rfl rfl)
theorem dX6_piece_49 : decode cX6_piece 49 = .ok (.ireturn, 1) := dk_172 (dk_at dksX6_piece_2 3 rfl rfl)
theorem dX6_piece_50 : decode cX6_piece 50 = .ok (.aload_n 0, 1) := dk_42 (dk_at dksX6_piece_2 4 rfl rfl)
theorem dX6_piece_51 : decode cX6_piece 51 = .ok (.getfield 13, 3) := dk_180 0 13 (dk_at dksX6_piece_2 5 rfl rfl)
theorem dX6_piece_54 : decode cX6_piece 54 = .ok (.iconst 2, 1) := dk_5 (dk_at dksX6_piece_2 8 rfl rfl)
theorem dX6_piece_55 : decode cX6_piece 55 = .ok (.iaload, 1) := dk_46 (dk_at dksX6_piece_2 9 rfl rfl)
theorem dX6_piece_56 : decode cX6_piece 56 = .ok (.bipush 8, 2) := dk_16 8 (dk_at dksX6_piece_2 10 rfl rfl)
theorem dX6_piece_58 : decode cX6_piece 58 = .ok (.if_icmp .ne 10, 3) := dk_160 0 10 (dk_at dksX6_piece_2 12 rfl rfl)
theorem dX6_piece_61 : decode cX6_piece 61 = .ok (.aload_n 0, 1) := dk_42 (dk_at dksX6_piece_2 15 rfl rfl)
theorem dX6_piece_62 : decode cX6_piece 62 = .ok (.bipush (-5), 2) := dk_16 251 (dk_at dksX6_piece_2 16 rfl rfl)
theorem dX6_piece_64 : decode cX6_piece 64 = .ok (.invokevirtual 122, 3) := dk_182 0 122 (dk_at dksX6_piece_2 18 rfl rfl)
theorem dX6_piece_67 : decode cX6_piece 67 = .ok (.ireturn, 1) := dk_172 (dk_at dksX6_piece_2 21 rfl rfl)
theorem dX6_piece_68 : decode cX6_piece 68 = .ok (.aload_n 0, 1) := dk_42 (dk_at dksX6_piece_2 22 rfl rfl)
theorem dX6_piece_69 : decode cX6_piece 69 = .ok (.getfield 13, 3) := dk_180 0 13 (dk_at dksX6_piece_3 0 rfl rfl)
theorem dX6_piece_72 : decode cX6_piece 72 = .ok (.bipush 40, 2) := dk_16 40 (dk_at dksX6_piece_3 3 rfl rfl)
theorem dX6_piece_74 : decode cX6_piece 74 = .ok (.iconst 2, 1) := dk_5 (dk_at dksX6_piece_3 5 rfl rfl)
theorem dX6_piece_75 : decode cX6_piece 75 = .ok (.aload_n 0, 1) := dk_42 (dk_at dksX6_piece_3 6 rfl rfl)
theorem dX6_piece_76 : decode cX6_piece 76 = .ok (.getfield 13, 3) := dk_180 0 13 (dk_at dksX6_piece_3 7 rfl rfl)
theorem dX6_piece_79 : decode cX6_piece 79 = .ok (.iconst 2, 1) := dk_5 (dk_at dksX6_piece_3 10 rfl rfl)
theorem dX6_piece_80 : decode cX6_piece 80 = .ok (.iaload, 1) := dk_46 (dk_at dksX6_piece_3 11 rfl rfl)
theorem dX6_piece_81 : decode cX6_piece 81 = .ok (.imul, 1) := dk_104 (dk_at dksX6_piece_3 12 rfl rfl)
theorem dX6_piece_82 : decode cX6_piece 82 = .ok (.iadd, 1) := dk_96 (dk_at dksX6_piece_3 13 rfl rfl)
theorem dX6_piece_83 : decode cX6_piece 83 = .ok (.iload_n 1, 1) := dk_27 (dk_at dksX6_piece_3 14 rfl rfl)
theorem dX6_piece_84 : decode cX6_piece 84 = .ok (.iastore, 1) := dk_79 (dk_at dksX6_piece_3 15 rfl rfl)
theorem dX6_piece_85 : decode cX6_piece 85 = .ok (.aload_n 0, 1) := dk_42 (dk_at dksX6_piece_3 16 rfl rfl)
theorem dX6_piece_86 : decode cX6_piece 86 = .ok (.getfield 13, 3) := dk_180 0 13 (dk_at dksX6_piece_3 17 rfl rfl)
theorem dX6_piece_89 : decode cX6_piece 89 = .ok (.bipush 40, 2) := dk_16 40 (dk_at dksX6_piece_3 20 rfl rfl)
theorem dX6_piece_91 : decode cX6_piece 91 = .ok (.iconst 2, 1) := dk_5 (dk_at dksX6_piece_3 22 rfl rfl)
theorem dX6_piece_92 : decode cX6_piece 92 = .ok (.aload_n 0, 1) := dk_42 (dk_at dksX6_piece_3 23 rfl rfl)
theorem dX6_piece_93 : decode cX6_piece 93 = .ok (.getfield 13, 3) := dk_180 0 13 (dk_at dksX6_piece_4 0 rfl rfl)
theorem dX6_piece_96 : decode cX6_piece 96 = .ok (.iconst 2, 1) := dk_5 (dk_at dksX6_piece_4 3 rfl rfl)
theorem dX6_piece_97 : decode cX6_piece 97 = .ok (.iaload, 1) := dk_46 (dk_at dksX6_piece_4 4 rfl rfl)
theorem dX6_piece_98 : decode cX6_piece 98 = .ok (.imul, 1) := dk_104 (dk_at dksX6_piece_4 5 rfl rfl)
theorem dX6_piece_99 : decode cX6_piece 99 = .ok (.iadd, 1) := dk_96 (dk_at dksX6_piece_4 6 rfl rfl)
theorem dX6_piece_100 : decode cX6_piece 100 = .ok (.iconst 1, 1) := dk_4 (dk_at dksX6_piece_4 7 rfl rfl)
theorem dX6_piece_101 : decode cX6_piece 101 = .ok (.iadd, 1) := dk_96 (dk_at dksX6_piece_4 8 rfl rfl)
theorem dX6_piece_102 : decode cX6_piece 102 = .ok (.iload_n 2, 1) := dk_28 (dk_at dksX6_piece_4 9 rfl rfl)
theorem dX6_piece_103 : decode cX6_piece 103 = .ok (.iastore, 1) := dk_79 (dk_at dksX6_piece_4 10 rfl rfl)
theorem dX6_piece_104 : decode cX6_piece 104 = .ok (.aload_n 0, 1) := dk_42 (dk_at dksX6_piece_4 11 rfl rfl)
theorem dX6_piece_105 : decode cX6_piece 105 = .ok (.getfield 13, 3) := dk_180 0 13 (dk_at dksX6_piece_4 12 rfl rfl)
theorem dX6_piece_108 : decode cX6_piece 108 = .ok (.iconst 2, 1) := dk_5 (dk_at dksX6_piece_4 15 rfl rfl)
theorem dX6_piece_109 : decode cX6_piece 109 = .ok (.dup2, 1) := dk_92 (dk_at dksX6_piece_4 16 rfl rfl)
theorem dX6_piece_110 : decode cX6_piece 110 = .ok (.iaload, 1) := dk_46 (dk_at dksX6_piece_4 17 rfl rfl)
theorem dX6_piece_111 : decode cX6_piece 111 = .ok (.iconst 1, 1) := dk_4 (dk_at dksX6_piece_4 18 rfl rfl)
theorem dX6_piece_112 : decode cX6_piece 112 = .ok (.iadd, 1) := dk_96 (dk_at dksX6_piece_4 19 rfl rfl)
theorem dX6_piece_113 : decode cX6_piece 113 = .ok (.iastore, 1) := dk_79 (dk_at dksX6_piece_4 20 rfl rfl)
theorem dX6_piece_114 : decode cX6_piece 114 = .ok (.aload_n 0, 1) := dk_42 (dk_at dksX6_piece_4 21 rfl rfl)
theorem dX6_piece_115 : decode cX6_piece 115 = .ok (.aload_n 0, 1) := dk_42 (dk_at dksX6_piece_4 22 rfl rfl)
theorem dX6_piece_116 : decode cX6_piece 116 = .ok (.getfield 13, 3) := dk_180 0 13 (dk_at dksX6_piece_5 0 rfl rfl)
theorem dX6_piece_119 : decode cX6_piece 119 = .ok (.iconst 2, 1) := dk_5 (dk_at dksX6_piece_5 3 rfl rfl)
theorem dX6_piece_120 : decode cX6_piece 120 = .ok (.iaload, 1) := dk_46 (dk_at dksX6_piece_5 4 rfl rfl)
theorem dX6_piece_121 : decode cX6_piece 121 = .ok (.iconst 1, 1) := dk_4 (dk_at dksX6_piece_5 5 rfl rfl)
theorem dX6_piece_122 : decode cX6_piece 122 = .ok (.isub, 1) := dk_100 (dk_at dksX6_piece_5 6 rfl rfl)
theorem dX6_piece_123 : decode cX6_piece 123 = .ok (.invokevirtual 122, 3) := dk_182 0 122 (dk_at dksX6_piece_5 7 rfl rfl)
theorem dX6_piece_126 : decode cX6_piece 126 = .ok (.ireturn, 1) := dk_172 (dk_at dksX6_piece_5 10 rfl rfl)
abbrev cX6_soonest : ByteArray := prog_28_method_90_code
def yX6_soonest : MethodName := ⟨RX6, "soonest", "(II)I"⟩
def dkwX6_soonest_6 : List UInt8 := [54, 4, 167, 255, 188, 28, 2, 160, 0, 7, 29, 167, 0, 9, 42, 180, 0, 109, 28, 46, 172]
abbrev dktX6_soonest_6 : List UInt8 := dkwX6_soonest_6 ++ []
def dkwX6_soonest_5 : List UInt8 := [180, 0, 109, 21, 6, 42, 180, 0, 103, 21, 6, 46, 79, 132, 6, 1, 167, 255, 232, 42, 182, 1, 249]
abbrev dktX6_soonest_5 : List UInt8 := dkwX6_soonest_5 ++ dktX6_soonest_6
def dkwX6_soonest_4 : List UInt8 := [159, 0, 9, 21, 5, 29, 162, 0, 36, 21, 5, 62, 3, 54, 6, 21, 6, 16, 8, 162, 0, 23, 42]
abbrev dktX6_soonest_4 : List UInt8 := dkwX6_soonest_4 ++ dktX6_soonest_5
def dkwX6_soonest_3 : List UInt8 := [4, 54, 4, 21, 4, 153, 0, 69, 42, 27, 182, 1, 246, 54, 5, 21, 5, 2, 159, 0, 47, 29, 2]
abbrev dktX6_soonest_3 : List UInt8 := dkwX6_soonest_3 ++ dktX6_soonest_4
def dkwX6_soonest_2 : List UInt8 := [172, 3, 62, 29, 16, 8, 162, 0, 16, 42, 180, 0, 100, 29, 29, 79, 132, 3, 1, 167, 255, 240, 2, 62]
abbrev dktX6_soonest_2 : List UInt8 := dkwX6_soonest_2 ++ dktX6_soonest_3
def dkwX6_soonest_1 : List UInt8 := [180, 0, 13, 5, 46, 133, 10, 101, 184, 0, 118, 153, 0, 12, 42, 180, 0, 13, 5, 46, 154, 0, 5, 2]
abbrev dktX6_soonest_1 : List UInt8 := dkwX6_soonest_1 ++ dktX6_soonest_2
def dkwX6_soonest_0 : List UInt8 := [42, 3, 181, 0, 112, 27, 133, 10, 20, 0, 129, 184, 0, 118, 153, 0, 32, 28, 133, 20, 0, 193, 42]
abbrev dktX6_soonest_0 : List UInt8 := dkwX6_soonest_0 ++ dktX6_soonest_1
theorem dksX6_soonest_0 : cX6_soonest.data.toList.drop 0 = dktX6_soonest_0 := by decide +kernel
theorem dksX6_soonest_1 : cX6_soonest.data.toList.drop 23 = dktX6_soonest_1 := dk_seg dksX6_soonest_0 23 rfl rfl
theorem dksX6_soonest_2 : cX6_soonest.data.toList.drop 47 = dktX6_soonest_2 := dk_seg dksX6_soonest_1 24 rfl rfl
theorem dksX6_soonest_3 : cX6_soonest.data.toList.drop 71 = dktX6_soonest_3 := dk_seg dksX6_soonest_2 24 rfl rfl
theorem dksX6_soonest_4 : cX6_soonest.data.toList.drop 94 = dktX6_soonest_4 := dk_seg dksX6_soonest_3 23 rfl rfl
theorem dksX6_soonest_5 : cX6_soonest.data.toList.drop 117 = dktX6_soonest_5 := dk_seg dksX6_soonest_4 23 rfl rfl
theorem dksX6_soonest_6 : cX6_soonest.data.toList.drop 140 = dktX6_soonest_6 := dk_seg dksX6_soonest_5 23 rfl rfl
theorem dX6_soonest_0 : decode cX6_soonest 0 = .ok (.aload_n 0, 1) := dk_42 (dk_at dksX6_soonest_0 0 rfl rfl)
theorem dX6_soonest_1 : decode cX6_soonest 1 = .ok (.iconst 0, 1) := dk_3 (dk_at dksX6_soonest_0 1 rfl rfl)
theorem dX6_soonest_2 : decode cX6_soonest 2 = .ok (.putfield 112, 3) := dk_181 0 112 (dk_at dksX6_soonest_0 2 rfl rfl)
theorem dX6_soonest_5 : decode cX6_soonest 5 = .ok (.iload_n 1, 1) := dk_27 (dk_at dksX6_soonest_0 5 rfl rfl)
theorem dX6_soonest_6 : decode cX6_soonest 6 = .ok (.i2l, 1) := dk_133 (dk_at dksX6_soonest_0 6 rfl rfl)
theorem dX6_soonest_7 : decode cX6_soonest 7 = .ok (.lconst 1, 1) := dk_10 (dk_at dksX6_soonest_0 7 rfl rfl)
theorem dX6_soonest_8 : decode cX6_soonest 8 = .ok (.ldc2_w 129, 3) := dk_20 0 129 (dk_at dksX6_soonest_0 8 rfl rfl)
theorem dX6_soonest_11 : decode cX6_soonest 11 = .ok (.invokestatic 118, 3) := dk_184 0 118 (dk_at dksX6_soonest_0 11 rfl rfl)
theorem dX6_soonest_14 : decode cX6_soonest 14 = .ok (.ifCond .eq 32, 3) := dk_153 0 32 (dk_at dksX6_soonest_0 14 rfl rfl)
theorem dX6_soonest_17 : decode cX6_soonest 17 = .ok (.iload_n 2, 1) := dk_28 (dk_at dksX6_soonest_0 17 rfl rfl)
theorem dX6_soonest_18 : decode cX6_soonest 18 = .ok (.i2l, 1) := dk_133 (dk_at dksX6_soonest_0 18 rfl rfl)
theorem dX6_soonest_19 : decode cX6_soonest 19 = .ok (.ldc2_w 193, 3) := dk_20 0 193 (dk_at dksX6_soonest_0 19 rfl rfl)
theorem dX6_soonest_22 : decode cX6_soonest 22 = .ok (.aload_n 0, 1) := dk_42 (dk_at dksX6_soonest_0 22 rfl rfl)
theorem dX6_soonest_23 : decode cX6_soonest 23 = .ok (.getfield 13, 3) := dk_180 0 13 (dk_at dksX6_soonest_1 0 rfl rfl)
theorem dX6_soonest_26 : decode cX6_soonest 26 = .ok (.iconst 2, 1) := dk_5 (dk_at dksX6_soonest_1 3 rfl rfl)
theorem dX6_soonest_27 : decode cX6_soonest 27 = .ok (.iaload, 1) := dk_46 (dk_at dksX6_soonest_1 4 rfl rfl)
theorem dX6_soonest_28 : decode cX6_soonest 28 = .ok (.i2l, 1) := dk_133 (dk_at dksX6_soonest_1 5 rfl rfl)
theorem dX6_soonest_29 : decode cX6_soonest 29 = .ok (.lconst 1, 1) := dk_10 (dk_at dksX6_soonest_1 6 rfl rfl)
theorem dX6_soonest_30 : decode cX6_soonest 30 = .ok (.lsub, 1) := dk_101 (dk_at dksX6_soonest_1 7 rfl rfl)
theorem dX6_soonest_31 : decode cX6_soonest 31 = .ok (.invokestatic 118, 3) := dk_184 0 118 (dk_at dksX6_soonest_1 8 rfl rfl)
theorem dX6_soonest_34 : decode cX6_soonest 34 = .ok (.ifCond .eq 12, 3) := dk_153 0 12 (dk_at dksX6_soonest_1 11 rfl rfl)
theorem dX6_soonest_37 : decode cX6_soonest 37 = .ok (.aload_n 0, 1) := dk_42 (dk_at dksX6_soonest_1 14 rfl rfl)
theorem dX6_soonest_38 : decode cX6_soonest 38 = .ok (.getfield 13, 3) := dk_180 0 13 (dk_at dksX6_soonest_1 15 rfl rfl)
theorem dX6_soonest_41 : decode cX6_soonest 41 = .ok (.iconst 2, 1) := dk_5 (dk_at dksX6_soonest_1 18 rfl rfl)
theorem dX6_soonest_42 : decode cX6_soonest 42 = .ok (.iaload, 1) := dk_46 (dk_at dksX6_soonest_1 19 rfl rfl)
theorem dX6_soonest_43 : decode cX6_soonest 43 = .ok (.ifCond .ne 5, 3) := dk_154 0 5 (dk_at dksX6_soonest_1 20 rfl rfl)
theorem dX6_soonest_46 : decode cX6_soonest 46 = .ok (.iconst (-1), 1) := dk_2 (dk_at dksX6_soonest_1 23 rfl rfl)
theorem dX6_soonest_47 : decode cX6_soonest 47 = .ok (.ireturn, 1) := dk_172 (dk_at dksX6_soonest_2 0 rfl rfl)
theorem dX6_soonest_48 : decode cX6_soonest 48 = .ok (.iconst 0, 1) := dk_3 (dk_at dksX6_soonest_2 1 rfl rfl)
theorem dX6_soonest_49 : decode cX6_soonest 49 = .ok (.istore_n 3, 1) := dk_62 (dk_at dksX6_soonest_2 2 rfl rfl)
theorem dX6_soonest_50 : decode cX6_soonest 50 = .ok (.iload_n 3, 1) := dk_29 (dk_at dksX6_soonest_2 3 rfl rfl)
theorem dX6_soonest_51 : decode cX6_soonest 51 = .ok (.bipush 8, 2) := dk_16 8 (dk_at dksX6_soonest_2 4 rfl rfl)
theorem dX6_soonest_53 : decode cX6_soonest 53 = .ok (.if_icmp .ge 16, 3) := dk_162 0 16 (dk_at dksX6_soonest_2 6 rfl rfl)
theorem dX6_soonest_56 : decode cX6_soonest 56 = .ok (.aload_n 0, 1) := dk_42 (dk_at dksX6_soonest_2 9 rfl rfl)
theorem dX6_soonest_57 : decode cX6_soonest 57 = .ok (.getfield 100, 3) := dk_180 0 100 (dk_at dksX6_soonest_2 10 rfl rfl)
theorem dX6_soonest_60 : decode cX6_soonest 60 = .ok (.iload_n 3, 1) := dk_29 (dk_at dksX6_soonest_2 13 rfl rfl)
theorem dX6_soonest_61 : decode cX6_soonest 61 = .ok (.iload_n 3, 1) := dk_29 (dk_at dksX6_soonest_2 14 rfl rfl)
theorem dX6_soonest_62 : decode cX6_soonest 62 = .ok (.iastore, 1) := dk_79 (dk_at dksX6_soonest_2 15 rfl rfl)
theorem dX6_soonest_63 : decode cX6_soonest 63 = .ok (.iinc 3 1, 3) := dk_132 3 1 (dk_at dksX6_soonest_2 16 rfl rfl)
theorem dX6_soonest_66 : decode cX6_soonest 66 = .ok (.goto (-16), 3) := dk_167 255 240 (dk_at dksX6_soonest_2 19 rfl rfl)
theorem dX6_soonest_69 : decode cX6_soonest 69 = .ok (.iconst (-1), 1) := dk_2 (dk_at dksX6_soonest_2 22 rfl rfl)
theorem dX6_soonest_70 : decode cX6_soonest 70 = .ok (.istore_n 3, 1) := dk_62 (dk_at dksX6_soonest_2 23 rfl rfl)
theorem dX6_soonest_71 : decode cX6_soonest 71 = .ok (.iconst 1, 1) := dk_4 (dk_at dksX6_soonest_3 0 rfl rfl)
theorem dX6_soonest_72 : decode cX6_soonest 72 = .ok (.istore 4, 2) := dk_54 4 (dk_at dksX6_soonest_3 1 rfl rfl)
theorem dX6_soonest_74 : decode cX6_soonest 74 = .ok (.iload 4, 2) := dk_21 4 (dk_at dksX6_soonest_3 3 rfl rfl)
theorem dX6_soonest_76 : decode cX6_soonest 76 = .ok (.ifCond .eq 69, 3) := dk_153 0 69 (dk_at dksX6_soonest_3 5 rfl rfl)
theorem dX6_soonest_79 : decode cX6_soonest 79 = .ok (.aload_n 0, 1) := dk_42 (dk_at dksX6_soonest_3 8 rfl rfl)
theorem dX6_soonest_80 : decode cX6_soonest 80 = .ok (.iload_n 1, 1) := dk_27 (dk_at dksX6_soonest_3 9 rfl rfl)
theorem dX6_soonest_81 : decode cX6_soonest 81 = .ok (.invokevirtual 502, 3) := dk_182 1 246 (dk_at dksX6_soonest_3 10 rfl rfl)
theorem dX6_soonest_84 : decode cX6_soonest 84 = .ok (.istore 5, 2) := dk_54 5 (dk_at dksX6_soonest_3 13 rfl rfl)
theorem dX6_soonest_86 : decode cX6_soonest 86 = .ok (.iload 5, 2) := dk_21 5 (dk_at dksX6_soonest_3 15 rfl rfl)
theorem dX6_soonest_88 : decode cX6_soonest 88 = .ok (.iconst (-1), 1) := dk_2 (dk_at dksX6_soonest_3 17 rfl rfl)
theorem dX6_soonest_89 : decode cX6_soonest 89 = .ok (.if_icmp .eq 47, 3) := dk_159 0 47 (dk_at dksX6_soonest_3 18 rfl rfl)
theorem dX6_soonest_92 : decode cX6_soonest 92 = .ok (.iload_n 3, 1) := dk_29 (dk_at dksX6_soonest_3 21 rfl rfl)
theorem dX6_soonest_93 : decode cX6_soonest 93 = .ok (.iconst (-1), 1) := dk_2 (dk_at dksX6_soonest_3 22 rfl rfl)
theorem dX6_soonest_94 : decode cX6_soonest 94 = .ok (.if_icmp .eq 9, 3) := dk_159 0 9 (dk_at dksX6_soonest_4 0 rfl rfl)
theorem dX6_soonest_97 : decode cX6_soonest 97 = .ok (.iload 5, 2) := dk_21 5 (dk_at dksX6_soonest_4 3 rfl rfl)
theorem dX6_soonest_99 : decode cX6_soonest 99 = .ok (.iload_n 3, 1) := dk_29 (dk_at dksX6_soonest_4 5 rfl rfl)
theorem dX6_soonest_100 : decode cX6_soonest 100 = .ok (.if_icmp .ge 36, 3) := dk_162 0 36 (dk_at dksX6_soonest_4 6 rfl rfl)
theorem dX6_soonest_103 : decode cX6_soonest 103 = .ok (.iload 5, 2) := dk_21 5 (dk_at dksX6_soonest_4 9 rfl rfl)
theorem dX6_soonest_105 : decode cX6_soonest 105 = .ok (.istore_n 3, 1) := dk_62 (dk_at dksX6_soonest_4 11 rfl rfl)
theorem dX6_soonest_106 : decode cX6_soonest 106 = .ok (.iconst 0, 1) := dk_3 (dk_at dksX6_soonest_4 12 rfl rfl)
theorem dX6_soonest_107 : decode cX6_soonest 107 = .ok (.istore 6, 2) := dk_54 6 (dk_at dksX6_soonest_4 13 rfl rfl)
theorem dX6_soonest_109 : decode cX6_soonest 109 = .ok (.iload 6, 2) := dk_21 6 (dk_at dksX6_soonest_4 15 rfl rfl)
theorem dX6_soonest_111 : decode cX6_soonest 111 = .ok (.bipush 8, 2) := dk_16 8 (dk_at dksX6_soonest_4 17 rfl rfl)
theorem dX6_soonest_113 : decode cX6_soonest 113 = .ok (.if_icmp .ge 23, 3) := dk_162 0 23 (dk_at dksX6_soonest_4 19 rfl rfl)
theorem dX6_soonest_116 : decode cX6_soonest 116 = .ok (.aload_n 0, 1) := dk_42 (dk_at dksX6_soonest_4 22 rfl rfl)
theorem dX6_soonest_117 : decode cX6_soonest 117 = .ok (.getfield 109, 3) := dk_180 0 109 (dk_at dksX6_soonest_5 0 rfl rfl)
theorem dX6_soonest_120 : decode cX6_soonest 120 = .ok (.iload 6, 2) := dk_21 6 (dk_at dksX6_soonest_5 3 rfl rfl)
theorem dX6_soonest_122 : decode cX6_soonest 122 = .ok (.aload_n 0, 1) := dk_42 (dk_at dksX6_soonest_5 5 rfl rfl)
theorem dX6_soonest_123 : decode cX6_soonest 123 = .ok (.getfield 103, 3) := dk_180 0 103 (dk_at dksX6_soonest_5 6 rfl rfl)
theorem dX6_soonest_126 : decode cX6_soonest 126 = .ok (.iload 6, 2) := dk_21 6 (dk_at dksX6_soonest_5 9 rfl rfl)
theorem dX6_soonest_128 : decode cX6_soonest 128 = .ok (.iaload, 1) := dk_46 (dk_at dksX6_soonest_5 11 rfl rfl)
theorem dX6_soonest_129 : decode cX6_soonest 129 = .ok (.iastore, 1) := dk_79 (dk_at dksX6_soonest_5 12 rfl rfl)
theorem dX6_soonest_130 : decode cX6_soonest 130 = .ok (.iinc 6 1, 3) := dk_132 6 1 (dk_at dksX6_soonest_5 13 rfl rfl)
theorem dX6_soonest_133 : decode cX6_soonest 133 = .ok (.goto (-24), 3) := dk_167 255 232 (dk_at dksX6_soonest_5 16 rfl rfl)
theorem dX6_soonest_136 : decode cX6_soonest 136 = .ok (.aload_n 0, 1) := dk_42 (dk_at dksX6_soonest_5 19 rfl rfl)
theorem dX6_soonest_137 : decode cX6_soonest 137 = .ok (.invokevirtual 505, 3) := dk_182 1 249 (dk_at dksX6_soonest_5 20 rfl rfl)
theorem dX6_soonest_140 : decode cX6_soonest 140 = .ok (.istore 4, 2) := dk_54 4 (dk_at dksX6_soonest_6 0 rfl rfl)
theorem dX6_soonest_142 : decode cX6_soonest 142 = .ok (.goto (-68), 3) := dk_167 255 188 (dk_at dksX6_soonest_6 2 rfl rfl)
theorem dX6_soonest_145 : decode cX6_soonest 145 = .ok (.iload_n 2, 1) := dk_28 (dk_at dksX6_soonest_6 5 rfl rfl)
theorem dX6_soonest_146 : decode cX6_soonest 146 = .ok (.iconst (-1), 1) := dk_2 (dk_at dksX6_soonest_6 6 rfl rfl)
theorem dX6_soonest_147 : decode cX6_soonest 147 = .ok (.if_icmp .ne 7, 3) := dk_160 0 7 (dk_at dksX6_soonest_6 7 rfl rfl)
theorem dX6_soonest_150 : decode cX6_soonest 150 = .ok (.iload_n 3, 1) := dk_29 (dk_at dksX6_soonest_6 10 rfl rfl)
theorem dX6_soonest_151 : decode cX6_soonest 151 = .ok (.goto 9, 3) := dk_167 0 9 (dk_at dksX6_soonest_6 11 rfl rfl)
theorem dX6_soonest_154 : decode cX6_soonest 154 = .ok (.aload_n 0, 1) := dk_42 (dk_at dksX6_soonest_6 14 rfl rfl)
theorem dX6_soonest_155 : decode cX6_soonest 155 = .ok (.getfield 109, 3) := dk_180 0 109 (dk_at dksX6_soonest_6 15 rfl rfl)
theorem dX6_soonest_158 : decode cX6_soonest 158 = .ok (.iload_n 2, 1) := dk_28 (dk_at dksX6_soonest_6 18 rfl rfl)
theorem dX6_soonest_159 : decode cX6_soonest 159 = .ok (.iaload, 1) := dk_46 (dk_at dksX6_soonest_6 19 rfl rfl)
theorem dX6_soonest_160 : decode cX6_soonest 160 = .ok (.ireturn, 1) := dk_172 (dk_at dksX6_soonest_6 20 rfl rfl)
abbrev cX6_doneBy : ByteArray := prog_28_method_87_code
def yX6_doneBy : MethodName := ⟨RX6, "doneBy", "(I)I"⟩
def dkwX6_doneBy_10 : List UInt8 := [42, 180, 0, 106, 21, 7, 46, 167, 0, 4, 29, 62, 132, 4, 1, 167, 255, 36, 29, 172]
abbrev dktX6_doneBy_10 : List UInt8 := dkwX6_doneBy_10 ++ []
def dkwX6_doneBy_9 : List UInt8 := [180, 0, 13, 16, 40, 5, 21, 5, 104, 96, 46, 96, 79, 42, 180, 0, 106, 21, 7, 46, 29, 164, 0, 13]
abbrev dktX6_doneBy_9 : List UInt8 := dkwX6_doneBy_9 ++ dktX6_doneBy_10
def dkwX6_doneBy_8 : List UInt8 := [21, 7, 46, 167, 0, 5, 21, 8, 79, 42, 180, 0, 106, 21, 7, 42, 180, 0, 103, 21, 5, 46, 42]
abbrev dktX6_doneBy_8 : List UInt8 := dkwX6_doneBy_8 ++ dktX6_doneBy_9
def dkwX6_doneBy_7 : List UInt8 := [54, 8, 42, 180, 0, 103, 21, 5, 42, 180, 0, 106, 21, 7, 46, 21, 8, 164, 0, 13, 42, 180, 0, 106]
abbrev dktX6_doneBy_7 : List UInt8 := dkwX6_doneBy_7 ++ dktX6_doneBy_8
def dkwX6_doneBy_6 : List UInt8 := [167, 0, 23, 42, 180, 0, 103, 21, 6, 46, 42, 180, 0, 13, 16, 40, 5, 21, 6, 104, 96, 46, 96]
abbrev dktX6_doneBy_6 : List UInt8 := dkwX6_doneBy_6 ++ dktX6_doneBy_7
def dkwX6_doneBy_5 : List UInt8 := [21, 8, 167, 0, 5, 21, 7, 54, 7, 132, 8, 1, 167, 255, 221, 21, 6, 2, 160, 0, 7, 3]
abbrev dktX6_doneBy_5 : List UInt8 := dkwX6_doneBy_5 ++ dktX6_doneBy_6
def dkwX6_doneBy_4 : List UInt8 := [21, 8, 27, 162, 0, 35, 42, 180, 0, 106, 21, 8, 46, 42, 180, 0, 106, 21, 7, 46, 162, 0, 8]
abbrev dktX6_doneBy_4 : List UInt8 := dkwX6_doneBy_4 ++ dktX6_doneBy_5
def dkwX6_doneBy_3 : List UInt8 := [28, 21, 6, 122, 4, 126, 154, 0, 5, 2, 172, 28, 4, 21, 5, 120, 128, 61, 3, 54, 7, 4, 54, 8]
abbrev dktX6_doneBy_3 : List UInt8 := dkwX6_doneBy_3 ++ dktX6_doneBy_4
def dkwX6_doneBy_2 : List UInt8 := [54, 5, 42, 180, 0, 13, 16, 40, 5, 21, 5, 104, 96, 4, 96, 46, 54, 6, 21, 6, 2, 159, 0, 14]
abbrev dktX6_doneBy_2 : List UInt8 := dkwX6_doneBy_2 ++ dktX6_doneBy_3
def dkwX6_doneBy_1 : List UInt8 := [167, 255, 239, 3, 54, 4, 21, 4, 42, 180, 0, 13, 5, 46, 162, 0, 215, 42, 180, 0, 100, 21, 4, 46]
abbrev dktX6_doneBy_1 : List UInt8 := dkwX6_doneBy_1 ++ dktX6_doneBy_2
def dkwX6_doneBy_0 : List UInt8 := [3, 61, 3, 62, 3, 54, 4, 21, 4, 6, 162, 0, 17, 42, 180, 0, 106, 21, 4, 3, 79, 132, 4, 1]
abbrev dktX6_doneBy_0 : List UInt8 := dkwX6_doneBy_0 ++ dktX6_doneBy_1
theorem dksX6_doneBy_0 : cX6_doneBy.data.toList.drop 0 = dktX6_doneBy_0 := by decide +kernel
theorem dksX6_doneBy_1 : cX6_doneBy.data.toList.drop 24 = dktX6_doneBy_1 := dk_seg dksX6_doneBy_0 24 rfl rfl
theorem dksX6_doneBy_2 : cX6_doneBy.data.toList.drop 48 = dktX6_doneBy_2 := dk_seg dksX6_doneBy_1 24 rfl rfl
theorem dksX6_doneBy_3 : cX6_doneBy.data.toList.drop 72 = dktX6_doneBy_3 := dk_seg dksX6_doneBy_2 24 rfl rfl
theorem dksX6_doneBy_4 : cX6_doneBy.data.toList.drop 96 = dktX6_doneBy_4 := dk_seg dksX6_doneBy_3 24 rfl rfl
theorem dksX6_doneBy_5 : cX6_doneBy.data.toList.drop 119 = dktX6_doneBy_5 := dk_seg dksX6_doneBy_4 23 rfl rfl
theorem dksX6_doneBy_6 : cX6_doneBy.data.toList.drop 141 = dktX6_doneBy_6 := dk_seg dksX6_doneBy_5 22 rfl rfl
theorem dksX6_doneBy_7 : cX6_doneBy.data.toList.drop 164 = dktX6_doneBy_7 := dk_seg dksX6_doneBy_6 23 rfl rfl
theorem dksX6_doneBy_8 : cX6_doneBy.data.toList.drop 188 = dktX6_doneBy_8 := dk_seg dksX6_doneBy_7 24 rfl rfl
theorem dksX6_doneBy_9 : cX6_doneBy.data.toList.drop 211 = dktX6_doneBy_9 := dk_seg dksX6_doneBy_8 23 rfl rfl
theorem dksX6_doneBy_10 : cX6_doneBy.data.toList.drop 235 = dktX6_doneBy_10 := dk_seg dksX6_doneBy_9 24 rfl rfl
theorem dX6_doneBy_0 : decode cX6_doneBy 0 = .ok (.iconst 0, 1) := dk_3 (dk_at dksX6_doneBy_0 0 rfl rfl)
theorem dX6_doneBy_1 : decode cX6_doneBy 1 = .ok (.istore_n 2, 1) := dk_61 (dk_at dksX6_doneBy_0 1 rfl rfl)
theorem dX6_doneBy_2 : decode cX6_doneBy 2 = .ok (.iconst 0, 1) := dk_3 (dk_at dksX6_doneBy_0 2 rfl rfl)
theorem dX6_doneBy_3 : decode cX6_doneBy 3 = .ok (.istore_n 3, 1) := dk_62 (dk_at dksX6_doneBy_0 3 rfl rfl)
theorem dX6_doneBy_4 : decode cX6_doneBy 4 = .ok (.iconst 0, 1) := dk_3 (dk_at dksX6_doneBy_0 4 rfl rfl)
theorem dX6_doneBy_5 : decode cX6_doneBy 5 = .ok (.istore 4, 2) := dk_54 4 (dk_at dksX6_doneBy_0 5 rfl rfl)
theorem dX6_doneBy_7 : decode cX6_doneBy 7 = .ok (.iload 4, 2) := dk_21 4 (dk_at dksX6_doneBy_0 7 rfl rfl)
theorem dX6_doneBy_9 : decode cX6_doneBy 9 = .ok (.iconst 3, 1) := dk_6 (dk_at dksX6_doneBy_0 9 rfl rfl)
theorem dX6_doneBy_10 : decode cX6_doneBy 10 = .ok (.if_icmp .ge 17, 3) := dk_162 0 17 (dk_at dksX6_doneBy_0 10 rfl rfl)
theorem dX6_doneBy_13 : decode cX6_doneBy 13 = .ok (.aload_n 0, 1) := dk_42 (dk_at dksX6_doneBy_0 13 rfl rfl)
theorem dX6_doneBy_14 : decode cX6_doneBy 14 = .ok (.getfield 106, 3) := dk_180 0 106 (dk_at dksX6_doneBy_0 14 rfl rfl)
theorem dX6_doneBy_17 : decode cX6_doneBy 17 = .ok (.iload 4, 2) := dk_21 4 (dk_at dksX6_doneBy_0 17 rfl rfl)
theorem dX6_doneBy_19 : decode cX6_doneBy 19 = .ok (.iconst 0, 1) := dk_3 (dk_at dksX6_doneBy_0 19 rfl rfl)
theorem dX6_doneBy_20 : decode cX6_doneBy 20 = .ok (.iastore, 1) := dk_79 (dk_at dksX6_doneBy_0 20 rfl rfl)
theorem dX6_doneBy_21 : decode cX6_doneBy 21 = .ok (.iinc 4 1, 3) := dk_132 4 1 (dk_at dksX6_doneBy_0 21 rfl rfl)
theorem dX6_doneBy_24 : decode cX6_doneBy 24 = .ok (.goto (-17), 3) := dk_167 255 239 (dk_at dksX6_doneBy_1 0 rfl rfl)
theorem dX6_doneBy_27 : decode cX6_doneBy 27 = .ok (.iconst 0, 1) := dk_3 (dk_at dksX6_doneBy_1 3 rfl rfl)
theorem dX6_doneBy_28 : decode cX6_doneBy 28 = .ok (.istore 4, 2) := dk_54 4 (dk_at dksX6_doneBy_1 4 rfl rfl)
theorem dX6_doneBy_30 : decode cX6_doneBy 30 = .ok (.iload 4, 2) := dk_21 4 (dk_at dksX6_doneBy_1 6 rfl rfl)
theorem dX6_doneBy_32 : decode cX6_doneBy 32 = .ok (.aload_n 0, 1) := dk_42 (dk_at dksX6_doneBy_1 8 rfl rfl)
theorem dX6_doneBy_33 : decode cX6_doneBy 33 = .ok (.getfield 13, 3) := dk_180 0 13 (dk_at dksX6_doneBy_1 9 rfl rfl)
theorem dX6_doneBy_36 : decode cX6_doneBy 36 = .ok (.iconst 2, 1) := dk_5 (dk_at dksX6_doneBy_1 12 rfl rfl)
theorem dX6_doneBy_37 : decode cX6_doneBy 37 = .ok (.iaload, 1) := dk_46 (dk_at dksX6_doneBy_1 13 rfl rfl)
theorem dX6_doneBy_38 : decode cX6_doneBy 38 = .ok (.if_icmp .ge 215, 3) := dk_162 0 215 (dk_at dksX6_doneBy_1 14 rfl rfl)
theorem dX6_doneBy_41 : decode cX6_doneBy 41 = .ok (.aload_n 0, 1) := dk_42 (dk_at dksX6_doneBy_1 17 rfl rfl)
theorem dX6_doneBy_42 : decode cX6_doneBy 42 = .ok (.getfield 100, 3) := dk_180 0 100 (dk_at dksX6_doneBy_1 18 rfl rfl)
theorem dX6_doneBy_45 : decode cX6_doneBy 45 = .ok (.iload 4, 2) := dk_21 4 (dk_at dksX6_doneBy_1 21 rfl rfl)
theorem dX6_doneBy_47 : decode cX6_doneBy 47 = .ok (.iaload, 1) := dk_46 (dk_at dksX6_doneBy_1 23 rfl rfl)
theorem dX6_doneBy_48 : decode cX6_doneBy 48 = .ok (.istore 5, 2) := dk_54 5 (dk_at dksX6_doneBy_2 0 rfl rfl)
theorem dX6_doneBy_50 : decode cX6_doneBy 50 = .ok (.aload_n 0, 1) := dk_42 (dk_at dksX6_doneBy_2 2 rfl rfl)
theorem dX6_doneBy_51 : decode cX6_doneBy 51 = .ok (.getfield 13, 3) := dk_180 0 13 (dk_at dksX6_doneBy_2 3 rfl rfl)
theorem dX6_doneBy_54 : decode cX6_doneBy 54 = .ok (.bipush 40, 2) := dk_16 40 (dk_at dksX6_doneBy_2 6 rfl rfl)
theorem dX6_doneBy_56 : decode cX6_doneBy 56 = .ok (.iconst 2, 1) := dk_5 (dk_at dksX6_doneBy_2 8 rfl rfl)
theorem dX6_doneBy_57 : decode cX6_doneBy 57 = .ok (.iload 5, 2) := dk_21 5 (dk_at dksX6_doneBy_2 9 rfl rfl)
theorem dX6_doneBy_59 : decode cX6_doneBy 59 = .ok (.imul, 1) := dk_104 (dk_at dksX6_doneBy_2 11 rfl rfl)
theorem dX6_doneBy_60 : decode cX6_doneBy 60 = .ok (.iadd, 1) := dk_96 (dk_at dksX6_doneBy_2 12 rfl rfl)
theorem dX6_doneBy_61 : decode cX6_doneBy 61 = .ok (.iconst 1, 1) := dk_4 (dk_at dksX6_doneBy_2 13 rfl rfl)
theorem dX6_doneBy_62 : decode cX6_doneBy 62 = .ok (.iadd, 1) := dk_96 (dk_at dksX6_doneBy_2 14 rfl rfl)
theorem dX6_doneBy_63 : decode cX6_doneBy 63 = .ok (.iaload, 1) := dk_46 (dk_at dksX6_doneBy_2 15 rfl rfl)
theorem dX6_doneBy_64 : decode cX6_doneBy 64 = .ok (.istore 6, 2) := dk_54 6 (dk_at dksX6_doneBy_2 16 rfl rfl)
theorem dX6_doneBy_66 : decode cX6_doneBy 66 = .ok (.iload 6, 2) := dk_21 6 (dk_at dksX6_doneBy_2 18 rfl rfl)
theorem dX6_doneBy_68 : decode cX6_doneBy 68 = .ok (.iconst (-1), 1) := dk_2 (dk_at dksX6_doneBy_2 20 rfl rfl)
theorem dX6_doneBy_69 : decode cX6_doneBy 69 = .ok (.if_icmp .eq 14, 3) := dk_159 0 14 (dk_at dksX6_doneBy_2 21 rfl rfl)
theorem dX6_doneBy_72 : decode cX6_doneBy 72 = .ok (.iload_n 2, 1) := dk_28 (dk_at dksX6_doneBy_3 0 rfl rfl)
theorem dX6_doneBy_73 : decode cX6_doneBy 73 = .ok (.iload 6, 2) := dk_21 6 (dk_at dksX6_doneBy_3 1 rfl rfl)
theorem dX6_doneBy_75 : decode cX6_doneBy 75 = .ok (.ishr, 1) := dk_122 (dk_at dksX6_doneBy_3 3 rfl rfl)
theorem dX6_doneBy_76 : decode cX6_doneBy 76 = .ok (.iconst 1, 1) := dk_4 (dk_at dksX6_doneBy_3 4 rfl rfl)
theorem dX6_doneBy_77 : decode cX6_doneBy 77 = .ok (.iand, 1) := dk_126 (dk_at dksX6_doneBy_3 5 rfl rfl)
theorem dX6_doneBy_78 : decode cX6_doneBy 78 = .ok (.ifCond .ne 5, 3) := dk_154 0 5 (dk_at dksX6_doneBy_3 6 rfl rfl)
theorem dX6_doneBy_81 : decode cX6_doneBy 81 = .ok (.iconst (-1), 1) := dk_2 (dk_at dksX6_doneBy_3 9 rfl rfl)
theorem dX6_doneBy_82 : decode cX6_doneBy 82 = .ok (.ireturn, 1) := dk_172 (dk_at dksX6_doneBy_3 10 rfl rfl)
theorem dX6_doneBy_83 : decode cX6_doneBy 83 = .ok (.iload_n 2, 1) := dk_28 (dk_at dksX6_doneBy_3 11 rfl rfl)
theorem dX6_doneBy_84 : decode cX6_doneBy 84 = .ok (.iconst 1, 1) := dk_4 (dk_at dksX6_doneBy_3 12 rfl rfl)
theorem dX6_doneBy_85 : decode cX6_doneBy 85 = .ok (.iload 5, 2) := dk_21 5 (dk_at dksX6_doneBy_3 13 rfl rfl)
theorem dX6_doneBy_87 : decode cX6_doneBy 87 = .ok (.ishl, 1) := dk_120 (dk_at dksX6_doneBy_3 15 rfl rfl)
theorem dX6_doneBy_88 : decode cX6_doneBy 88 = .ok (.ior, 1) := dk_128 (dk_at dksX6_doneBy_3 16 rfl rfl)
theorem dX6_doneBy_89 : decode cX6_doneBy 89 = .ok (.istore_n 2, 1) := dk_61 (dk_at dksX6_doneBy_3 17 rfl rfl)
theorem dX6_doneBy_90 : decode cX6_doneBy 90 = .ok (.iconst 0, 1) := dk_3 (dk_at dksX6_doneBy_3 18 rfl rfl)
theorem dX6_doneBy_91 : decode cX6_doneBy 91 = .ok (.istore 7, 2) := dk_54 7 (dk_at dksX6_doneBy_3 19 rfl rfl)
theorem dX6_doneBy_93 : decode cX6_doneBy 93 = .ok (.iconst 1, 1) := dk_4 (dk_at dksX6_doneBy_3 21 rfl rfl)
theorem dX6_doneBy_94 : decode cX6_doneBy 94 = .ok (.istore 8, 2) := dk_54 8 (dk_at dksX6_doneBy_3 22 rfl rfl)
theorem dX6_doneBy_96 : decode cX6_doneBy 96 = .ok (.iload 8, 2) := dk_21 8 (dk_at dksX6_doneBy_4 0 rfl rfl)
theorem dX6_doneBy_98 : decode cX6_doneBy 98 = .ok (.iload_n 1, 1) := dk_27 (dk_at dksX6_doneBy_4 2 rfl rfl)
theorem dX6_doneBy_99 : decode cX6_doneBy 99 = .ok (.if_icmp .ge 35, 3) := dk_162 0 35 (dk_at dksX6_doneBy_4 3 rfl rfl)
theorem dX6_doneBy_102 : decode cX6_doneBy 102 = .ok (.aload_n 0, 1) := dk_42 (dk_at dksX6_doneBy_4 6 rfl rfl)
theorem dX6_doneBy_103 : decode cX6_doneBy 103 = .ok (.getfield 106, 3) := dk_180 0 106 (dk_at dksX6_doneBy_4 7 rfl rfl)
theorem dX6_doneBy_106 : decode cX6_doneBy 106 = .ok (.iload 8, 2) := dk_21 8 (dk_at dksX6_doneBy_4 10 rfl rfl)
theorem dX6_doneBy_108 : decode cX6_doneBy 108 = .ok (.iaload, 1) := dk_46 (dk_at dksX6_doneBy_4 12 rfl rfl)
theorem dX6_doneBy_109 : decode cX6_doneBy 109 = .ok (.aload_n 0, 1) := dk_42 (dk_at dksX6_doneBy_4 13 rfl rfl)
theorem dX6_doneBy_110 : decode cX6_doneBy 110 = .ok (.getfield 106, 3) := dk_180 0 106 (dk_at dksX6_doneBy_4 14 rfl rfl)
theorem dX6_doneBy_113 : decode cX6_doneBy 113 = .ok (.iload 7, 2) := dk_21 7 (dk_at dksX6_doneBy_4 17 rfl rfl)
theorem dX6_doneBy_115 : decode cX6_doneBy 115 = .ok (.iaload, 1) := dk_46 (dk_at dksX6_doneBy_4 19 rfl rfl)
theorem dX6_doneBy_116 : decode cX6_doneBy 116 = .ok (.if_icmp .ge 8, 3) := dk_162 0 8 (dk_at dksX6_doneBy_4 20 rfl rfl)
theorem dX6_doneBy_119 : decode cX6_doneBy 119 = .ok (.iload 8, 2) := dk_21 8 (dk_at dksX6_doneBy_5 0 rfl rfl)
theorem dX6_doneBy_121 : decode cX6_doneBy 121 = .ok (.goto 5, 3) := dk_167 0 5 (dk_at dksX6_doneBy_5 2 rfl rfl)
theorem dX6_doneBy_124 : decode cX6_doneBy 124 = .ok (.iload 7, 2) := dk_21 7 (dk_at dksX6_doneBy_5 5 rfl rfl)
theorem dX6_doneBy_126 : decode cX6_doneBy 126 = .ok (.istore 7, 2) := dk_54 7 (dk_at dksX6_doneBy_5 7 rfl rfl)
theorem dX6_doneBy_128 : decode cX6_doneBy 128 = .ok (.iinc 8 1, 3) := dk_132 8 1 (dk_at dksX6_doneBy_5 9 rfl rfl)
theorem dX6_doneBy_131 : decode cX6_doneBy 131 = .ok (.goto (-35), 3) := dk_167 255 221 (dk_at dksX6_doneBy_5 12 rfl rfl)
theorem dX6_doneBy_134 : decode cX6_doneBy 134 = .ok (.iload 6, 2) := dk_21 6 (dk_at dksX6_doneBy_5 15 rfl rfl)
theorem dX6_doneBy_136 : decode cX6_doneBy 136 = .ok (.iconst (-1), 1) := dk_2 (dk_at dksX6_doneBy_5 17 rfl rfl)
theorem dX6_doneBy_137 : decode cX6_doneBy 137 = .ok (.if_icmp .ne 7, 3) := dk_160 0 7 (dk_at dksX6_doneBy_5 18 rfl rfl)
theorem dX6_doneBy_140 : decode cX6_doneBy 140 = .ok (.iconst 0, 1) := dk_3 (dk_at dksX6_doneBy_5 21 rfl rfl)
theorem dX6_doneBy_141 : decode cX6_doneBy 141 = .ok (.goto 23, 3) := dk_167 0 23 (dk_at dksX6_doneBy_6 0 rfl rfl)
theorem dX6_doneBy_144 : decode cX6_doneBy 144 = .ok (.aload_n 0, 1) := dk_42 (dk_at dksX6_doneBy_6 3 rfl rfl)
theorem dX6_doneBy_145 : decode cX6_doneBy 145 = .ok (.getfield 103, 3) := dk_180 0 103 (dk_at dksX6_doneBy_6 4 rfl rfl)
theorem dX6_doneBy_148 : decode cX6_doneBy 148 = .ok (.iload 6, 2) := dk_21 6 (dk_at dksX6_doneBy_6 7 rfl rfl)
theorem dX6_doneBy_150 : decode cX6_doneBy 150 = .ok (.iaload, 1) := dk_46 (dk_at dksX6_doneBy_6 9 rfl rfl)
theorem dX6_doneBy_151 : decode cX6_doneBy 151 = .ok (.aload_n 0, 1) := dk_42 (dk_at dksX6_doneBy_6 10 rfl rfl)
theorem dX6_doneBy_152 : decode cX6_doneBy 152 = .ok (.getfield 13, 3) := dk_180 0 13 (dk_at dksX6_doneBy_6 11 rfl rfl)
theorem dX6_doneBy_155 : decode cX6_doneBy 155 = .ok (.bipush 40, 2) := dk_16 40 (dk_at dksX6_doneBy_6 14 rfl rfl)
theorem dX6_doneBy_157 : decode cX6_doneBy 157 = .ok (.iconst 2, 1) := dk_5 (dk_at dksX6_doneBy_6 16 rfl rfl)
theorem dX6_doneBy_158 : decode cX6_doneBy 158 = .ok (.iload 6, 2) := dk_21 6 (dk_at dksX6_doneBy_6 17 rfl rfl)
theorem dX6_doneBy_160 : decode cX6_doneBy 160 = .ok (.imul, 1) := dk_104 (dk_at dksX6_doneBy_6 19 rfl rfl)
theorem dX6_doneBy_161 : decode cX6_doneBy 161 = .ok (.iadd, 1) := dk_96 (dk_at dksX6_doneBy_6 20 rfl rfl)
theorem dX6_doneBy_162 : decode cX6_doneBy 162 = .ok (.iaload, 1) := dk_46 (dk_at dksX6_doneBy_6 21 rfl rfl)
theorem dX6_doneBy_163 : decode cX6_doneBy 163 = .ok (.iadd, 1) := dk_96 (dk_at dksX6_doneBy_6 22 rfl rfl)
theorem dX6_doneBy_164 : decode cX6_doneBy 164 = .ok (.istore 8, 2) := dk_54 8 (dk_at dksX6_doneBy_7 0 rfl rfl)
theorem dX6_doneBy_166 : decode cX6_doneBy 166 = .ok (.aload_n 0, 1) := dk_42 (dk_at dksX6_doneBy_7 2 rfl rfl)
theorem dX6_doneBy_167 : decode cX6_doneBy 167 = .ok (.getfield 103, 3) := dk_180 0 103 (dk_at dksX6_doneBy_7 3 rfl rfl)
theorem dX6_doneBy_170 : decode cX6_doneBy 170 = .ok (.iload 5, 2) := dk_21 5 (dk_at dksX6_doneBy_7 6 rfl rfl)
theorem dX6_doneBy_172 : decode cX6_doneBy 172 = .ok (.aload_n 0, 1) := dk_42 (dk_at dksX6_doneBy_7 8 rfl rfl)
theorem dX6_doneBy_173 : decode cX6_doneBy 173 = .ok (.getfield 106, 3) := dk_180 0 106 (dk_at dksX6_doneBy_7 9 rfl rfl)
theorem dX6_doneBy_176 : decode cX6_doneBy 176 = .ok (.iload 7, 2) := dk_21 7 (dk_at dksX6_doneBy_7 12 rfl rfl)
theorem dX6_doneBy_178 : decode cX6_doneBy 178 = .ok (.iaload, 1) := dk_46 (dk_at dksX6_doneBy_7 14 rfl rfl)
theorem dX6_doneBy_179 : decode cX6_doneBy 179 = .ok (.iload 8, 2) := dk_21 8 (dk_at dksX6_doneBy_7 15 rfl rfl)
theorem dX6_doneBy_181 : decode cX6_doneBy 181 = .ok (.if_icmp .le 13, 3) := dk_164 0 13 (dk_at dksX6_doneBy_7 17 rfl rfl)
theorem dX6_doneBy_184 : decode cX6_doneBy 184 = .ok (.aload_n 0, 1) := dk_42 (dk_at dksX6_doneBy_7 20 rfl rfl)
theorem dX6_doneBy_185 : decode cX6_doneBy 185 = .ok (.getfield 106, 3) := dk_180 0 106 (dk_at dksX6_doneBy_7 21 rfl rfl)
theorem dX6_doneBy_188 : decode cX6_doneBy 188 = .ok (.iload 7, 2) := dk_21 7 (dk_at dksX6_doneBy_8 0 rfl rfl)
theorem dX6_doneBy_190 : decode cX6_doneBy 190 = .ok (.iaload, 1) := dk_46 (dk_at dksX6_doneBy_8 2 rfl rfl)
theorem dX6_doneBy_191 : decode cX6_doneBy 191 = .ok (.goto 5, 3) := dk_167 0 5 (dk_at dksX6_doneBy_8 3 rfl rfl)
theorem dX6_doneBy_194 : decode cX6_doneBy 194 = .ok (.iload 8, 2) := dk_21 8 (dk_at dksX6_doneBy_8 6 rfl rfl)
theorem dX6_doneBy_196 : decode cX6_doneBy 196 = .ok (.iastore, 1) := dk_79 (dk_at dksX6_doneBy_8 8 rfl rfl)
theorem dX6_doneBy_197 : decode cX6_doneBy 197 = .ok (.aload_n 0, 1) := dk_42 (dk_at dksX6_doneBy_8 9 rfl rfl)
theorem dX6_doneBy_198 : decode cX6_doneBy 198 = .ok (.getfield 106, 3) := dk_180 0 106 (dk_at dksX6_doneBy_8 10 rfl rfl)
theorem dX6_doneBy_201 : decode cX6_doneBy 201 = .ok (.iload 7, 2) := dk_21 7 (dk_at dksX6_doneBy_8 13 rfl rfl)
theorem dX6_doneBy_203 : decode cX6_doneBy 203 = .ok (.aload_n 0, 1) := dk_42 (dk_at dksX6_doneBy_8 15 rfl rfl)
theorem dX6_doneBy_204 : decode cX6_doneBy 204 = .ok (.getfield 103, 3) := dk_180 0 103 (dk_at dksX6_doneBy_8 16 rfl rfl)
theorem dX6_doneBy_207 : decode cX6_doneBy 207 = .ok (.iload 5, 2) := dk_21 5 (dk_at dksX6_doneBy_8 19 rfl rfl)
theorem dX6_doneBy_209 : decode cX6_doneBy 209 = .ok (.iaload, 1) := dk_46 (dk_at dksX6_doneBy_8 21 rfl rfl)
theorem dX6_doneBy_210 : decode cX6_doneBy 210 = .ok (.aload_n 0, 1) := dk_42 (dk_at dksX6_doneBy_8 22 rfl rfl)
theorem dX6_doneBy_211 : decode cX6_doneBy 211 = .ok (.getfield 13, 3) := dk_180 0 13 (dk_at dksX6_doneBy_9 0 rfl rfl)
theorem dX6_doneBy_214 : decode cX6_doneBy 214 = .ok (.bipush 40, 2) := dk_16 40 (dk_at dksX6_doneBy_9 3 rfl rfl)
theorem dX6_doneBy_216 : decode cX6_doneBy 216 = .ok (.iconst 2, 1) := dk_5 (dk_at dksX6_doneBy_9 5 rfl rfl)
theorem dX6_doneBy_217 : decode cX6_doneBy 217 = .ok (.iload 5, 2) := dk_21 5 (dk_at dksX6_doneBy_9 6 rfl rfl)
theorem dX6_doneBy_219 : decode cX6_doneBy 219 = .ok (.imul, 1) := dk_104 (dk_at dksX6_doneBy_9 8 rfl rfl)
theorem dX6_doneBy_220 : decode cX6_doneBy 220 = .ok (.iadd, 1) := dk_96 (dk_at dksX6_doneBy_9 9 rfl rfl)
theorem dX6_doneBy_221 : decode cX6_doneBy 221 = .ok (.iaload, 1) := dk_46 (dk_at dksX6_doneBy_9 10 rfl rfl)
theorem dX6_doneBy_222 : decode cX6_doneBy 222 = .ok (.iadd, 1) := dk_96 (dk_at dksX6_doneBy_9 11 rfl rfl)
theorem dX6_doneBy_223 : decode cX6_doneBy 223 = .ok (.iastore, 1) := dk_79 (dk_at dksX6_doneBy_9 12 rfl rfl)
theorem dX6_doneBy_224 : decode cX6_doneBy 224 = .ok (.aload_n 0, 1) := dk_42 (dk_at dksX6_doneBy_9 13 rfl rfl)
theorem dX6_doneBy_225 : decode cX6_doneBy 225 = .ok (.getfield 106, 3) := dk_180 0 106 (dk_at dksX6_doneBy_9 14 rfl rfl)
theorem dX6_doneBy_228 : decode cX6_doneBy 228 = .ok (.iload 7, 2) := dk_21 7 (dk_at dksX6_doneBy_9 17 rfl rfl)
theorem dX6_doneBy_230 : decode cX6_doneBy 230 = .ok (.iaload, 1) := dk_46 (dk_at dksX6_doneBy_9 19 rfl rfl)
theorem dX6_doneBy_231 : decode cX6_doneBy 231 = .ok (.iload_n 3, 1) := dk_29 (dk_at dksX6_doneBy_9 20 rfl rfl)
theorem dX6_doneBy_232 : decode cX6_doneBy 232 = .ok (.if_icmp .le 13, 3) := dk_164 0 13 (dk_at dksX6_doneBy_9 21 rfl rfl)
theorem dX6_doneBy_235 : decode cX6_doneBy 235 = .ok (.aload_n 0, 1) := dk_42 (dk_at dksX6_doneBy_10 0 rfl rfl)
theorem dX6_doneBy_236 : decode cX6_doneBy 236 = .ok (.getfield 106, 3) := dk_180 0 106 (dk_at dksX6_doneBy_10 1 rfl rfl)
theorem dX6_doneBy_239 : decode cX6_doneBy 239 = .ok (.iload 7, 2) := dk_21 7 (dk_at dksX6_doneBy_10 4 rfl rfl)
theorem dX6_doneBy_241 : decode cX6_doneBy 241 = .ok (.iaload, 1) := dk_46 (dk_at dksX6_doneBy_10 6 rfl rfl)
theorem dX6_doneBy_242 : decode cX6_doneBy 242 = .ok (.goto 4, 3) := dk_167 0 4 (dk_at dksX6_doneBy_10 7 rfl rfl)
theorem dX6_doneBy_245 : decode cX6_doneBy 245 = .ok (.iload_n 3, 1) := dk_29 (dk_at dksX6_doneBy_10 10 rfl rfl)
theorem dX6_doneBy_246 : decode cX6_doneBy 246 = .ok (.istore_n 3, 1) := dk_62 (dk_at dksX6_doneBy_10 11 rfl rfl)
theorem dX6_doneBy_247 : decode cX6_doneBy 247 = .ok (.iinc 4 1, 3) := dk_132 4 1 (dk_at dksX6_doneBy_10 12 rfl rfl)
theorem dX6_doneBy_250 : decode cX6_doneBy 250 = .ok (.goto (-220), 3) := dk_167 255 36 (dk_at dksX6_doneBy_10 15 rfl rfl)
theorem dX6_doneBy_253 : decode cX6_doneBy 253 = .ok (.iload_n 3, 1) := dk_29 (dk_at dksX6_doneBy_10 18 rfl rfl)
theorem dX6_doneBy_254 : decode cX6_doneBy 254 = .ok (.ireturn, 1) := dk_172 (dk_at dksX6_doneBy_10 19 rfl rfl)
abbrev cX6_nextOrder : ByteArray := prog_28_method_88_code
def yX6_nextOrder : MethodName := ⟨RX6, "nextOrder", "()Z"⟩
def dkwX6_nextOrder_4 : List UInt8 := [21, 4, 21, 5, 182, 1, 243, 132, 4, 1, 132, 5, 255, 167, 255, 235, 4, 172]
abbrev dktX6_nextOrder_4 : List UInt8 := dkwX6_nextOrder_4 ++ []
def dkwX6_nextOrder_3 : List UInt8 := [28, 29, 182, 1, 243, 28, 4, 96, 54, 4, 27, 4, 100, 54, 5, 21, 4, 21, 5, 162, 0, 20, 42]
abbrev dktX6_nextOrder_3 : List UInt8 := dkwX6_nextOrder_3 ++ dktX6_nextOrder_4
def dkwX6_nextOrder_2 : List UInt8 := [100, 62, 42, 180, 0, 100, 29, 46, 42, 180, 0, 100, 28, 46, 162, 0, 9, 132, 3, 255, 167, 255, 238, 42]
abbrev dktX6_nextOrder_2 : List UInt8 := dkwX6_nextOrder_2 ++ dktX6_nextOrder_3
def dkwX6_nextOrder_1 : List UInt8 := [180, 0, 100, 28, 4, 96, 46, 164, 0, 9, 132, 2, 255, 167, 255, 232, 28, 156, 0, 5, 3, 172, 27, 4]
abbrev dktX6_nextOrder_1 : List UInt8 := dkwX6_nextOrder_1 ++ dktX6_nextOrder_2
def dkwX6_nextOrder_0 : List UInt8 := [42, 180, 0, 13, 5, 46, 60, 27, 5, 100, 61, 28, 155, 0, 26, 42, 180, 0, 100, 28, 46, 42]
abbrev dktX6_nextOrder_0 : List UInt8 := dkwX6_nextOrder_0 ++ dktX6_nextOrder_1
theorem dksX6_nextOrder_0 : cX6_nextOrder.data.toList.drop 0 = dktX6_nextOrder_0 := by decide +kernel
theorem dksX6_nextOrder_1 : cX6_nextOrder.data.toList.drop 22 = dktX6_nextOrder_1 := dk_seg dksX6_nextOrder_0 22 rfl rfl
theorem dksX6_nextOrder_2 : cX6_nextOrder.data.toList.drop 46 = dktX6_nextOrder_2 := dk_seg dksX6_nextOrder_1 24 rfl rfl
theorem dksX6_nextOrder_3 : cX6_nextOrder.data.toList.drop 70 = dktX6_nextOrder_3 := dk_seg dksX6_nextOrder_2 24 rfl rfl
theorem dksX6_nextOrder_4 : cX6_nextOrder.data.toList.drop 93 = dktX6_nextOrder_4 := dk_seg dksX6_nextOrder_3 23 rfl rfl
theorem dX6_nextOrder_0 : decode cX6_nextOrder 0 = .ok (.aload_n 0, 1) := dk_42 (dk_at dksX6_nextOrder_0 0 rfl rfl)
theorem dX6_nextOrder_1 : decode cX6_nextOrder 1 = .ok (.getfield 13, 3) := dk_180 0 13 (dk_at dksX6_nextOrder_0 1 rfl rfl)
theorem dX6_nextOrder_4 : decode cX6_nextOrder 4 = .ok (.iconst 2, 1) := dk_5 (dk_at dksX6_nextOrder_0 4 rfl rfl)
theorem dX6_nextOrder_5 : decode cX6_nextOrder 5 = .ok (.iaload, 1) := dk_46 (dk_at dksX6_nextOrder_0 5 rfl rfl)
theorem dX6_nextOrder_6 : decode cX6_nextOrder 6 = .ok (.istore_n 1, 1) := dk_60 (dk_at dksX6_nextOrder_0 6 rfl rfl)
theorem dX6_nextOrder_7 : decode cX6_nextOrder 7 = .ok (.iload_n 1, 1) := dk_27 (dk_at dksX6_nextOrder_0 7 rfl rfl)
theorem dX6_nextOrder_8 : decode cX6_nextOrder 8 = .ok (.iconst 2, 1) := dk_5 (dk_at dksX6_nextOrder_0 8 rfl rfl)
theorem dX6_nextOrder_9 : decode cX6_nextOrder 9 = .ok (.isub, 1) := dk_100 (dk_at dksX6_nextOrder_0 9 rfl rfl)
theorem dX6_nextOrder_10 : decode cX6_nextOrder 10 = .ok (.istore_n 2, 1) := dk_61 (dk_at dksX6_nextOrder_0 10 rfl rfl)
theorem dX6_nextOrder_11 : decode cX6_nextOrder 11 = .ok (.iload_n 2, 1) := dk_28 (dk_at dksX6_nextOrder_0 11 rfl rfl)
theorem dX6_nextOrder_12 : decode cX6_nextOrder 12 = .ok (.ifCond .lt 26, 3) := dk_155 0 26 (dk_at dksX6_nextOrder_0 12 rfl rfl)
theorem dX6_nextOrder_15 : decode cX6_nextOrder 15 = .ok (.aload_n 0, 1) := dk_42 (dk_at dksX6_nextOrder_0 15 rfl rfl)
theorem dX6_nextOrder_16 : decode cX6_nextOrder 16 = .ok (.getfield 100, 3) := dk_180 0 100 (dk_at dksX6_nextOrder_0 16 rfl rfl)
theorem dX6_nextOrder_19 : decode cX6_nextOrder 19 = .ok (.iload_n 2, 1) := dk_28 (dk_at dksX6_nextOrder_0 19 rfl rfl)
theorem dX6_nextOrder_20 : decode cX6_nextOrder 20 = .ok (.iaload, 1) := dk_46 (dk_at dksX6_nextOrder_0 20 rfl rfl)
theorem dX6_nextOrder_21 : decode cX6_nextOrder 21 = .ok (.aload_n 0, 1) := dk_42 (dk_at dksX6_nextOrder_0 21 rfl rfl)
theorem dX6_nextOrder_22 : decode cX6_nextOrder 22 = .ok (.getfield 100, 3) := dk_180 0 100 (dk_at dksX6_nextOrder_1 0 rfl rfl)
theorem dX6_nextOrder_25 : decode cX6_nextOrder 25 = .ok (.iload_n 2, 1) := dk_28 (dk_at dksX6_nextOrder_1 3 rfl rfl)
theorem dX6_nextOrder_26 : decode cX6_nextOrder 26 = .ok (.iconst 1, 1) := dk_4 (dk_at dksX6_nextOrder_1 4 rfl rfl)
theorem dX6_nextOrder_27 : decode cX6_nextOrder 27 = .ok (.iadd, 1) := dk_96 (dk_at dksX6_nextOrder_1 5 rfl rfl)
theorem dX6_nextOrder_28 : decode cX6_nextOrder 28 = .ok (.iaload, 1) := dk_46 (dk_at dksX6_nextOrder_1 6 rfl rfl)
theorem dX6_nextOrder_29 : decode cX6_nextOrder 29 = .ok (.if_icmp .le 9, 3) := dk_164 0 9 (dk_at dksX6_nextOrder_1 7 rfl rfl)
theorem dX6_nextOrder_32 : decode cX6_nextOrder 32 = .ok (.iinc 2 (-1), 3) := dk_132 2 255 (dk_at dksX6_nextOrder_1 10 rfl rfl)
theorem dX6_nextOrder_35 : decode cX6_nextOrder 35 = .ok (.goto (-24), 3) := dk_167 255 232 (dk_at dksX6_nextOrder_1 13 rfl rfl)
theorem dX6_nextOrder_38 : decode cX6_nextOrder 38 = .ok (.iload_n 2, 1) := dk_28 (dk_at dksX6_nextOrder_1 16 rfl rfl)
theorem dX6_nextOrder_39 : decode cX6_nextOrder 39 = .ok (.ifCond .ge 5, 3) := dk_156 0 5 (dk_at dksX6_nextOrder_1 17 rfl rfl)
theorem dX6_nextOrder_42 : decode cX6_nextOrder 42 = .ok (.iconst 0, 1) := dk_3 (dk_at dksX6_nextOrder_1 20 rfl rfl)
theorem dX6_nextOrder_43 : decode cX6_nextOrder 43 = .ok (.ireturn, 1) := dk_172 (dk_at dksX6_nextOrder_1 21 rfl rfl)
theorem dX6_nextOrder_44 : decode cX6_nextOrder 44 = .ok (.iload_n 1, 1) := dk_27 (dk_at dksX6_nextOrder_1 22 rfl rfl)
theorem dX6_nextOrder_45 : decode cX6_nextOrder 45 = .ok (.iconst 1, 1) := dk_4 (dk_at dksX6_nextOrder_1 23 rfl rfl)
theorem dX6_nextOrder_46 : decode cX6_nextOrder 46 = .ok (.isub, 1) := dk_100 (dk_at dksX6_nextOrder_2 0 rfl rfl)
theorem dX6_nextOrder_47 : decode cX6_nextOrder 47 = .ok (.istore_n 3, 1) := dk_62 (dk_at dksX6_nextOrder_2 1 rfl rfl)
theorem dX6_nextOrder_48 : decode cX6_nextOrder 48 = .ok (.aload_n 0, 1) := dk_42 (dk_at dksX6_nextOrder_2 2 rfl rfl)
theorem dX6_nextOrder_49 : decode cX6_nextOrder 49 = .ok (.getfield 100, 3) := dk_180 0 100 (dk_at dksX6_nextOrder_2 3 rfl rfl)
theorem dX6_nextOrder_52 : decode cX6_nextOrder 52 = .ok (.iload_n 3, 1) := dk_29 (dk_at dksX6_nextOrder_2 6 rfl rfl)
theorem dX6_nextOrder_53 : decode cX6_nextOrder 53 = .ok (.iaload, 1) := dk_46 (dk_at dksX6_nextOrder_2 7 rfl rfl)
theorem dX6_nextOrder_54 : decode cX6_nextOrder 54 = .ok (.aload_n 0, 1) := dk_42 (dk_at dksX6_nextOrder_2 8 rfl rfl)
theorem dX6_nextOrder_55 : decode cX6_nextOrder 55 = .ok (.getfield 100, 3) := dk_180 0 100 (dk_at dksX6_nextOrder_2 9 rfl rfl)
theorem dX6_nextOrder_58 : decode cX6_nextOrder 58 = .ok (.iload_n 2, 1) := dk_28 (dk_at dksX6_nextOrder_2 12 rfl rfl)
theorem dX6_nextOrder_59 : decode cX6_nextOrder 59 = .ok (.iaload, 1) := dk_46 (dk_at dksX6_nextOrder_2 13 rfl rfl)
theorem dX6_nextOrder_60 : decode cX6_nextOrder 60 = .ok (.if_icmp .ge 9, 3) := dk_162 0 9 (dk_at dksX6_nextOrder_2 14 rfl rfl)
theorem dX6_nextOrder_63 : decode cX6_nextOrder 63 = .ok (.iinc 3 (-1), 3) := dk_132 3 255 (dk_at dksX6_nextOrder_2 17 rfl rfl)
theorem dX6_nextOrder_66 : decode cX6_nextOrder 66 = .ok (.goto (-18), 3) := dk_167 255 238 (dk_at dksX6_nextOrder_2 20 rfl rfl)
theorem dX6_nextOrder_69 : decode cX6_nextOrder 69 = .ok (.aload_n 0, 1) := dk_42 (dk_at dksX6_nextOrder_2 23 rfl rfl)
theorem dX6_nextOrder_70 : decode cX6_nextOrder 70 = .ok (.iload_n 2, 1) := dk_28 (dk_at dksX6_nextOrder_3 0 rfl rfl)
theorem dX6_nextOrder_71 : decode cX6_nextOrder 71 = .ok (.iload_n 3, 1) := dk_29 (dk_at dksX6_nextOrder_3 1 rfl rfl)
theorem dX6_nextOrder_72 : decode cX6_nextOrder 72 = .ok (.invokevirtual 499, 3) := dk_182 1 243 (dk_at dksX6_nextOrder_3 2 rfl rfl)
theorem dX6_nextOrder_75 : decode cX6_nextOrder 75 = .ok (.iload_n 2, 1) := dk_28 (dk_at dksX6_nextOrder_3 5 rfl rfl)
theorem dX6_nextOrder_76 : decode cX6_nextOrder 76 = .ok (.iconst 1, 1) := dk_4 (dk_at dksX6_nextOrder_3 6 rfl rfl)
theorem dX6_nextOrder_77 : decode cX6_nextOrder 77 = .ok (.iadd, 1) := dk_96 (dk_at dksX6_nextOrder_3 7 rfl rfl)
theorem dX6_nextOrder_78 : decode cX6_nextOrder 78 = .ok (.istore 4, 2) := dk_54 4 (dk_at dksX6_nextOrder_3 8 rfl rfl)
theorem dX6_nextOrder_80 : decode cX6_nextOrder 80 = .ok (.iload_n 1, 1) := dk_27 (dk_at dksX6_nextOrder_3 10 rfl rfl)
theorem dX6_nextOrder_81 : decode cX6_nextOrder 81 = .ok (.iconst 1, 1) := dk_4 (dk_at dksX6_nextOrder_3 11 rfl rfl)
theorem dX6_nextOrder_82 : decode cX6_nextOrder 82 = .ok (.isub, 1) := dk_100 (dk_at dksX6_nextOrder_3 12 rfl rfl)
theorem dX6_nextOrder_83 : decode cX6_nextOrder 83 = .ok (.istore 5, 2) := dk_54 5 (dk_at dksX6_nextOrder_3 13 rfl rfl)
theorem dX6_nextOrder_85 : decode cX6_nextOrder 85 = .ok (.iload 4, 2) := dk_21 4 (dk_at dksX6_nextOrder_3 15 rfl rfl)
theorem dX6_nextOrder_87 : decode cX6_nextOrder 87 = .ok (.iload 5, 2) := dk_21 5 (dk_at dksX6_nextOrder_3 17 rfl rfl)
theorem dX6_nextOrder_89 : decode cX6_nextOrder 89 = .ok (.if_icmp .ge 20, 3) := dk_162 0 20 (dk_at dksX6_nextOrder_3 19 rfl rfl)
theorem dX6_nextOrder_92 : decode cX6_nextOrder 92 = .ok (.aload_n 0, 1) := dk_42 (dk_at dksX6_nextOrder_3 22 rfl rfl)
theorem dX6_nextOrder_93 : decode cX6_nextOrder 93 = .ok (.iload 4, 2) := dk_21 4 (dk_at dksX6_nextOrder_4 0 rfl rfl)
theorem dX6_nextOrder_95 : decode cX6_nextOrder 95 = .ok (.iload 5, 2) := dk_21 5 (dk_at dksX6_nextOrder_4 2 rfl rfl)
theorem dX6_nextOrder_97 : decode cX6_nextOrder 97 = .ok (.invokevirtual 499, 3) := dk_182 1 243 (dk_at dksX6_nextOrder_4 4 rfl rfl)
theorem dX6_nextOrder_100 : decode cX6_nextOrder 100 = .ok (.iinc 4 1, 3) := dk_132 4 1 (dk_at dksX6_nextOrder_4 7 rfl rfl)
theorem dX6_nextOrder_103 : decode cX6_nextOrder 103 = .ok (.iinc 5 (-1), 3) := dk_132 5 255 (dk_at dksX6_nextOrder_4 10 rfl rfl)
theorem dX6_nextOrder_106 : decode cX6_nextOrder 106 = .ok (.goto (-21), 3) := dk_167 255 235 (dk_at dksX6_nextOrder_4 13 rfl rfl)
theorem dX6_nextOrder_109 : decode cX6_nextOrder 109 = .ok (.iconst 1, 1) := dk_4 (dk_at dksX6_nextOrder_4 16 rfl rfl)
theorem dX6_nextOrder_110 : decode cX6_nextOrder 110 = .ok (.ireturn, 1) := dk_172 (dk_at dksX6_nextOrder_4 17 rfl rfl)
abbrev cX6_exchange : ByteArray := prog_28_method_89_code
def yX6_exchange : MethodName := ⟨RX6, "exchange", "(II)V"⟩
def dkwX6_exchange_1 : List UInt8 := [29, 79, 177]
abbrev dktX6_exchange_1 : List UInt8 := dkwX6_exchange_1 ++ []
def dkwX6_exchange_0 : List UInt8 := [42, 180, 0, 100, 27, 46, 62, 42, 180, 0, 100, 27, 42, 180, 0, 100, 28, 46, 79, 42, 180, 0, 100, 28]
abbrev dktX6_exchange_0 : List UInt8 := dkwX6_exchange_0 ++ dktX6_exchange_1
theorem dksX6_exchange_0 : cX6_exchange.data.toList.drop 0 = dktX6_exchange_0 := by decide +kernel
theorem dksX6_exchange_1 : cX6_exchange.data.toList.drop 24 = dktX6_exchange_1 := dk_seg dksX6_exchange_0 24 rfl rfl
theorem dX6_exchange_0 : decode cX6_exchange 0 = .ok (.aload_n 0, 1) := dk_42 (dk_at dksX6_exchange_0 0 rfl rfl)
theorem dX6_exchange_1 : decode cX6_exchange 1 = .ok (.getfield 100, 3) := dk_180 0 100 (dk_at dksX6_exchange_0 1 rfl rfl)
theorem dX6_exchange_4 : decode cX6_exchange 4 = .ok (.iload_n 1, 1) := dk_27 (dk_at dksX6_exchange_0 4 rfl rfl)
theorem dX6_exchange_5 : decode cX6_exchange 5 = .ok (.iaload, 1) := dk_46 (dk_at dksX6_exchange_0 5 rfl rfl)
theorem dX6_exchange_6 : decode cX6_exchange 6 = .ok (.istore_n 3, 1) := dk_62 (dk_at dksX6_exchange_0 6 rfl rfl)
theorem dX6_exchange_7 : decode cX6_exchange 7 = .ok (.aload_n 0, 1) := dk_42 (dk_at dksX6_exchange_0 7 rfl rfl)
theorem dX6_exchange_8 : decode cX6_exchange 8 = .ok (.getfield 100, 3) := dk_180 0 100 (dk_at dksX6_exchange_0 8 rfl rfl)
theorem dX6_exchange_11 : decode cX6_exchange 11 = .ok (.iload_n 1, 1) := dk_27 (dk_at dksX6_exchange_0 11 rfl rfl)
theorem dX6_exchange_12 : decode cX6_exchange 12 = .ok (.aload_n 0, 1) := dk_42 (dk_at dksX6_exchange_0 12 rfl rfl)
theorem dX6_exchange_13 : decode cX6_exchange 13 = .ok (.getfield 100, 3) := dk_180 0 100 (dk_at dksX6_exchange_0 13 rfl rfl)
theorem dX6_exchange_16 : decode cX6_exchange 16 = .ok (.iload_n 2, 1) := dk_28 (dk_at dksX6_exchange_0 16 rfl rfl)
theorem dX6_exchange_17 : decode cX6_exchange 17 = .ok (.iaload, 1) := dk_46 (dk_at dksX6_exchange_0 17 rfl rfl)
theorem dX6_exchange_18 : decode cX6_exchange 18 = .ok (.iastore, 1) := dk_79 (dk_at dksX6_exchange_0 18 rfl rfl)
theorem dX6_exchange_19 : decode cX6_exchange 19 = .ok (.aload_n 0, 1) := dk_42 (dk_at dksX6_exchange_0 19 rfl rfl)
theorem dX6_exchange_20 : decode cX6_exchange 20 = .ok (.getfield 100, 3) := dk_180 0 100 (dk_at dksX6_exchange_0 20 rfl rfl)
theorem dX6_exchange_23 : decode cX6_exchange 23 = .ok (.iload_n 2, 1) := dk_28 (dk_at dksX6_exchange_0 23 rfl rfl)
theorem dX6_exchange_24 : decode cX6_exchange 24 = .ok (.iload_n 3, 1) := dk_29 (dk_at dksX6_exchange_1 0 rfl rfl)
theorem dX6_exchange_25 : decode cX6_exchange 25 = .ok (.iastore, 1) := dk_79 (dk_at dksX6_exchange_1 1 rfl rfl)
theorem dX6_exchange_26 : decode cX6_exchange 26 = .ok (.return_, 1) := dk_177 (dk_at dksX6_exchange_1 2 rfl rfl)
abbrev cX6_count : ByteArray := prog_28_method_91_code
def yX6_count : MethodName := ⟨RX6, "count", "(I)I"⟩
def dkwX6_count_5 : List UInt8 := [172, 42, 180, 0, 7, 8, 46, 172, 42, 180, 0, 7, 16, 6, 46, 172, 2, 172]
abbrev dktX6_count_5 : List UInt8 := dkwX6_count_5 ++ []
def dkwX6_count_4 : List UInt8 := [180, 0, 155, 172, 42, 180, 0, 7, 4, 46, 172, 42, 180, 0, 7, 5, 46, 172, 42, 180, 0, 7, 6, 46]
abbrev dktX6_count_4 : List UInt8 := dkwX6_count_4 ++ dktX6_count_5
def dkwX6_count_3 : List UInt8 := [42, 180, 0, 13, 3, 46, 172, 42, 180, 0, 13, 4, 46, 172, 42, 180, 0, 13, 5, 46, 172, 28, 172, 42]
abbrev dktX6_count_3 : List UInt8 := dkwX6_count_3 ++ dktX6_count_4
def dkwX6_count_2 : List UInt8 := [170, 0, 0, 0, 0, 118, 0, 0, 0, 0, 0, 0, 0, 9, 0, 0, 0, 54, 0, 0, 0, 61, 0, 0, 0, 68, 0, 0, 0, 75, 0, 0, 0, 77, 0, 0, 0, 82, 0, 0, 0, 89, 0, 0, 0, 96, 0, 0, 0, 103, 0, 0, 0, 110]
abbrev dktX6_count_2 : List UInt8 := dkwX6_count_2 ++ dktX6_count_3
def dkwX6_count_1 : List UInt8 := [16, 20, 29, 96, 46, 96, 61, 132, 3, 1, 167, 255, 231, 27]
abbrev dktX6_count_1 : List UInt8 := dkwX6_count_1 ++ dktX6_count_2
def dkwX6_count_0 : List UInt8 := [42, 3, 181, 0, 112, 3, 61, 3, 62, 29, 42, 180, 0, 13, 3, 46, 162, 0, 21, 28, 42, 180, 0, 13]
abbrev dktX6_count_0 : List UInt8 := dkwX6_count_0 ++ dktX6_count_1
theorem dksX6_count_0 : cX6_count.data.toList.drop 0 = dktX6_count_0 := by decide +kernel
theorem dksX6_count_1 : cX6_count.data.toList.drop 24 = dktX6_count_1 := dk_seg dksX6_count_0 24 rfl rfl
theorem dksX6_count_2 : cX6_count.data.toList.drop 38 = dktX6_count_2 := dk_seg dksX6_count_1 14 rfl rfl
theorem dksX6_count_3 : cX6_count.data.toList.drop 92 = dktX6_count_3 := dk_seg dksX6_count_2 54 rfl rfl
theorem dksX6_count_4 : cX6_count.data.toList.drop 116 = dktX6_count_4 := dk_seg dksX6_count_3 24 rfl rfl
theorem dksX6_count_5 : cX6_count.data.toList.drop 140 = dktX6_count_5 := dk_seg dksX6_count_4 24 rfl rfl
theorem dX6_count_0 : decode cX6_count 0 = .ok (.aload_n 0, 1) := dk_42 (dk_at dksX6_count_0 0 rfl rfl)
theorem dX6_count_1 : decode cX6_count 1 = .ok (.iconst 0, 1) := dk_3 (dk_at dksX6_count_0 1 rfl rfl)
theorem dX6_count_2 : decode cX6_count 2 = .ok (.putfield 112, 3) := dk_181 0 112 (dk_at dksX6_count_0 2 rfl rfl)
theorem dX6_count_5 : decode cX6_count 5 = .ok (.iconst 0, 1) := dk_3 (dk_at dksX6_count_0 5 rfl rfl)
theorem dX6_count_6 : decode cX6_count 6 = .ok (.istore_n 2, 1) := dk_61 (dk_at dksX6_count_0 6 rfl rfl)
theorem dX6_count_7 : decode cX6_count 7 = .ok (.iconst 0, 1) := dk_3 (dk_at dksX6_count_0 7 rfl rfl)
theorem dX6_count_8 : decode cX6_count 8 = .ok (.istore_n 3, 1) := dk_62 (dk_at dksX6_count_0 8 rfl rfl)
theorem dX6_count_9 : decode cX6_count 9 = .ok (.iload_n 3, 1) := dk_29 (dk_at dksX6_count_0 9 rfl rfl)
theorem dX6_count_10 : decode cX6_count 10 = .ok (.aload_n 0, 1) := dk_42 (dk_at dksX6_count_0 10 rfl rfl)
theorem dX6_count_11 : decode cX6_count 11 = .ok (.getfield 13, 3) := dk_180 0 13 (dk_at dksX6_count_0 11 rfl rfl)
theorem dX6_count_14 : decode cX6_count 14 = .ok (.iconst 0, 1) := dk_3 (dk_at dksX6_count_0 14 rfl rfl)
theorem dX6_count_15 : decode cX6_count 15 = .ok (.iaload, 1) := dk_46 (dk_at dksX6_count_0 15 rfl rfl)
theorem dX6_count_16 : decode cX6_count 16 = .ok (.if_icmp .ge 21, 3) := dk_162 0 21 (dk_at dksX6_count_0 16 rfl rfl)
theorem dX6_count_19 : decode cX6_count 19 = .ok (.iload_n 2, 1) := dk_28 (dk_at dksX6_count_0 19 rfl rfl)
theorem dX6_count_20 : decode cX6_count 20 = .ok (.aload_n 0, 1) := dk_42 (dk_at dksX6_count_0 20 rfl rfl)
theorem dX6_count_21 : decode cX6_count 21 = .ok (.getfield 13, 3) := dk_180 0 13 (dk_at dksX6_count_0 21 rfl rfl)
theorem dX6_count_24 : decode cX6_count 24 = .ok (.bipush 20, 2) := dk_16 20 (dk_at dksX6_count_1 0 rfl rfl)
theorem dX6_count_26 : decode cX6_count 26 = .ok (.iload_n 3, 1) := dk_29 (dk_at dksX6_count_1 2 rfl rfl)
theorem dX6_count_27 : decode cX6_count 27 = .ok (.iadd, 1) := dk_96 (dk_at dksX6_count_1 3 rfl rfl)
theorem dX6_count_28 : decode cX6_count 28 = .ok (.iaload, 1) := dk_46 (dk_at dksX6_count_1 4 rfl rfl)
theorem dX6_count_29 : decode cX6_count 29 = .ok (.iadd, 1) := dk_96 (dk_at dksX6_count_1 5 rfl rfl)
theorem dX6_count_30 : decode cX6_count 30 = .ok (.istore_n 2, 1) := dk_61 (dk_at dksX6_count_1 6 rfl rfl)
theorem dX6_count_31 : decode cX6_count 31 = .ok (.iinc 3 1, 3) := dk_132 3 1 (dk_at dksX6_count_1 7 rfl rfl)
theorem dX6_count_34 : decode cX6_count 34 = .ok (.goto (-25), 3) := dk_167 255 231 (dk_at dksX6_count_1 10 rfl rfl)
theorem dX6_count_37 : decode cX6_count 37 = .ok (.iload_n 1, 1) := dk_27 (dk_at dksX6_count_1 13 rfl rfl)
theorem dX6_count_38 : decode cX6_count 38 = .ok (.tableswitch 118 0 9 #[54, 61, 68, 75, 77, 82, 89, 96, 103, 110], 54) := by decide +kernel
theorem dX6_count_92 : decode cX6_count 92 = .ok (.aload_n 0, 1) := dk_42 (dk_at dksX6_count_3 0 rfl rfl)
theorem dX6_count_93 : decode cX6_count 93 = .ok (.getfield 13, 3) := dk_180 0 13 (dk_at dksX6_count_3 1 rfl rfl)
theorem dX6_count_96 : decode cX6_count 96 = .ok (.iconst 0, 1) := dk_3 (dk_at dksX6_count_3 4 rfl rfl)
theorem dX6_count_97 : decode cX6_count 97 = .ok (.iaload, 1) := dk_46 (dk_at dksX6_count_3 5 rfl rfl)
theorem dX6_count_98 : decode cX6_count 98 = .ok (.ireturn, 1) := dk_172 (dk_at dksX6_count_3 6 rfl rfl)
theorem dX6_count_99 : decode cX6_count 99 = .ok (.aload_n 0, 1) := dk_42 (dk_at dksX6_count_3 7 rfl rfl)
theorem dX6_count_100 : decode cX6_count 100 = .ok (.getfield 13, 3) := dk_180 0 13 (dk_at dksX6_count_3 8 rfl rfl)
theorem dX6_count_103 : decode cX6_count 103 = .ok (.iconst 1, 1) := dk_4 (dk_at dksX6_count_3 11 rfl rfl)
theorem dX6_count_104 : decode cX6_count 104 = .ok (.iaload, 1) := dk_46 (dk_at dksX6_count_3 12 rfl rfl)
theorem dX6_count_105 : decode cX6_count 105 = .ok (.ireturn, 1) := dk_172 (dk_at dksX6_count_3 13 rfl rfl)
theorem dX6_count_106 : decode cX6_count 106 = .ok (.aload_n 0, 1) := dk_42 (dk_at dksX6_count_3 14 rfl rfl)
theorem dX6_count_107 : decode cX6_count 107 = .ok (.getfield 13, 3) := dk_180 0 13 (dk_at dksX6_count_3 15 rfl rfl)
theorem dX6_count_110 : decode cX6_count 110 = .ok (.iconst 2, 1) := dk_5 (dk_at dksX6_count_3 18 rfl rfl)
theorem dX6_count_111 : decode cX6_count 111 = .ok (.iaload, 1) := dk_46 (dk_at dksX6_count_3 19 rfl rfl)
theorem dX6_count_112 : decode cX6_count 112 = .ok (.ireturn, 1) := dk_172 (dk_at dksX6_count_3 20 rfl rfl)
theorem dX6_count_113 : decode cX6_count 113 = .ok (.iload_n 2, 1) := dk_28 (dk_at dksX6_count_3 21 rfl rfl)
theorem dX6_count_114 : decode cX6_count 114 = .ok (.ireturn, 1) := dk_172 (dk_at dksX6_count_3 22 rfl rfl)
theorem dX6_count_115 : decode cX6_count 115 = .ok (.aload_n 0, 1) := dk_42 (dk_at dksX6_count_3 23 rfl rfl)
theorem dX6_count_116 : decode cX6_count 116 = .ok (.getfield 155, 3) := dk_180 0 155 (dk_at dksX6_count_4 0 rfl rfl)
theorem dX6_count_119 : decode cX6_count 119 = .ok (.ireturn, 1) := dk_172 (dk_at dksX6_count_4 3 rfl rfl)
theorem dX6_count_120 : decode cX6_count 120 = .ok (.aload_n 0, 1) := dk_42 (dk_at dksX6_count_4 4 rfl rfl)
theorem dX6_count_121 : decode cX6_count 121 = .ok (.getfield 7, 3) := dk_180 0 7 (dk_at dksX6_count_4 5 rfl rfl)
theorem dX6_count_124 : decode cX6_count 124 = .ok (.iconst 1, 1) := dk_4 (dk_at dksX6_count_4 8 rfl rfl)
theorem dX6_count_125 : decode cX6_count 125 = .ok (.iaload, 1) := dk_46 (dk_at dksX6_count_4 9 rfl rfl)
theorem dX6_count_126 : decode cX6_count 126 = .ok (.ireturn, 1) := dk_172 (dk_at dksX6_count_4 10 rfl rfl)
theorem dX6_count_127 : decode cX6_count 127 = .ok (.aload_n 0, 1) := dk_42 (dk_at dksX6_count_4 11 rfl rfl)
theorem dX6_count_128 : decode cX6_count 128 = .ok (.getfield 7, 3) := dk_180 0 7 (dk_at dksX6_count_4 12 rfl rfl)
theorem dX6_count_131 : decode cX6_count 131 = .ok (.iconst 2, 1) := dk_5 (dk_at dksX6_count_4 15 rfl rfl)
theorem dX6_count_132 : decode cX6_count 132 = .ok (.iaload, 1) := dk_46 (dk_at dksX6_count_4 16 rfl rfl)
theorem dX6_count_133 : decode cX6_count 133 = .ok (.ireturn, 1) := dk_172 (dk_at dksX6_count_4 17 rfl rfl)
theorem dX6_count_134 : decode cX6_count 134 = .ok (.aload_n 0, 1) := dk_42 (dk_at dksX6_count_4 18 rfl rfl)
theorem dX6_count_135 : decode cX6_count 135 = .ok (.getfield 7, 3) := dk_180 0 7 (dk_at dksX6_count_4 19 rfl rfl)
theorem dX6_count_138 : decode cX6_count 138 = .ok (.iconst 3, 1) := dk_6 (dk_at dksX6_count_4 22 rfl rfl)
theorem dX6_count_139 : decode cX6_count 139 = .ok (.iaload, 1) := dk_46 (dk_at dksX6_count_4 23 rfl rfl)
theorem dX6_count_140 : decode cX6_count 140 = .ok (.ireturn, 1) := dk_172 (dk_at dksX6_count_5 0 rfl rfl)
theorem dX6_count_141 : decode cX6_count 141 = .ok (.aload_n 0, 1) := dk_42 (dk_at dksX6_count_5 1 rfl rfl)
theorem dX6_count_142 : decode cX6_count 142 = .ok (.getfield 7, 3) := dk_180 0 7 (dk_at dksX6_count_5 2 rfl rfl)
theorem dX6_count_145 : decode cX6_count 145 = .ok (.iconst 5, 1) := dk_8 (dk_at dksX6_count_5 5 rfl rfl)
theorem dX6_count_146 : decode cX6_count 146 = .ok (.iaload, 1) := dk_46 (dk_at dksX6_count_5 6 rfl rfl)
theorem dX6_count_147 : decode cX6_count 147 = .ok (.ireturn, 1) := dk_172 (dk_at dksX6_count_5 7 rfl rfl)
theorem dX6_count_148 : decode cX6_count 148 = .ok (.aload_n 0, 1) := dk_42 (dk_at dksX6_count_5 8 rfl rfl)
theorem dX6_count_149 : decode cX6_count 149 = .ok (.getfield 7, 3) := dk_180 0 7 (dk_at dksX6_count_5 9 rfl rfl)
theorem dX6_count_152 : decode cX6_count 152 = .ok (.bipush 6, 2) := dk_16 6 (dk_at dksX6_count_5 12 rfl rfl)
theorem dX6_count_154 : decode cX6_count 154 = .ok (.iaload, 1) := dk_46 (dk_at dksX6_count_5 14 rfl rfl)
theorem dX6_count_155 : decode cX6_count 155 = .ok (.ireturn, 1) := dk_172 (dk_at dksX6_count_5 15 rfl rfl)
theorem dX6_count_156 : decode cX6_count 156 = .ok (.iconst (-1), 1) := dk_2 (dk_at dksX6_count_5 16 rfl rfl)
theorem dX6_count_157 : decode cX6_count 157 = .ok (.ireturn, 1) := dk_172 (dk_at dksX6_count_5 17 rfl rfl)
abbrev cX6_status : ByteArray := prog_28_method_92_code
def yX6_status : MethodName := ⟨RX6, "status", "()I"⟩
def dkwX6_status_0 : List UInt8 := [42, 3, 181, 0, 112, 42, 180, 0, 115, 172]
abbrev dktX6_status_0 : List UInt8 := dkwX6_status_0 ++ []
theorem dksX6_status_0 : cX6_status.data.toList.drop 0 = dktX6_status_0 := by decide +kernel
theorem dX6_status_0 : decode cX6_status 0 = .ok (.aload_n 0, 1) := dk_42 (dk_at dksX6_status_0 0 rfl rfl)
theorem dX6_status_1 : decode cX6_status 1 = .ok (.iconst 0, 1) := dk_3 (dk_at dksX6_status_0 1 rfl rfl)
theorem dX6_status_2 : decode cX6_status 2 = .ok (.putfield 112, 3) := dk_181 0 112 (dk_at dksX6_status_0 2 rfl rfl)
theorem dX6_status_5 : decode cX6_status 5 = .ok (.aload_n 0, 1) := dk_42 (dk_at dksX6_status_0 5 rfl rfl)
theorem dX6_status_6 : decode cX6_status 6 = .ok (.getfield 115, 3) := dk_180 0 115 (dk_at dksX6_status_0 6 rfl rfl)
theorem dX6_status_9 : decode cX6_status 9 = .ok (.ireturn, 1) := dk_172 (dk_at dksX6_status_0 9 rfl rfl)
theorem q114 : (Jvm.Cond.initialized "HotIronModel") ∈ lw_all := lw_g (lw_at lw_m1 10 rfl) rfl
theorem q565 : (Jvm.Cond.selects "HotIronModel" ({ cls := "java/lang/Object", name := "getClass", desc := "()Ljava/lang/Class;" } : Jvm.MethodName) ({ cls := "java/lang/Object", name := "getClass", desc := "()Ljava/lang/Class;" } : Jvm.MethodName)) ∈ lw_all := lw_g (lw_at lw_m2 221 rfl) rfl
theorem q1508 : (Jvm.Cond.instantiable "HotIronModel" (67 : Nat)) ∈ lw_all := lw_g (lw_at lw_m6 204 rfl) rfl
theorem q1510 : (Jvm.Cond.instanceMethod ({ cls := "HotIronModel", name := "<init>", desc := "()V" } : Jvm.MethodName)) ∈ lw_all := lw_g (lw_at lw_m6 206 rfl) rfl
theorem q1511 : (Jvm.Cond.code ({ cls := "HotIronModel", name := "<init>", desc := "()V" } : Jvm.MethodName) prog_28_method_1_code (2 : Nat) (Option.none : Option Jvm.ClassFile.FieldType)) ∈ lw_all := lw_g (lw_at lw_m6 207 rfl) rfl
theorem q1512 : (Jvm.Cond.methodLink "HotIronModel" (1 : Nat) ({ cls := "java/lang/Object", name := "<init>", desc := "()V" } : Jvm.MethodName)) ∈ lw_all := lw_g (lw_at lw_m6 208 rfl) rfl
theorem q1513 : (Jvm.Cond.constant "HotIronModel" (69 : Nat) (59049 : Int32)) ∈ lw_all := lw_g (lw_at lw_m6 209 rfl) rfl
theorem q1514 : (Jvm.Cond.fieldLink "HotIronModel" (112 : Nat) "HotIronModel" "thrown" "I") ∈ lw_all := lw_g (lw_at lw_m6 210 rfl) rfl
theorem q1515 : (Jvm.Cond.fieldLink "HotIronModel" (115 : Nat) "HotIronModel" "status" "I") ∈ lw_all := lw_g (lw_at lw_m6 211 rfl) rfl
theorem q1516 : (Jvm.Cond.fieldLink "HotIronModel" (7 : Nat) "HotIronModel" "refusals" "[I") ∈ lw_all := lw_g (lw_at lw_m6 212 rfl) rfl
theorem q1517 : (Jvm.Cond.fieldLink "HotIronModel" (13 : Nat) "HotIronModel" "row" "[I") ∈ lw_all := lw_g (lw_at lw_m6 213 rfl) rfl
theorem q1518 : (Jvm.Cond.fieldLink "HotIronModel" (16 : Nat) "HotIronModel" "images" "[I") ∈ lw_all := lw_g (lw_at lw_m6 214 rfl) rfl
theorem q1519 : (Jvm.Cond.fieldLink "HotIronModel" (19 : Nat) "HotIronModel" "isKept" "[Z") ∈ lw_all := lw_g (lw_at lw_m6 215 rfl) rfl
theorem q1520 : (Jvm.Cond.fieldLink "HotIronModel" (23 : Nat) "HotIronModel" "tape" "[I") ∈ lw_all := lw_g (lw_at lw_m6 216 rfl) rfl
theorem q1521 : (Jvm.Cond.fieldLink "HotIronModel" (155 : Nat) "HotIronModel" "taped" "I") ∈ lw_all := lw_g (lw_at lw_m6 217 rfl) rfl
theorem q1522 : (Jvm.Cond.fieldLink "HotIronModel" (172 : Nat) "HotIronModel" "from" "I") ∈ lw_all := lw_g (lw_at lw_m6 218 rfl) rfl
theorem q1523 : (Jvm.Cond.fieldLink "HotIronModel" (162 : Nat) "HotIronModel" "to" "I") ∈ lw_all := lw_g (lw_at lw_m6 219 rfl) rfl
theorem q1524 : (Jvm.Cond.fieldLink "HotIronModel" (186 : Nat) "HotIronModel" "sort" "I") ∈ lw_all := lw_g (lw_at lw_m6 220 rfl) rfl
theorem q1525 : (Jvm.Cond.fieldLink "HotIronModel" (175 : Nat) "HotIronModel" "worth" "J") ∈ lw_all := lw_g (lw_at lw_m6 221 rfl) rfl
theorem q1526 : (Jvm.Cond.fieldLink "HotIronModel" (26 : Nat) "HotIronModel" "fault" "I") ∈ lw_all := lw_g (lw_at lw_m6 222 rfl) rfl
theorem q1527 : (Jvm.Cond.fieldLink "HotIronModel" (165 : Nat) "HotIronModel" "bad" "Z") ∈ lw_all := lw_g (lw_at lw_m6 223 rfl) rfl
theorem q1528 : (Jvm.Cond.fieldLink "HotIronModel" (246 : Nat) "HotIronModel" "nParts" "I") ∈ lw_all := lw_g (lw_at lw_m6 224 rfl) rfl
theorem q1529 : (Jvm.Cond.fieldLink "HotIronModel" (208 : Nat) "HotIronModel" "nCode" "I") ∈ lw_all := lw_g (lw_at lw_m6 225 rfl) rfl
theorem q1530 : (Jvm.Cond.fieldLink "HotIronModel" (30 : Nat) "HotIronModel" "nOp" "[I") ∈ lw_all := lw_g (lw_at lw_m6 226 rfl) rfl
theorem q1531 : (Jvm.Cond.fieldLink "HotIronModel" (33 : Nat) "HotIronModel" "nArg" "[I") ∈ lw_all := lw_g (lw_at lw_m6 227 rfl) rfl
theorem q1532 : (Jvm.Cond.fieldLink "HotIronModel" (36 : Nat) "HotIronModel" "pile" "[I") ∈ lw_all := lw_g (lw_at lw_m6 228 rfl) rfl
theorem q1533 : (Jvm.Cond.fieldLink "HotIronModel" (211 : Nat) "HotIronModel" "piled" "I") ∈ lw_all := lw_g (lw_at lw_m6 229 rfl) rfl
theorem q1534 : (Jvm.Cond.fieldLink "HotIronModel" (229 : Nat) "HotIronModel" "opened" "I") ∈ lw_all := lw_g (lw_at lw_m6 230 rfl) rfl
theorem q1535 : (Jvm.Cond.fieldLink "HotIronModel" (39 : Nat) "HotIronModel" "nStep" "[I") ∈ lw_all := lw_g (lw_at lw_m6 231 rfl) rfl
theorem q1536 : (Jvm.Cond.fieldLink "HotIronModel" (314 : Nat) "HotIronModel" "nSteps" "I") ∈ lw_all := lw_g (lw_at lw_m6 232 rfl) rfl
theorem q1537 : (Jvm.Cond.fieldLink "HotIronModel" (42 : Nat) "HotIronModel" "iron" "[I") ∈ lw_all := lw_g (lw_at lw_m6 233 rfl) rfl
theorem q1538 : (Jvm.Cond.fieldLink "HotIronModel" (45 : Nat) "HotIronModel" "punched" "[I") ∈ lw_all := lw_g (lw_at lw_m6 234 rfl) rfl
theorem q1539 : (Jvm.Cond.fieldLink "HotIronModel" (48 : Nat) "HotIronModel" "weldWorth" "[I") ∈ lw_all := lw_g (lw_at lw_m6 235 rfl) rfl
theorem q1540 : (Jvm.Cond.fieldLink "HotIronModel" (344 : Nat) "HotIronModel" "hot" "I") ∈ lw_all := lw_g (lw_at lw_m6 236 rfl) rfl
theorem q1541 : (Jvm.Cond.fieldLink "HotIronModel" (335 : Nat) "HotIronModel" "left" "I") ∈ lw_all := lw_g (lw_at lw_m6 237 rfl) rfl
theorem q1542 : (Jvm.Cond.fieldLink "HotIronModel" (363 : Nat) "HotIronModel" "latest" "I") ∈ lw_all := lw_g (lw_at lw_m6 238 rfl) rfl
theorem q1543 : (Jvm.Cond.fieldLink "HotIronModel" (338 : Nat) "HotIronModel" "heated" "I") ∈ lw_all := lw_g (lw_at lw_m6 239 rfl) rfl
theorem q1544 : (Jvm.Cond.fieldLink "HotIronModel" (341 : Nat) "HotIronModel" "struck" "I") ∈ lw_all := lw_g (lw_at lw_m7 0 rfl) rfl
theorem q1545 : (Jvm.Cond.fieldLink "HotIronModel" (397 : Nat) "HotIronModel" "moves" "I") ∈ lw_all := lw_g (lw_at lw_m7 1 rfl) rfl
theorem q1546 : (Jvm.Cond.fieldLink "HotIronModel" (394 : Nat) "HotIronModel" "duds" "I") ∈ lw_all := lw_g (lw_at lw_m7 2 rfl) rfl
theorem q1547 : (Jvm.Cond.fieldLink "HotIronModel" (372 : Nat) "HotIronModel" "colds" "I") ∈ lw_all := lw_g (lw_at lw_m7 3 rfl) rfl
theorem q1548 : (Jvm.Cond.fieldLink "HotIronModel" (369 : Nat) "HotIronModel" "scale" "I") ∈ lw_all := lw_g (lw_at lw_m7 4 rfl) rfl
theorem q1549 : (Jvm.Cond.fieldLink "HotIronModel" (424 : Nat) "HotIronModel" "dropped" "I") ∈ lw_all := lw_g (lw_at lw_m7 5 rfl) rfl
theorem q1550 : (Jvm.Cond.fieldLink "HotIronModel" (385 : Nat) "HotIronModel" "shoulders" "I") ∈ lw_all := lw_g (lw_at lw_m7 6 rfl) rfl
theorem q1551 : (Jvm.Cond.fieldLink "HotIronModel" (403 : Nat) "HotIronModel" "holes" "I") ∈ lw_all := lw_g (lw_at lw_m7 7 rfl) rfl
theorem q1552 : (Jvm.Cond.fieldLink "HotIronModel" (406 : Nat) "HotIronModel" "welded" "I") ∈ lw_all := lw_g (lw_at lw_m7 8 rfl) rfl
theorem q1553 : (Jvm.Cond.fieldLink "HotIronModel" (400 : Nat) "HotIronModel" "folds" "I") ∈ lw_all := lw_g (lw_at lw_m7 9 rfl) rfl
theorem q1554 : (Jvm.Cond.fieldLink "HotIronModel" (375 : Nat) "HotIronModel" "cracks" "I") ∈ lw_all := lw_g (lw_at lw_m7 10 rfl) rfl
theorem q1555 : (Jvm.Cond.fieldLink "HotIronModel" (427 : Nat) "HotIronModel" "gone" "I") ∈ lw_all := lw_g (lw_at lw_m7 11 rfl) rfl
theorem q1556 : (Jvm.Cond.fieldLink "HotIronModel" (388 : Nat) "HotIronModel" "slip" "I") ∈ lw_all := lw_g (lw_at lw_m7 12 rfl) rfl
theorem q1557 : (Jvm.Cond.fieldLink "HotIronModel" (350 : Nat) "HotIronModel" "state" "J") ∈ lw_all := lw_g (lw_at lw_m7 13 rfl) rfl
theorem q1558 : (Jvm.Cond.fieldLink "HotIronModel" (51 : Nat) "HotIronModel" "rest" "[I") ∈ lw_all := lw_g (lw_at lw_m7 14 rfl) rfl
theorem q1559 : (Jvm.Cond.fieldLink "HotIronModel" (439 : Nat) "HotIronModel" "ranCells" "I") ∈ lw_all := lw_g (lw_at lw_m7 15 rfl) rfl
theorem q1560 : (Jvm.Cond.fieldLink "HotIronModel" (54 : Nat) "HotIronModel" "ranIron" "[I") ∈ lw_all := lw_g (lw_at lw_m7 16 rfl) rfl
theorem q1561 : (Jvm.Cond.fieldLink "HotIronModel" (57 : Nat) "HotIronModel" "ran" "[I") ∈ lw_all := lw_g (lw_at lw_m7 17 rfl) rfl
theorem q1562 : (Jvm.Cond.fieldLink "HotIronModel" (60 : Nat) "HotIronModel" "ranWelds" "[I") ∈ lw_all := lw_g (lw_at lw_m7 18 rfl) rfl
theorem q1563 : (Jvm.Cond.fieldLink "HotIronModel" (63 : Nat) "HotIronModel" "kept" "[I") ∈ lw_all := lw_g (lw_at lw_m7 19 rfl) rfl
theorem q1564 : (Jvm.Cond.fieldLink "HotIronModel" (66 : Nat) "HotIronModel" "weight" "[I") ∈ lw_all := lw_g (lw_at lw_m7 20 rfl) rfl
theorem q1565 : (Jvm.Cond.fieldLink "HotIronModel" (70 : Nat) "HotIronModel" "level" "[I") ∈ lw_all := lw_g (lw_at lw_m7 21 rfl) rfl
theorem q1566 : (Jvm.Cond.fieldLink "HotIronModel" (73 : Nat) "HotIronModel" "toGo" "[I") ∈ lw_all := lw_g (lw_at lw_m7 22 rfl) rfl
theorem q1567 : (Jvm.Cond.fieldLink "HotIronModel" (76 : Nat) "HotIronModel" "onWay" "[I") ∈ lw_all := lw_g (lw_at lw_m7 23 rfl) rfl
theorem q1568 : (Jvm.Cond.fieldLink "HotIronModel" (79 : Nat) "HotIronModel" "goal" "[I") ∈ lw_all := lw_g (lw_at lw_m7 24 rfl) rfl
theorem q1569 : (Jvm.Cond.fieldLink "HotIronModel" (82 : Nat) "HotIronModel" "stamp" "[I") ∈ lw_all := lw_g (lw_at lw_m7 25 rfl) rfl
theorem q1570 : (Jvm.Cond.fieldLink "HotIronModel" (452 : Nat) "HotIronModel" "stamped" "I") ∈ lw_all := lw_g (lw_at lw_m7 26 rfl) rfl
theorem q1571 : (Jvm.Cond.fieldLink "HotIronModel" (85 : Nat) "HotIronModel" "spread" "[I") ∈ lw_all := lw_g (lw_at lw_m7 27 rfl) rfl
theorem q1572 : (Jvm.Cond.fieldLink "HotIronModel" (455 : Nat) "HotIronModel" "spreadMany" "I") ∈ lw_all := lw_g (lw_at lw_m7 28 rfl) rfl
theorem q1573 : (Jvm.Cond.fieldLink "HotIronModel" (88 : Nat) "HotIronModel" "levels" "I") ∈ lw_all := lw_g (lw_at lw_m7 29 rfl) rfl
theorem q1574 : (Jvm.Cond.fieldLink "HotIronModel" (91 : Nat) "HotIronModel" "planHeats" "I") ∈ lw_all := lw_g (lw_at lw_m7 30 rfl) rfl
theorem q1575 : (Jvm.Cond.fieldLink "HotIronModel" (94 : Nat) "HotIronModel" "planCell" "[I") ∈ lw_all := lw_g (lw_at lw_m7 31 rfl) rfl
theorem q1576 : (Jvm.Cond.fieldLink "HotIronModel" (97 : Nat) "HotIronModel" "planRow" "[I") ∈ lw_all := lw_g (lw_at lw_m7 32 rfl) rfl
theorem q1577 : (Jvm.Cond.fieldLink "HotIronModel" (100 : Nat) "HotIronModel" "order" "[I") ∈ lw_all := lw_g (lw_at lw_m7 33 rfl) rfl
theorem q1578 : (Jvm.Cond.fieldLink "HotIronModel" (103 : Nat) "HotIronModel" "begins" "[I") ∈ lw_all := lw_g (lw_at lw_m7 34 rfl) rfl
theorem q1579 : (Jvm.Cond.fieldLink "HotIronModel" (106 : Nat) "HotIronModel" "free" "[I") ∈ lw_all := lw_g (lw_at lw_m7 35 rfl) rfl
theorem q1580 : (Jvm.Cond.fieldLink "HotIronModel" (109 : Nat) "HotIronModel" "best" "[I") ∈ lw_all := lw_g (lw_at lw_m7 36 rfl) rfl
theorem q1581 : (Jvm.Cond.lays "HotIronModel" "HotIronModel" "thrown" "I") ∈ lw_all := lw_g (lw_at lw_m7 37 rfl) rfl
theorem q1582 : (Jvm.Cond.soleField "HotIronModel" "thrown") ∈ lw_all := lw_g (lw_at lw_m7 38 rfl) rfl
theorem q1583 : (Jvm.Cond.lays "HotIronModel" "HotIronModel" "status" "I") ∈ lw_all := lw_g (lw_at lw_m7 39 rfl) rfl
theorem q1584 : (Jvm.Cond.soleField "HotIronModel" "status") ∈ lw_all := lw_g (lw_at lw_m7 40 rfl) rfl
theorem q1585 : (Jvm.Cond.laysFinal "HotIronModel" "HotIronModel" "refusals" "[I") ∈ lw_all := lw_g (lw_at lw_m7 41 rfl) rfl
theorem q1586 : (Jvm.Cond.soleField "HotIronModel" "refusals") ∈ lw_all := lw_g (lw_at lw_m7 42 rfl) rfl
theorem q1587 : (Jvm.Cond.laysFinal "HotIronModel" "HotIronModel" "row" "[I") ∈ lw_all := lw_g (lw_at lw_m7 43 rfl) rfl
theorem q1588 : (Jvm.Cond.soleField "HotIronModel" "row") ∈ lw_all := lw_g (lw_at lw_m7 44 rfl) rfl
theorem q1589 : (Jvm.Cond.laysFinal "HotIronModel" "HotIronModel" "images" "[I") ∈ lw_all := lw_g (lw_at lw_m7 45 rfl) rfl
theorem q1590 : (Jvm.Cond.soleField "HotIronModel" "images") ∈ lw_all := lw_g (lw_at lw_m7 46 rfl) rfl
theorem q1591 : (Jvm.Cond.laysFinal "HotIronModel" "HotIronModel" "isKept" "[Z") ∈ lw_all := lw_g (lw_at lw_m7 47 rfl) rfl
theorem q1592 : (Jvm.Cond.soleField "HotIronModel" "isKept") ∈ lw_all := lw_g (lw_at lw_m7 48 rfl) rfl
theorem q1593 : (Jvm.Cond.laysFinal "HotIronModel" "HotIronModel" "tape" "[I") ∈ lw_all := lw_g (lw_at lw_m7 49 rfl) rfl
theorem q1594 : (Jvm.Cond.soleField "HotIronModel" "tape") ∈ lw_all := lw_g (lw_at lw_m7 50 rfl) rfl
theorem q1595 : (Jvm.Cond.lays "HotIronModel" "HotIronModel" "taped" "I") ∈ lw_all := lw_g (lw_at lw_m7 51 rfl) rfl
theorem q1596 : (Jvm.Cond.soleField "HotIronModel" "taped") ∈ lw_all := lw_g (lw_at lw_m7 52 rfl) rfl
theorem q1597 : (Jvm.Cond.lays "HotIronModel" "HotIronModel" "from" "I") ∈ lw_all := lw_g (lw_at lw_m7 53 rfl) rfl
theorem q1598 : (Jvm.Cond.soleField "HotIronModel" "from") ∈ lw_all := lw_g (lw_at lw_m7 54 rfl) rfl
theorem q1599 : (Jvm.Cond.lays "HotIronModel" "HotIronModel" "to" "I") ∈ lw_all := lw_g (lw_at lw_m7 55 rfl) rfl
theorem q1600 : (Jvm.Cond.soleField "HotIronModel" "to") ∈ lw_all := lw_g (lw_at lw_m7 56 rfl) rfl
theorem q1601 : (Jvm.Cond.lays "HotIronModel" "HotIronModel" "sort" "I") ∈ lw_all := lw_g (lw_at lw_m7 57 rfl) rfl
theorem q1602 : (Jvm.Cond.soleField "HotIronModel" "sort") ∈ lw_all := lw_g (lw_at lw_m7 58 rfl) rfl
theorem q1603 : (Jvm.Cond.lays "HotIronModel" "HotIronModel" "worth" "J") ∈ lw_all := lw_g (lw_at lw_m7 59 rfl) rfl
theorem q1604 : (Jvm.Cond.soleField "HotIronModel" "worth") ∈ lw_all := lw_g (lw_at lw_m7 60 rfl) rfl
theorem q1605 : (Jvm.Cond.lays "HotIronModel" "HotIronModel" "fault" "I") ∈ lw_all := lw_g (lw_at lw_m7 61 rfl) rfl
theorem q1606 : (Jvm.Cond.soleField "HotIronModel" "fault") ∈ lw_all := lw_g (lw_at lw_m7 62 rfl) rfl
theorem q1607 : (Jvm.Cond.lays "HotIronModel" "HotIronModel" "bad" "Z") ∈ lw_all := lw_g (lw_at lw_m7 63 rfl) rfl
theorem q1608 : (Jvm.Cond.soleField "HotIronModel" "bad") ∈ lw_all := lw_g (lw_at lw_m7 64 rfl) rfl
theorem q1609 : (Jvm.Cond.lays "HotIronModel" "HotIronModel" "nParts" "I") ∈ lw_all := lw_g (lw_at lw_m7 65 rfl) rfl
theorem q1610 : (Jvm.Cond.soleField "HotIronModel" "nParts") ∈ lw_all := lw_g (lw_at lw_m7 66 rfl) rfl
theorem q1611 : (Jvm.Cond.lays "HotIronModel" "HotIronModel" "nCode" "I") ∈ lw_all := lw_g (lw_at lw_m7 67 rfl) rfl
theorem q1612 : (Jvm.Cond.soleField "HotIronModel" "nCode") ∈ lw_all := lw_g (lw_at lw_m7 68 rfl) rfl
theorem q1613 : (Jvm.Cond.laysFinal "HotIronModel" "HotIronModel" "nOp" "[I") ∈ lw_all := lw_g (lw_at lw_m7 69 rfl) rfl
theorem q1614 : (Jvm.Cond.soleField "HotIronModel" "nOp") ∈ lw_all := lw_g (lw_at lw_m7 70 rfl) rfl
theorem q1615 : (Jvm.Cond.laysFinal "HotIronModel" "HotIronModel" "nArg" "[I") ∈ lw_all := lw_g (lw_at lw_m7 71 rfl) rfl
theorem q1616 : (Jvm.Cond.soleField "HotIronModel" "nArg") ∈ lw_all := lw_g (lw_at lw_m7 72 rfl) rfl
theorem q1617 : (Jvm.Cond.laysFinal "HotIronModel" "HotIronModel" "pile" "[I") ∈ lw_all := lw_g (lw_at lw_m7 73 rfl) rfl
theorem q1618 : (Jvm.Cond.soleField "HotIronModel" "pile") ∈ lw_all := lw_g (lw_at lw_m7 74 rfl) rfl
theorem q1619 : (Jvm.Cond.lays "HotIronModel" "HotIronModel" "piled" "I") ∈ lw_all := lw_g (lw_at lw_m7 75 rfl) rfl
theorem q1620 : (Jvm.Cond.soleField "HotIronModel" "piled") ∈ lw_all := lw_g (lw_at lw_m7 76 rfl) rfl
theorem q1621 : (Jvm.Cond.lays "HotIronModel" "HotIronModel" "opened" "I") ∈ lw_all := lw_g (lw_at lw_m7 77 rfl) rfl
theorem q1622 : (Jvm.Cond.soleField "HotIronModel" "opened") ∈ lw_all := lw_g (lw_at lw_m7 78 rfl) rfl
theorem q1623 : (Jvm.Cond.laysFinal "HotIronModel" "HotIronModel" "nStep" "[I") ∈ lw_all := lw_g (lw_at lw_m7 79 rfl) rfl
theorem q1624 : (Jvm.Cond.soleField "HotIronModel" "nStep") ∈ lw_all := lw_g (lw_at lw_m7 80 rfl) rfl
theorem q1625 : (Jvm.Cond.lays "HotIronModel" "HotIronModel" "nSteps" "I") ∈ lw_all := lw_g (lw_at lw_m7 81 rfl) rfl
theorem q1626 : (Jvm.Cond.soleField "HotIronModel" "nSteps") ∈ lw_all := lw_g (lw_at lw_m7 82 rfl) rfl
theorem q1627 : (Jvm.Cond.laysFinal "HotIronModel" "HotIronModel" "iron" "[I") ∈ lw_all := lw_g (lw_at lw_m7 83 rfl) rfl
theorem q1628 : (Jvm.Cond.soleField "HotIronModel" "iron") ∈ lw_all := lw_g (lw_at lw_m7 84 rfl) rfl
theorem q1629 : (Jvm.Cond.laysFinal "HotIronModel" "HotIronModel" "punched" "[I") ∈ lw_all := lw_g (lw_at lw_m7 85 rfl) rfl
theorem q1630 : (Jvm.Cond.soleField "HotIronModel" "punched") ∈ lw_all := lw_g (lw_at lw_m7 86 rfl) rfl
theorem q1631 : (Jvm.Cond.laysFinal "HotIronModel" "HotIronModel" "weldWorth" "[I") ∈ lw_all := lw_g (lw_at lw_m7 87 rfl) rfl
theorem q1632 : (Jvm.Cond.soleField "HotIronModel" "weldWorth") ∈ lw_all := lw_g (lw_at lw_m7 88 rfl) rfl
theorem q1633 : (Jvm.Cond.lays "HotIronModel" "HotIronModel" "hot" "I") ∈ lw_all := lw_g (lw_at lw_m7 89 rfl) rfl
theorem q1634 : (Jvm.Cond.soleField "HotIronModel" "hot") ∈ lw_all := lw_g (lw_at lw_m7 90 rfl) rfl
theorem q1635 : (Jvm.Cond.lays "HotIronModel" "HotIronModel" "left" "I") ∈ lw_all := lw_g (lw_at lw_m7 91 rfl) rfl
theorem q1636 : (Jvm.Cond.soleField "HotIronModel" "left") ∈ lw_all := lw_g (lw_at lw_m7 92 rfl) rfl
theorem q1637 : (Jvm.Cond.lays "HotIronModel" "HotIronModel" "latest" "I") ∈ lw_all := lw_g (lw_at lw_m7 93 rfl) rfl
theorem q1638 : (Jvm.Cond.soleField "HotIronModel" "latest") ∈ lw_all := lw_g (lw_at lw_m7 94 rfl) rfl
theorem q1639 : (Jvm.Cond.lays "HotIronModel" "HotIronModel" "heated" "I") ∈ lw_all := lw_g (lw_at lw_m7 95 rfl) rfl
theorem q1640 : (Jvm.Cond.soleField "HotIronModel" "heated") ∈ lw_all := lw_g (lw_at lw_m7 96 rfl) rfl
theorem q1641 : (Jvm.Cond.lays "HotIronModel" "HotIronModel" "struck" "I") ∈ lw_all := lw_g (lw_at lw_m7 97 rfl) rfl
theorem q1642 : (Jvm.Cond.soleField "HotIronModel" "struck") ∈ lw_all := lw_g (lw_at lw_m7 98 rfl) rfl
theorem q1643 : (Jvm.Cond.lays "HotIronModel" "HotIronModel" "moves" "I") ∈ lw_all := lw_g (lw_at lw_m7 99 rfl) rfl
theorem q1644 : (Jvm.Cond.soleField "HotIronModel" "moves") ∈ lw_all := lw_g (lw_at lw_m7 100 rfl) rfl
theorem q1645 : (Jvm.Cond.lays "HotIronModel" "HotIronModel" "duds" "I") ∈ lw_all := lw_g (lw_at lw_m7 101 rfl) rfl
theorem q1646 : (Jvm.Cond.soleField "HotIronModel" "duds") ∈ lw_all := lw_g (lw_at lw_m7 102 rfl) rfl
theorem q1647 : (Jvm.Cond.lays "HotIronModel" "HotIronModel" "colds" "I") ∈ lw_all := lw_g (lw_at lw_m7 103 rfl) rfl
theorem q1648 : (Jvm.Cond.soleField "HotIronModel" "colds") ∈ lw_all := lw_g (lw_at lw_m7 104 rfl) rfl
theorem q1649 : (Jvm.Cond.lays "HotIronModel" "HotIronModel" "scale" "I") ∈ lw_all := lw_g (lw_at lw_m7 105 rfl) rfl
theorem q1650 : (Jvm.Cond.soleField "HotIronModel" "scale") ∈ lw_all := lw_g (lw_at lw_m7 106 rfl) rfl
theorem q1651 : (Jvm.Cond.lays "HotIronModel" "HotIronModel" "dropped" "I") ∈ lw_all := lw_g (lw_at lw_m7 107 rfl) rfl
theorem q1652 : (Jvm.Cond.soleField "HotIronModel" "dropped") ∈ lw_all := lw_g (lw_at lw_m7 108 rfl) rfl
theorem q1653 : (Jvm.Cond.lays "HotIronModel" "HotIronModel" "shoulders" "I") ∈ lw_all := lw_g (lw_at lw_m7 109 rfl) rfl
theorem q1654 : (Jvm.Cond.soleField "HotIronModel" "shoulders") ∈ lw_all := lw_g (lw_at lw_m7 110 rfl) rfl
theorem q1655 : (Jvm.Cond.lays "HotIronModel" "HotIronModel" "holes" "I") ∈ lw_all := lw_g (lw_at lw_m7 111 rfl) rfl
theorem q1656 : (Jvm.Cond.soleField "HotIronModel" "holes") ∈ lw_all := lw_g (lw_at lw_m7 112 rfl) rfl
theorem q1657 : (Jvm.Cond.lays "HotIronModel" "HotIronModel" "welded" "I") ∈ lw_all := lw_g (lw_at lw_m7 113 rfl) rfl
theorem q1658 : (Jvm.Cond.soleField "HotIronModel" "welded") ∈ lw_all := lw_g (lw_at lw_m7 114 rfl) rfl
theorem q1659 : (Jvm.Cond.lays "HotIronModel" "HotIronModel" "folds" "I") ∈ lw_all := lw_g (lw_at lw_m7 115 rfl) rfl
theorem q1660 : (Jvm.Cond.soleField "HotIronModel" "folds") ∈ lw_all := lw_g (lw_at lw_m7 116 rfl) rfl
theorem q1661 : (Jvm.Cond.lays "HotIronModel" "HotIronModel" "cracks" "I") ∈ lw_all := lw_g (lw_at lw_m7 117 rfl) rfl
theorem q1662 : (Jvm.Cond.soleField "HotIronModel" "cracks") ∈ lw_all := lw_g (lw_at lw_m7 118 rfl) rfl
theorem q1663 : (Jvm.Cond.lays "HotIronModel" "HotIronModel" "gone" "I") ∈ lw_all := lw_g (lw_at lw_m7 119 rfl) rfl
theorem q1664 : (Jvm.Cond.soleField "HotIronModel" "gone") ∈ lw_all := lw_g (lw_at lw_m7 120 rfl) rfl
theorem q1665 : (Jvm.Cond.lays "HotIronModel" "HotIronModel" "slip" "I") ∈ lw_all := lw_g (lw_at lw_m7 121 rfl) rfl
theorem q1666 : (Jvm.Cond.soleField "HotIronModel" "slip") ∈ lw_all := lw_g (lw_at lw_m7 122 rfl) rfl
theorem q1667 : (Jvm.Cond.lays "HotIronModel" "HotIronModel" "state" "J") ∈ lw_all := lw_g (lw_at lw_m7 123 rfl) rfl
theorem q1668 : (Jvm.Cond.soleField "HotIronModel" "state") ∈ lw_all := lw_g (lw_at lw_m7 124 rfl) rfl
theorem q1669 : (Jvm.Cond.laysFinal "HotIronModel" "HotIronModel" "rest" "[I") ∈ lw_all := lw_g (lw_at lw_m7 125 rfl) rfl
theorem q1670 : (Jvm.Cond.soleField "HotIronModel" "rest") ∈ lw_all := lw_g (lw_at lw_m7 126 rfl) rfl
theorem q1671 : (Jvm.Cond.lays "HotIronModel" "HotIronModel" "ranCells" "I") ∈ lw_all := lw_g (lw_at lw_m7 127 rfl) rfl
theorem q1672 : (Jvm.Cond.soleField "HotIronModel" "ranCells") ∈ lw_all := lw_g (lw_at lw_m7 128 rfl) rfl
theorem q1673 : (Jvm.Cond.laysFinal "HotIronModel" "HotIronModel" "ranIron" "[I") ∈ lw_all := lw_g (lw_at lw_m7 129 rfl) rfl
theorem q1674 : (Jvm.Cond.soleField "HotIronModel" "ranIron") ∈ lw_all := lw_g (lw_at lw_m7 130 rfl) rfl
theorem q1675 : (Jvm.Cond.laysFinal "HotIronModel" "HotIronModel" "ran" "[I") ∈ lw_all := lw_g (lw_at lw_m7 131 rfl) rfl
theorem q1676 : (Jvm.Cond.soleField "HotIronModel" "ran") ∈ lw_all := lw_g (lw_at lw_m7 132 rfl) rfl
theorem q1677 : (Jvm.Cond.laysFinal "HotIronModel" "HotIronModel" "ranWelds" "[I") ∈ lw_all := lw_g (lw_at lw_m7 133 rfl) rfl
theorem q1678 : (Jvm.Cond.soleField "HotIronModel" "ranWelds") ∈ lw_all := lw_g (lw_at lw_m7 134 rfl) rfl
theorem q1679 : (Jvm.Cond.laysFinal "HotIronModel" "HotIronModel" "kept" "[I") ∈ lw_all := lw_g (lw_at lw_m7 135 rfl) rfl
theorem q1680 : (Jvm.Cond.soleField "HotIronModel" "kept") ∈ lw_all := lw_g (lw_at lw_m7 136 rfl) rfl
theorem q1681 : (Jvm.Cond.laysFinal "HotIronModel" "HotIronModel" "weight" "[I") ∈ lw_all := lw_g (lw_at lw_m7 137 rfl) rfl
theorem q1682 : (Jvm.Cond.soleField "HotIronModel" "weight") ∈ lw_all := lw_g (lw_at lw_m7 138 rfl) rfl
theorem q1683 : (Jvm.Cond.laysFinal "HotIronModel" "HotIronModel" "level" "[I") ∈ lw_all := lw_g (lw_at lw_m7 139 rfl) rfl
theorem q1684 : (Jvm.Cond.soleField "HotIronModel" "level") ∈ lw_all := lw_g (lw_at lw_m7 140 rfl) rfl
theorem q1685 : (Jvm.Cond.laysFinal "HotIronModel" "HotIronModel" "toGo" "[I") ∈ lw_all := lw_g (lw_at lw_m7 141 rfl) rfl
theorem q1686 : (Jvm.Cond.soleField "HotIronModel" "toGo") ∈ lw_all := lw_g (lw_at lw_m7 142 rfl) rfl
theorem q1687 : (Jvm.Cond.laysFinal "HotIronModel" "HotIronModel" "onWay" "[I") ∈ lw_all := lw_g (lw_at lw_m7 143 rfl) rfl
theorem q1688 : (Jvm.Cond.soleField "HotIronModel" "onWay") ∈ lw_all := lw_g (lw_at lw_m7 144 rfl) rfl
theorem q1689 : (Jvm.Cond.laysFinal "HotIronModel" "HotIronModel" "goal" "[I") ∈ lw_all := lw_g (lw_at lw_m7 145 rfl) rfl
theorem q1690 : (Jvm.Cond.soleField "HotIronModel" "goal") ∈ lw_all := lw_g (lw_at lw_m7 146 rfl) rfl
theorem q1691 : (Jvm.Cond.laysFinal "HotIronModel" "HotIronModel" "stamp" "[I") ∈ lw_all := lw_g (lw_at lw_m7 147 rfl) rfl
theorem q1692 : (Jvm.Cond.soleField "HotIronModel" "stamp") ∈ lw_all := lw_g (lw_at lw_m7 148 rfl) rfl
theorem q1693 : (Jvm.Cond.lays "HotIronModel" "HotIronModel" "stamped" "I") ∈ lw_all := lw_g (lw_at lw_m7 149 rfl) rfl
theorem q1694 : (Jvm.Cond.soleField "HotIronModel" "stamped") ∈ lw_all := lw_g (lw_at lw_m7 150 rfl) rfl
theorem q1695 : (Jvm.Cond.laysFinal "HotIronModel" "HotIronModel" "spread" "[I") ∈ lw_all := lw_g (lw_at lw_m7 151 rfl) rfl
theorem q1696 : (Jvm.Cond.soleField "HotIronModel" "spread") ∈ lw_all := lw_g (lw_at lw_m7 152 rfl) rfl
theorem q1697 : (Jvm.Cond.lays "HotIronModel" "HotIronModel" "spreadMany" "I") ∈ lw_all := lw_g (lw_at lw_m7 153 rfl) rfl
theorem q1698 : (Jvm.Cond.soleField "HotIronModel" "spreadMany") ∈ lw_all := lw_g (lw_at lw_m7 154 rfl) rfl
theorem q1699 : (Jvm.Cond.lays "HotIronModel" "HotIronModel" "levels" "I") ∈ lw_all := lw_g (lw_at lw_m7 155 rfl) rfl
theorem q1700 : (Jvm.Cond.soleField "HotIronModel" "levels") ∈ lw_all := lw_g (lw_at lw_m7 156 rfl) rfl
theorem q1701 : (Jvm.Cond.lays "HotIronModel" "HotIronModel" "planHeats" "I") ∈ lw_all := lw_g (lw_at lw_m7 157 rfl) rfl
theorem q1702 : (Jvm.Cond.soleField "HotIronModel" "planHeats") ∈ lw_all := lw_g (lw_at lw_m7 158 rfl) rfl
theorem q1703 : (Jvm.Cond.laysFinal "HotIronModel" "HotIronModel" "planCell" "[I") ∈ lw_all := lw_g (lw_at lw_m7 159 rfl) rfl
theorem q1704 : (Jvm.Cond.soleField "HotIronModel" "planCell") ∈ lw_all := lw_g (lw_at lw_m7 160 rfl) rfl
theorem q1705 : (Jvm.Cond.laysFinal "HotIronModel" "HotIronModel" "planRow" "[I") ∈ lw_all := lw_g (lw_at lw_m7 161 rfl) rfl
theorem q1706 : (Jvm.Cond.soleField "HotIronModel" "planRow") ∈ lw_all := lw_g (lw_at lw_m7 162 rfl) rfl
theorem q1707 : (Jvm.Cond.laysFinal "HotIronModel" "HotIronModel" "order" "[I") ∈ lw_all := lw_g (lw_at lw_m7 163 rfl) rfl
theorem q1708 : (Jvm.Cond.soleField "HotIronModel" "order") ∈ lw_all := lw_g (lw_at lw_m7 164 rfl) rfl
theorem q1709 : (Jvm.Cond.laysFinal "HotIronModel" "HotIronModel" "begins" "[I") ∈ lw_all := lw_g (lw_at lw_m7 165 rfl) rfl
theorem q1710 : (Jvm.Cond.soleField "HotIronModel" "begins") ∈ lw_all := lw_g (lw_at lw_m7 166 rfl) rfl
theorem q1711 : (Jvm.Cond.laysFinal "HotIronModel" "HotIronModel" "free" "[I") ∈ lw_all := lw_g (lw_at lw_m7 167 rfl) rfl
theorem q1712 : (Jvm.Cond.soleField "HotIronModel" "free") ∈ lw_all := lw_g (lw_at lw_m7 168 rfl) rfl
theorem q1713 : (Jvm.Cond.laysFinal "HotIronModel" "HotIronModel" "best" "[I") ∈ lw_all := lw_g (lw_at lw_m7 169 rfl) rfl
theorem q1714 : (Jvm.Cond.soleField "HotIronModel" "best") ∈ lw_all := lw_g (lw_at lw_m7 170 rfl) rfl
theorem q1715 : (Jvm.Cond.superclass "HotIronModel" "java/lang/Object") ∈ lw_all := lw_g (lw_at lw_m7 171 rfl) rfl
theorem q1718 : (Jvm.Cond.instanceMethod ({ cls := "HotIronModel", name := "image", desc := "(I)I" } : Jvm.MethodName)) ∈ lw_all := lw_g (lw_at lw_m7 174 rfl) rfl
theorem q1719 : (Jvm.Cond.selects "HotIronModel" ({ cls := "HotIronModel", name := "image", desc := "(I)I" } : Jvm.MethodName) ({ cls := "HotIronModel", name := "image", desc := "(I)I" } : Jvm.MethodName)) ∈ lw_all := lw_g (lw_at lw_m7 175 rfl) rfl
theorem q1720 : (Jvm.Cond.code ({ cls := "HotIronModel", name := "image", desc := "(I)I" } : Jvm.MethodName) prog_28_method_5_code (3 : Nat) (Option.some Jvm.ClassFile.FieldType.int)) ∈ lw_all := lw_g (lw_at lw_m7 176 rfl) rfl
theorem q1721 : (Jvm.Cond.methodLink "HotIronModel" (118 : Nat) ({ cls := "HotIronModel", name := "in", desc := "(JJJ)Z" } : Jvm.MethodName)) ∈ lw_all := lw_g (lw_at lw_m7 177 rfl) rfl
theorem q1722 : (Jvm.Cond.static ({ cls := "HotIronModel", name := "in", desc := "(JJJ)Z" } : Jvm.MethodName)) ∈ lw_all := lw_g (lw_at lw_m7 178 rfl) rfl
theorem q1723 : (Jvm.Cond.code ({ cls := "HotIronModel", name := "in", desc := "(JJJ)Z" } : Jvm.MethodName) prog_28_method_3_code (6 : Nat) (Option.some Jvm.ClassFile.FieldType.boolean)) ∈ lw_all := lw_g (lw_at lw_m7 179 rfl) rfl
theorem q1724 : (Jvm.Cond.methodLink "HotIronModel" (122 : Nat) ({ cls := "HotIronModel", name := "tell", desc := "(I)I" } : Jvm.MethodName)) ∈ lw_all := lw_g (lw_at lw_m7 180 rfl) rfl
theorem q1725 : (Jvm.Cond.privateMethod ({ cls := "HotIronModel", name := "tell", desc := "(I)I" } : Jvm.MethodName)) ∈ lw_tbl := lw_at lw_m7 181 rfl
theorem q1726 : (Jvm.Cond.instanceMethod ({ cls := "HotIronModel", name := "tell", desc := "(I)I" } : Jvm.MethodName)) ∈ lw_all := lw_g (lw_at lw_m7 182 rfl) rfl
theorem q1727 : (Jvm.Cond.code ({ cls := "HotIronModel", name := "tell", desc := "(I)I" } : Jvm.MethodName) prog_28_method_4_code (2 : Nat) (Option.some Jvm.ClassFile.FieldType.int)) ∈ lw_all := lw_g (lw_at lw_m7 183 rfl) rfl
theorem q1729 : (Jvm.Cond.instanceMethod ({ cls := "HotIronModel", name := "back", desc := "(I)I" } : Jvm.MethodName)) ∈ lw_all := lw_g (lw_at lw_m7 185 rfl) rfl
theorem q1730 : (Jvm.Cond.selects "HotIronModel" ({ cls := "HotIronModel", name := "back", desc := "(I)I" } : Jvm.MethodName) ({ cls := "HotIronModel", name := "back", desc := "(I)I" } : Jvm.MethodName)) ∈ lw_all := lw_g (lw_at lw_m7 186 rfl) rfl
theorem q1731 : (Jvm.Cond.code ({ cls := "HotIronModel", name := "back", desc := "(I)I" } : Jvm.MethodName) prog_28_method_6_code (3 : Nat) (Option.some Jvm.ClassFile.FieldType.int)) ∈ lw_all := lw_g (lw_at lw_m7 187 rfl) rfl
theorem q1732 : (Jvm.Cond.methodLink "HotIronModel" (126 : Nat) ({ cls := "HotIronModel", name := "forget", desc := "()V" } : Jvm.MethodName)) ∈ lw_all := lw_g (lw_at lw_m7 188 rfl) rfl
theorem q1733 : (Jvm.Cond.privateMethod ({ cls := "HotIronModel", name := "forget", desc := "()V" } : Jvm.MethodName)) ∈ lw_tbl := lw_at lw_m7 189 rfl
theorem q1734 : (Jvm.Cond.instanceMethod ({ cls := "HotIronModel", name := "forget", desc := "()V" } : Jvm.MethodName)) ∈ lw_all := lw_g (lw_at lw_m7 190 rfl) rfl
theorem q1735 : (Jvm.Cond.code ({ cls := "HotIronModel", name := "forget", desc := "()V" } : Jvm.MethodName) prog_28_method_69_code (1 : Nat) (Option.none : Option Jvm.ClassFile.FieldType)) ∈ lw_all := lw_g (lw_at lw_m7 191 rfl) rfl
theorem q1737 : (Jvm.Cond.instanceMethod ({ cls := "HotIronModel", name := "wide", desc := "(I)I" } : Jvm.MethodName)) ∈ lw_all := lw_g (lw_at lw_m7 193 rfl) rfl
theorem q1738 : (Jvm.Cond.selects "HotIronModel" ({ cls := "HotIronModel", name := "wide", desc := "(I)I" } : Jvm.MethodName) ({ cls := "HotIronModel", name := "wide", desc := "(I)I" } : Jvm.MethodName)) ∈ lw_all := lw_g (lw_at lw_m7 194 rfl) rfl
theorem q1739 : (Jvm.Cond.code ({ cls := "HotIronModel", name := "wide", desc := "(I)I" } : Jvm.MethodName) prog_28_method_9_code (4 : Nat) (Option.some Jvm.ClassFile.FieldType.int)) ∈ lw_all := lw_g (lw_at lw_m7 195 rfl) rfl
theorem q1740 : (Jvm.Cond.constantLong "HotIronModel" (129 : Nat) (3 : Int64)) ∈ lw_all := lw_g (lw_at lw_m7 196 rfl) rfl
theorem q1741 : (Jvm.Cond.constantLong "HotIronModel" (131 : Nat) (5 : Int64)) ∈ lw_all := lw_g (lw_at lw_m7 197 rfl) rfl
theorem q1743 : (Jvm.Cond.instanceMethod ({ cls := "HotIronModel", name := "bar", desc := "(II)I" } : Jvm.MethodName)) ∈ lw_all := lw_g (lw_at lw_m7 199 rfl) rfl
theorem q1744 : (Jvm.Cond.selects "HotIronModel" ({ cls := "HotIronModel", name := "bar", desc := "(II)I" } : Jvm.MethodName) ({ cls := "HotIronModel", name := "bar", desc := "(II)I" } : Jvm.MethodName)) ∈ lw_all := lw_g (lw_at lw_m7 200 rfl) rfl
theorem q1745 : (Jvm.Cond.code ({ cls := "HotIronModel", name := "bar", desc := "(II)I" } : Jvm.MethodName) prog_28_method_11_code (3 : Nat) (Option.some Jvm.ClassFile.FieldType.int)) ∈ lw_all := lw_g (lw_at lw_m7 201 rfl) rfl
theorem q1746 : (Jvm.Cond.methodLink "HotIronModel" (139 : Nat) ({ cls := "HotIronModel", name := "put", desc := "(III)I" } : Jvm.MethodName)) ∈ lw_all := lw_g (lw_at lw_m7 202 rfl) rfl
theorem q1747 : (Jvm.Cond.privateMethod ({ cls := "HotIronModel", name := "put", desc := "(III)I" } : Jvm.MethodName)) ∈ lw_tbl := lw_at lw_m7 203 rfl
theorem q1748 : (Jvm.Cond.instanceMethod ({ cls := "HotIronModel", name := "put", desc := "(III)I" } : Jvm.MethodName)) ∈ lw_all := lw_g (lw_at lw_m7 204 rfl) rfl
theorem q1749 : (Jvm.Cond.code ({ cls := "HotIronModel", name := "put", desc := "(III)I" } : Jvm.MethodName) prog_28_method_10_code (5 : Nat) (Option.some Jvm.ClassFile.FieldType.int)) ∈ lw_all := lw_g (lw_at lw_m7 205 rfl) rfl
theorem q1750 : (Jvm.Cond.methodLink "HotIronModel" (133 : Nat) ({ cls := "HotIronModel", name := "isCell", desc := "(J)Z" } : Jvm.MethodName)) ∈ lw_all := lw_g (lw_at lw_m7 206 rfl) rfl
theorem q1751 : (Jvm.Cond.privateMethod ({ cls := "HotIronModel", name := "isCell", desc := "(J)Z" } : Jvm.MethodName)) ∈ lw_tbl := lw_at lw_m7 207 rfl
theorem q1752 : (Jvm.Cond.instanceMethod ({ cls := "HotIronModel", name := "isCell", desc := "(J)Z" } : Jvm.MethodName)) ∈ lw_all := lw_g (lw_at lw_m7 208 rfl) rfl
theorem q1753 : (Jvm.Cond.code ({ cls := "HotIronModel", name := "isCell", desc := "(J)Z" } : Jvm.MethodName) prog_28_method_7_code (3 : Nat) (Option.some Jvm.ClassFile.FieldType.boolean)) ∈ lw_all := lw_g (lw_at lw_m7 209 rfl) rfl
theorem q1754 : (Jvm.Cond.constantLong "HotIronModel" (137 : Nat) (9 : Int64)) ∈ lw_all := lw_g (lw_at lw_m7 210 rfl) rfl
theorem q1756 : (Jvm.Cond.instanceMethod ({ cls := "HotIronModel", name := "shape", desc := "(II)I" } : Jvm.MethodName)) ∈ lw_all := lw_g (lw_at lw_m7 212 rfl) rfl
theorem q1757 : (Jvm.Cond.selects "HotIronModel" ({ cls := "HotIronModel", name := "shape", desc := "(II)I" } : Jvm.MethodName) ({ cls := "HotIronModel", name := "shape", desc := "(II)I" } : Jvm.MethodName)) ∈ lw_all := lw_g (lw_at lw_m7 213 rfl) rfl
theorem q1758 : (Jvm.Cond.code ({ cls := "HotIronModel", name := "shape", desc := "(II)I" } : Jvm.MethodName) prog_28_method_12_code (3 : Nat) (Option.some Jvm.ClassFile.FieldType.int)) ∈ lw_all := lw_g (lw_at lw_m7 214 rfl) rfl
theorem q1760 : (Jvm.Cond.instanceMethod ({ cls := "HotIronModel", name := "tongs", desc := "(I)I" } : Jvm.MethodName)) ∈ lw_all := lw_g (lw_at lw_m7 216 rfl) rfl
theorem q1761 : (Jvm.Cond.selects "HotIronModel" ({ cls := "HotIronModel", name := "tongs", desc := "(I)I" } : Jvm.MethodName) ({ cls := "HotIronModel", name := "tongs", desc := "(I)I" } : Jvm.MethodName)) ∈ lw_all := lw_g (lw_at lw_m7 217 rfl) rfl
theorem q1762 : (Jvm.Cond.code ({ cls := "HotIronModel", name := "tongs", desc := "(I)I" } : Jvm.MethodName) prog_28_method_13_code (3 : Nat) (Option.some Jvm.ClassFile.FieldType.int)) ∈ lw_all := lw_g (lw_at lw_m7 218 rfl) rfl
theorem q1763 : (Jvm.Cond.constantLong "HotIronModel" (143 : Nat) (2 : Int64)) ∈ lw_all := lw_g (lw_at lw_m7 219 rfl) rfl
theorem q1764 : (Jvm.Cond.constantLong "HotIronModel" (145 : Nat) (1022 : Int64)) ∈ lw_all := lw_g (lw_at lw_m7 220 rfl) rfl
theorem q1766 : (Jvm.Cond.instanceMethod ({ cls := "HotIronModel", name := "terms", desc := "(II)I" } : Jvm.MethodName)) ∈ lw_all := lw_g (lw_at lw_m7 222 rfl) rfl
theorem q1767 : (Jvm.Cond.selects "HotIronModel" ({ cls := "HotIronModel", name := "terms", desc := "(II)I" } : Jvm.MethodName) ({ cls := "HotIronModel", name := "terms", desc := "(II)I" } : Jvm.MethodName)) ∈ lw_all := lw_g (lw_at lw_m7 223 rfl) rfl
theorem q1768 : (Jvm.Cond.code ({ cls := "HotIronModel", name := "terms", desc := "(II)I" } : Jvm.MethodName) prog_28_method_14_code (4 : Nat) (Option.some Jvm.ClassFile.FieldType.int)) ∈ lw_all := lw_g (lw_at lw_m7 224 rfl) rfl
theorem q1769 : (Jvm.Cond.constantLong "HotIronModel" (147 : Nat) (4 : Int64)) ∈ lw_all := lw_g (lw_at lw_m7 225 rfl) rfl
theorem q1770 : (Jvm.Cond.constantLong "HotIronModel" (149 : Nat) (100 : Int64)) ∈ lw_all := lw_g (lw_at lw_m7 226 rfl) rfl
theorem q1771 : (Jvm.Cond.constantLong "HotIronModel" (151 : Nat) (50 : Int64)) ∈ lw_all := lw_g (lw_at lw_m7 227 rfl) rfl
theorem q1772 : (Jvm.Cond.constantLong "HotIronModel" (153 : Nat) (60 : Int64)) ∈ lw_all := lw_g (lw_at lw_m7 228 rfl) rfl
theorem q1774 : (Jvm.Cond.instanceMethod ({ cls := "HotIronModel", name := "row", desc := "()I" } : Jvm.MethodName)) ∈ lw_all := lw_g (lw_at lw_m7 230 rfl) rfl
theorem q1775 : (Jvm.Cond.selects "HotIronModel" ({ cls := "HotIronModel", name := "row", desc := "()I" } : Jvm.MethodName) ({ cls := "HotIronModel", name := "row", desc := "()I" } : Jvm.MethodName)) ∈ lw_all := lw_g (lw_at lw_m7 231 rfl) rfl
theorem q1776 : (Jvm.Cond.code ({ cls := "HotIronModel", name := "row", desc := "()I" } : Jvm.MethodName) prog_28_method_15_code (4 : Nat) (Option.some Jvm.ClassFile.FieldType.int)) ∈ lw_all := lw_g (lw_at lw_m7 232 rfl) rfl
theorem q1778 : (Jvm.Cond.instanceMethod ({ cls := "HotIronModel", name := "feed", desc := "(IIIII)I" } : Jvm.MethodName)) ∈ lw_all := lw_g (lw_at lw_m7 234 rfl) rfl
theorem q1779 : (Jvm.Cond.selects "HotIronModel" ({ cls := "HotIronModel", name := "feed", desc := "(IIIII)I" } : Jvm.MethodName) ({ cls := "HotIronModel", name := "feed", desc := "(IIIII)I" } : Jvm.MethodName)) ∈ lw_all := lw_g (lw_at lw_m7 235 rfl) rfl
theorem q1780 : (Jvm.Cond.code ({ cls := "HotIronModel", name := "feed", desc := "(IIIII)I" } : Jvm.MethodName) prog_28_method_17_code (6 : Nat) (Option.some Jvm.ClassFile.FieldType.int)) ∈ lw_all := lw_g (lw_at lw_m7 236 rfl) rfl
theorem q1781 : (Jvm.Cond.methodLink "HotIronModel" (158 : Nat) ({ cls := "HotIronModel", name := "four", desc := "(I)V" } : Jvm.MethodName)) ∈ lw_all := lw_g (lw_at lw_m7 237 rfl) rfl
theorem q1782 : (Jvm.Cond.privateMethod ({ cls := "HotIronModel", name := "four", desc := "(I)V" } : Jvm.MethodName)) ∈ lw_tbl := lw_at lw_m7 238 rfl
theorem q1783 : (Jvm.Cond.instanceMethod ({ cls := "HotIronModel", name := "four", desc := "(I)V" } : Jvm.MethodName)) ∈ lw_all := lw_g (lw_at lw_m7 239 rfl) rfl
theorem q1784 : (Jvm.Cond.code ({ cls := "HotIronModel", name := "four", desc := "(I)V" } : Jvm.MethodName) prog_28_method_16_code (3 : Nat) (Option.none : Option Jvm.ClassFile.FieldType)) ∈ lw_all := lw_g (lw_at lw_m8 0 rfl) rfl
theorem q1786 : (Jvm.Cond.instanceMethod ({ cls := "HotIronModel", name := "end", desc := "(I)I" } : Jvm.MethodName)) ∈ lw_all := lw_g (lw_at lw_m8 2 rfl) rfl
theorem q1787 : (Jvm.Cond.selects "HotIronModel" ({ cls := "HotIronModel", name := "end", desc := "(I)I" } : Jvm.MethodName) ({ cls := "HotIronModel", name := "end", desc := "(I)I" } : Jvm.MethodName)) ∈ lw_all := lw_g (lw_at lw_m8 3 rfl) rfl
theorem q1788 : (Jvm.Cond.code ({ cls := "HotIronModel", name := "end", desc := "(I)I" } : Jvm.MethodName) prog_28_method_18_code (2 : Nat) (Option.some Jvm.ClassFile.FieldType.int)) ∈ lw_all := lw_g (lw_at lw_m8 4 rfl) rfl
theorem q1790 : (Jvm.Cond.instanceMethod ({ cls := "HotIronModel", name := "fault", desc := "()I" } : Jvm.MethodName)) ∈ lw_all := lw_g (lw_at lw_m8 6 rfl) rfl
theorem q1791 : (Jvm.Cond.selects "HotIronModel" ({ cls := "HotIronModel", name := "fault", desc := "()I" } : Jvm.MethodName) ({ cls := "HotIronModel", name := "fault", desc := "()I" } : Jvm.MethodName)) ∈ lw_all := lw_g (lw_at lw_m8 7 rfl) rfl
theorem q1792 : (Jvm.Cond.code ({ cls := "HotIronModel", name := "fault", desc := "()I" } : Jvm.MethodName) prog_28_method_28_code (1 : Nat) (Option.some Jvm.ClassFile.FieldType.int)) ∈ lw_all := lw_g (lw_at lw_m8 8 rfl) rfl
theorem q1794 : (Jvm.Cond.instanceMethod ({ cls := "HotIronModel", name := "recipe", desc := "()I" } : Jvm.MethodName)) ∈ lw_all := lw_g (lw_at lw_m8 10 rfl) rfl
theorem q1795 : (Jvm.Cond.selects "HotIronModel" ({ cls := "HotIronModel", name := "recipe", desc := "()I" } : Jvm.MethodName) ({ cls := "HotIronModel", name := "recipe", desc := "()I" } : Jvm.MethodName)) ∈ lw_all := lw_g (lw_at lw_m8 11 rfl) rfl
theorem q1796 : (Jvm.Cond.code ({ cls := "HotIronModel", name := "recipe", desc := "()I" } : Jvm.MethodName) prog_28_method_44_code (3 : Nat) (Option.some Jvm.ClassFile.FieldType.int)) ∈ lw_all := lw_g (lw_at lw_m8 12 rfl) rfl
theorem q1797 : (Jvm.Cond.methodLink "HotIronModel" (326 : Nat) ({ cls := "HotIronModel", name := "begin", desc := "()V" } : Jvm.MethodName)) ∈ lw_all := lw_g (lw_at lw_m8 13 rfl) rfl
theorem q1798 : (Jvm.Cond.privateMethod ({ cls := "HotIronModel", name := "begin", desc := "()V" } : Jvm.MethodName)) ∈ lw_tbl := lw_at lw_m8 14 rfl
theorem q1799 : (Jvm.Cond.instanceMethod ({ cls := "HotIronModel", name := "begin", desc := "()V" } : Jvm.MethodName)) ∈ lw_all := lw_g (lw_at lw_m8 15 rfl) rfl
theorem q1800 : (Jvm.Cond.code ({ cls := "HotIronModel", name := "begin", desc := "()V" } : Jvm.MethodName) prog_28_method_21_code (1 : Nat) (Option.none : Option Jvm.ClassFile.FieldType)) ∈ lw_all := lw_g (lw_at lw_m8 16 rfl) rfl
theorem q1801 : (Jvm.Cond.methodLink "HotIronModel" (169 : Nat) ({ cls := "HotIronModel", name := "next", desc := "()V" } : Jvm.MethodName)) ∈ lw_all := lw_g (lw_at lw_m8 17 rfl) rfl
theorem q1802 : (Jvm.Cond.privateMethod ({ cls := "HotIronModel", name := "next", desc := "()V" } : Jvm.MethodName)) ∈ lw_tbl := lw_at lw_m8 18 rfl
theorem q1803 : (Jvm.Cond.instanceMethod ({ cls := "HotIronModel", name := "next", desc := "()V" } : Jvm.MethodName)) ∈ lw_all := lw_g (lw_at lw_m8 19 rfl) rfl
theorem q1804 : (Jvm.Cond.code ({ cls := "HotIronModel", name := "next", desc := "()V" } : Jvm.MethodName) prog_28_method_22_code (1 : Nat) (Option.none : Option Jvm.ClassFile.FieldType)) ∈ lw_all := lw_g (lw_at lw_m8 20 rfl) rfl
theorem q1805 : (Jvm.Cond.methodLink "HotIronModel" (179 : Nat) ({ cls := "HotIronModel", name := "isSmall", desc := "(I)Z" } : Jvm.MethodName)) ∈ lw_all := lw_g (lw_at lw_m8 21 rfl) rfl
theorem q1806 : (Jvm.Cond.static ({ cls := "HotIronModel", name := "isSmall", desc := "(I)Z" } : Jvm.MethodName)) ∈ lw_all := lw_g (lw_at lw_m8 22 rfl) rfl
theorem q1807 : (Jvm.Cond.code ({ cls := "HotIronModel", name := "isSmall", desc := "(I)Z" } : Jvm.MethodName) prog_28_method_19_code (1 : Nat) (Option.some Jvm.ClassFile.FieldType.boolean)) ∈ lw_all := lw_g (lw_at lw_m8 23 rfl) rfl
theorem q1808 : (Jvm.Cond.methodLink "HotIronModel" (183 : Nat) ({ cls := "HotIronModel", name := "isDigit", desc := "(I)Z" } : Jvm.MethodName)) ∈ lw_all := lw_g (lw_at lw_m8 24 rfl) rfl
theorem q1809 : (Jvm.Cond.static ({ cls := "HotIronModel", name := "isDigit", desc := "(I)Z" } : Jvm.MethodName)) ∈ lw_all := lw_g (lw_at lw_m8 25 rfl) rfl
theorem q1810 : (Jvm.Cond.code ({ cls := "HotIronModel", name := "isDigit", desc := "(I)Z" } : Jvm.MethodName) prog_28_method_20_code (1 : Nat) (Option.some Jvm.ClassFile.FieldType.boolean)) ∈ lw_all := lw_g (lw_at lw_m8 26 rfl) rfl
theorem q1811 : (Jvm.Cond.constantLong "HotIronModel" (189 : Nat) (32 : Int64)) ∈ lw_all := lw_g (lw_at lw_m8 27 rfl) rfl
theorem q1812 : (Jvm.Cond.constantLong "HotIronModel" (191 : Nat) (96 : Int64)) ∈ lw_all := lw_g (lw_at lw_m8 28 rfl) rfl
theorem q1813 : (Jvm.Cond.constantLong "HotIronModel" (193 : Nat) (-1 : Int64)) ∈ lw_all := lw_g (lw_at lw_m8 29 rfl) rfl
theorem q1814 : (Jvm.Cond.constantLong "HotIronModel" (195 : Nat) (1000 : Int64)) ∈ lw_all := lw_g (lw_at lw_m8 30 rfl) rfl
theorem q1815 : (Jvm.Cond.constantLong "HotIronModel" (197 : Nat) (10 : Int64)) ∈ lw_all := lw_g (lw_at lw_m8 31 rfl) rfl
theorem q1816 : (Jvm.Cond.constantLong "HotIronModel" (199 : Nat) (48 : Int64)) ∈ lw_all := lw_g (lw_at lw_m8 32 rfl) rfl
theorem q1817 : (Jvm.Cond.methodLink "HotIronModel" (329 : Nat) ({ cls := "HotIronModel", name := "readStep", desc := "()V" } : Jvm.MethodName)) ∈ lw_all := lw_g (lw_at lw_m8 33 rfl) rfl
theorem q1818 : (Jvm.Cond.privateMethod ({ cls := "HotIronModel", name := "readStep", desc := "()V" } : Jvm.MethodName)) ∈ lw_tbl := lw_at lw_m8 34 rfl
theorem q1819 : (Jvm.Cond.instanceMethod ({ cls := "HotIronModel", name := "readStep", desc := "()V" } : Jvm.MethodName)) ∈ lw_all := lw_g (lw_at lw_m8 35 rfl) rfl
theorem q1820 : (Jvm.Cond.code ({ cls := "HotIronModel", name := "readStep", desc := "()V" } : Jvm.MethodName) prog_28_method_43_code (3 : Nat) (Option.none : Option Jvm.ClassFile.FieldType)) ∈ lw_all := lw_g (lw_at lw_m8 36 rfl) rfl
theorem q1821 : (Jvm.Cond.methodLink "HotIronModel" (311 : Nat) ({ cls := "HotIronModel", name := "sortAt", desc := "()I" } : Jvm.MethodName)) ∈ lw_all := lw_g (lw_at lw_m8 37 rfl) rfl
theorem q1822 : (Jvm.Cond.privateMethod ({ cls := "HotIronModel", name := "sortAt", desc := "()I" } : Jvm.MethodName)) ∈ lw_tbl := lw_at lw_m8 38 rfl
theorem q1823 : (Jvm.Cond.instanceMethod ({ cls := "HotIronModel", name := "sortAt", desc := "()I" } : Jvm.MethodName)) ∈ lw_all := lw_g (lw_at lw_m8 39 rfl) rfl
theorem q1824 : (Jvm.Cond.code ({ cls := "HotIronModel", name := "sortAt", desc := "()I" } : Jvm.MethodName) prog_28_method_42_code (1 : Nat) (Option.some Jvm.ClassFile.FieldType.int)) ∈ lw_all := lw_g (lw_at lw_m8 40 rfl) rfl
theorem q1825 : (Jvm.Cond.constantLong "HotIronModel" (299 : Nat) (206405 : Int64)) ∈ lw_all := lw_g (lw_at lw_m8 41 rfl) rfl
theorem q1826 : (Jvm.Cond.methodLink "HotIronModel" (237 : Nat) ({ cls := "HotIronModel", name := "isWord", desc := "(J)Z" } : Jvm.MethodName)) ∈ lw_all := lw_g (lw_at lw_m8 42 rfl) rfl
theorem q1827 : (Jvm.Cond.privateMethod ({ cls := "HotIronModel", name := "isWord", desc := "(J)Z" } : Jvm.MethodName)) ∈ lw_tbl := lw_at lw_m8 43 rfl
theorem q1828 : (Jvm.Cond.instanceMethod ({ cls := "HotIronModel", name := "isWord", desc := "(J)Z" } : Jvm.MethodName)) ∈ lw_all := lw_g (lw_at lw_m8 44 rfl) rfl
theorem q1829 : (Jvm.Cond.code ({ cls := "HotIronModel", name := "isWord", desc := "(J)Z" } : Jvm.MethodName) prog_28_method_23_code (3 : Nat) (Option.some Jvm.ClassFile.FieldType.boolean)) ∈ lw_all := lw_g (lw_at lw_m8 45 rfl) rfl
theorem q1830 : (Jvm.Cond.constantLong "HotIronModel" (301 : Nat) (659105125 : Int64)) ∈ lw_all := lw_g (lw_at lw_m8 46 rfl) rfl
theorem q1831 : (Jvm.Cond.constantLong "HotIronModel" (303 : Nat) (661950697650 : Int64)) ∈ lw_all := lw_g (lw_at lw_m8 47 rfl) rfl
theorem q1832 : (Jvm.Cond.constantLong "HotIronModel" (305 : Nat) (17479784 : Int64)) ∈ lw_all := lw_g (lw_at lw_m8 48 rfl) rfl
theorem q1833 : (Jvm.Cond.constantLong "HotIronModel" (307 : Nat) (759172 : Int64)) ∈ lw_all := lw_g (lw_at lw_m8 49 rfl) rfl
theorem q1834 : (Jvm.Cond.constantLong "HotIronModel" (309 : Nat) (239 : Int64)) ∈ lw_all := lw_g (lw_at lw_m8 50 rfl) rfl
theorem q1835 : (Jvm.Cond.methodLink "HotIronModel" (204 : Nat) ({ cls := "HotIronModel", name := "must", desc := "(Z)V" } : Jvm.MethodName)) ∈ lw_all := lw_g (lw_at lw_m8 51 rfl) rfl
theorem q1836 : (Jvm.Cond.privateMethod ({ cls := "HotIronModel", name := "must", desc := "(Z)V" } : Jvm.MethodName)) ∈ lw_tbl := lw_at lw_m8 52 rfl
theorem q1837 : (Jvm.Cond.instanceMethod ({ cls := "HotIronModel", name := "must", desc := "(Z)V" } : Jvm.MethodName)) ∈ lw_all := lw_g (lw_at lw_m8 53 rfl) rfl
theorem q1838 : (Jvm.Cond.code ({ cls := "HotIronModel", name := "must", desc := "(Z)V" } : Jvm.MethodName) prog_28_method_26_code (2 : Nat) (Option.none : Option Jvm.ClassFile.FieldType)) ∈ lw_all := lw_g (lw_at lw_m8 54 rfl) rfl
theorem q1839 : (Jvm.Cond.methodLink "HotIronModel" (201 : Nat) ({ cls := "HotIronModel", name := "wrong", desc := "()V" } : Jvm.MethodName)) ∈ lw_all := lw_g (lw_at lw_m8 55 rfl) rfl
theorem q1840 : (Jvm.Cond.privateMethod ({ cls := "HotIronModel", name := "wrong", desc := "()V" } : Jvm.MethodName)) ∈ lw_tbl := lw_at lw_m8 56 rfl
theorem q1841 : (Jvm.Cond.instanceMethod ({ cls := "HotIronModel", name := "wrong", desc := "()V" } : Jvm.MethodName)) ∈ lw_all := lw_g (lw_at lw_m8 57 rfl) rfl
theorem q1842 : (Jvm.Cond.code ({ cls := "HotIronModel", name := "wrong", desc := "()V" } : Jvm.MethodName) prog_28_method_25_code (1 : Nat) (Option.none : Option Jvm.ClassFile.FieldType)) ∈ lw_all := lw_g (lw_at lw_m8 58 rfl) rfl
theorem q1843 : (Jvm.Cond.constantLong "HotIronModel" (317 : Nat) (15 : Int64)) ∈ lw_all := lw_g (lw_at lw_m8 59 rfl) rfl
theorem q1844 : (Jvm.Cond.methodLink "HotIronModel" (266 : Nat) ({ cls := "HotIronModel", name := "number", desc := "(J)I" } : Jvm.MethodName)) ∈ lw_all := lw_g (lw_at lw_m8 60 rfl) rfl
theorem q1845 : (Jvm.Cond.privateMethod ({ cls := "HotIronModel", name := "number", desc := "(J)I" } : Jvm.MethodName)) ∈ lw_tbl := lw_at lw_m8 61 rfl
theorem q1846 : (Jvm.Cond.instanceMethod ({ cls := "HotIronModel", name := "number", desc := "(J)I" } : Jvm.MethodName)) ∈ lw_all := lw_g (lw_at lw_m8 62 rfl) rfl
theorem q1847 : (Jvm.Cond.code ({ cls := "HotIronModel", name := "number", desc := "(J)I" } : Jvm.MethodName) prog_28_method_27_code (4 : Nat) (Option.some Jvm.ClassFile.FieldType.int)) ∈ lw_all := lw_g (lw_at lw_m8 63 rfl) rfl
theorem q1848 : (Jvm.Cond.methodLink "HotIronModel" (319 : Nat) ({ cls := "HotIronModel", name := "readExpression", desc := "(Z)V" } : Jvm.MethodName)) ∈ lw_all := lw_g (lw_at lw_m8 64 rfl) rfl
theorem q1849 : (Jvm.Cond.privateMethod ({ cls := "HotIronModel", name := "readExpression", desc := "(Z)V" } : Jvm.MethodName)) ∈ lw_tbl := lw_at lw_m8 65 rfl
theorem q1850 : (Jvm.Cond.instanceMethod ({ cls := "HotIronModel", name := "readExpression", desc := "(Z)V" } : Jvm.MethodName)) ∈ lw_all := lw_g (lw_at lw_m8 66 rfl) rfl
theorem q1851 : (Jvm.Cond.code ({ cls := "HotIronModel", name := "readExpression", desc := "(Z)V" } : Jvm.MethodName) prog_28_method_41_code (3 : Nat) (Option.none : Option Jvm.ClassFile.FieldType)) ∈ lw_all := lw_g (lw_at lw_m8 67 rfl) rfl
theorem q1852 : (Jvm.Cond.methodLink "HotIronModel" (289 : Nat) ({ cls := "HotIronModel", name := "readPlain", desc := "()I" } : Jvm.MethodName)) ∈ lw_all := lw_g (lw_at lw_m8 68 rfl) rfl
theorem q1853 : (Jvm.Cond.privateMethod ({ cls := "HotIronModel", name := "readPlain", desc := "()I" } : Jvm.MethodName)) ∈ lw_tbl := lw_at lw_m8 69 rfl
theorem q1854 : (Jvm.Cond.instanceMethod ({ cls := "HotIronModel", name := "readPlain", desc := "()I" } : Jvm.MethodName)) ∈ lw_all := lw_g (lw_at lw_m8 70 rfl) rfl
theorem q1855 : (Jvm.Cond.code ({ cls := "HotIronModel", name := "readPlain", desc := "()I" } : Jvm.MethodName) prog_28_method_38_code (1 : Nat) (Option.some Jvm.ClassFile.FieldType.int)) ∈ lw_all := lw_g (lw_at lw_m8 71 rfl) rfl
theorem q1856 : (Jvm.Cond.constantLong "HotIronModel" (270 : Nat) (14836 : Int64)) ∈ lw_all := lw_g (lw_at lw_m8 72 rfl) rfl
theorem q1857 : (Jvm.Cond.methodLink "HotIronModel" (232 : Nat) ({ cls := "HotIronModel", name := "push", desc := "(I)V" } : Jvm.MethodName)) ∈ lw_all := lw_g (lw_at lw_m8 73 rfl) rfl
theorem q1858 : (Jvm.Cond.privateMethod ({ cls := "HotIronModel", name := "push", desc := "(I)V" } : Jvm.MethodName)) ∈ lw_tbl := lw_at lw_m8 74 rfl
theorem q1859 : (Jvm.Cond.instanceMethod ({ cls := "HotIronModel", name := "push", desc := "(I)V" } : Jvm.MethodName)) ∈ lw_all := lw_g (lw_at lw_m8 75 rfl) rfl
theorem q1860 : (Jvm.Cond.code ({ cls := "HotIronModel", name := "push", desc := "(I)V" } : Jvm.MethodName) prog_28_method_30_code (2 : Nat) (Option.none : Option Jvm.ClassFile.FieldType)) ∈ lw_all := lw_g (lw_at lw_m8 76 rfl) rfl
theorem q1861 : (Jvm.Cond.methodLink "HotIronModel" (249 : Nat) ({ cls := "HotIronModel", name := "isSign", desc := "(I)Z" } : Jvm.MethodName)) ∈ lw_all := lw_g (lw_at lw_m8 77 rfl) rfl
theorem q1862 : (Jvm.Cond.privateMethod ({ cls := "HotIronModel", name := "isSign", desc := "(I)Z" } : Jvm.MethodName)) ∈ lw_tbl := lw_at lw_m8 78 rfl
theorem q1863 : (Jvm.Cond.instanceMethod ({ cls := "HotIronModel", name := "isSign", desc := "(I)Z" } : Jvm.MethodName)) ∈ lw_all := lw_g (lw_at lw_m8 79 rfl) rfl
theorem q1864 : (Jvm.Cond.code ({ cls := "HotIronModel", name := "isSign", desc := "(I)Z" } : Jvm.MethodName) prog_28_method_24_code (2 : Nat) (Option.some Jvm.ClassFile.FieldType.boolean)) ∈ lw_all := lw_g (lw_at lw_m8 80 rfl) rfl
theorem q1865 : (Jvm.Cond.methodLink "HotIronModel" (252 : Nat) ({ cls := "HotIronModel", name := "open", desc := "(ZI)V" } : Jvm.MethodName)) ∈ lw_all := lw_g (lw_at lw_m8 81 rfl) rfl
theorem q1866 : (Jvm.Cond.privateMethod ({ cls := "HotIronModel", name := "open", desc := "(ZI)V" } : Jvm.MethodName)) ∈ lw_tbl := lw_at lw_m8 82 rfl
theorem q1867 : (Jvm.Cond.instanceMethod ({ cls := "HotIronModel", name := "open", desc := "(ZI)V" } : Jvm.MethodName)) ∈ lw_all := lw_g (lw_at lw_m8 83 rfl) rfl
theorem q1868 : (Jvm.Cond.code ({ cls := "HotIronModel", name := "open", desc := "(ZI)V" } : Jvm.MethodName) prog_28_method_35_code (3 : Nat) (Option.none : Option Jvm.ClassFile.FieldType)) ∈ lw_all := lw_g (lw_at lw_m8 84 rfl) rfl
theorem q1869 : (Jvm.Cond.methodLink "HotIronModel" (272 : Nat) ({ cls := "HotIronModel", name := "readPart", desc := "()I" } : Jvm.MethodName)) ∈ lw_all := lw_g (lw_at lw_m8 85 rfl) rfl
theorem q1870 : (Jvm.Cond.privateMethod ({ cls := "HotIronModel", name := "readPart", desc := "()I" } : Jvm.MethodName)) ∈ lw_tbl := lw_at lw_m8 86 rfl
theorem q1871 : (Jvm.Cond.instanceMethod ({ cls := "HotIronModel", name := "readPart", desc := "()I" } : Jvm.MethodName)) ∈ lw_all := lw_g (lw_at lw_m8 87 rfl) rfl
theorem q1872 : (Jvm.Cond.code ({ cls := "HotIronModel", name := "readPart", desc := "()I" } : Jvm.MethodName) prog_28_method_37_code (3 : Nat) (Option.some Jvm.ClassFile.FieldType.int)) ∈ lw_all := lw_g (lw_at lw_m8 88 rfl) rfl
theorem q1873 : (Jvm.Cond.constantLong "HotIronModel" (256 : Nat) (313838 : Int64)) ∈ lw_all := lw_g (lw_at lw_m8 89 rfl) rfl
theorem q1874 : (Jvm.Cond.constantLong "HotIronModel" (258 : Nat) (8692 : Int64)) ∈ lw_all := lw_g (lw_at lw_m8 90 rfl) rfl
theorem q1875 : (Jvm.Cond.methodLink "HotIronModel" (260 : Nat) ({ cls := "HotIronModel", name := "wordAt", desc := "()I" } : Jvm.MethodName)) ∈ lw_all := lw_g (lw_at lw_m8 91 rfl) rfl
theorem q1876 : (Jvm.Cond.privateMethod ({ cls := "HotIronModel", name := "wordAt", desc := "()I" } : Jvm.MethodName)) ∈ lw_tbl := lw_at lw_m8 92 rfl
theorem q1877 : (Jvm.Cond.instanceMethod ({ cls := "HotIronModel", name := "wordAt", desc := "()I" } : Jvm.MethodName)) ∈ lw_all := lw_g (lw_at lw_m8 93 rfl) rfl
theorem q1878 : (Jvm.Cond.code ({ cls := "HotIronModel", name := "wordAt", desc := "()I" } : Jvm.MethodName) prog_28_method_36_code (1 : Nat) (Option.some Jvm.ClassFile.FieldType.int)) ∈ lw_all := lw_g (lw_at lw_m8 94 rfl) rfl
theorem q1879 : (Jvm.Cond.constantLong "HotIronModel" (235 : Nat) (3322259 : Int64)) ∈ lw_all := lw_g (lw_at lw_m8 95 rfl) rfl
theorem q1880 : (Jvm.Cond.constantLong "HotIronModel" (240 : Nat) (398548 : Int64)) ∈ lw_all := lw_g (lw_at lw_m8 96 rfl) rfl
theorem q1881 : (Jvm.Cond.constantLong "HotIronModel" (242 : Nat) (8554131 : Int64)) ∈ lw_all := lw_g (lw_at lw_m8 97 rfl) rfl
theorem q1882 : (Jvm.Cond.constantLong "HotIronModel" (244 : Nat) (659117163 : Int64)) ∈ lw_all := lw_g (lw_at lw_m8 98 rfl) rfl
theorem q1883 : (Jvm.Cond.methodLink "HotIronModel" (217 : Nat) ({ cls := "HotIronModel", name := "emit", desc := "(II)V" } : Jvm.MethodName)) ∈ lw_all := lw_g (lw_at lw_m8 99 rfl) rfl
theorem q1884 : (Jvm.Cond.privateMethod ({ cls := "HotIronModel", name := "emit", desc := "(II)V" } : Jvm.MethodName)) ∈ lw_tbl := lw_at lw_m8 100 rfl
theorem q1885 : (Jvm.Cond.instanceMethod ({ cls := "HotIronModel", name := "emit", desc := "(II)V" } : Jvm.MethodName)) ∈ lw_all := lw_g (lw_at lw_m8 101 rfl) rfl
theorem q1886 : (Jvm.Cond.code ({ cls := "HotIronModel", name := "emit", desc := "(II)V" } : Jvm.MethodName) prog_28_method_29_code (3 : Nat) (Option.none : Option Jvm.ClassFile.FieldType)) ∈ lw_all := lw_g (lw_at lw_m8 102 rfl) rfl
theorem q1887 : (Jvm.Cond.constantLong "HotIronModel" (264 : Nat) (99 : Int64)) ∈ lw_all := lw_g (lw_at lw_m8 103 rfl) rfl
theorem q1888 : (Jvm.Cond.methodLink "HotIronModel" (292 : Nat) ({ cls := "HotIronModel", name := "behindSum", desc := "(Z)I" } : Jvm.MethodName)) ∈ lw_all := lw_g (lw_at lw_m8 104 rfl) rfl
theorem q1889 : (Jvm.Cond.privateMethod ({ cls := "HotIronModel", name := "behindSum", desc := "(Z)I" } : Jvm.MethodName)) ∈ lw_tbl := lw_at lw_m8 105 rfl
theorem q1890 : (Jvm.Cond.instanceMethod ({ cls := "HotIronModel", name := "behindSum", desc := "(Z)I" } : Jvm.MethodName)) ∈ lw_all := lw_g (lw_at lw_m8 106 rfl) rfl
theorem q1891 : (Jvm.Cond.code ({ cls := "HotIronModel", name := "behindSum", desc := "(Z)I" } : Jvm.MethodName) prog_28_method_39_code (4 : Nat) (Option.some Jvm.ClassFile.FieldType.int)) ∈ lw_all := lw_g (lw_at lw_m8 107 rfl) rfl
theorem q1892 : (Jvm.Cond.methodLink "HotIronModel" (275 : Nat) ({ cls := "HotIronModel", name := "settle", desc := "(I)V" } : Jvm.MethodName)) ∈ lw_all := lw_g (lw_at lw_m8 108 rfl) rfl
theorem q1893 : (Jvm.Cond.privateMethod ({ cls := "HotIronModel", name := "settle", desc := "(I)V" } : Jvm.MethodName)) ∈ lw_tbl := lw_at lw_m8 109 rfl
theorem q1894 : (Jvm.Cond.instanceMethod ({ cls := "HotIronModel", name := "settle", desc := "(I)V" } : Jvm.MethodName)) ∈ lw_all := lw_g (lw_at lw_m8 110 rfl) rfl
theorem q1895 : (Jvm.Cond.code ({ cls := "HotIronModel", name := "settle", desc := "(I)V" } : Jvm.MethodName) prog_28_method_32_code (2 : Nat) (Option.none : Option Jvm.ClassFile.FieldType)) ∈ lw_all := lw_g (lw_at lw_m8 111 rfl) rfl
theorem q1896 : (Jvm.Cond.methodLink "HotIronModel" (214 : Nat) ({ cls := "HotIronModel", name := "binds", desc := "(I)I" } : Jvm.MethodName)) ∈ lw_all := lw_g (lw_at lw_m8 112 rfl) rfl
theorem q1897 : (Jvm.Cond.static ({ cls := "HotIronModel", name := "binds", desc := "(I)I" } : Jvm.MethodName)) ∈ lw_all := lw_g (lw_at lw_m8 113 rfl) rfl
theorem q1898 : (Jvm.Cond.code ({ cls := "HotIronModel", name := "binds", desc := "(I)I" } : Jvm.MethodName) prog_28_method_31_code (1 : Nat) (Option.some Jvm.ClassFile.FieldType.int)) ∈ lw_all := lw_g (lw_at lw_m8 114 rfl) rfl
theorem q1899 : (Jvm.Cond.methodLink "HotIronModel" (278 : Nat) ({ cls := "HotIronModel", name := "inner", desc := "()I" } : Jvm.MethodName)) ∈ lw_all := lw_g (lw_at lw_m8 115 rfl) rfl
theorem q1900 : (Jvm.Cond.privateMethod ({ cls := "HotIronModel", name := "inner", desc := "()I" } : Jvm.MethodName)) ∈ lw_tbl := lw_at lw_m8 116 rfl
theorem q1901 : (Jvm.Cond.instanceMethod ({ cls := "HotIronModel", name := "inner", desc := "()I" } : Jvm.MethodName)) ∈ lw_all := lw_g (lw_at lw_m8 117 rfl) rfl
theorem q1902 : (Jvm.Cond.code ({ cls := "HotIronModel", name := "inner", desc := "()I" } : Jvm.MethodName) prog_28_method_33_code (3 : Nat) (Option.some Jvm.ClassFile.FieldType.int)) ∈ lw_all := lw_g (lw_at lw_m8 118 rfl) rfl
theorem q1903 : (Jvm.Cond.methodLink "HotIronModel" (281 : Nat) ({ cls := "HotIronModel", name := "isCompared", desc := "()Z" } : Jvm.MethodName)) ∈ lw_all := lw_g (lw_at lw_m8 119 rfl) rfl
theorem q1904 : (Jvm.Cond.privateMethod ({ cls := "HotIronModel", name := "isCompared", desc := "()Z" } : Jvm.MethodName)) ∈ lw_tbl := lw_at lw_m8 120 rfl
theorem q1905 : (Jvm.Cond.instanceMethod ({ cls := "HotIronModel", name := "isCompared", desc := "()Z" } : Jvm.MethodName)) ∈ lw_all := lw_g (lw_at lw_m8 121 rfl) rfl
theorem q1906 : (Jvm.Cond.code ({ cls := "HotIronModel", name := "isCompared", desc := "()Z" } : Jvm.MethodName) prog_28_method_34_code (2 : Nat) (Option.some Jvm.ClassFile.FieldType.boolean)) ∈ lw_all := lw_g (lw_at lw_m8 122 rfl) rfl
theorem q1907 : (Jvm.Cond.constantLong "HotIronModel" (221 : Nat) (20 : Int64)) ∈ lw_all := lw_g (lw_at lw_m8 123 rfl) rfl
theorem q1908 : (Jvm.Cond.constantLong "HotIronModel" (223 : Nat) (21 : Int64)) ∈ lw_all := lw_g (lw_at lw_m8 124 rfl) rfl
theorem q1909 : (Jvm.Cond.constantLong "HotIronModel" (225 : Nat) (24 : Int64)) ∈ lw_all := lw_g (lw_at lw_m8 125 rfl) rfl
theorem q1910 : (Jvm.Cond.constantLong "HotIronModel" (227 : Nat) (26 : Int64)) ∈ lw_all := lw_g (lw_at lw_m8 126 rfl) rfl
theorem q1911 : (Jvm.Cond.methodLink "HotIronModel" (296 : Nat) ({ cls := "HotIronModel", name := "behindTest", desc := "()I" } : Jvm.MethodName)) ∈ lw_all := lw_g (lw_at lw_m8 127 rfl) rfl
theorem q1912 : (Jvm.Cond.privateMethod ({ cls := "HotIronModel", name := "behindTest", desc := "()I" } : Jvm.MethodName)) ∈ lw_tbl := lw_at lw_m8 128 rfl
theorem q1913 : (Jvm.Cond.instanceMethod ({ cls := "HotIronModel", name := "behindTest", desc := "()I" } : Jvm.MethodName)) ∈ lw_all := lw_g (lw_at lw_m8 129 rfl) rfl
theorem q1914 : (Jvm.Cond.code ({ cls := "HotIronModel", name := "behindTest", desc := "()I" } : Jvm.MethodName) prog_28_method_40_code (2 : Nat) (Option.some Jvm.ClassFile.FieldType.int)) ∈ lw_all := lw_g (lw_at lw_m8 130 rfl) rfl
theorem q1915 : (Jvm.Cond.constantLong "HotIronModel" (285 : Nat) (1476 : Int64)) ∈ lw_all := lw_g (lw_at lw_m8 131 rfl) rfl
theorem q1916 : (Jvm.Cond.constantLong "HotIronModel" (287 : Nat) (498 : Int64)) ∈ lw_all := lw_g (lw_at lw_m8 132 rfl) rfl
theorem q1917 : (Jvm.Cond.constantLong "HotIronModel" (322 : Nat) (655 : Int64)) ∈ lw_all := lw_g (lw_at lw_m8 133 rfl) rfl
theorem q1918 : (Jvm.Cond.constantLong "HotIronModel" (324 : Nat) (294 : Int64)) ∈ lw_all := lw_g (lw_at lw_m8 134 rfl) rfl
theorem q1920 : (Jvm.Cond.instanceMethod ({ cls := "HotIronModel", name := "steps", desc := "(I)I" } : Jvm.MethodName)) ∈ lw_all := lw_g (lw_at lw_m8 136 rfl) rfl
theorem q1921 : (Jvm.Cond.selects "HotIronModel" ({ cls := "HotIronModel", name := "steps", desc := "(I)I" } : Jvm.MethodName) ({ cls := "HotIronModel", name := "steps", desc := "(I)I" } : Jvm.MethodName)) ∈ lw_all := lw_g (lw_at lw_m8 137 rfl) rfl
theorem q1922 : (Jvm.Cond.code ({ cls := "HotIronModel", name := "steps", desc := "(I)I" } : Jvm.MethodName) prog_28_method_45_code (2 : Nat) (Option.some Jvm.ClassFile.FieldType.int)) ∈ lw_all := lw_g (lw_at lw_m8 138 rfl) rfl
theorem q1923 : (Jvm.Cond.methodLink "HotIronModel" (332 : Nat) ({ cls := "HotIronModel", name := "isRecipe", desc := "(I)Z" } : Jvm.MethodName)) ∈ lw_all := lw_g (lw_at lw_m8 139 rfl) rfl
theorem q1924 : (Jvm.Cond.privateMethod ({ cls := "HotIronModel", name := "isRecipe", desc := "(I)Z" } : Jvm.MethodName)) ∈ lw_tbl := lw_at lw_m8 140 rfl
theorem q1925 : (Jvm.Cond.instanceMethod ({ cls := "HotIronModel", name := "isRecipe", desc := "(I)Z" } : Jvm.MethodName)) ∈ lw_all := lw_g (lw_at lw_m8 141 rfl) rfl
theorem q1926 : (Jvm.Cond.code ({ cls := "HotIronModel", name := "isRecipe", desc := "(I)Z" } : Jvm.MethodName) prog_28_method_8_code (2 : Nat) (Option.some Jvm.ClassFile.FieldType.boolean)) ∈ lw_all := lw_g (lw_at lw_m8 142 rfl) rfl
theorem q1928 : (Jvm.Cond.instanceMethod ({ cls := "HotIronModel", name := "run", desc := "(I)I" } : Jvm.MethodName)) ∈ lw_all := lw_g (lw_at lw_m8 144 rfl) rfl
theorem q1929 : (Jvm.Cond.selects "HotIronModel" ({ cls := "HotIronModel", name := "run", desc := "(I)I" } : Jvm.MethodName) ({ cls := "HotIronModel", name := "run", desc := "(I)I" } : Jvm.MethodName)) ∈ lw_all := lw_g (lw_at lw_m8 145 rfl) rfl
theorem q1930 : (Jvm.Cond.code ({ cls := "HotIronModel", name := "run", desc := "(I)I" } : Jvm.MethodName) prog_28_method_60_code (3 : Nat) (Option.some Jvm.ClassFile.FieldType.int)) ∈ lw_all := lw_g (lw_at lw_m8 146 rfl) rfl
theorem q1931 : (Jvm.Cond.methodLink "HotIronModel" (436 : Nat) ({ cls := "HotIronModel", name := "goThrough", desc := "(II)V" } : Jvm.MethodName)) ∈ lw_all := lw_g (lw_at lw_m8 147 rfl) rfl
theorem q1932 : (Jvm.Cond.privateMethod ({ cls := "HotIronModel", name := "goThrough", desc := "(II)V" } : Jvm.MethodName)) ∈ lw_tbl := lw_at lw_m8 148 rfl
theorem q1933 : (Jvm.Cond.instanceMethod ({ cls := "HotIronModel", name := "goThrough", desc := "(II)V" } : Jvm.MethodName)) ∈ lw_all := lw_g (lw_at lw_m8 149 rfl) rfl
theorem q1934 : (Jvm.Cond.code ({ cls := "HotIronModel", name := "goThrough", desc := "(II)V" } : Jvm.MethodName) prog_28_method_59_code (8 : Nat) (Option.none : Option Jvm.ClassFile.FieldType)) ∈ lw_all := lw_g (lw_at lw_m8 150 rfl) rfl
theorem q1935 : (Jvm.Cond.methodLink "HotIronModel" (430 : Nat) ({ cls := "HotIronModel", name := "rest0", desc := "()V" } : Jvm.MethodName)) ∈ lw_all := lw_g (lw_at lw_m8 151 rfl) rfl
theorem q1936 : (Jvm.Cond.privateMethod ({ cls := "HotIronModel", name := "rest0", desc := "()V" } : Jvm.MethodName)) ∈ lw_tbl := lw_at lw_m8 152 rfl
theorem q1937 : (Jvm.Cond.instanceMethod ({ cls := "HotIronModel", name := "rest0", desc := "()V" } : Jvm.MethodName)) ∈ lw_all := lw_g (lw_at lw_m8 153 rfl) rfl
theorem q1938 : (Jvm.Cond.code ({ cls := "HotIronModel", name := "rest0", desc := "()V" } : Jvm.MethodName) prog_28_method_58_code (2 : Nat) (Option.none : Option Jvm.ClassFile.FieldType)) ∈ lw_all := lw_g (lw_at lw_m8 154 rfl) rfl
theorem q1939 : (Jvm.Cond.methodLink "HotIronModel" (409 : Nat) ({ cls := "HotIronModel", name := "reckon", desc := "(III)I" } : Jvm.MethodName)) ∈ lw_all := lw_g (lw_at lw_m8 155 rfl) rfl
theorem q1940 : (Jvm.Cond.privateMethod ({ cls := "HotIronModel", name := "reckon", desc := "(III)I" } : Jvm.MethodName)) ∈ lw_tbl := lw_at lw_m8 156 rfl
theorem q1941 : (Jvm.Cond.instanceMethod ({ cls := "HotIronModel", name := "reckon", desc := "(III)I" } : Jvm.MethodName)) ∈ lw_all := lw_g (lw_at lw_m8 157 rfl) rfl
theorem q1942 : (Jvm.Cond.code ({ cls := "HotIronModel", name := "reckon", desc := "(III)I" } : Jvm.MethodName) prog_28_method_46_code (8 : Nat) (Option.some Jvm.ClassFile.FieldType.int)) ∈ lw_all := lw_g (lw_at lw_m8 158 rfl) rfl
theorem q1943 : (Jvm.Cond.methodLink "HotIronModel" (347 : Nat) ({ cls := "HotIronModel", name := "joined", desc := "(III)I" } : Jvm.MethodName)) ∈ lw_all := lw_g (lw_at lw_m8 159 rfl) rfl
theorem q1944 : (Jvm.Cond.static ({ cls := "HotIronModel", name := "joined", desc := "(III)I" } : Jvm.MethodName)) ∈ lw_all := lw_g (lw_at lw_m8 160 rfl) rfl
theorem q1945 : (Jvm.Cond.code ({ cls := "HotIronModel", name := "joined", desc := "(III)I" } : Jvm.MethodName) prog_28_method_47_code (3 : Nat) (Option.some Jvm.ClassFile.FieldType.int)) ∈ lw_all := lw_g (lw_at lw_m8 161 rfl) rfl
theorem q1946 : (Jvm.Cond.methodLink "HotIronModel" (433 : Nat) ({ cls := "HotIronModel", name := "doStep", desc := "(II)Z" } : Jvm.MethodName)) ∈ lw_all := lw_g (lw_at lw_m8 162 rfl) rfl
theorem q1947 : (Jvm.Cond.privateMethod ({ cls := "HotIronModel", name := "doStep", desc := "(II)Z" } : Jvm.MethodName)) ∈ lw_tbl := lw_at lw_m8 163 rfl
theorem q1948 : (Jvm.Cond.instanceMethod ({ cls := "HotIronModel", name := "doStep", desc := "(II)Z" } : Jvm.MethodName)) ∈ lw_all := lw_g (lw_at lw_m8 164 rfl) rfl
theorem q1949 : (Jvm.Cond.code ({ cls := "HotIronModel", name := "doStep", desc := "(II)Z" } : Jvm.MethodName) prog_28_method_57_code (5 : Nat) (Option.some Jvm.ClassFile.FieldType.boolean)) ∈ lw_all := lw_g (lw_at lw_m8 165 rfl) rfl
theorem q1950 : (Jvm.Cond.methodLink "HotIronModel" (412 : Nat) ({ cls := "HotIronModel", name := "fire", desc := "(I)Z" } : Jvm.MethodName)) ∈ lw_all := lw_g (lw_at lw_m8 166 rfl) rfl
theorem q1951 : (Jvm.Cond.privateMethod ({ cls := "HotIronModel", name := "fire", desc := "(I)Z" } : Jvm.MethodName)) ∈ lw_tbl := lw_at lw_m8 167 rfl
theorem q1952 : (Jvm.Cond.instanceMethod ({ cls := "HotIronModel", name := "fire", desc := "(I)Z" } : Jvm.MethodName)) ∈ lw_all := lw_g (lw_at lw_m8 168 rfl) rfl
theorem q1953 : (Jvm.Cond.code ({ cls := "HotIronModel", name := "fire", desc := "(I)Z" } : Jvm.MethodName) prog_28_method_51_code (4 : Nat) (Option.some Jvm.ClassFile.FieldType.boolean)) ∈ lw_all := lw_g (lw_at lw_m8 169 rfl) rfl
theorem q1954 : (Jvm.Cond.methodLink "HotIronModel" (359 : Nat) ({ cls := "HotIronModel", name := "isNear", desc := "(II)Z" } : Jvm.MethodName)) ∈ lw_all := lw_g (lw_at lw_m8 170 rfl) rfl
theorem q1955 : (Jvm.Cond.static ({ cls := "HotIronModel", name := "isNear", desc := "(II)Z" } : Jvm.MethodName)) ∈ lw_all := lw_g (lw_at lw_m8 171 rfl) rfl
theorem q1956 : (Jvm.Cond.code ({ cls := "HotIronModel", name := "isNear", desc := "(II)Z" } : Jvm.MethodName) prog_28_method_49_code (2 : Nat) (Option.some Jvm.ClassFile.FieldType.boolean)) ∈ lw_all := lw_g (lw_at lw_m8 172 rfl) rfl
theorem q1957 : (Jvm.Cond.methodLink "HotIronModel" (366 : Nat) ({ cls := "HotIronModel", name := "lose", desc := "(I)V" } : Jvm.MethodName)) ∈ lw_all := lw_g (lw_at lw_m8 173 rfl) rfl
theorem q1958 : (Jvm.Cond.privateMethod ({ cls := "HotIronModel", name := "lose", desc := "(I)V" } : Jvm.MethodName)) ∈ lw_tbl := lw_at lw_m8 174 rfl
theorem q1959 : (Jvm.Cond.instanceMethod ({ cls := "HotIronModel", name := "lose", desc := "(I)V" } : Jvm.MethodName)) ∈ lw_all := lw_g (lw_at lw_m8 175 rfl) rfl
theorem q1960 : (Jvm.Cond.code ({ cls := "HotIronModel", name := "lose", desc := "(I)V" } : Jvm.MethodName) prog_28_method_52_code (2 : Nat) (Option.none : Option Jvm.ClassFile.FieldType)) ∈ lw_all := lw_g (lw_at lw_m8 176 rfl) rfl
theorem q1961 : (Jvm.Cond.methodLink "HotIronModel" (415 : Nat) ({ cls := "HotIronModel", name := "strike", desc := "(II)V" } : Jvm.MethodName)) ∈ lw_all := lw_g (lw_at lw_m8 177 rfl) rfl
theorem q1962 : (Jvm.Cond.privateMethod ({ cls := "HotIronModel", name := "strike", desc := "(II)V" } : Jvm.MethodName)) ∈ lw_tbl := lw_at lw_m8 178 rfl
theorem q1963 : (Jvm.Cond.instanceMethod ({ cls := "HotIronModel", name := "strike", desc := "(II)V" } : Jvm.MethodName)) ∈ lw_all := lw_g (lw_at lw_m8 179 rfl) rfl
theorem q1964 : (Jvm.Cond.code ({ cls := "HotIronModel", name := "strike", desc := "(II)V" } : Jvm.MethodName) prog_28_method_54_code (5 : Nat) (Option.none : Option Jvm.ClassFile.FieldType)) ∈ lw_all := lw_g (lw_at lw_m8 180 rfl) rfl
theorem q1965 : (Jvm.Cond.methodLink "HotIronModel" (378 : Nat) ({ cls := "HotIronModel", name := "isHot", desc := "(I)Z" } : Jvm.MethodName)) ∈ lw_all := lw_g (lw_at lw_m8 181 rfl) rfl
theorem q1966 : (Jvm.Cond.privateMethod ({ cls := "HotIronModel", name := "isHot", desc := "(I)Z" } : Jvm.MethodName)) ∈ lw_tbl := lw_at lw_m8 182 rfl
theorem q1967 : (Jvm.Cond.instanceMethod ({ cls := "HotIronModel", name := "isHot", desc := "(I)Z" } : Jvm.MethodName)) ∈ lw_all := lw_g (lw_at lw_m8 183 rfl) rfl
theorem q1968 : (Jvm.Cond.code ({ cls := "HotIronModel", name := "isHot", desc := "(I)Z" } : Jvm.MethodName) prog_28_method_50_code (2 : Nat) (Option.some Jvm.ClassFile.FieldType.boolean)) ∈ lw_all := lw_g (lw_at lw_m8 184 rfl) rfl
theorem q1969 : (Jvm.Cond.methodLink "HotIronModel" (381 : Nat) ({ cls := "HotIronModel", name := "uses", desc := "(ZI)Z" } : Jvm.MethodName)) ∈ lw_all := lw_g (lw_at lw_m8 185 rfl) rfl
theorem q1970 : (Jvm.Cond.privateMethod ({ cls := "HotIronModel", name := "uses", desc := "(ZI)Z" } : Jvm.MethodName)) ∈ lw_tbl := lw_at lw_m8 186 rfl
theorem q1971 : (Jvm.Cond.instanceMethod ({ cls := "HotIronModel", name := "uses", desc := "(ZI)Z" } : Jvm.MethodName)) ∈ lw_all := lw_g (lw_at lw_m8 187 rfl) rfl
theorem q1972 : (Jvm.Cond.code ({ cls := "HotIronModel", name := "uses", desc := "(ZI)Z" } : Jvm.MethodName) prog_28_method_53_code (3 : Nat) (Option.some Jvm.ClassFile.FieldType.boolean)) ∈ lw_all := lw_g (lw_at lw_m8 188 rfl) rfl
theorem q1973 : (Jvm.Cond.methodLink "HotIronModel" (391 : Nat) ({ cls := "HotIronModel", name := "draw", desc := "(I)I" } : Jvm.MethodName)) ∈ lw_all := lw_g (lw_at lw_m8 189 rfl) rfl
theorem q1974 : (Jvm.Cond.privateMethod ({ cls := "HotIronModel", name := "draw", desc := "(I)I" } : Jvm.MethodName)) ∈ lw_tbl := lw_at lw_m8 190 rfl
theorem q1975 : (Jvm.Cond.instanceMethod ({ cls := "HotIronModel", name := "draw", desc := "(I)I" } : Jvm.MethodName)) ∈ lw_all := lw_g (lw_at lw_m8 191 rfl) rfl
theorem q1976 : (Jvm.Cond.code ({ cls := "HotIronModel", name := "draw", desc := "(I)I" } : Jvm.MethodName) prog_28_method_48_code (2 : Nat) (Option.some Jvm.ClassFile.FieldType.int)) ∈ lw_all := lw_g (lw_at lw_m8 192 rfl) rfl
theorem q1977 : (Jvm.Cond.constantLong "HotIronModel" (353 : Nat) (1103 : Int64)) ∈ lw_all := lw_g (lw_at lw_m8 193 rfl) rfl
theorem q1978 : (Jvm.Cond.constantLong "HotIronModel" (355 : Nat) (12345 : Int64)) ∈ lw_all := lw_g (lw_at lw_m8 194 rfl) rfl
theorem q1979 : (Jvm.Cond.constantLong "HotIronModel" (357 : Nat) (1000003 : Int64)) ∈ lw_all := lw_g (lw_at lw_m8 195 rfl) rfl
theorem q1980 : (Jvm.Cond.methodLink "HotIronModel" (418 : Nat) ({ cls := "HotIronModel", name := "punch", desc := "(I)V" } : Jvm.MethodName)) ∈ lw_all := lw_g (lw_at lw_m8 196 rfl) rfl
theorem q1981 : (Jvm.Cond.privateMethod ({ cls := "HotIronModel", name := "punch", desc := "(I)V" } : Jvm.MethodName)) ∈ lw_tbl := lw_at lw_m8 197 rfl
theorem q1982 : (Jvm.Cond.instanceMethod ({ cls := "HotIronModel", name := "punch", desc := "(I)V" } : Jvm.MethodName)) ∈ lw_all := lw_g (lw_at lw_m8 198 rfl) rfl
theorem q1983 : (Jvm.Cond.code ({ cls := "HotIronModel", name := "punch", desc := "(I)V" } : Jvm.MethodName) prog_28_method_55_code (2 : Nat) (Option.none : Option Jvm.ClassFile.FieldType)) ∈ lw_all := lw_g (lw_at lw_m8 199 rfl) rfl
theorem q1984 : (Jvm.Cond.methodLink "HotIronModel" (421 : Nat) ({ cls := "HotIronModel", name := "weld", desc := "(I)V" } : Jvm.MethodName)) ∈ lw_all := lw_g (lw_at lw_m8 200 rfl) rfl
theorem q1985 : (Jvm.Cond.privateMethod ({ cls := "HotIronModel", name := "weld", desc := "(I)V" } : Jvm.MethodName)) ∈ lw_tbl := lw_at lw_m8 201 rfl
theorem q1986 : (Jvm.Cond.instanceMethod ({ cls := "HotIronModel", name := "weld", desc := "(I)V" } : Jvm.MethodName)) ∈ lw_all := lw_g (lw_at lw_m8 202 rfl) rfl
theorem q1987 : (Jvm.Cond.code ({ cls := "HotIronModel", name := "weld", desc := "(I)V" } : Jvm.MethodName) prog_28_method_56_code (3 : Nat) (Option.none : Option Jvm.ClassFile.FieldType)) ∈ lw_all := lw_g (lw_at lw_m8 203 rfl) rfl
theorem q1989 : (Jvm.Cond.instanceMethod ({ cls := "HotIronModel", name := "came", desc := "(I)I" } : Jvm.MethodName)) ∈ lw_all := lw_g (lw_at lw_m8 205 rfl) rfl
theorem q1990 : (Jvm.Cond.selects "HotIronModel" ({ cls := "HotIronModel", name := "came", desc := "(I)I" } : Jvm.MethodName) ({ cls := "HotIronModel", name := "came", desc := "(I)I" } : Jvm.MethodName)) ∈ lw_all := lw_g (lw_at lw_m8 206 rfl) rfl
theorem q1991 : (Jvm.Cond.code ({ cls := "HotIronModel", name := "came", desc := "(I)I" } : Jvm.MethodName) prog_28_method_61_code (2 : Nat) (Option.some Jvm.ClassFile.FieldType.int)) ∈ lw_all := lw_g (lw_at lw_m8 207 rfl) rfl
theorem q1992 : (Jvm.Cond.constantLong "HotIronModel" (442 : Nat) (13 : Int64)) ∈ lw_all := lw_g (lw_at lw_m8 208 rfl) rfl
theorem q1994 : (Jvm.Cond.instanceMethod ({ cls := "HotIronModel", name := "iron", desc := "(I)I" } : Jvm.MethodName)) ∈ lw_all := lw_g (lw_at lw_m8 210 rfl) rfl
theorem q1995 : (Jvm.Cond.selects "HotIronModel" ({ cls := "HotIronModel", name := "iron", desc := "(I)I" } : Jvm.MethodName) ({ cls := "HotIronModel", name := "iron", desc := "(I)I" } : Jvm.MethodName)) ∈ lw_all := lw_g (lw_at lw_m8 211 rfl) rfl
theorem q1996 : (Jvm.Cond.code ({ cls := "HotIronModel", name := "iron", desc := "(I)I" } : Jvm.MethodName) prog_28_method_62_code (2 : Nat) (Option.some Jvm.ClassFile.FieldType.int)) ∈ lw_all := lw_g (lw_at lw_m8 212 rfl) rfl
theorem q1998 : (Jvm.Cond.instanceMethod ({ cls := "HotIronModel", name := "welds", desc := "(I)J" } : Jvm.MethodName)) ∈ lw_all := lw_g (lw_at lw_m8 214 rfl) rfl
theorem q1999 : (Jvm.Cond.selects "HotIronModel" ({ cls := "HotIronModel", name := "welds", desc := "(I)J" } : Jvm.MethodName) ({ cls := "HotIronModel", name := "welds", desc := "(I)J" } : Jvm.MethodName)) ∈ lw_all := lw_g (lw_at lw_m8 215 rfl) rfl
theorem q2000 : (Jvm.Cond.code ({ cls := "HotIronModel", name := "welds", desc := "(I)J" } : Jvm.MethodName) prog_28_method_63_code (12 : Nat) (Option.some Jvm.ClassFile.FieldType.long)) ∈ lw_all := lw_g (lw_at lw_m8 216 rfl) rfl
theorem q2002 : (Jvm.Cond.instanceMethod ({ cls := "HotIronModel", name := "change", desc := "(II)I" } : Jvm.MethodName)) ∈ lw_all := lw_g (lw_at lw_m8 218 rfl) rfl
theorem q2003 : (Jvm.Cond.selects "HotIronModel" ({ cls := "HotIronModel", name := "change", desc := "(II)I" } : Jvm.MethodName) ({ cls := "HotIronModel", name := "change", desc := "(II)I" } : Jvm.MethodName)) ∈ lw_all := lw_g (lw_at lw_m8 219 rfl) rfl
theorem q2004 : (Jvm.Cond.code ({ cls := "HotIronModel", name := "change", desc := "(II)I" } : Jvm.MethodName) prog_28_method_64_code (9 : Nat) (Option.some Jvm.ClassFile.FieldType.int)) ∈ lw_all := lw_g (lw_at lw_m8 220 rfl) rfl
theorem q2005 : (Jvm.Cond.methodLink "HotIronModel" (444 : Nat) ({ cls := "HotIronModel", name := "keepIron", desc := "()V" } : Jvm.MethodName)) ∈ lw_all := lw_g (lw_at lw_m8 221 rfl) rfl
theorem q2006 : (Jvm.Cond.privateMethod ({ cls := "HotIronModel", name := "keepIron", desc := "()V" } : Jvm.MethodName)) ∈ lw_tbl := lw_at lw_m8 222 rfl
theorem q2007 : (Jvm.Cond.instanceMethod ({ cls := "HotIronModel", name := "keepIron", desc := "()V" } : Jvm.MethodName)) ∈ lw_all := lw_g (lw_at lw_m8 223 rfl) rfl
theorem q2008 : (Jvm.Cond.code ({ cls := "HotIronModel", name := "keepIron", desc := "()V" } : Jvm.MethodName) prog_28_method_65_code (2 : Nat) (Option.none : Option Jvm.ClassFile.FieldType)) ∈ lw_all := lw_g (lw_at lw_m8 224 rfl) rfl
theorem q2009 : (Jvm.Cond.methodLink "HotIronModel" (447 : Nat) ({ cls := "HotIronModel", name := "apart", desc := "(I)I" } : Jvm.MethodName)) ∈ lw_all := lw_g (lw_at lw_m8 225 rfl) rfl
theorem q2010 : (Jvm.Cond.privateMethod ({ cls := "HotIronModel", name := "apart", desc := "(I)I" } : Jvm.MethodName)) ∈ lw_tbl := lw_at lw_m8 226 rfl
theorem q2011 : (Jvm.Cond.instanceMethod ({ cls := "HotIronModel", name := "apart", desc := "(I)I" } : Jvm.MethodName)) ∈ lw_all := lw_g (lw_at lw_m8 227 rfl) rfl
theorem q2012 : (Jvm.Cond.code ({ cls := "HotIronModel", name := "apart", desc := "(I)I" } : Jvm.MethodName) prog_28_method_66_code (5 : Nat) (Option.some Jvm.ClassFile.FieldType.int)) ∈ lw_all := lw_g (lw_at lw_m8 228 rfl) rfl
theorem q2014 : (Jvm.Cond.instanceMethod ({ cls := "HotIronModel", name := "made", desc := "(III)I" } : Jvm.MethodName)) ∈ lw_all := lw_g (lw_at lw_m8 230 rfl) rfl
theorem q2015 : (Jvm.Cond.selects "HotIronModel" ({ cls := "HotIronModel", name := "made", desc := "(III)I" } : Jvm.MethodName) ({ cls := "HotIronModel", name := "made", desc := "(III)I" } : Jvm.MethodName)) ∈ lw_all := lw_g (lw_at lw_m8 231 rfl) rfl
theorem q2016 : (Jvm.Cond.code ({ cls := "HotIronModel", name := "made", desc := "(III)I" } : Jvm.MethodName) prog_28_method_67_code (10 : Nat) (Option.some Jvm.ClassFile.FieldType.int)) ∈ lw_all := lw_g (lw_at lw_m8 232 rfl) rfl
theorem q2018 : (Jvm.Cond.instanceMethod ({ cls := "HotIronModel", name := "twelve", desc := "(IIII)I" } : Jvm.MethodName)) ∈ lw_all := lw_g (lw_at lw_m8 234 rfl) rfl
theorem q2019 : (Jvm.Cond.selects "HotIronModel" ({ cls := "HotIronModel", name := "twelve", desc := "(IIII)I" } : Jvm.MethodName) ({ cls := "HotIronModel", name := "twelve", desc := "(IIII)I" } : Jvm.MethodName)) ∈ lw_all := lw_g (lw_at lw_m8 235 rfl) rfl
theorem q2020 : (Jvm.Cond.code ({ cls := "HotIronModel", name := "twelve", desc := "(IIII)I" } : Jvm.MethodName) prog_28_method_68_code (10 : Nat) (Option.some Jvm.ClassFile.FieldType.int)) ∈ lw_all := lw_g (lw_at lw_m8 236 rfl) rfl
theorem q2021 : (Jvm.Cond.constantLong "HotIronModel" (450 : Nat) (1000000 : Int64)) ∈ lw_all := lw_g (lw_at lw_m8 237 rfl) rfl
theorem q2023 : (Jvm.Cond.instanceMethod ({ cls := "HotIronModel", name := "reached", desc := "(I)I" } : Jvm.MethodName)) ∈ lw_all := lw_g (lw_at lw_m8 239 rfl) rfl
theorem q2024 : (Jvm.Cond.selects "HotIronModel" ({ cls := "HotIronModel", name := "reached", desc := "(I)I" } : Jvm.MethodName) ({ cls := "HotIronModel", name := "reached", desc := "(I)I" } : Jvm.MethodName)) ∈ lw_all := lw_g (lw_at lw_m9 0 rfl) rfl
theorem q2025 : (Jvm.Cond.code ({ cls := "HotIronModel", name := "reached", desc := "(I)I" } : Jvm.MethodName) prog_28_method_77_code (4 : Nat) (Option.some Jvm.ClassFile.FieldType.int)) ∈ lw_all := lw_g (lw_at lw_m9 1 rfl) rfl
theorem q2026 : (Jvm.Cond.constantLong "HotIronModel" (472 : Nat) (6 : Int64)) ∈ lw_all := lw_g (lw_at lw_m9 2 rfl) rfl
theorem q2027 : (Jvm.Cond.methodLink "HotIronModel" (474 : Nat) ({ cls := "HotIronModel", name := "findWeights", desc := "()V" } : Jvm.MethodName)) ∈ lw_all := lw_g (lw_at lw_m9 3 rfl) rfl
theorem q2028 : (Jvm.Cond.privateMethod ({ cls := "HotIronModel", name := "findWeights", desc := "()V" } : Jvm.MethodName)) ∈ lw_tbl := lw_at lw_m9 4 rfl
theorem q2029 : (Jvm.Cond.instanceMethod ({ cls := "HotIronModel", name := "findWeights", desc := "()V" } : Jvm.MethodName)) ∈ lw_all := lw_g (lw_at lw_m9 5 rfl) rfl
theorem q2030 : (Jvm.Cond.code ({ cls := "HotIronModel", name := "findWeights", desc := "()V" } : Jvm.MethodName) prog_28_method_70_code (3 : Nat) (Option.none : Option Jvm.ClassFile.FieldType)) ∈ lw_all := lw_g (lw_at lw_m9 6 rfl) rfl
theorem q2031 : (Jvm.Cond.methodLink "HotIronModel" (477 : Nat) ({ cls := "HotIronModel", name := "rowAt", desc := "(I)I" } : Jvm.MethodName)) ∈ lw_all := lw_g (lw_at lw_m9 7 rfl) rfl
theorem q2032 : (Jvm.Cond.privateMethod ({ cls := "HotIronModel", name := "rowAt", desc := "(I)I" } : Jvm.MethodName)) ∈ lw_tbl := lw_at lw_m9 8 rfl
theorem q2033 : (Jvm.Cond.instanceMethod ({ cls := "HotIronModel", name := "rowAt", desc := "(I)I" } : Jvm.MethodName)) ∈ lw_all := lw_g (lw_at lw_m9 9 rfl) rfl
theorem q2034 : (Jvm.Cond.code ({ cls := "HotIronModel", name := "rowAt", desc := "(I)I" } : Jvm.MethodName) prog_28_method_71_code (4 : Nat) (Option.some Jvm.ClassFile.FieldType.int)) ∈ lw_all := lw_g (lw_at lw_m9 10 rfl) rfl
theorem q2035 : (Jvm.Cond.methodLink "HotIronModel" (480 : Nat) ({ cls := "HotIronModel", name := "findLevels", desc := "(IIII)I" } : Jvm.MethodName)) ∈ lw_all := lw_g (lw_at lw_m9 11 rfl) rfl
theorem q2036 : (Jvm.Cond.privateMethod ({ cls := "HotIronModel", name := "findLevels", desc := "(IIII)I" } : Jvm.MethodName)) ∈ lw_tbl := lw_at lw_m9 12 rfl
theorem q2037 : (Jvm.Cond.instanceMethod ({ cls := "HotIronModel", name := "findLevels", desc := "(IIII)I" } : Jvm.MethodName)) ∈ lw_all := lw_g (lw_at lw_m9 13 rfl) rfl
theorem q2038 : (Jvm.Cond.code ({ cls := "HotIronModel", name := "findLevels", desc := "(IIII)I" } : Jvm.MethodName) prog_28_method_76_code (9 : Nat) (Option.some Jvm.ClassFile.FieldType.int)) ∈ lw_all := lw_g (lw_at lw_m9 14 rfl) rfl
theorem q2039 : (Jvm.Cond.methodLink "HotIronModel" (468 : Nat) ({ cls := "HotIronModel", name := "findSpread", desc := "(III)V" } : Jvm.MethodName)) ∈ lw_all := lw_g (lw_at lw_m9 15 rfl) rfl
theorem q2040 : (Jvm.Cond.privateMethod ({ cls := "HotIronModel", name := "findSpread", desc := "(III)V" } : Jvm.MethodName)) ∈ lw_tbl := lw_at lw_m9 16 rfl
theorem q2041 : (Jvm.Cond.instanceMethod ({ cls := "HotIronModel", name := "findSpread", desc := "(III)V" } : Jvm.MethodName)) ∈ lw_all := lw_g (lw_at lw_m9 17 rfl) rfl
theorem q2042 : (Jvm.Cond.code ({ cls := "HotIronModel", name := "findSpread", desc := "(III)V" } : Jvm.MethodName) prog_28_method_74_code (9 : Nat) (Option.none : Option Jvm.ClassFile.FieldType)) ∈ lw_all := lw_g (lw_at lw_m9 18 rfl) rfl
theorem q2043 : (Jvm.Cond.methodLink "HotIronModel" (458 : Nat) ({ cls := "HotIronModel", name := "ironOf", desc := "(II)I" } : Jvm.MethodName)) ∈ lw_all := lw_g (lw_at lw_m9 19 rfl) rfl
theorem q2044 : (Jvm.Cond.privateMethod ({ cls := "HotIronModel", name := "ironOf", desc := "(II)I" } : Jvm.MethodName)) ∈ lw_tbl := lw_at lw_m9 20 rfl
theorem q2045 : (Jvm.Cond.instanceMethod ({ cls := "HotIronModel", name := "ironOf", desc := "(II)I" } : Jvm.MethodName)) ∈ lw_all := lw_g (lw_at lw_m9 21 rfl) rfl
theorem q2046 : (Jvm.Cond.code ({ cls := "HotIronModel", name := "ironOf", desc := "(II)I" } : Jvm.MethodName) prog_28_method_72_code (3 : Nat) (Option.some Jvm.ClassFile.FieldType.int)) ∈ lw_all := lw_g (lw_at lw_m9 22 rfl) rfl
theorem q2047 : (Jvm.Cond.methodLink "HotIronModel" (462 : Nat) ({ cls := "HotIronModel", name := "reach", desc := "(I)V" } : Jvm.MethodName)) ∈ lw_all := lw_g (lw_at lw_m9 23 rfl) rfl
theorem q2048 : (Jvm.Cond.privateMethod ({ cls := "HotIronModel", name := "reach", desc := "(I)V" } : Jvm.MethodName)) ∈ lw_tbl := lw_at lw_m9 24 rfl
theorem q2049 : (Jvm.Cond.instanceMethod ({ cls := "HotIronModel", name := "reach", desc := "(I)V" } : Jvm.MethodName)) ∈ lw_all := lw_g (lw_at lw_m9 25 rfl) rfl
theorem q2050 : (Jvm.Cond.code ({ cls := "HotIronModel", name := "reach", desc := "(I)V" } : Jvm.MethodName) prog_28_method_73_code (2 : Nat) (Option.none : Option Jvm.ClassFile.FieldType)) ∈ lw_all := lw_g (lw_at lw_m9 26 rfl) rfl
theorem q2051 : (Jvm.Cond.methodLink "HotIronModel" (465 : Nat) ({ cls := "HotIronModel", name := "moveAll", desc := "(II)V" } : Jvm.MethodName)) ∈ lw_all := lw_g (lw_at lw_m9 27 rfl) rfl
theorem q2052 : (Jvm.Cond.privateMethod ({ cls := "HotIronModel", name := "moveAll", desc := "(II)V" } : Jvm.MethodName)) ∈ lw_tbl := lw_at lw_m9 28 rfl
theorem q2053 : (Jvm.Cond.instanceMethod ({ cls := "HotIronModel", name := "moveAll", desc := "(II)V" } : Jvm.MethodName)) ∈ lw_all := lw_g (lw_at lw_m9 29 rfl) rfl
theorem q2054 : (Jvm.Cond.code ({ cls := "HotIronModel", name := "moveAll", desc := "(II)V" } : Jvm.MethodName) prog_28_method_75_code (6 : Nat) (Option.none : Option Jvm.ClassFile.FieldType)) ∈ lw_all := lw_g (lw_at lw_m9 30 rfl) rfl
theorem q2056 : (Jvm.Cond.instanceMethod ({ cls := "HotIronModel", name := "heats", desc := "()I" } : Jvm.MethodName)) ∈ lw_all := lw_g (lw_at lw_m9 32 rfl) rfl
theorem q2057 : (Jvm.Cond.selects "HotIronModel" ({ cls := "HotIronModel", name := "heats", desc := "()I" } : Jvm.MethodName) ({ cls := "HotIronModel", name := "heats", desc := "()I" } : Jvm.MethodName)) ∈ lw_all := lw_g (lw_at lw_m9 33 rfl) rfl
theorem q2058 : (Jvm.Cond.code ({ cls := "HotIronModel", name := "heats", desc := "()I" } : Jvm.MethodName) prog_28_method_82_code (1 : Nat) (Option.some Jvm.ClassFile.FieldType.int)) ∈ lw_all := lw_g (lw_at lw_m9 34 rfl) rfl
theorem q2059 : (Jvm.Cond.methodLink "HotIronModel" (494 : Nat) ({ cls := "HotIronModel", name := "findPlan", desc := "()V" } : Jvm.MethodName)) ∈ lw_all := lw_g (lw_at lw_m9 35 rfl) rfl
theorem q2060 : (Jvm.Cond.privateMethod ({ cls := "HotIronModel", name := "findPlan", desc := "()V" } : Jvm.MethodName)) ∈ lw_tbl := lw_at lw_m9 36 rfl
theorem q2061 : (Jvm.Cond.instanceMethod ({ cls := "HotIronModel", name := "findPlan", desc := "()V" } : Jvm.MethodName)) ∈ lw_all := lw_g (lw_at lw_m9 37 rfl) rfl
theorem q2062 : (Jvm.Cond.code ({ cls := "HotIronModel", name := "findPlan", desc := "()V" } : Jvm.MethodName) prog_28_method_81_code (6 : Nat) (Option.none : Option Jvm.ClassFile.FieldType)) ∈ lw_all := lw_g (lw_at lw_m9 38 rfl) rfl
theorem q2063 : (Jvm.Cond.methodLink "HotIronModel" (488 : Nat) ({ cls := "HotIronModel", name := "findToGo", desc := "(I)V" } : Jvm.MethodName)) ∈ lw_all := lw_g (lw_at lw_m9 39 rfl) rfl
theorem q2064 : (Jvm.Cond.privateMethod ({ cls := "HotIronModel", name := "findToGo", desc := "(I)V" } : Jvm.MethodName)) ∈ lw_tbl := lw_at lw_m9 40 rfl
theorem q2065 : (Jvm.Cond.instanceMethod ({ cls := "HotIronModel", name := "findToGo", desc := "(I)V" } : Jvm.MethodName)) ∈ lw_all := lw_g (lw_at lw_m9 41 rfl) rfl
theorem q2066 : (Jvm.Cond.code ({ cls := "HotIronModel", name := "findToGo", desc := "(I)V" } : Jvm.MethodName) prog_28_method_79_code (6 : Nat) (Option.none : Option Jvm.ClassFile.FieldType)) ∈ lw_all := lw_g (lw_at lw_m9 42 rfl) rfl
theorem q2067 : (Jvm.Cond.methodLink "HotIronModel" (484 : Nat) ({ cls := "HotIronModel", name := "leads", desc := "(II[II)Z" } : Jvm.MethodName)) ∈ lw_all := lw_g (lw_at lw_m9 43 rfl) rfl
theorem q2068 : (Jvm.Cond.privateMethod ({ cls := "HotIronModel", name := "leads", desc := "(II[II)Z" } : Jvm.MethodName)) ∈ lw_tbl := lw_at lw_m9 44 rfl
theorem q2069 : (Jvm.Cond.instanceMethod ({ cls := "HotIronModel", name := "leads", desc := "(II[II)Z" } : Jvm.MethodName)) ∈ lw_all := lw_g (lw_at lw_m9 45 rfl) rfl
theorem q2070 : (Jvm.Cond.code ({ cls := "HotIronModel", name := "leads", desc := "(II[II)Z" } : Jvm.MethodName) prog_28_method_78_code (7 : Nat) (Option.some Jvm.ClassFile.FieldType.boolean)) ∈ lw_all := lw_g (lw_at lw_m9 46 rfl) rfl
theorem q2071 : (Jvm.Cond.methodLink "HotIronModel" (491 : Nat) ({ cls := "HotIronModel", name := "chooseCell", desc := "(I)V" } : Jvm.MethodName)) ∈ lw_all := lw_g (lw_at lw_m9 47 rfl) rfl
theorem q2072 : (Jvm.Cond.privateMethod ({ cls := "HotIronModel", name := "chooseCell", desc := "(I)V" } : Jvm.MethodName)) ∈ lw_tbl := lw_at lw_m9 48 rfl
theorem q2073 : (Jvm.Cond.instanceMethod ({ cls := "HotIronModel", name := "chooseCell", desc := "(I)V" } : Jvm.MethodName)) ∈ lw_all := lw_g (lw_at lw_m9 49 rfl) rfl
theorem q2074 : (Jvm.Cond.code ({ cls := "HotIronModel", name := "chooseCell", desc := "(I)V" } : Jvm.MethodName) prog_28_method_80_code (5 : Nat) (Option.none : Option Jvm.ClassFile.FieldType)) ∈ lw_all := lw_g (lw_at lw_m9 50 rfl) rfl
theorem q2076 : (Jvm.Cond.instanceMethod ({ cls := "HotIronModel", name := "plan", desc := "(II)I" } : Jvm.MethodName)) ∈ lw_all := lw_g (lw_at lw_m9 52 rfl) rfl
theorem q2077 : (Jvm.Cond.selects "HotIronModel" ({ cls := "HotIronModel", name := "plan", desc := "(II)I" } : Jvm.MethodName) ({ cls := "HotIronModel", name := "plan", desc := "(II)I" } : Jvm.MethodName)) ∈ lw_all := lw_g (lw_at lw_m9 53 rfl) rfl
theorem q2078 : (Jvm.Cond.code ({ cls := "HotIronModel", name := "plan", desc := "(II)I" } : Jvm.MethodName) prog_28_method_83_code (3 : Nat) (Option.some Jvm.ClassFile.FieldType.int)) ∈ lw_all := lw_g (lw_at lw_m9 54 rfl) rfl
theorem q2080 : (Jvm.Cond.instanceMethod ({ cls := "HotIronModel", name := "even", desc := "()I" } : Jvm.MethodName)) ∈ lw_all := lw_g (lw_at lw_m9 56 rfl) rfl
theorem q2081 : (Jvm.Cond.selects "HotIronModel" ({ cls := "HotIronModel", name := "even", desc := "()I" } : Jvm.MethodName) ({ cls := "HotIronModel", name := "even", desc := "()I" } : Jvm.MethodName)) ∈ lw_all := lw_g (lw_at lw_m9 57 rfl) rfl
theorem q2082 : (Jvm.Cond.code ({ cls := "HotIronModel", name := "even", desc := "()I" } : Jvm.MethodName) prog_28_method_84_code (6 : Nat) (Option.some Jvm.ClassFile.FieldType.int)) ∈ lw_all := lw_g (lw_at lw_m9 58 rfl) rfl
theorem q2084 : (Jvm.Cond.instanceMethod ({ cls := "HotIronModel", name := "striker", desc := "()I" } : Jvm.MethodName)) ∈ lw_all := lw_g (lw_at lw_m9 60 rfl) rfl
theorem q2085 : (Jvm.Cond.selects "HotIronModel" ({ cls := "HotIronModel", name := "striker", desc := "()I" } : Jvm.MethodName) ({ cls := "HotIronModel", name := "striker", desc := "()I" } : Jvm.MethodName)) ∈ lw_all := lw_g (lw_at lw_m9 61 rfl) rfl
theorem q2086 : (Jvm.Cond.code ({ cls := "HotIronModel", name := "striker", desc := "()I" } : Jvm.MethodName) prog_28_method_85_code (2 : Nat) (Option.some Jvm.ClassFile.FieldType.int)) ∈ lw_all := lw_g (lw_at lw_m9 62 rfl) rfl
theorem q2088 : (Jvm.Cond.instanceMethod ({ cls := "HotIronModel", name := "piece", desc := "(II)I" } : Jvm.MethodName)) ∈ lw_all := lw_g (lw_at lw_m9 64 rfl) rfl
theorem q2089 : (Jvm.Cond.selects "HotIronModel" ({ cls := "HotIronModel", name := "piece", desc := "(II)I" } : Jvm.MethodName) ({ cls := "HotIronModel", name := "piece", desc := "(II)I" } : Jvm.MethodName)) ∈ lw_all := lw_g (lw_at lw_m9 65 rfl) rfl
theorem q2090 : (Jvm.Cond.code ({ cls := "HotIronModel", name := "piece", desc := "(II)I" } : Jvm.MethodName) prog_28_method_86_code (3 : Nat) (Option.some Jvm.ClassFile.FieldType.int)) ∈ lw_all := lw_g (lw_at lw_m9 66 rfl) rfl
theorem q2091 : (Jvm.Cond.constantLong "HotIronModel" (497 : Nat) (200 : Int64)) ∈ lw_all := lw_g (lw_at lw_m9 67 rfl) rfl
theorem q2093 : (Jvm.Cond.instanceMethod ({ cls := "HotIronModel", name := "soonest", desc := "(II)I" } : Jvm.MethodName)) ∈ lw_all := lw_g (lw_at lw_m9 69 rfl) rfl
theorem q2094 : (Jvm.Cond.selects "HotIronModel" ({ cls := "HotIronModel", name := "soonest", desc := "(II)I" } : Jvm.MethodName) ({ cls := "HotIronModel", name := "soonest", desc := "(II)I" } : Jvm.MethodName)) ∈ lw_all := lw_g (lw_at lw_m9 70 rfl) rfl
theorem q2095 : (Jvm.Cond.code ({ cls := "HotIronModel", name := "soonest", desc := "(II)I" } : Jvm.MethodName) prog_28_method_90_code (7 : Nat) (Option.some Jvm.ClassFile.FieldType.int)) ∈ lw_all := lw_g (lw_at lw_m9 71 rfl) rfl
theorem q2096 : (Jvm.Cond.methodLink "HotIronModel" (502 : Nat) ({ cls := "HotIronModel", name := "doneBy", desc := "(I)I" } : Jvm.MethodName)) ∈ lw_all := lw_g (lw_at lw_m9 72 rfl) rfl
theorem q2097 : (Jvm.Cond.privateMethod ({ cls := "HotIronModel", name := "doneBy", desc := "(I)I" } : Jvm.MethodName)) ∈ lw_tbl := lw_at lw_m9 73 rfl
theorem q2098 : (Jvm.Cond.instanceMethod ({ cls := "HotIronModel", name := "doneBy", desc := "(I)I" } : Jvm.MethodName)) ∈ lw_all := lw_g (lw_at lw_m9 74 rfl) rfl
theorem q2099 : (Jvm.Cond.code ({ cls := "HotIronModel", name := "doneBy", desc := "(I)I" } : Jvm.MethodName) prog_28_method_87_code (9 : Nat) (Option.some Jvm.ClassFile.FieldType.int)) ∈ lw_all := lw_g (lw_at lw_m9 75 rfl) rfl
theorem q2100 : (Jvm.Cond.methodLink "HotIronModel" (505 : Nat) ({ cls := "HotIronModel", name := "nextOrder", desc := "()Z" } : Jvm.MethodName)) ∈ lw_all := lw_g (lw_at lw_m9 76 rfl) rfl
theorem q2101 : (Jvm.Cond.privateMethod ({ cls := "HotIronModel", name := "nextOrder", desc := "()Z" } : Jvm.MethodName)) ∈ lw_tbl := lw_at lw_m9 77 rfl
theorem q2102 : (Jvm.Cond.instanceMethod ({ cls := "HotIronModel", name := "nextOrder", desc := "()Z" } : Jvm.MethodName)) ∈ lw_all := lw_g (lw_at lw_m9 78 rfl) rfl
theorem q2103 : (Jvm.Cond.code ({ cls := "HotIronModel", name := "nextOrder", desc := "()Z" } : Jvm.MethodName) prog_28_method_88_code (6 : Nat) (Option.some Jvm.ClassFile.FieldType.boolean)) ∈ lw_all := lw_g (lw_at lw_m9 79 rfl) rfl
theorem q2104 : (Jvm.Cond.methodLink "HotIronModel" (499 : Nat) ({ cls := "HotIronModel", name := "exchange", desc := "(II)V" } : Jvm.MethodName)) ∈ lw_all := lw_g (lw_at lw_m9 80 rfl) rfl
theorem q2105 : (Jvm.Cond.privateMethod ({ cls := "HotIronModel", name := "exchange", desc := "(II)V" } : Jvm.MethodName)) ∈ lw_tbl := lw_at lw_m9 81 rfl
theorem q2106 : (Jvm.Cond.instanceMethod ({ cls := "HotIronModel", name := "exchange", desc := "(II)V" } : Jvm.MethodName)) ∈ lw_all := lw_g (lw_at lw_m9 82 rfl) rfl
theorem q2107 : (Jvm.Cond.code ({ cls := "HotIronModel", name := "exchange", desc := "(II)V" } : Jvm.MethodName) prog_28_method_89_code (4 : Nat) (Option.none : Option Jvm.ClassFile.FieldType)) ∈ lw_all := lw_g (lw_at lw_m9 83 rfl) rfl
theorem q2109 : (Jvm.Cond.instanceMethod ({ cls := "HotIronModel", name := "count", desc := "(I)I" } : Jvm.MethodName)) ∈ lw_all := lw_g (lw_at lw_m9 85 rfl) rfl
theorem q2110 : (Jvm.Cond.selects "HotIronModel" ({ cls := "HotIronModel", name := "count", desc := "(I)I" } : Jvm.MethodName) ({ cls := "HotIronModel", name := "count", desc := "(I)I" } : Jvm.MethodName)) ∈ lw_all := lw_g (lw_at lw_m9 86 rfl) rfl
theorem q2111 : (Jvm.Cond.code ({ cls := "HotIronModel", name := "count", desc := "(I)I" } : Jvm.MethodName) prog_28_method_91_code (4 : Nat) (Option.some Jvm.ClassFile.FieldType.int)) ∈ lw_all := lw_g (lw_at lw_m9 87 rfl) rfl
theorem q2113 : (Jvm.Cond.instanceMethod ({ cls := "HotIronModel", name := "status", desc := "()I" } : Jvm.MethodName)) ∈ lw_all := lw_g (lw_at lw_m9 89 rfl) rfl
theorem q2114 : (Jvm.Cond.selects "HotIronModel" ({ cls := "HotIronModel", name := "status", desc := "()I" } : Jvm.MethodName) ({ cls := "HotIronModel", name := "status", desc := "()I" } : Jvm.MethodName)) ∈ lw_all := lw_g (lw_at lw_m9 90 rfl) rfl
theorem q2115 : (Jvm.Cond.code ({ cls := "HotIronModel", name := "status", desc := "()I" } : Jvm.MethodName) prog_28_method_92_code (1 : Nat) (Option.some Jvm.ClassFile.FieldType.int)) ∈ lw_all := lw_g (lw_at lw_m9 91 rfl) rfl
theorem q2135 : (Jvm.Cond.castable "HotIronModel" "java/lang/Object") ∈ lw_tbl := lw_at lw_m9 111 rfl
theorem in_X6 : ∀ w ∈ wsX60, w ∈ lw_all := lw_in wsX60 [1581, 1583, 1585, 1587, 1589, 1591, 1593, 1595, 1597, 1599, 1601, 1603, 1605, 1607, 1609, 1611, 1613, 1615, 1617, 1619, 1621, 1623, 1625, 1627, 1629, 1631, 1633, 1635, 1637, 1639, 1641, 1643, 1645, 1647, 1649, 1651, 1653, 1655, 1657, 1659, 1661, 1663, 1665, 1667, 1669, 1671, 1673, 1675, 1677, 1679, 1681, 1683, 1685, 1687, 1689, 1691, 1693, 1695, 1697, 1699, 1701, 1703, 1705, 1707, 1709, 1711, 1713] (by decide +kernel) (by decide +kernel)
