/-! HotIron -/
set_option maxRecDepth 100000
def RX0 : String := "HotIron"
def TX0 : u_T := fun k => match k with
  | 0 => ("HotIron", "status", "I", false)
  | 1 => ("HotIron", "refused", "[I", true)
  | 2 => ("HotIron", "state", "LHotIron$State;", true)
  | 3 => ("HotIron", "images", "[LHotIron$State;", true)
  | 4 => ("HotIron", "tape", "[B", true)
  | 5 => ("HotIron", "taped", "I", false)
  | 6 => ("HotIron", "fault", "I", false)
  | 7 => ("HotIron", "version", "I", false)
  | 8 => ("HotIron", "latest", "LHotIron$Work;", true)
  | 9 => ("HotIron", "work", "LHotIron$Work;", true)
  | 10 => ("HotIron", "other", "LHotIron$Work;", true)
  | 11 => ("HotIron", "ran", "Z", false)
  | 12 => ("HotIron", "plans", "LHotIron$Plans;", true)
  | 13 => ("HotIron", "tried", "LHotIron$Plans;", true)
  | 14 => ("HotIron", "triedAt", "I", false)
  | 15 => ("HotIron", "triedFar", "I", false)
  | 16 => ("HotIron", "evenBar", "[I", true)
  | 17 => ("HotIron", "twelve", "[I", true)
  | 18 => ("HotIron", "hand", "LHotIron$Hand;", true)
  | _ => ("HotIron", "gate", "LHotIron$Gate;", true)
def tyX0 : Nat → FieldType := fun k => match k with
  | 0 => .int
  | 1 => .array .int
  | 2 => .object "HotIron$State"
  | 3 => .array (.object "HotIron$State")
  | 4 => .array .byte
  | 5 => .int
  | 6 => .int
  | 7 => .int
  | 8 => .object "HotIron$Work"
  | 9 => .object "HotIron$Work"
  | 10 => .object "HotIron$Work"
  | 11 => .boolean
  | 12 => .object "HotIron$Plans"
  | 13 => .object "HotIron$Plans"
  | 14 => .int
  | 15 => .int
  | 16 => .array .int
  | 17 => .array .int
  | 18 => .object "HotIron$Hand"
  | _ => .object "HotIron$Gate"
abbrev wsX00 : List Cond := u_ws RX0 TX0 20
set_option maxRecDepth 100000 in
theorem nmX0 : ∀ a, a < 20 → ∀ b, b < 20 → a ≠ b → (TX0 a).2.1 ≠ (TX0 b).2.1 := by decide +kernel
set_option maxRecDepth 100000 in
theorem tyX0_ok : ∀ k, k < 20 → parseFieldDescriptor (TX0 k).2.2.1 = some (tyX0 k) := by decide +kernel
abbrev cX0_init : ByteArray := prog_1_method_1_code
def yX0_init : MethodName := ⟨RX0, "<init>", "()V"⟩
def dkwX0_init_6 : List UInt8 := [42, 187, 0, 76, 89, 42, 183, 0, 78, 181, 0, 79, 177]
abbrev dktX0_init_6 : List UInt8 := dkwX0_init_6 ++ []
def dkwX0_init_5 : List UInt8 := [188, 10, 181, 0, 63, 42, 16, 60, 188, 10, 181, 0, 66, 42, 187, 0, 69, 89, 183, 0, 71, 181, 0, 72]
abbrev dktX0_init_5 : List UInt8 := dkwX0_init_5 ++ dktX0_init_6
def dkwX0_init_4 : List UInt8 := [187, 0, 45, 89, 42, 183, 0, 47, 181, 0, 54, 42, 2, 181, 0, 57, 42, 2, 181, 0, 60, 42, 8]
abbrev dktX0_init_4 : List UInt8 := dkwX0_init_4 ++ dktX0_init_5
def dkwX0_init_3 : List UInt8 := [187, 0, 32, 89, 183, 0, 34, 181, 0, 42, 42, 187, 0, 45, 89, 42, 183, 0, 47, 181, 0, 50, 42]
abbrev dktX0_init_3 : List UInt8 := dkwX0_init_3 ++ dktX0_init_4
def dkwX0_init_2 : List UInt8 := [187, 0, 32, 89, 183, 0, 34, 181, 0, 35, 42, 187, 0, 32, 89, 183, 0, 34, 181, 0, 39, 42]
abbrev dktX0_init_2 : List UInt8 := dkwX0_init_2 ++ dktX0_init_3
def dkwX0_init_1 : List UInt8 := [5, 189, 0, 13, 181, 0, 20, 42, 17, 1, 144, 188, 8, 181, 0, 24, 42, 2, 181, 0, 28, 42]
abbrev dktX0_init_1 : List UInt8 := dkwX0_init_1 ++ dktX0_init_2
def dkwX0_init_0 : List UInt8 := [42, 183, 0, 1, 42, 16, 7, 188, 10, 181, 0, 7, 42, 187, 0, 13, 89, 183, 0, 15, 181, 0, 16, 42]
abbrev dktX0_init_0 : List UInt8 := dkwX0_init_0 ++ dktX0_init_1
theorem dksX0_init_0 : cX0_init.data.toList.drop 0 = dktX0_init_0 := by decide +kernel
theorem dksX0_init_1 : cX0_init.data.toList.drop 24 = dktX0_init_1 := dk_seg dksX0_init_0 24 rfl rfl
theorem dksX0_init_2 : cX0_init.data.toList.drop 46 = dktX0_init_2 := dk_seg dksX0_init_1 22 rfl rfl
theorem dksX0_init_3 : cX0_init.data.toList.drop 68 = dktX0_init_3 := dk_seg dksX0_init_2 22 rfl rfl
theorem dksX0_init_4 : cX0_init.data.toList.drop 91 = dktX0_init_4 := dk_seg dksX0_init_3 23 rfl rfl
theorem dksX0_init_5 : cX0_init.data.toList.drop 114 = dktX0_init_5 := dk_seg dksX0_init_4 23 rfl rfl
theorem dksX0_init_6 : cX0_init.data.toList.drop 138 = dktX0_init_6 := dk_seg dksX0_init_5 24 rfl rfl
theorem dX0_init_0 : decode cX0_init 0 = .ok (.aload_n 0, 1) := dk_42 (dk_at dksX0_init_0 0 rfl rfl)
theorem dX0_init_1 : decode cX0_init 1 = .ok (.invokespecial 1, 3) := dk_183 0 1 (dk_at dksX0_init_0 1 rfl rfl)
theorem dX0_init_4 : decode cX0_init 4 = .ok (.aload_n 0, 1) := dk_42 (dk_at dksX0_init_0 4 rfl rfl)
theorem dX0_init_5 : decode cX0_init 5 = .ok (.bipush 7, 2) := dk_16 7 (dk_at dksX0_init_0 5 rfl rfl)
theorem dX0_init_7 : decode cX0_init 7 = .ok (.newarray .int, 2) := dk_188_10 (dk_at dksX0_init_0 7 rfl rfl)
theorem dX0_init_9 : decode cX0_init 9 = .ok (.putfield 7, 3) := dk_181 0 7 (dk_at dksX0_init_0 9 rfl rfl)
theorem dX0_init_12 : decode cX0_init 12 = .ok (.aload_n 0, 1) := dk_42 (dk_at dksX0_init_0 12 rfl rfl)
theorem dX0_init_13 : decode cX0_init 13 = .ok (.new 13, 3) := dk_187 0 13 (dk_at dksX0_init_0 13 rfl rfl)
theorem dX0_init_16 : decode cX0_init 16 = .ok (.dup, 1) := dk_89 (dk_at dksX0_init_0 16 rfl rfl)
theorem dX0_init_17 : decode cX0_init 17 = .ok (.invokespecial 15, 3) := dk_183 0 15 (dk_at dksX0_init_0 17 rfl rfl)
theorem dX0_init_20 : decode cX0_init 20 = .ok (.putfield 16, 3) := dk_181 0 16 (dk_at dksX0_init_0 20 rfl rfl)
theorem dX0_init_23 : decode cX0_init 23 = .ok (.aload_n 0, 1) := dk_42 (dk_at dksX0_init_0 23 rfl rfl)
theorem dX0_init_24 : decode cX0_init 24 = .ok (.iconst 2, 1) := dk_5 (dk_at dksX0_init_1 0 rfl rfl)
theorem dX0_init_25 : decode cX0_init 25 = .ok (.anewarray 13, 3) := dk_189 0 13 (dk_at dksX0_init_1 1 rfl rfl)
theorem dX0_init_28 : decode cX0_init 28 = .ok (.putfield 20, 3) := dk_181 0 20 (dk_at dksX0_init_1 4 rfl rfl)
theorem dX0_init_31 : decode cX0_init 31 = .ok (.aload_n 0, 1) := dk_42 (dk_at dksX0_init_1 7 rfl rfl)
theorem dX0_init_32 : decode cX0_init 32 = .ok (.sipush 400, 3) := dk_17 1 144 (dk_at dksX0_init_1 8 rfl rfl)
theorem dX0_init_35 : decode cX0_init 35 = .ok (.newarray .byte, 2) := dk_188_8 (dk_at dksX0_init_1 11 rfl rfl)
theorem dX0_init_37 : decode cX0_init 37 = .ok (.putfield 24, 3) := dk_181 0 24 (dk_at dksX0_init_1 13 rfl rfl)
theorem dX0_init_40 : decode cX0_init 40 = .ok (.aload_n 0, 1) := dk_42 (dk_at dksX0_init_1 16 rfl rfl)
theorem dX0_init_41 : decode cX0_init 41 = .ok (.iconst (-1), 1) := dk_2 (dk_at dksX0_init_1 17 rfl rfl)
theorem dX0_init_42 : decode cX0_init 42 = .ok (.putfield 28, 3) := dk_181 0 28 (dk_at dksX0_init_1 18 rfl rfl)
theorem dX0_init_45 : decode cX0_init 45 = .ok (.aload_n 0, 1) := dk_42 (dk_at dksX0_init_1 21 rfl rfl)
theorem dX0_init_46 : decode cX0_init 46 = .ok (.new 32, 3) := dk_187 0 32 (dk_at dksX0_init_2 0 rfl rfl)
theorem dX0_init_49 : decode cX0_init 49 = .ok (.dup, 1) := dk_89 (dk_at dksX0_init_2 3 rfl rfl)
theorem dX0_init_50 : decode cX0_init 50 = .ok (.invokespecial 34, 3) := dk_183 0 34 (dk_at dksX0_init_2 4 rfl rfl)
theorem dX0_init_53 : decode cX0_init 53 = .ok (.putfield 35, 3) := dk_181 0 35 (dk_at dksX0_init_2 7 rfl rfl)
theorem dX0_init_56 : decode cX0_init 56 = .ok (.aload_n 0, 1) := dk_42 (dk_at dksX0_init_2 10 rfl rfl)
theorem dX0_init_57 : decode cX0_init 57 = .ok (.new 32, 3) := dk_187 0 32 (dk_at dksX0_init_2 11 rfl rfl)
theorem dX0_init_60 : decode cX0_init 60 = .ok (.dup, 1) := dk_89 (dk_at dksX0_init_2 14 rfl rfl)
theorem dX0_init_61 : decode cX0_init 61 = .ok (.invokespecial 34, 3) := dk_183 0 34 (dk_at dksX0_init_2 15 rfl rfl)
theorem dX0_init_64 : decode cX0_init 64 = .ok (.putfield 39, 3) := dk_181 0 39 (dk_at dksX0_init_2 18 rfl rfl)
theorem dX0_init_67 : decode cX0_init 67 = .ok (.aload_n 0, 1) := dk_42 (dk_at dksX0_init_2 21 rfl rfl)
theorem dX0_init_68 : decode cX0_init 68 = .ok (.new 32, 3) := dk_187 0 32 (dk_at dksX0_init_3 0 rfl rfl)
theorem dX0_init_71 : decode cX0_init 71 = .ok (.dup, 1) := dk_89 (dk_at dksX0_init_3 3 rfl rfl)
theorem dX0_init_72 : decode cX0_init 72 = .ok (.invokespecial 34, 3) := dk_183 0 34 (dk_at dksX0_init_3 4 rfl rfl)
theorem dX0_init_75 : decode cX0_init 75 = .ok (.putfield 42, 3) := dk_181 0 42 (dk_at dksX0_init_3 7 rfl rfl)
theorem dX0_init_78 : decode cX0_init 78 = .ok (.aload_n 0, 1) := dk_42 (dk_at dksX0_init_3 10 rfl rfl)
theorem dX0_init_79 : decode cX0_init 79 = .ok (.new 45, 3) := dk_187 0 45 (dk_at dksX0_init_3 11 rfl rfl)
theorem dX0_init_82 : decode cX0_init 82 = .ok (.dup, 1) := dk_89 (dk_at dksX0_init_3 14 rfl rfl)
theorem dX0_init_83 : decode cX0_init 83 = .ok (.aload_n 0, 1) := dk_42 (dk_at dksX0_init_3 15 rfl rfl)
theorem dX0_init_84 : decode cX0_init 84 = .ok (.invokespecial 47, 3) := dk_183 0 47 (dk_at dksX0_init_3 16 rfl rfl)
theorem dX0_init_87 : decode cX0_init 87 = .ok (.putfield 50, 3) := dk_181 0 50 (dk_at dksX0_init_3 19 rfl rfl)
theorem dX0_init_90 : decode cX0_init 90 = .ok (.aload_n 0, 1) := dk_42 (dk_at dksX0_init_3 22 rfl rfl)
theorem dX0_init_91 : decode cX0_init 91 = .ok (.new 45, 3) := dk_187 0 45 (dk_at dksX0_init_4 0 rfl rfl)
theorem dX0_init_94 : decode cX0_init 94 = .ok (.dup, 1) := dk_89 (dk_at dksX0_init_4 3 rfl rfl)
theorem dX0_init_95 : decode cX0_init 95 = .ok (.aload_n 0, 1) := dk_42 (dk_at dksX0_init_4 4 rfl rfl)
theorem dX0_init_96 : decode cX0_init 96 = .ok (.invokespecial 47, 3) := dk_183 0 47 (dk_at dksX0_init_4 5 rfl rfl)
theorem dX0_init_99 : decode cX0_init 99 = .ok (.putfield 54, 3) := dk_181 0 54 (dk_at dksX0_init_4 8 rfl rfl)
theorem dX0_init_102 : decode cX0_init 102 = .ok (.aload_n 0, 1) := dk_42 (dk_at dksX0_init_4 11 rfl rfl)
theorem dX0_init_103 : decode cX0_init 103 = .ok (.iconst (-1), 1) := dk_2 (dk_at dksX0_init_4 12 rfl rfl)
theorem dX0_init_104 : decode cX0_init 104 = .ok (.putfield 57, 3) := dk_181 0 57 (dk_at dksX0_init_4 13 rfl rfl)
theorem dX0_init_107 : decode cX0_init 107 = .ok (.aload_n 0, 1) := dk_42 (dk_at dksX0_init_4 16 rfl rfl)
theorem dX0_init_108 : decode cX0_init 108 = .ok (.iconst (-1), 1) := dk_2 (dk_at dksX0_init_4 17 rfl rfl)
theorem dX0_init_109 : decode cX0_init 109 = .ok (.putfield 60, 3) := dk_181 0 60 (dk_at dksX0_init_4 18 rfl rfl)
theorem dX0_init_112 : decode cX0_init 112 = .ok (.aload_n 0, 1) := dk_42 (dk_at dksX0_init_4 21 rfl rfl)
theorem dX0_init_113 : decode cX0_init 113 = .ok (.iconst 5, 1) := dk_8 (dk_at dksX0_init_4 22 rfl rfl)
theorem dX0_init_114 : decode cX0_init 114 = .ok (.newarray .int, 2) := dk_188_10 (dk_at dksX0_init_5 0 rfl rfl)
theorem dX0_init_116 : decode cX0_init 116 = .ok (.putfield 63, 3) := dk_181 0 63 (dk_at dksX0_init_5 2 rfl rfl)
theorem dX0_init_119 : decode cX0_init 119 = .ok (.aload_n 0, 1) := dk_42 (dk_at dksX0_init_5 5 rfl rfl)
theorem dX0_init_120 : decode cX0_init 120 = .ok (.bipush 60, 2) := dk_16 60 (dk_at dksX0_init_5 6 rfl rfl)
theorem dX0_init_122 : decode cX0_init 122 = .ok (.newarray .int, 2) := dk_188_10 (dk_at dksX0_init_5 8 rfl rfl)
theorem dX0_init_124 : decode cX0_init 124 = .ok (.putfield 66, 3) := dk_181 0 66 (dk_at dksX0_init_5 10 rfl rfl)
theorem dX0_init_127 : decode cX0_init 127 = .ok (.aload_n 0, 1) := dk_42 (dk_at dksX0_init_5 13 rfl rfl)
theorem dX0_init_128 : decode cX0_init 128 = .ok (.new 69, 3) := dk_187 0 69 (dk_at dksX0_init_5 14 rfl rfl)
theorem dX0_init_131 : decode cX0_init 131 = .ok (.dup, 1) := dk_89 (dk_at dksX0_init_5 17 rfl rfl)
theorem dX0_init_132 : decode cX0_init 132 = .ok (.invokespecial 71, 3) := dk_183 0 71 (dk_at dksX0_init_5 18 rfl rfl)
theorem dX0_init_135 : decode cX0_init 135 = .ok (.putfield 72, 3) := dk_181 0 72 (dk_at dksX0_init_5 21 rfl rfl)
theorem dX0_init_138 : decode cX0_init 138 = .ok (.aload_n 0, 1) := dk_42 (dk_at dksX0_init_6 0 rfl rfl)
theorem dX0_init_139 : decode cX0_init 139 = .ok (.new 76, 3) := dk_187 0 76 (dk_at dksX0_init_6 1 rfl rfl)
theorem dX0_init_142 : decode cX0_init 142 = .ok (.dup, 1) := dk_89 (dk_at dksX0_init_6 4 rfl rfl)
theorem dX0_init_143 : decode cX0_init 143 = .ok (.aload_n 0, 1) := dk_42 (dk_at dksX0_init_6 5 rfl rfl)
theorem dX0_init_144 : decode cX0_init 144 = .ok (.invokespecial 78, 3) := dk_183 0 78 (dk_at dksX0_init_6 6 rfl rfl)
theorem dX0_init_147 : decode cX0_init 147 = .ok (.putfield 79, 3) := dk_181 0 79 (dk_at dksX0_init_6 9 rfl rfl)
theorem dX0_init_150 : decode cX0_init 150 = .ok (.return_, 1) := dk_177 (dk_at dksX0_init_6 12 rfl rfl)
abbrev cX0_image : ByteArray := prog_1_method_6_code
def yX0_image : MethodName := ⟨RX0, "image", "(I)I"⟩
def dkwX0_image_2 : List UInt8 := [182, 0, 100, 42, 3, 182, 0, 89, 172]
abbrev dktX0_image_2 : List UInt8 := dkwX0_image_2 ++ []
def dkwX0_image_1 : List UInt8 := [42, 180, 0, 20, 27, 187, 0, 13, 89, 183, 0, 15, 83, 42, 180, 0, 20, 27, 50, 42, 180, 0, 16]
abbrev dktX0_image_1 : List UInt8 := dkwX0_image_1 ++ dktX0_image_2
def dkwX0_image_0 : List UInt8 := [27, 3, 4, 184, 0, 93, 154, 0, 9, 42, 2, 182, 0, 97, 172, 42, 180, 0, 20, 27, 50, 199, 0, 16]
abbrev dktX0_image_0 : List UInt8 := dkwX0_image_0 ++ dktX0_image_1
theorem dksX0_image_0 : cX0_image.data.toList.drop 0 = dktX0_image_0 := by decide +kernel
theorem dksX0_image_1 : cX0_image.data.toList.drop 24 = dktX0_image_1 := dk_seg dksX0_image_0 24 rfl rfl
theorem dksX0_image_2 : cX0_image.data.toList.drop 47 = dktX0_image_2 := dk_seg dksX0_image_1 23 rfl rfl
theorem dX0_image_0 : decode cX0_image 0 = .ok (.iload_n 1, 1) := dk_27 (dk_at dksX0_image_0 0 rfl rfl)
theorem dX0_image_1 : decode cX0_image 1 = .ok (.iconst 0, 1) := dk_3 (dk_at dksX0_image_0 1 rfl rfl)
theorem dX0_image_2 : decode cX0_image 2 = .ok (.iconst 1, 1) := dk_4 (dk_at dksX0_image_0 2 rfl rfl)
theorem dX0_image_3 : decode cX0_image 3 = .ok (.invokestatic 93, 3) := dk_184 0 93 (dk_at dksX0_image_0 3 rfl rfl)
theorem dX0_image_6 : decode cX0_image 6 = .ok (.ifCond .ne 9, 3) := dk_154 0 9 (dk_at dksX0_image_0 6 rfl rfl)
theorem dX0_image_9 : decode cX0_image 9 = .ok (.aload_n 0, 1) := dk_42 (dk_at dksX0_image_0 9 rfl rfl)
theorem dX0_image_10 : decode cX0_image 10 = .ok (.iconst (-1), 1) := dk_2 (dk_at dksX0_image_0 10 rfl rfl)
theorem dX0_image_11 : decode cX0_image 11 = .ok (.invokevirtual 97, 3) := dk_182 0 97 (dk_at dksX0_image_0 11 rfl rfl)
theorem dX0_image_14 : decode cX0_image 14 = .ok (.ireturn, 1) := dk_172 (dk_at dksX0_image_0 14 rfl rfl)
theorem dX0_image_15 : decode cX0_image 15 = .ok (.aload_n 0, 1) := dk_42 (dk_at dksX0_image_0 15 rfl rfl)
theorem dX0_image_16 : decode cX0_image 16 = .ok (.getfield 20, 3) := dk_180 0 20 (dk_at dksX0_image_0 16 rfl rfl)
theorem dX0_image_19 : decode cX0_image 19 = .ok (.iload_n 1, 1) := dk_27 (dk_at dksX0_image_0 19 rfl rfl)
theorem dX0_image_20 : decode cX0_image 20 = .ok (.aaload, 1) := dk_50 (dk_at dksX0_image_0 20 rfl rfl)
theorem dX0_image_21 : decode cX0_image 21 = .ok (.ifnonnull 16, 3) := dk_199 0 16 (dk_at dksX0_image_0 21 rfl rfl)
theorem dX0_image_24 : decode cX0_image 24 = .ok (.aload_n 0, 1) := dk_42 (dk_at dksX0_image_1 0 rfl rfl)
theorem dX0_image_25 : decode cX0_image 25 = .ok (.getfield 20, 3) := dk_180 0 20 (dk_at dksX0_image_1 1 rfl rfl)
theorem dX0_image_28 : decode cX0_image 28 = .ok (.iload_n 1, 1) := dk_27 (dk_at dksX0_image_1 4 rfl rfl)
theorem dX0_image_29 : decode cX0_image 29 = .ok (.new 13, 3) := dk_187 0 13 (dk_at dksX0_image_1 5 rfl rfl)
theorem dX0_image_32 : decode cX0_image 32 = .ok (.dup, 1) := dk_89 (dk_at dksX0_image_1 8 rfl rfl)
theorem dX0_image_33 : decode cX0_image 33 = .ok (.invokespecial 15, 3) := dk_183 0 15 (dk_at dksX0_image_1 9 rfl rfl)
theorem dX0_image_36 : decode cX0_image 36 = .ok (.aastore, 1) := dk_83 (dk_at dksX0_image_1 12 rfl rfl)
theorem dX0_image_37 : decode cX0_image 37 = .ok (.aload_n 0, 1) := dk_42 (dk_at dksX0_image_1 13 rfl rfl)
theorem dX0_image_38 : decode cX0_image 38 = .ok (.getfield 20, 3) := dk_180 0 20 (dk_at dksX0_image_1 14 rfl rfl)
theorem dX0_image_41 : decode cX0_image 41 = .ok (.iload_n 1, 1) := dk_27 (dk_at dksX0_image_1 17 rfl rfl)
theorem dX0_image_42 : decode cX0_image 42 = .ok (.aaload, 1) := dk_50 (dk_at dksX0_image_1 18 rfl rfl)
theorem dX0_image_43 : decode cX0_image 43 = .ok (.aload_n 0, 1) := dk_42 (dk_at dksX0_image_1 19 rfl rfl)
theorem dX0_image_44 : decode cX0_image 44 = .ok (.getfield 16, 3) := dk_180 0 16 (dk_at dksX0_image_1 20 rfl rfl)
theorem dX0_image_47 : decode cX0_image 47 = .ok (.invokevirtual 100, 3) := dk_182 0 100 (dk_at dksX0_image_2 0 rfl rfl)
theorem dX0_image_50 : decode cX0_image 50 = .ok (.aload_n 0, 1) := dk_42 (dk_at dksX0_image_2 3 rfl rfl)
theorem dX0_image_51 : decode cX0_image 51 = .ok (.iconst 0, 1) := dk_3 (dk_at dksX0_image_2 4 rfl rfl)
theorem dX0_image_52 : decode cX0_image 52 = .ok (.invokevirtual 89, 3) := dk_182 0 89 (dk_at dksX0_image_2 5 rfl rfl)
theorem dX0_image_55 : decode cX0_image 55 = .ok (.ireturn, 1) := dk_172 (dk_at dksX0_image_2 8 rfl rfl)
abbrev cX0_in : ByteArray := prog_1_method_4_code
def yX0_in : MethodName := ⟨RX0, "in", "(III)Z"⟩
def dkwX0_in_0 : List UInt8 := [26, 27, 161, 0, 12, 26, 28, 163, 0, 7, 4, 167, 0, 4, 3, 172]
abbrev dktX0_in_0 : List UInt8 := dkwX0_in_0 ++ []
theorem dksX0_in_0 : cX0_in.data.toList.drop 0 = dktX0_in_0 := by decide +kernel
theorem dX0_in_0 : decode cX0_in 0 = .ok (.iload_n 0, 1) := dk_26 (dk_at dksX0_in_0 0 rfl rfl)
theorem dX0_in_1 : decode cX0_in 1 = .ok (.iload_n 1, 1) := dk_27 (dk_at dksX0_in_0 1 rfl rfl)
theorem dX0_in_2 : decode cX0_in 2 = .ok (.if_icmp .lt 12, 3) := dk_161 0 12 (dk_at dksX0_in_0 2 rfl rfl)
theorem dX0_in_5 : decode cX0_in 5 = .ok (.iload_n 0, 1) := dk_26 (dk_at dksX0_in_0 5 rfl rfl)
theorem dX0_in_6 : decode cX0_in 6 = .ok (.iload_n 2, 1) := dk_28 (dk_at dksX0_in_0 6 rfl rfl)
theorem dX0_in_7 : decode cX0_in 7 = .ok (.if_icmp .gt 7, 3) := dk_163 0 7 (dk_at dksX0_in_0 7 rfl rfl)
theorem dX0_in_10 : decode cX0_in 10 = .ok (.iconst 1, 1) := dk_4 (dk_at dksX0_in_0 10 rfl rfl)
theorem dX0_in_11 : decode cX0_in 11 = .ok (.goto 4, 3) := dk_167 0 4 (dk_at dksX0_in_0 11 rfl rfl)
theorem dX0_in_14 : decode cX0_in 14 = .ok (.iconst 0, 1) := dk_3 (dk_at dksX0_in_0 14 rfl rfl)
theorem dX0_in_15 : decode cX0_in 15 = .ok (.ireturn, 1) := dk_172 (dk_at dksX0_in_0 15 rfl rfl)
abbrev cX0_refuse : ByteArray := prog_1_method_2_code
def yX0_refuse : MethodName := ⟨RX0, "refuse", "(I)I"⟩
def dkwX0_refuse_0 : List UInt8 := [42, 27, 181, 0, 83, 42, 180, 0, 7, 27, 116, 92, 46, 4, 96, 79, 27, 172]
abbrev dktX0_refuse_0 : List UInt8 := dkwX0_refuse_0 ++ []
theorem dksX0_refuse_0 : cX0_refuse.data.toList.drop 0 = dktX0_refuse_0 := by decide +kernel
theorem dX0_refuse_0 : decode cX0_refuse 0 = .ok (.aload_n 0, 1) := dk_42 (dk_at dksX0_refuse_0 0 rfl rfl)
theorem dX0_refuse_1 : decode cX0_refuse 1 = .ok (.iload_n 1, 1) := dk_27 (dk_at dksX0_refuse_0 1 rfl rfl)
theorem dX0_refuse_2 : decode cX0_refuse 2 = .ok (.putfield 83, 3) := dk_181 0 83 (dk_at dksX0_refuse_0 2 rfl rfl)
theorem dX0_refuse_5 : decode cX0_refuse 5 = .ok (.aload_n 0, 1) := dk_42 (dk_at dksX0_refuse_0 5 rfl rfl)
theorem dX0_refuse_6 : decode cX0_refuse 6 = .ok (.getfield 7, 3) := dk_180 0 7 (dk_at dksX0_refuse_0 6 rfl rfl)
theorem dX0_refuse_9 : decode cX0_refuse 9 = .ok (.iload_n 1, 1) := dk_27 (dk_at dksX0_refuse_0 9 rfl rfl)
theorem dX0_refuse_10 : decode cX0_refuse 10 = .ok (.ineg, 1) := dk_116 (dk_at dksX0_refuse_0 10 rfl rfl)
theorem dX0_refuse_11 : decode cX0_refuse 11 = .ok (.dup2, 1) := dk_92 (dk_at dksX0_refuse_0 11 rfl rfl)
theorem dX0_refuse_12 : decode cX0_refuse 12 = .ok (.iaload, 1) := dk_46 (dk_at dksX0_refuse_0 12 rfl rfl)
theorem dX0_refuse_13 : decode cX0_refuse 13 = .ok (.iconst 1, 1) := dk_4 (dk_at dksX0_refuse_0 13 rfl rfl)
theorem dX0_refuse_14 : decode cX0_refuse 14 = .ok (.iadd, 1) := dk_96 (dk_at dksX0_refuse_0 14 rfl rfl)
theorem dX0_refuse_15 : decode cX0_refuse 15 = .ok (.iastore, 1) := dk_79 (dk_at dksX0_refuse_0 15 rfl rfl)
theorem dX0_refuse_16 : decode cX0_refuse 16 = .ok (.iload_n 1, 1) := dk_27 (dk_at dksX0_refuse_0 16 rfl rfl)
theorem dX0_refuse_17 : decode cX0_refuse 17 = .ok (.ireturn, 1) := dk_172 (dk_at dksX0_refuse_0 17 rfl rfl)
abbrev cX0_done : ByteArray := prog_1_method_3_code
def yX0_done : MethodName := ⟨RX0, "done", "(I)I"⟩
def dkwX0_done_0 : List UInt8 := [42, 3, 181, 0, 83, 27, 172]
abbrev dktX0_done_0 : List UInt8 := dkwX0_done_0 ++ []
theorem dksX0_done_0 : cX0_done.data.toList.drop 0 = dktX0_done_0 := by decide +kernel
theorem dX0_done_0 : decode cX0_done 0 = .ok (.aload_n 0, 1) := dk_42 (dk_at dksX0_done_0 0 rfl rfl)
theorem dX0_done_1 : decode cX0_done 1 = .ok (.iconst 0, 1) := dk_3 (dk_at dksX0_done_0 1 rfl rfl)
theorem dX0_done_2 : decode cX0_done 2 = .ok (.putfield 83, 3) := dk_181 0 83 (dk_at dksX0_done_0 2 rfl rfl)
theorem dX0_done_5 : decode cX0_done 5 = .ok (.iload_n 1, 1) := dk_27 (dk_at dksX0_done_0 5 rfl rfl)
theorem dX0_done_6 : decode cX0_done 6 = .ok (.ireturn, 1) := dk_172 (dk_at dksX0_done_0 6 rfl rfl)
abbrev cX0_back : ByteArray := prog_1_method_7_code
def yX0_back : MethodName := ⟨RX0, "back", "(I)I"⟩
def dkwX0_back_2 : List UInt8 := [182, 0, 104, 172]
abbrev dktX0_back_2 : List UInt8 := dkwX0_back_2 ++ []
def dkwX0_back_1 : List UInt8 := [42, 16, 254, 182, 0, 97, 172, 42, 180, 0, 16, 42, 180, 0, 20, 27, 50, 182, 0, 100, 42, 3]
abbrev dktX0_back_1 : List UInt8 := dkwX0_back_1 ++ dktX0_back_2
def dkwX0_back_0 : List UInt8 := [27, 3, 4, 184, 0, 93, 154, 0, 9, 42, 2, 182, 0, 97, 172, 42, 180, 0, 20, 27, 50, 199, 0, 10]
abbrev dktX0_back_0 : List UInt8 := dkwX0_back_0 ++ dktX0_back_1
theorem dksX0_back_0 : cX0_back.data.toList.drop 0 = dktX0_back_0 := by decide +kernel
theorem dksX0_back_1 : cX0_back.data.toList.drop 24 = dktX0_back_1 := dk_seg dksX0_back_0 24 rfl rfl
theorem dksX0_back_2 : cX0_back.data.toList.drop 46 = dktX0_back_2 := dk_seg dksX0_back_1 22 rfl rfl
theorem dX0_back_0 : decode cX0_back 0 = .ok (.iload_n 1, 1) := dk_27 (dk_at dksX0_back_0 0 rfl rfl)
theorem dX0_back_1 : decode cX0_back 1 = .ok (.iconst 0, 1) := dk_3 (dk_at dksX0_back_0 1 rfl rfl)
theorem dX0_back_2 : decode cX0_back 2 = .ok (.iconst 1, 1) := dk_4 (dk_at dksX0_back_0 2 rfl rfl)
theorem dX0_back_3 : decode cX0_back 3 = .ok (.invokestatic 93, 3) := dk_184 0 93 (dk_at dksX0_back_0 3 rfl rfl)
theorem dX0_back_6 : decode cX0_back 6 = .ok (.ifCond .ne 9, 3) := dk_154 0 9 (dk_at dksX0_back_0 6 rfl rfl)
theorem dX0_back_9 : decode cX0_back 9 = .ok (.aload_n 0, 1) := dk_42 (dk_at dksX0_back_0 9 rfl rfl)
theorem dX0_back_10 : decode cX0_back 10 = .ok (.iconst (-1), 1) := dk_2 (dk_at dksX0_back_0 10 rfl rfl)
theorem dX0_back_11 : decode cX0_back 11 = .ok (.invokevirtual 97, 3) := dk_182 0 97 (dk_at dksX0_back_0 11 rfl rfl)
theorem dX0_back_14 : decode cX0_back 14 = .ok (.ireturn, 1) := dk_172 (dk_at dksX0_back_0 14 rfl rfl)
theorem dX0_back_15 : decode cX0_back 15 = .ok (.aload_n 0, 1) := dk_42 (dk_at dksX0_back_0 15 rfl rfl)
theorem dX0_back_16 : decode cX0_back 16 = .ok (.getfield 20, 3) := dk_180 0 20 (dk_at dksX0_back_0 16 rfl rfl)
theorem dX0_back_19 : decode cX0_back 19 = .ok (.iload_n 1, 1) := dk_27 (dk_at dksX0_back_0 19 rfl rfl)
theorem dX0_back_20 : decode cX0_back 20 = .ok (.aaload, 1) := dk_50 (dk_at dksX0_back_0 20 rfl rfl)
theorem dX0_back_21 : decode cX0_back 21 = .ok (.ifnonnull 10, 3) := dk_199 0 10 (dk_at dksX0_back_0 21 rfl rfl)
theorem dX0_back_24 : decode cX0_back 24 = .ok (.aload_n 0, 1) := dk_42 (dk_at dksX0_back_1 0 rfl rfl)
theorem dX0_back_25 : decode cX0_back 25 = .ok (.bipush (-2), 2) := dk_16 254 (dk_at dksX0_back_1 1 rfl rfl)
theorem dX0_back_27 : decode cX0_back 27 = .ok (.invokevirtual 97, 3) := dk_182 0 97 (dk_at dksX0_back_1 3 rfl rfl)
theorem dX0_back_30 : decode cX0_back 30 = .ok (.ireturn, 1) := dk_172 (dk_at dksX0_back_1 6 rfl rfl)
theorem dX0_back_31 : decode cX0_back 31 = .ok (.aload_n 0, 1) := dk_42 (dk_at dksX0_back_1 7 rfl rfl)
theorem dX0_back_32 : decode cX0_back 32 = .ok (.getfield 16, 3) := dk_180 0 16 (dk_at dksX0_back_1 8 rfl rfl)
theorem dX0_back_35 : decode cX0_back 35 = .ok (.aload_n 0, 1) := dk_42 (dk_at dksX0_back_1 11 rfl rfl)
theorem dX0_back_36 : decode cX0_back 36 = .ok (.getfield 20, 3) := dk_180 0 20 (dk_at dksX0_back_1 12 rfl rfl)
theorem dX0_back_39 : decode cX0_back 39 = .ok (.iload_n 1, 1) := dk_27 (dk_at dksX0_back_1 15 rfl rfl)
theorem dX0_back_40 : decode cX0_back 40 = .ok (.aaload, 1) := dk_50 (dk_at dksX0_back_1 16 rfl rfl)
theorem dX0_back_41 : decode cX0_back 41 = .ok (.invokevirtual 100, 3) := dk_182 0 100 (dk_at dksX0_back_1 17 rfl rfl)
theorem dX0_back_44 : decode cX0_back 44 = .ok (.aload_n 0, 1) := dk_42 (dk_at dksX0_back_1 20 rfl rfl)
theorem dX0_back_45 : decode cX0_back 45 = .ok (.iconst 0, 1) := dk_3 (dk_at dksX0_back_1 21 rfl rfl)
theorem dX0_back_46 : decode cX0_back 46 = .ok (.invokevirtual 104, 3) := dk_182 0 104 (dk_at dksX0_back_2 0 rfl rfl)
theorem dX0_back_49 : decode cX0_back 49 = .ok (.ireturn, 1) := dk_172 (dk_at dksX0_back_2 3 rfl rfl)
abbrev cX0_told : ByteArray := prog_1_method_5_code
def yX0_told : MethodName := ⟨RX0, "told", "(I)I"⟩
def dkwX0_told_0 : List UInt8 := [42, 89, 180, 0, 86, 4, 96, 181, 0, 86, 42, 27, 182, 0, 89, 172]
abbrev dktX0_told_0 : List UInt8 := dkwX0_told_0 ++ []
theorem dksX0_told_0 : cX0_told.data.toList.drop 0 = dktX0_told_0 := by decide +kernel
theorem dX0_told_0 : decode cX0_told 0 = .ok (.aload_n 0, 1) := dk_42 (dk_at dksX0_told_0 0 rfl rfl)
theorem dX0_told_1 : decode cX0_told 1 = .ok (.dup, 1) := dk_89 (dk_at dksX0_told_0 1 rfl rfl)
theorem dX0_told_2 : decode cX0_told 2 = .ok (.getfield 86, 3) := dk_180 0 86 (dk_at dksX0_told_0 2 rfl rfl)
theorem dX0_told_5 : decode cX0_told 5 = .ok (.iconst 1, 1) := dk_4 (dk_at dksX0_told_0 5 rfl rfl)
theorem dX0_told_6 : decode cX0_told 6 = .ok (.iadd, 1) := dk_96 (dk_at dksX0_told_0 6 rfl rfl)
theorem dX0_told_7 : decode cX0_told 7 = .ok (.putfield 86, 3) := dk_181 0 86 (dk_at dksX0_told_0 7 rfl rfl)
theorem dX0_told_10 : decode cX0_told 10 = .ok (.aload_n 0, 1) := dk_42 (dk_at dksX0_told_0 10 rfl rfl)
theorem dX0_told_11 : decode cX0_told 11 = .ok (.iload_n 1, 1) := dk_27 (dk_at dksX0_told_0 11 rfl rfl)
theorem dX0_told_12 : decode cX0_told 12 = .ok (.invokevirtual 89, 3) := dk_182 0 89 (dk_at dksX0_told_0 12 rfl rfl)
theorem dX0_told_15 : decode cX0_told 15 = .ok (.ireturn, 1) := dk_172 (dk_at dksX0_told_0 15 rfl rfl)
abbrev cX0_wide : ByteArray := prog_1_method_10_code
def yX0_wide : MethodName := ⟨RX0, "wide", "(I)I"⟩
def dkwX0_wide_2 : List UInt8 := [42, 180, 0, 16, 180, 0, 113, 29, 6, 79, 132, 3, 1, 167, 255, 228, 42, 28, 182, 0, 104, 172]
abbrev dktX0_wide_2 : List UInt8 := dkwX0_wide_2 ++ []
def dkwX0_wide_1 : List UInt8 := [180, 0, 16, 27, 181, 0, 107, 3, 62, 29, 8, 162, 0, 29, 42, 180, 0, 16, 180, 0, 110, 29, 6, 79]
abbrev dktX0_wide_1 : List UInt8 := dkwX0_wide_1 ++ dktX0_wide_2
def dkwX0_wide_0 : List UInt8 := [27, 6, 8, 184, 0, 93, 154, 0, 9, 42, 2, 182, 0, 97, 172, 42, 180, 0, 16, 180, 0, 107, 61, 42]
abbrev dktX0_wide_0 : List UInt8 := dkwX0_wide_0 ++ dktX0_wide_1
theorem dksX0_wide_0 : cX0_wide.data.toList.drop 0 = dktX0_wide_0 := by decide +kernel
theorem dksX0_wide_1 : cX0_wide.data.toList.drop 24 = dktX0_wide_1 := dk_seg dksX0_wide_0 24 rfl rfl
theorem dksX0_wide_2 : cX0_wide.data.toList.drop 48 = dktX0_wide_2 := dk_seg dksX0_wide_1 24 rfl rfl
theorem dX0_wide_0 : decode cX0_wide 0 = .ok (.iload_n 1, 1) := dk_27 (dk_at dksX0_wide_0 0 rfl rfl)
theorem dX0_wide_1 : decode cX0_wide 1 = .ok (.iconst 3, 1) := dk_6 (dk_at dksX0_wide_0 1 rfl rfl)
theorem dX0_wide_2 : decode cX0_wide 2 = .ok (.iconst 5, 1) := dk_8 (dk_at dksX0_wide_0 2 rfl rfl)
theorem dX0_wide_3 : decode cX0_wide 3 = .ok (.invokestatic 93, 3) := dk_184 0 93 (dk_at dksX0_wide_0 3 rfl rfl)
theorem dX0_wide_6 : decode cX0_wide 6 = .ok (.ifCond .ne 9, 3) := dk_154 0 9 (dk_at dksX0_wide_0 6 rfl rfl)
theorem dX0_wide_9 : decode cX0_wide 9 = .ok (.aload_n 0, 1) := dk_42 (dk_at dksX0_wide_0 9 rfl rfl)
theorem dX0_wide_10 : decode cX0_wide 10 = .ok (.iconst (-1), 1) := dk_2 (dk_at dksX0_wide_0 10 rfl rfl)
theorem dX0_wide_11 : decode cX0_wide 11 = .ok (.invokevirtual 97, 3) := dk_182 0 97 (dk_at dksX0_wide_0 11 rfl rfl)
theorem dX0_wide_14 : decode cX0_wide 14 = .ok (.ireturn, 1) := dk_172 (dk_at dksX0_wide_0 14 rfl rfl)
theorem dX0_wide_15 : decode cX0_wide 15 = .ok (.aload_n 0, 1) := dk_42 (dk_at dksX0_wide_0 15 rfl rfl)
theorem dX0_wide_16 : decode cX0_wide 16 = .ok (.getfield 16, 3) := dk_180 0 16 (dk_at dksX0_wide_0 16 rfl rfl)
theorem dX0_wide_19 : decode cX0_wide 19 = .ok (.getfield 107, 3) := dk_180 0 107 (dk_at dksX0_wide_0 19 rfl rfl)
theorem dX0_wide_22 : decode cX0_wide 22 = .ok (.istore_n 2, 1) := dk_61 (dk_at dksX0_wide_0 22 rfl rfl)
theorem dX0_wide_23 : decode cX0_wide 23 = .ok (.aload_n 0, 1) := dk_42 (dk_at dksX0_wide_0 23 rfl rfl)
theorem dX0_wide_24 : decode cX0_wide 24 = .ok (.getfield 16, 3) := dk_180 0 16 (dk_at dksX0_wide_1 0 rfl rfl)
theorem dX0_wide_27 : decode cX0_wide 27 = .ok (.iload_n 1, 1) := dk_27 (dk_at dksX0_wide_1 3 rfl rfl)
theorem dX0_wide_28 : decode cX0_wide 28 = .ok (.putfield 107, 3) := dk_181 0 107 (dk_at dksX0_wide_1 4 rfl rfl)
theorem dX0_wide_31 : decode cX0_wide 31 = .ok (.iconst 0, 1) := dk_3 (dk_at dksX0_wide_1 7 rfl rfl)
theorem dX0_wide_32 : decode cX0_wide 32 = .ok (.istore_n 3, 1) := dk_62 (dk_at dksX0_wide_1 8 rfl rfl)
theorem dX0_wide_33 : decode cX0_wide 33 = .ok (.iload_n 3, 1) := dk_29 (dk_at dksX0_wide_1 9 rfl rfl)
theorem dX0_wide_34 : decode cX0_wide 34 = .ok (.iconst 5, 1) := dk_8 (dk_at dksX0_wide_1 10 rfl rfl)
theorem dX0_wide_35 : decode cX0_wide 35 = .ok (.if_icmp .ge 29, 3) := dk_162 0 29 (dk_at dksX0_wide_1 11 rfl rfl)
theorem dX0_wide_38 : decode cX0_wide 38 = .ok (.aload_n 0, 1) := dk_42 (dk_at dksX0_wide_1 14 rfl rfl)
theorem dX0_wide_39 : decode cX0_wide 39 = .ok (.getfield 16, 3) := dk_180 0 16 (dk_at dksX0_wide_1 15 rfl rfl)
theorem dX0_wide_42 : decode cX0_wide 42 = .ok (.getfield 110, 3) := dk_180 0 110 (dk_at dksX0_wide_1 18 rfl rfl)
theorem dX0_wide_45 : decode cX0_wide 45 = .ok (.iload_n 3, 1) := dk_29 (dk_at dksX0_wide_1 21 rfl rfl)
theorem dX0_wide_46 : decode cX0_wide 46 = .ok (.iconst 3, 1) := dk_6 (dk_at dksX0_wide_1 22 rfl rfl)
theorem dX0_wide_47 : decode cX0_wide 47 = .ok (.iastore, 1) := dk_79 (dk_at dksX0_wide_1 23 rfl rfl)
theorem dX0_wide_48 : decode cX0_wide 48 = .ok (.aload_n 0, 1) := dk_42 (dk_at dksX0_wide_2 0 rfl rfl)
theorem dX0_wide_49 : decode cX0_wide 49 = .ok (.getfield 16, 3) := dk_180 0 16 (dk_at dksX0_wide_2 1 rfl rfl)
theorem dX0_wide_52 : decode cX0_wide 52 = .ok (.getfield 113, 3) := dk_180 0 113 (dk_at dksX0_wide_2 4 rfl rfl)
theorem dX0_wide_55 : decode cX0_wide 55 = .ok (.iload_n 3, 1) := dk_29 (dk_at dksX0_wide_2 7 rfl rfl)
theorem dX0_wide_56 : decode cX0_wide 56 = .ok (.iconst 3, 1) := dk_6 (dk_at dksX0_wide_2 8 rfl rfl)
theorem dX0_wide_57 : decode cX0_wide 57 = .ok (.iastore, 1) := dk_79 (dk_at dksX0_wide_2 9 rfl rfl)
theorem dX0_wide_58 : decode cX0_wide 58 = .ok (.iinc 3 1, 3) := dk_132 3 1 (dk_at dksX0_wide_2 10 rfl rfl)
theorem dX0_wide_61 : decode cX0_wide 61 = .ok (.goto (-28), 3) := dk_167 255 228 (dk_at dksX0_wide_2 13 rfl rfl)
theorem dX0_wide_64 : decode cX0_wide 64 = .ok (.aload_n 0, 1) := dk_42 (dk_at dksX0_wide_2 16 rfl rfl)
theorem dX0_wide_65 : decode cX0_wide 65 = .ok (.iload_n 2, 1) := dk_28 (dk_at dksX0_wide_2 17 rfl rfl)
theorem dX0_wide_66 : decode cX0_wide 66 = .ok (.invokevirtual 104, 3) := dk_182 0 104 (dk_at dksX0_wide_2 18 rfl rfl)
theorem dX0_wide_69 : decode cX0_wide 69 = .ok (.ireturn, 1) := dk_172 (dk_at dksX0_wide_2 21 rfl rfl)
abbrev cX0_bar : ByteArray := prog_1_method_12_code
def yX0_bar : MethodName := ⟨RX0, "bar", "(II)I"⟩
def dkwX0_bar_0 : List UInt8 := [42, 42, 180, 0, 16, 180, 0, 110, 27, 28, 182, 0, 123, 172]
abbrev dktX0_bar_0 : List UInt8 := dkwX0_bar_0 ++ []
theorem dksX0_bar_0 : cX0_bar.data.toList.drop 0 = dktX0_bar_0 := by decide +kernel
theorem dX0_bar_0 : decode cX0_bar 0 = .ok (.aload_n 0, 1) := dk_42 (dk_at dksX0_bar_0 0 rfl rfl)
theorem dX0_bar_1 : decode cX0_bar 1 = .ok (.aload_n 0, 1) := dk_42 (dk_at dksX0_bar_0 1 rfl rfl)
theorem dX0_bar_2 : decode cX0_bar 2 = .ok (.getfield 16, 3) := dk_180 0 16 (dk_at dksX0_bar_0 2 rfl rfl)
theorem dX0_bar_5 : decode cX0_bar 5 = .ok (.getfield 110, 3) := dk_180 0 110 (dk_at dksX0_bar_0 5 rfl rfl)
theorem dX0_bar_8 : decode cX0_bar 8 = .ok (.iload_n 1, 1) := dk_27 (dk_at dksX0_bar_0 8 rfl rfl)
theorem dX0_bar_9 : decode cX0_bar 9 = .ok (.iload_n 2, 1) := dk_28 (dk_at dksX0_bar_0 9 rfl rfl)
theorem dX0_bar_10 : decode cX0_bar 10 = .ok (.invokevirtual 123, 3) := dk_182 0 123 (dk_at dksX0_bar_0 10 rfl rfl)
theorem dX0_bar_13 : decode cX0_bar 13 = .ok (.ireturn, 1) := dk_172 (dk_at dksX0_bar_0 13 rfl rfl)
abbrev cX0_puts : ByteArray := prog_1_method_11_code
def yX0_puts : MethodName := ⟨RX0, "puts", "([III)I"⟩
def dkwX0_puts_1 : List UInt8 := [54, 4, 43, 28, 29, 79, 42, 21, 4, 182, 0, 104, 172]
abbrev dktX0_puts_1 : List UInt8 := dkwX0_puts_1 ++ []
def dkwX0_puts_0 : List UInt8 := [42, 28, 182, 0, 116, 153, 0, 10, 29, 184, 0, 120, 154, 0, 9, 42, 2, 182, 0, 97, 172, 43, 28, 46]
abbrev dktX0_puts_0 : List UInt8 := dkwX0_puts_0 ++ dktX0_puts_1
theorem dksX0_puts_0 : cX0_puts.data.toList.drop 0 = dktX0_puts_0 := by decide +kernel
theorem dksX0_puts_1 : cX0_puts.data.toList.drop 24 = dktX0_puts_1 := dk_seg dksX0_puts_0 24 rfl rfl
theorem dX0_puts_0 : decode cX0_puts 0 = .ok (.aload_n 0, 1) := dk_42 (dk_at dksX0_puts_0 0 rfl rfl)
theorem dX0_puts_1 : decode cX0_puts 1 = .ok (.iload_n 2, 1) := dk_28 (dk_at dksX0_puts_0 1 rfl rfl)
theorem dX0_puts_2 : decode cX0_puts 2 = .ok (.invokevirtual 116, 3) := dk_182 0 116 (dk_at dksX0_puts_0 2 rfl rfl)
theorem dX0_puts_5 : decode cX0_puts 5 = .ok (.ifCond .eq 10, 3) := dk_153 0 10 (dk_at dksX0_puts_0 5 rfl rfl)
theorem dX0_puts_8 : decode cX0_puts 8 = .ok (.iload_n 3, 1) := dk_29 (dk_at dksX0_puts_0 8 rfl rfl)
theorem dX0_puts_9 : decode cX0_puts 9 = .ok (.invokestatic 120, 3) := dk_184 0 120 (dk_at dksX0_puts_0 9 rfl rfl)
theorem dX0_puts_12 : decode cX0_puts 12 = .ok (.ifCond .ne 9, 3) := dk_154 0 9 (dk_at dksX0_puts_0 12 rfl rfl)
theorem dX0_puts_15 : decode cX0_puts 15 = .ok (.aload_n 0, 1) := dk_42 (dk_at dksX0_puts_0 15 rfl rfl)
theorem dX0_puts_16 : decode cX0_puts 16 = .ok (.iconst (-1), 1) := dk_2 (dk_at dksX0_puts_0 16 rfl rfl)
theorem dX0_puts_17 : decode cX0_puts 17 = .ok (.invokevirtual 97, 3) := dk_182 0 97 (dk_at dksX0_puts_0 17 rfl rfl)
theorem dX0_puts_20 : decode cX0_puts 20 = .ok (.ireturn, 1) := dk_172 (dk_at dksX0_puts_0 20 rfl rfl)
theorem dX0_puts_21 : decode cX0_puts 21 = .ok (.aload_n 1, 1) := dk_43 (dk_at dksX0_puts_0 21 rfl rfl)
theorem dX0_puts_22 : decode cX0_puts 22 = .ok (.iload_n 2, 1) := dk_28 (dk_at dksX0_puts_0 22 rfl rfl)
theorem dX0_puts_23 : decode cX0_puts 23 = .ok (.iaload, 1) := dk_46 (dk_at dksX0_puts_0 23 rfl rfl)
theorem dX0_puts_24 : decode cX0_puts 24 = .ok (.istore 4, 2) := dk_54 4 (dk_at dksX0_puts_1 0 rfl rfl)
theorem dX0_puts_26 : decode cX0_puts 26 = .ok (.aload_n 1, 1) := dk_43 (dk_at dksX0_puts_1 2 rfl rfl)
theorem dX0_puts_27 : decode cX0_puts 27 = .ok (.iload_n 2, 1) := dk_28 (dk_at dksX0_puts_1 3 rfl rfl)
theorem dX0_puts_28 : decode cX0_puts 28 = .ok (.iload_n 3, 1) := dk_29 (dk_at dksX0_puts_1 4 rfl rfl)
theorem dX0_puts_29 : decode cX0_puts 29 = .ok (.iastore, 1) := dk_79 (dk_at dksX0_puts_1 5 rfl rfl)
theorem dX0_puts_30 : decode cX0_puts 30 = .ok (.aload_n 0, 1) := dk_42 (dk_at dksX0_puts_1 6 rfl rfl)
theorem dX0_puts_31 : decode cX0_puts 31 = .ok (.iload 4, 2) := dk_21 4 (dk_at dksX0_puts_1 7 rfl rfl)
theorem dX0_puts_33 : decode cX0_puts 33 = .ok (.invokevirtual 104, 3) := dk_182 0 104 (dk_at dksX0_puts_1 9 rfl rfl)
theorem dX0_puts_36 : decode cX0_puts 36 = .ok (.ireturn, 1) := dk_172 (dk_at dksX0_puts_1 12 rfl rfl)
abbrev cX0_isCell : ByteArray := prog_1_method_8_code
def yX0_isCell : MethodName := ⟨RX0, "isCell", "(I)Z"⟩
def dkwX0_isCell_0 : List UInt8 := [27, 155, 0, 18, 27, 42, 180, 0, 16, 180, 0, 107, 162, 0, 7, 4, 167, 0, 4, 3, 172]
abbrev dktX0_isCell_0 : List UInt8 := dkwX0_isCell_0 ++ []
theorem dksX0_isCell_0 : cX0_isCell.data.toList.drop 0 = dktX0_isCell_0 := by decide +kernel
theorem dX0_isCell_0 : decode cX0_isCell 0 = .ok (.iload_n 1, 1) := dk_27 (dk_at dksX0_isCell_0 0 rfl rfl)
theorem dX0_isCell_1 : decode cX0_isCell 1 = .ok (.ifCond .lt 18, 3) := dk_155 0 18 (dk_at dksX0_isCell_0 1 rfl rfl)
theorem dX0_isCell_4 : decode cX0_isCell 4 = .ok (.iload_n 1, 1) := dk_27 (dk_at dksX0_isCell_0 4 rfl rfl)
theorem dX0_isCell_5 : decode cX0_isCell 5 = .ok (.aload_n 0, 1) := dk_42 (dk_at dksX0_isCell_0 5 rfl rfl)
theorem dX0_isCell_6 : decode cX0_isCell 6 = .ok (.getfield 16, 3) := dk_180 0 16 (dk_at dksX0_isCell_0 6 rfl rfl)
theorem dX0_isCell_9 : decode cX0_isCell 9 = .ok (.getfield 107, 3) := dk_180 0 107 (dk_at dksX0_isCell_0 9 rfl rfl)
theorem dX0_isCell_12 : decode cX0_isCell 12 = .ok (.if_icmp .ge 7, 3) := dk_162 0 7 (dk_at dksX0_isCell_0 12 rfl rfl)
theorem dX0_isCell_15 : decode cX0_isCell 15 = .ok (.iconst 1, 1) := dk_4 (dk_at dksX0_isCell_0 15 rfl rfl)
theorem dX0_isCell_16 : decode cX0_isCell 16 = .ok (.goto 4, 3) := dk_167 0 4 (dk_at dksX0_isCell_0 16 rfl rfl)
theorem dX0_isCell_19 : decode cX0_isCell 19 = .ok (.iconst 0, 1) := dk_3 (dk_at dksX0_isCell_0 19 rfl rfl)
theorem dX0_isCell_20 : decode cX0_isCell 20 = .ok (.ireturn, 1) := dk_172 (dk_at dksX0_isCell_0 20 rfl rfl)
abbrev cX0_isIron : ByteArray := prog_1_method_9_code
def yX0_isIron : MethodName := ⟨RX0, "isIron", "(I)Z"⟩
def dkwX0_isIron_0 : List UInt8 := [26, 4, 16, 9, 184, 0, 93, 172]
abbrev dktX0_isIron_0 : List UInt8 := dkwX0_isIron_0 ++ []
theorem dksX0_isIron_0 : cX0_isIron.data.toList.drop 0 = dktX0_isIron_0 := by decide +kernel
theorem dX0_isIron_0 : decode cX0_isIron 0 = .ok (.iload_n 0, 1) := dk_26 (dk_at dksX0_isIron_0 0 rfl rfl)
theorem dX0_isIron_1 : decode cX0_isIron 1 = .ok (.iconst 1, 1) := dk_4 (dk_at dksX0_isIron_0 1 rfl rfl)
theorem dX0_isIron_2 : decode cX0_isIron 2 = .ok (.bipush 9, 2) := dk_16 9 (dk_at dksX0_isIron_0 2 rfl rfl)
theorem dX0_isIron_4 : decode cX0_isIron 4 = .ok (.invokestatic 93, 3) := dk_184 0 93 (dk_at dksX0_isIron_0 4 rfl rfl)
theorem dX0_isIron_7 : decode cX0_isIron 7 = .ok (.ireturn, 1) := dk_172 (dk_at dksX0_isIron_0 7 rfl rfl)
abbrev cX0_shape : ByteArray := prog_1_method_13_code
def yX0_shape : MethodName := ⟨RX0, "shape", "(II)I"⟩
def dkwX0_shape_0 : List UInt8 := [42, 42, 180, 0, 16, 180, 0, 113, 27, 28, 182, 0, 123, 172]
abbrev dktX0_shape_0 : List UInt8 := dkwX0_shape_0 ++ []
theorem dksX0_shape_0 : cX0_shape.data.toList.drop 0 = dktX0_shape_0 := by decide +kernel
theorem dX0_shape_0 : decode cX0_shape 0 = .ok (.aload_n 0, 1) := dk_42 (dk_at dksX0_shape_0 0 rfl rfl)
theorem dX0_shape_1 : decode cX0_shape 1 = .ok (.aload_n 0, 1) := dk_42 (dk_at dksX0_shape_0 1 rfl rfl)
theorem dX0_shape_2 : decode cX0_shape 2 = .ok (.getfield 16, 3) := dk_180 0 16 (dk_at dksX0_shape_0 2 rfl rfl)
theorem dX0_shape_5 : decode cX0_shape 5 = .ok (.getfield 113, 3) := dk_180 0 113 (dk_at dksX0_shape_0 5 rfl rfl)
theorem dX0_shape_8 : decode cX0_shape 8 = .ok (.iload_n 1, 1) := dk_27 (dk_at dksX0_shape_0 8 rfl rfl)
theorem dX0_shape_9 : decode cX0_shape 9 = .ok (.iload_n 2, 1) := dk_28 (dk_at dksX0_shape_0 9 rfl rfl)
theorem dX0_shape_10 : decode cX0_shape 10 = .ok (.invokevirtual 123, 3) := dk_182 0 123 (dk_at dksX0_shape_0 10 rfl rfl)
theorem dX0_shape_13 : decode cX0_shape 13 = .ok (.ireturn, 1) := dk_172 (dk_at dksX0_shape_0 13 rfl rfl)
abbrev cX0_tongs : ByteArray := prog_1_method_14_code
def yX0_tongs : MethodName := ⟨RX0, "tongs", "(I)I"⟩
def dkwX0_tongs_1 : List UInt8 := [180, 0, 127, 61, 42, 180, 0, 16, 27, 181, 0, 127, 42, 28, 182, 0, 104, 172]
abbrev dktX0_tongs_1 : List UInt8 := dkwX0_tongs_1 ++ []
def dkwX0_tongs_0 : List UInt8 := [27, 153, 0, 11, 27, 17, 252, 1, 126, 153, 0, 9, 42, 2, 182, 0, 97, 172, 42, 180, 0, 16]
abbrev dktX0_tongs_0 : List UInt8 := dkwX0_tongs_0 ++ dktX0_tongs_1
theorem dksX0_tongs_0 : cX0_tongs.data.toList.drop 0 = dktX0_tongs_0 := by decide +kernel
theorem dksX0_tongs_1 : cX0_tongs.data.toList.drop 22 = dktX0_tongs_1 := dk_seg dksX0_tongs_0 22 rfl rfl
theorem dX0_tongs_0 : decode cX0_tongs 0 = .ok (.iload_n 1, 1) := dk_27 (dk_at dksX0_tongs_0 0 rfl rfl)
theorem dX0_tongs_1 : decode cX0_tongs 1 = .ok (.ifCond .eq 11, 3) := dk_153 0 11 (dk_at dksX0_tongs_0 1 rfl rfl)
theorem dX0_tongs_4 : decode cX0_tongs 4 = .ok (.iload_n 1, 1) := dk_27 (dk_at dksX0_tongs_0 4 rfl rfl)
theorem dX0_tongs_5 : decode cX0_tongs 5 = .ok (.sipush (-1023), 3) := dk_17 252 1 (dk_at dksX0_tongs_0 5 rfl rfl)
theorem dX0_tongs_8 : decode cX0_tongs 8 = .ok (.iand, 1) := dk_126 (dk_at dksX0_tongs_0 8 rfl rfl)
theorem dX0_tongs_9 : decode cX0_tongs 9 = .ok (.ifCond .eq 9, 3) := dk_153 0 9 (dk_at dksX0_tongs_0 9 rfl rfl)
theorem dX0_tongs_12 : decode cX0_tongs 12 = .ok (.aload_n 0, 1) := dk_42 (dk_at dksX0_tongs_0 12 rfl rfl)
theorem dX0_tongs_13 : decode cX0_tongs 13 = .ok (.iconst (-1), 1) := dk_2 (dk_at dksX0_tongs_0 13 rfl rfl)
theorem dX0_tongs_14 : decode cX0_tongs 14 = .ok (.invokevirtual 97, 3) := dk_182 0 97 (dk_at dksX0_tongs_0 14 rfl rfl)
theorem dX0_tongs_17 : decode cX0_tongs 17 = .ok (.ireturn, 1) := dk_172 (dk_at dksX0_tongs_0 17 rfl rfl)
theorem dX0_tongs_18 : decode cX0_tongs 18 = .ok (.aload_n 0, 1) := dk_42 (dk_at dksX0_tongs_0 18 rfl rfl)
theorem dX0_tongs_19 : decode cX0_tongs 19 = .ok (.getfield 16, 3) := dk_180 0 16 (dk_at dksX0_tongs_0 19 rfl rfl)
theorem dX0_tongs_22 : decode cX0_tongs 22 = .ok (.getfield 127, 3) := dk_180 0 127 (dk_at dksX0_tongs_1 0 rfl rfl)
theorem dX0_tongs_25 : decode cX0_tongs 25 = .ok (.istore_n 2, 1) := dk_61 (dk_at dksX0_tongs_1 3 rfl rfl)
theorem dX0_tongs_26 : decode cX0_tongs 26 = .ok (.aload_n 0, 1) := dk_42 (dk_at dksX0_tongs_1 4 rfl rfl)
theorem dX0_tongs_27 : decode cX0_tongs 27 = .ok (.getfield 16, 3) := dk_180 0 16 (dk_at dksX0_tongs_1 5 rfl rfl)
theorem dX0_tongs_30 : decode cX0_tongs 30 = .ok (.iload_n 1, 1) := dk_27 (dk_at dksX0_tongs_1 8 rfl rfl)
theorem dX0_tongs_31 : decode cX0_tongs 31 = .ok (.putfield 127, 3) := dk_181 0 127 (dk_at dksX0_tongs_1 9 rfl rfl)
theorem dX0_tongs_34 : decode cX0_tongs 34 = .ok (.aload_n 0, 1) := dk_42 (dk_at dksX0_tongs_1 12 rfl rfl)
theorem dX0_tongs_35 : decode cX0_tongs 35 = .ok (.iload_n 2, 1) := dk_28 (dk_at dksX0_tongs_1 13 rfl rfl)
theorem dX0_tongs_36 : decode cX0_tongs 36 = .ok (.invokevirtual 104, 3) := dk_182 0 104 (dk_at dksX0_tongs_1 14 rfl rfl)
theorem dX0_tongs_39 : decode cX0_tongs 39 = .ok (.ireturn, 1) := dk_172 (dk_at dksX0_tongs_1 17 rfl rfl)
abbrev cX0_terms : ByteArray := prog_1_method_15_code
def yX0_terms : MethodName := ⟨RX0, "terms", "(II)I"⟩
def dkwX0_terms_4 : List UInt8 := [182, 0, 104, 172]
abbrev dktX0_terms_4 : List UInt8 := dkwX0_terms_4 ++ []
def dkwX0_terms_3 : List UInt8 := [180, 0, 16, 180, 0, 130, 27, 46, 54, 4, 42, 180, 0, 16, 180, 0, 130, 27, 28, 79, 42, 21, 4]
abbrev dktX0_terms_3 : List UInt8 := dkwX0_terms_3 ++ dktX0_terms_4
def dkwX0_terms_2 : List UInt8 := [154, 0, 7, 4, 167, 0, 4, 3, 29, 184, 0, 93, 154, 0, 9, 42, 2, 182, 0, 97, 172, 42]
abbrev dktX0_terms_2 : List UInt8 := dkwX0_terms_2 ++ dktX0_terms_3
def dkwX0_terms_1 : List UInt8 := [4, 160, 0, 8, 16, 100, 167, 0, 15, 27, 7, 160, 0, 8, 16, 50, 167, 0, 5, 16, 60, 62, 28, 27]
abbrev dktX0_terms_1 : List UInt8 := dkwX0_terms_1 ++ dktX0_terms_2
def dkwX0_terms_0 : List UInt8 := [27, 3, 7, 184, 0, 93, 154, 0, 9, 42, 2, 182, 0, 97, 172, 27, 154, 0, 7, 7, 167, 0, 25, 27]
abbrev dktX0_terms_0 : List UInt8 := dkwX0_terms_0 ++ dktX0_terms_1
theorem dksX0_terms_0 : cX0_terms.data.toList.drop 0 = dktX0_terms_0 := by decide +kernel
theorem dksX0_terms_1 : cX0_terms.data.toList.drop 24 = dktX0_terms_1 := dk_seg dksX0_terms_0 24 rfl rfl
theorem dksX0_terms_2 : cX0_terms.data.toList.drop 48 = dktX0_terms_2 := dk_seg dksX0_terms_1 24 rfl rfl
theorem dksX0_terms_3 : cX0_terms.data.toList.drop 70 = dktX0_terms_3 := dk_seg dksX0_terms_2 22 rfl rfl
theorem dksX0_terms_4 : cX0_terms.data.toList.drop 93 = dktX0_terms_4 := dk_seg dksX0_terms_3 23 rfl rfl
theorem dX0_terms_0 : decode cX0_terms 0 = .ok (.iload_n 1, 1) := dk_27 (dk_at dksX0_terms_0 0 rfl rfl)
theorem dX0_terms_1 : decode cX0_terms 1 = .ok (.iconst 0, 1) := dk_3 (dk_at dksX0_terms_0 1 rfl rfl)
theorem dX0_terms_2 : decode cX0_terms 2 = .ok (.iconst 4, 1) := dk_7 (dk_at dksX0_terms_0 2 rfl rfl)
theorem dX0_terms_3 : decode cX0_terms 3 = .ok (.invokestatic 93, 3) := dk_184 0 93 (dk_at dksX0_terms_0 3 rfl rfl)
theorem dX0_terms_6 : decode cX0_terms 6 = .ok (.ifCond .ne 9, 3) := dk_154 0 9 (dk_at dksX0_terms_0 6 rfl rfl)
theorem dX0_terms_9 : decode cX0_terms 9 = .ok (.aload_n 0, 1) := dk_42 (dk_at dksX0_terms_0 9 rfl rfl)
theorem dX0_terms_10 : decode cX0_terms 10 = .ok (.iconst (-1), 1) := dk_2 (dk_at dksX0_terms_0 10 rfl rfl)
theorem dX0_terms_11 : decode cX0_terms 11 = .ok (.invokevirtual 97, 3) := dk_182 0 97 (dk_at dksX0_terms_0 11 rfl rfl)
theorem dX0_terms_14 : decode cX0_terms 14 = .ok (.ireturn, 1) := dk_172 (dk_at dksX0_terms_0 14 rfl rfl)
theorem dX0_terms_15 : decode cX0_terms 15 = .ok (.iload_n 1, 1) := dk_27 (dk_at dksX0_terms_0 15 rfl rfl)
theorem dX0_terms_16 : decode cX0_terms 16 = .ok (.ifCond .ne 7, 3) := dk_154 0 7 (dk_at dksX0_terms_0 16 rfl rfl)
theorem dX0_terms_19 : decode cX0_terms 19 = .ok (.iconst 4, 1) := dk_7 (dk_at dksX0_terms_0 19 rfl rfl)
theorem dX0_terms_20 : decode cX0_terms 20 = .ok (.goto 25, 3) := dk_167 0 25 (dk_at dksX0_terms_0 20 rfl rfl)
theorem dX0_terms_23 : decode cX0_terms 23 = .ok (.iload_n 1, 1) := dk_27 (dk_at dksX0_terms_0 23 rfl rfl)
theorem dX0_terms_24 : decode cX0_terms 24 = .ok (.iconst 1, 1) := dk_4 (dk_at dksX0_terms_1 0 rfl rfl)
theorem dX0_terms_25 : decode cX0_terms 25 = .ok (.if_icmp .ne 8, 3) := dk_160 0 8 (dk_at dksX0_terms_1 1 rfl rfl)
theorem dX0_terms_28 : decode cX0_terms 28 = .ok (.bipush 100, 2) := dk_16 100 (dk_at dksX0_terms_1 4 rfl rfl)
theorem dX0_terms_30 : decode cX0_terms 30 = .ok (.goto 15, 3) := dk_167 0 15 (dk_at dksX0_terms_1 6 rfl rfl)
theorem dX0_terms_33 : decode cX0_terms 33 = .ok (.iload_n 1, 1) := dk_27 (dk_at dksX0_terms_1 9 rfl rfl)
theorem dX0_terms_34 : decode cX0_terms 34 = .ok (.iconst 4, 1) := dk_7 (dk_at dksX0_terms_1 10 rfl rfl)
theorem dX0_terms_35 : decode cX0_terms 35 = .ok (.if_icmp .ne 8, 3) := dk_160 0 8 (dk_at dksX0_terms_1 11 rfl rfl)
theorem dX0_terms_38 : decode cX0_terms 38 = .ok (.bipush 50, 2) := dk_16 50 (dk_at dksX0_terms_1 14 rfl rfl)
theorem dX0_terms_40 : decode cX0_terms 40 = .ok (.goto 5, 3) := dk_167 0 5 (dk_at dksX0_terms_1 16 rfl rfl)
theorem dX0_terms_43 : decode cX0_terms 43 = .ok (.bipush 60, 2) := dk_16 60 (dk_at dksX0_terms_1 19 rfl rfl)
theorem dX0_terms_45 : decode cX0_terms 45 = .ok (.istore_n 3, 1) := dk_62 (dk_at dksX0_terms_1 21 rfl rfl)
theorem dX0_terms_46 : decode cX0_terms 46 = .ok (.iload_n 2, 1) := dk_28 (dk_at dksX0_terms_1 22 rfl rfl)
theorem dX0_terms_47 : decode cX0_terms 47 = .ok (.iload_n 1, 1) := dk_27 (dk_at dksX0_terms_1 23 rfl rfl)
theorem dX0_terms_48 : decode cX0_terms 48 = .ok (.ifCond .ne 7, 3) := dk_154 0 7 (dk_at dksX0_terms_2 0 rfl rfl)
theorem dX0_terms_51 : decode cX0_terms 51 = .ok (.iconst 1, 1) := dk_4 (dk_at dksX0_terms_2 3 rfl rfl)
theorem dX0_terms_52 : decode cX0_terms 52 = .ok (.goto 4, 3) := dk_167 0 4 (dk_at dksX0_terms_2 4 rfl rfl)
theorem dX0_terms_55 : decode cX0_terms 55 = .ok (.iconst 0, 1) := dk_3 (dk_at dksX0_terms_2 7 rfl rfl)
theorem dX0_terms_56 : decode cX0_terms 56 = .ok (.iload_n 3, 1) := dk_29 (dk_at dksX0_terms_2 8 rfl rfl)
theorem dX0_terms_57 : decode cX0_terms 57 = .ok (.invokestatic 93, 3) := dk_184 0 93 (dk_at dksX0_terms_2 9 rfl rfl)
theorem dX0_terms_60 : decode cX0_terms 60 = .ok (.ifCond .ne 9, 3) := dk_154 0 9 (dk_at dksX0_terms_2 12 rfl rfl)
theorem dX0_terms_63 : decode cX0_terms 63 = .ok (.aload_n 0, 1) := dk_42 (dk_at dksX0_terms_2 15 rfl rfl)
theorem dX0_terms_64 : decode cX0_terms 64 = .ok (.iconst (-1), 1) := dk_2 (dk_at dksX0_terms_2 16 rfl rfl)
theorem dX0_terms_65 : decode cX0_terms 65 = .ok (.invokevirtual 97, 3) := dk_182 0 97 (dk_at dksX0_terms_2 17 rfl rfl)
theorem dX0_terms_68 : decode cX0_terms 68 = .ok (.ireturn, 1) := dk_172 (dk_at dksX0_terms_2 20 rfl rfl)
theorem dX0_terms_69 : decode cX0_terms 69 = .ok (.aload_n 0, 1) := dk_42 (dk_at dksX0_terms_2 21 rfl rfl)
theorem dX0_terms_70 : decode cX0_terms 70 = .ok (.getfield 16, 3) := dk_180 0 16 (dk_at dksX0_terms_3 0 rfl rfl)
theorem dX0_terms_73 : decode cX0_terms 73 = .ok (.getfield 130, 3) := dk_180 0 130 (dk_at dksX0_terms_3 3 rfl rfl)
theorem dX0_terms_76 : decode cX0_terms 76 = .ok (.iload_n 1, 1) := dk_27 (dk_at dksX0_terms_3 6 rfl rfl)
theorem dX0_terms_77 : decode cX0_terms 77 = .ok (.iaload, 1) := dk_46 (dk_at dksX0_terms_3 7 rfl rfl)
theorem dX0_terms_78 : decode cX0_terms 78 = .ok (.istore 4, 2) := dk_54 4 (dk_at dksX0_terms_3 8 rfl rfl)
theorem dX0_terms_80 : decode cX0_terms 80 = .ok (.aload_n 0, 1) := dk_42 (dk_at dksX0_terms_3 10 rfl rfl)
theorem dX0_terms_81 : decode cX0_terms 81 = .ok (.getfield 16, 3) := dk_180 0 16 (dk_at dksX0_terms_3 11 rfl rfl)
theorem dX0_terms_84 : decode cX0_terms 84 = .ok (.getfield 130, 3) := dk_180 0 130 (dk_at dksX0_terms_3 14 rfl rfl)
theorem dX0_terms_87 : decode cX0_terms 87 = .ok (.iload_n 1, 1) := dk_27 (dk_at dksX0_terms_3 17 rfl rfl)
theorem dX0_terms_88 : decode cX0_terms 88 = .ok (.iload_n 2, 1) := dk_28 (dk_at dksX0_terms_3 18 rfl rfl)
theorem dX0_terms_89 : decode cX0_terms 89 = .ok (.iastore, 1) := dk_79 (dk_at dksX0_terms_3 19 rfl rfl)
theorem dX0_terms_90 : decode cX0_terms 90 = .ok (.aload_n 0, 1) := dk_42 (dk_at dksX0_terms_3 20 rfl rfl)
theorem dX0_terms_91 : decode cX0_terms 91 = .ok (.iload 4, 2) := dk_21 4 (dk_at dksX0_terms_3 21 rfl rfl)
theorem dX0_terms_93 : decode cX0_terms 93 = .ok (.invokevirtual 104, 3) := dk_182 0 104 (dk_at dksX0_terms_4 0 rfl rfl)
theorem dX0_terms_96 : decode cX0_terms 96 = .ok (.ireturn, 1) := dk_172 (dk_at dksX0_terms_4 3 rfl rfl)
abbrev cX0_feed : ByteArray := prog_1_method_16_code
def yX0_feed : MethodName := ⟨RX0, "feed", "(IIIII)I"⟩
def dkwX0_feed_2 : List UInt8 := [172]
abbrev dktX0_feed_2 : List UInt8 := dkwX0_feed_2 ++ []
def dkwX0_feed_1 : List UInt8 := [182, 0, 136, 42, 29, 182, 0, 136, 42, 21, 4, 182, 0, 136, 42, 21, 5, 182, 0, 136, 42, 180, 0, 133]
abbrev dktX0_feed_1 : List UInt8 := dkwX0_feed_1 ++ dktX0_feed_2
def dkwX0_feed_0 : List UInt8 := [42, 180, 0, 133, 16, 20, 96, 17, 1, 144, 164, 0, 5, 2, 172, 42, 27, 182, 0, 136, 42, 28]
abbrev dktX0_feed_0 : List UInt8 := dkwX0_feed_0 ++ dktX0_feed_1
theorem dksX0_feed_0 : cX0_feed.data.toList.drop 0 = dktX0_feed_0 := by decide +kernel
theorem dksX0_feed_1 : cX0_feed.data.toList.drop 22 = dktX0_feed_1 := dk_seg dksX0_feed_0 22 rfl rfl
theorem dksX0_feed_2 : cX0_feed.data.toList.drop 46 = dktX0_feed_2 := dk_seg dksX0_feed_1 24 rfl rfl
theorem dX0_feed_0 : decode cX0_feed 0 = .ok (.aload_n 0, 1) := dk_42 (dk_at dksX0_feed_0 0 rfl rfl)
theorem dX0_feed_1 : decode cX0_feed 1 = .ok (.getfield 133, 3) := dk_180 0 133 (dk_at dksX0_feed_0 1 rfl rfl)
theorem dX0_feed_4 : decode cX0_feed 4 = .ok (.bipush 20, 2) := dk_16 20 (dk_at dksX0_feed_0 4 rfl rfl)
theorem dX0_feed_6 : decode cX0_feed 6 = .ok (.iadd, 1) := dk_96 (dk_at dksX0_feed_0 6 rfl rfl)
theorem dX0_feed_7 : decode cX0_feed 7 = .ok (.sipush 400, 3) := dk_17 1 144 (dk_at dksX0_feed_0 7 rfl rfl)
theorem dX0_feed_10 : decode cX0_feed 10 = .ok (.if_icmp .le 5, 3) := dk_164 0 5 (dk_at dksX0_feed_0 10 rfl rfl)
theorem dX0_feed_13 : decode cX0_feed 13 = .ok (.iconst (-1), 1) := dk_2 (dk_at dksX0_feed_0 13 rfl rfl)
theorem dX0_feed_14 : decode cX0_feed 14 = .ok (.ireturn, 1) := dk_172 (dk_at dksX0_feed_0 14 rfl rfl)
theorem dX0_feed_15 : decode cX0_feed 15 = .ok (.aload_n 0, 1) := dk_42 (dk_at dksX0_feed_0 15 rfl rfl)
theorem dX0_feed_16 : decode cX0_feed 16 = .ok (.iload_n 1, 1) := dk_27 (dk_at dksX0_feed_0 16 rfl rfl)
theorem dX0_feed_17 : decode cX0_feed 17 = .ok (.invokevirtual 136, 3) := dk_182 0 136 (dk_at dksX0_feed_0 17 rfl rfl)
theorem dX0_feed_20 : decode cX0_feed 20 = .ok (.aload_n 0, 1) := dk_42 (dk_at dksX0_feed_0 20 rfl rfl)
theorem dX0_feed_21 : decode cX0_feed 21 = .ok (.iload_n 2, 1) := dk_28 (dk_at dksX0_feed_0 21 rfl rfl)
theorem dX0_feed_22 : decode cX0_feed 22 = .ok (.invokevirtual 136, 3) := dk_182 0 136 (dk_at dksX0_feed_1 0 rfl rfl)
theorem dX0_feed_25 : decode cX0_feed 25 = .ok (.aload_n 0, 1) := dk_42 (dk_at dksX0_feed_1 3 rfl rfl)
theorem dX0_feed_26 : decode cX0_feed 26 = .ok (.iload_n 3, 1) := dk_29 (dk_at dksX0_feed_1 4 rfl rfl)
theorem dX0_feed_27 : decode cX0_feed 27 = .ok (.invokevirtual 136, 3) := dk_182 0 136 (dk_at dksX0_feed_1 5 rfl rfl)
theorem dX0_feed_30 : decode cX0_feed 30 = .ok (.aload_n 0, 1) := dk_42 (dk_at dksX0_feed_1 8 rfl rfl)
theorem dX0_feed_31 : decode cX0_feed 31 = .ok (.iload 4, 2) := dk_21 4 (dk_at dksX0_feed_1 9 rfl rfl)
theorem dX0_feed_33 : decode cX0_feed 33 = .ok (.invokevirtual 136, 3) := dk_182 0 136 (dk_at dksX0_feed_1 11 rfl rfl)
theorem dX0_feed_36 : decode cX0_feed 36 = .ok (.aload_n 0, 1) := dk_42 (dk_at dksX0_feed_1 14 rfl rfl)
theorem dX0_feed_37 : decode cX0_feed 37 = .ok (.iload 5, 2) := dk_21 5 (dk_at dksX0_feed_1 15 rfl rfl)
theorem dX0_feed_39 : decode cX0_feed 39 = .ok (.invokevirtual 136, 3) := dk_182 0 136 (dk_at dksX0_feed_1 17 rfl rfl)
theorem dX0_feed_42 : decode cX0_feed 42 = .ok (.aload_n 0, 1) := dk_42 (dk_at dksX0_feed_1 20 rfl rfl)
theorem dX0_feed_43 : decode cX0_feed 43 = .ok (.getfield 133, 3) := dk_180 0 133 (dk_at dksX0_feed_1 21 rfl rfl)
theorem dX0_feed_46 : decode cX0_feed 46 = .ok (.ireturn, 1) := dk_172 (dk_at dksX0_feed_2 0 rfl rfl)
abbrev cX0_four : ByteArray := prog_1_method_17_code
def yX0_four : MethodName := ⟨RX0, "four", "(I)V"⟩
def dkwX0_four_1 : List UInt8 := [180, 0, 133, 4, 96, 181, 0, 133, 132, 2, 248, 167, 255, 226, 177]
abbrev dktX0_four_1 : List UInt8 := dkwX0_four_1 ++ []
def dkwX0_four_0 : List UInt8 := [16, 24, 61, 28, 155, 0, 32, 42, 180, 0, 24, 42, 180, 0, 133, 27, 28, 122, 145, 84, 42, 89]
abbrev dktX0_four_0 : List UInt8 := dkwX0_four_0 ++ dktX0_four_1
theorem dksX0_four_0 : cX0_four.data.toList.drop 0 = dktX0_four_0 := by decide +kernel
theorem dksX0_four_1 : cX0_four.data.toList.drop 22 = dktX0_four_1 := dk_seg dksX0_four_0 22 rfl rfl
theorem dX0_four_0 : decode cX0_four 0 = .ok (.bipush 24, 2) := dk_16 24 (dk_at dksX0_four_0 0 rfl rfl)
theorem dX0_four_2 : decode cX0_four 2 = .ok (.istore_n 2, 1) := dk_61 (dk_at dksX0_four_0 2 rfl rfl)
theorem dX0_four_3 : decode cX0_four 3 = .ok (.iload_n 2, 1) := dk_28 (dk_at dksX0_four_0 3 rfl rfl)
theorem dX0_four_4 : decode cX0_four 4 = .ok (.ifCond .lt 32, 3) := dk_155 0 32 (dk_at dksX0_four_0 4 rfl rfl)
theorem dX0_four_7 : decode cX0_four 7 = .ok (.aload_n 0, 1) := dk_42 (dk_at dksX0_four_0 7 rfl rfl)
theorem dX0_four_8 : decode cX0_four 8 = .ok (.getfield 24, 3) := dk_180 0 24 (dk_at dksX0_four_0 8 rfl rfl)
theorem dX0_four_11 : decode cX0_four 11 = .ok (.aload_n 0, 1) := dk_42 (dk_at dksX0_four_0 11 rfl rfl)
theorem dX0_four_12 : decode cX0_four 12 = .ok (.getfield 133, 3) := dk_180 0 133 (dk_at dksX0_four_0 12 rfl rfl)
theorem dX0_four_15 : decode cX0_four 15 = .ok (.iload_n 1, 1) := dk_27 (dk_at dksX0_four_0 15 rfl rfl)
theorem dX0_four_16 : decode cX0_four 16 = .ok (.iload_n 2, 1) := dk_28 (dk_at dksX0_four_0 16 rfl rfl)
theorem dX0_four_17 : decode cX0_four 17 = .ok (.ishr, 1) := dk_122 (dk_at dksX0_four_0 17 rfl rfl)
theorem dX0_four_18 : decode cX0_four 18 = .ok (.i2b, 1) := dk_145 (dk_at dksX0_four_0 18 rfl rfl)
theorem dX0_four_19 : decode cX0_four 19 = .ok (.bastore, 1) := dk_84 (dk_at dksX0_four_0 19 rfl rfl)
theorem dX0_four_20 : decode cX0_four 20 = .ok (.aload_n 0, 1) := dk_42 (dk_at dksX0_four_0 20 rfl rfl)
theorem dX0_four_21 : decode cX0_four 21 = .ok (.dup, 1) := dk_89 (dk_at dksX0_four_0 21 rfl rfl)
theorem dX0_four_22 : decode cX0_four 22 = .ok (.getfield 133, 3) := dk_180 0 133 (dk_at dksX0_four_1 0 rfl rfl)
theorem dX0_four_25 : decode cX0_four 25 = .ok (.iconst 1, 1) := dk_4 (dk_at dksX0_four_1 3 rfl rfl)
theorem dX0_four_26 : decode cX0_four 26 = .ok (.iadd, 1) := dk_96 (dk_at dksX0_four_1 4 rfl rfl)
theorem dX0_four_27 : decode cX0_four 27 = .ok (.putfield 133, 3) := dk_181 0 133 (dk_at dksX0_four_1 5 rfl rfl)
theorem dX0_four_30 : decode cX0_four 30 = .ok (.iinc 2 (-8), 3) := dk_132 2 248 (dk_at dksX0_four_1 8 rfl rfl)
theorem dX0_four_33 : decode cX0_four 33 = .ok (.goto (-30), 3) := dk_167 255 226 (dk_at dksX0_four_1 11 rfl rfl)
theorem dX0_four_36 : decode cX0_four 36 = .ok (.return_, 1) := dk_177 (dk_at dksX0_four_1 14 rfl rfl)
abbrev cX0_end : ByteArray := prog_1_method_18_code
def yX0_end : MethodName := ⟨RX0, "end", "(I)I"⟩
def dkwX0_end_0 : List UInt8 := [27, 155, 0, 11, 27, 42, 180, 0, 133, 164, 0, 5, 2, 172, 42, 27, 181, 0, 133, 27, 172]
abbrev dktX0_end_0 : List UInt8 := dkwX0_end_0 ++ []
theorem dksX0_end_0 : cX0_end.data.toList.drop 0 = dktX0_end_0 := by decide +kernel
theorem dX0_end_0 : decode cX0_end 0 = .ok (.iload_n 1, 1) := dk_27 (dk_at dksX0_end_0 0 rfl rfl)
theorem dX0_end_1 : decode cX0_end 1 = .ok (.ifCond .lt 11, 3) := dk_155 0 11 (dk_at dksX0_end_0 1 rfl rfl)
theorem dX0_end_4 : decode cX0_end 4 = .ok (.iload_n 1, 1) := dk_27 (dk_at dksX0_end_0 4 rfl rfl)
theorem dX0_end_5 : decode cX0_end 5 = .ok (.aload_n 0, 1) := dk_42 (dk_at dksX0_end_0 5 rfl rfl)
theorem dX0_end_6 : decode cX0_end 6 = .ok (.getfield 133, 3) := dk_180 0 133 (dk_at dksX0_end_0 6 rfl rfl)
theorem dX0_end_9 : decode cX0_end 9 = .ok (.if_icmp .le 5, 3) := dk_164 0 5 (dk_at dksX0_end_0 9 rfl rfl)
theorem dX0_end_12 : decode cX0_end 12 = .ok (.iconst (-1), 1) := dk_2 (dk_at dksX0_end_0 12 rfl rfl)
theorem dX0_end_13 : decode cX0_end 13 = .ok (.ireturn, 1) := dk_172 (dk_at dksX0_end_0 13 rfl rfl)
theorem dX0_end_14 : decode cX0_end 14 = .ok (.aload_n 0, 1) := dk_42 (dk_at dksX0_end_0 14 rfl rfl)
theorem dX0_end_15 : decode cX0_end 15 = .ok (.iload_n 1, 1) := dk_27 (dk_at dksX0_end_0 15 rfl rfl)
theorem dX0_end_16 : decode cX0_end 16 = .ok (.putfield 133, 3) := dk_181 0 133 (dk_at dksX0_end_0 16 rfl rfl)
theorem dX0_end_19 : decode cX0_end 19 = .ok (.iload_n 1, 1) := dk_27 (dk_at dksX0_end_0 19 rfl rfl)
theorem dX0_end_20 : decode cX0_end 20 = .ok (.ireturn, 1) := dk_172 (dk_at dksX0_end_0 20 rfl rfl)
abbrev cX0_row : ByteArray := prog_1_method_20_code
def yX0_row : MethodName := ⟨RX0, "row", "()I"⟩
def dkwX0_row_4 : List UInt8 := [132, 3, 1, 167, 255, 214, 167, 0, 11, 58, 4, 42, 29, 182, 0, 104, 172, 42, 29, 182, 0, 104, 172]
abbrev dktX0_row_4 : List UInt8 := dkwX0_row_4 ++ []
def dkwX0_row_3 : List UInt8 := [180, 0, 16, 180, 0, 110, 29, 21, 4, 184, 0, 120, 153, 0, 8, 21, 4, 167, 0, 4, 4, 79]
abbrev dktX0_row_3 : List UInt8 := dkwX0_row_3 ++ dktX0_row_4
def dkwX0_row_2 : List UInt8 := [27, 184, 0, 140, 3, 62, 7, 29, 104, 27, 162, 0, 41, 44, 7, 29, 104, 184, 0, 146, 54, 4, 42]
abbrev dktX0_row_2 : List UInt8 := dkwX0_row_2 ++ dktX0_row_3
def dkwX0_row_1 : List UInt8 := [180, 0, 107, 164, 0, 10, 42, 16, 250, 182, 0, 97, 172, 27, 188, 8, 77, 42, 180, 0, 24, 3, 44, 3]
abbrev dktX0_row_1 : List UInt8 := dkwX0_row_1 ++ dktX0_row_2
def dkwX0_row_0 : List UInt8 := [42, 180, 0, 133, 60, 42, 3, 181, 0, 133, 27, 153, 0, 18, 27, 6, 96, 7, 108, 42, 180, 0, 16]
abbrev dktX0_row_0 : List UInt8 := dkwX0_row_0 ++ dktX0_row_1
theorem dksX0_row_0 : cX0_row.data.toList.drop 0 = dktX0_row_0 := by decide +kernel
theorem dksX0_row_1 : cX0_row.data.toList.drop 23 = dktX0_row_1 := dk_seg dksX0_row_0 23 rfl rfl
theorem dksX0_row_2 : cX0_row.data.toList.drop 47 = dktX0_row_2 := dk_seg dksX0_row_1 24 rfl rfl
theorem dksX0_row_3 : cX0_row.data.toList.drop 70 = dktX0_row_3 := dk_seg dksX0_row_2 23 rfl rfl
theorem dksX0_row_4 : cX0_row.data.toList.drop 92 = dktX0_row_4 := dk_seg dksX0_row_3 22 rfl rfl
theorem dX0_row_0 : decode cX0_row 0 = .ok (.aload_n 0, 1) := dk_42 (dk_at dksX0_row_0 0 rfl rfl)
theorem dX0_row_1 : decode cX0_row 1 = .ok (.getfield 133, 3) := dk_180 0 133 (dk_at dksX0_row_0 1 rfl rfl)
theorem dX0_row_4 : decode cX0_row 4 = .ok (.istore_n 1, 1) := dk_60 (dk_at dksX0_row_0 4 rfl rfl)
theorem dX0_row_5 : decode cX0_row 5 = .ok (.aload_n 0, 1) := dk_42 (dk_at dksX0_row_0 5 rfl rfl)
theorem dX0_row_6 : decode cX0_row 6 = .ok (.iconst 0, 1) := dk_3 (dk_at dksX0_row_0 6 rfl rfl)
theorem dX0_row_7 : decode cX0_row 7 = .ok (.putfield 133, 3) := dk_181 0 133 (dk_at dksX0_row_0 7 rfl rfl)
theorem dX0_row_10 : decode cX0_row 10 = .ok (.iload_n 1, 1) := dk_27 (dk_at dksX0_row_0 10 rfl rfl)
theorem dX0_row_11 : decode cX0_row 11 = .ok (.ifCond .eq 18, 3) := dk_153 0 18 (dk_at dksX0_row_0 11 rfl rfl)
theorem dX0_row_14 : decode cX0_row 14 = .ok (.iload_n 1, 1) := dk_27 (dk_at dksX0_row_0 14 rfl rfl)
theorem dX0_row_15 : decode cX0_row 15 = .ok (.iconst 3, 1) := dk_6 (dk_at dksX0_row_0 15 rfl rfl)
theorem dX0_row_16 : decode cX0_row 16 = .ok (.iadd, 1) := dk_96 (dk_at dksX0_row_0 16 rfl rfl)
theorem dX0_row_17 : decode cX0_row 17 = .ok (.iconst 4, 1) := dk_7 (dk_at dksX0_row_0 17 rfl rfl)
theorem dX0_row_18 : decode cX0_row 18 = .ok (.idiv, 1) := dk_108 (dk_at dksX0_row_0 18 rfl rfl)
theorem dX0_row_19 : decode cX0_row 19 = .ok (.aload_n 0, 1) := dk_42 (dk_at dksX0_row_0 19 rfl rfl)
theorem dX0_row_20 : decode cX0_row 20 = .ok (.getfield 16, 3) := dk_180 0 16 (dk_at dksX0_row_0 20 rfl rfl)
theorem dX0_row_23 : decode cX0_row 23 = .ok (.getfield 107, 3) := dk_180 0 107 (dk_at dksX0_row_1 0 rfl rfl)
theorem dX0_row_26 : decode cX0_row 26 = .ok (.if_icmp .le 10, 3) := dk_164 0 10 (dk_at dksX0_row_1 3 rfl rfl)
theorem dX0_row_29 : decode cX0_row 29 = .ok (.aload_n 0, 1) := dk_42 (dk_at dksX0_row_1 6 rfl rfl)
theorem dX0_row_30 : decode cX0_row 30 = .ok (.bipush (-6), 2) := dk_16 250 (dk_at dksX0_row_1 7 rfl rfl)
theorem dX0_row_32 : decode cX0_row 32 = .ok (.invokevirtual 97, 3) := dk_182 0 97 (dk_at dksX0_row_1 9 rfl rfl)
theorem dX0_row_35 : decode cX0_row 35 = .ok (.ireturn, 1) := dk_172 (dk_at dksX0_row_1 12 rfl rfl)
theorem dX0_row_36 : decode cX0_row 36 = .ok (.iload_n 1, 1) := dk_27 (dk_at dksX0_row_1 13 rfl rfl)
theorem dX0_row_37 : decode cX0_row 37 = .ok (.newarray .byte, 2) := dk_188_8 (dk_at dksX0_row_1 14 rfl rfl)
theorem dX0_row_39 : decode cX0_row 39 = .ok (.astore_n 2, 1) := dk_77 (dk_at dksX0_row_1 16 rfl rfl)
theorem dX0_row_40 : decode cX0_row 40 = .ok (.aload_n 0, 1) := dk_42 (dk_at dksX0_row_1 17 rfl rfl)
theorem dX0_row_41 : decode cX0_row 41 = .ok (.getfield 24, 3) := dk_180 0 24 (dk_at dksX0_row_1 18 rfl rfl)
theorem dX0_row_44 : decode cX0_row 44 = .ok (.iconst 0, 1) := dk_3 (dk_at dksX0_row_1 21 rfl rfl)
theorem dX0_row_45 : decode cX0_row 45 = .ok (.aload_n 2, 1) := dk_44 (dk_at dksX0_row_1 22 rfl rfl)
theorem dX0_row_46 : decode cX0_row 46 = .ok (.iconst 0, 1) := dk_3 (dk_at dksX0_row_1 23 rfl rfl)
theorem dX0_row_47 : decode cX0_row 47 = .ok (.iload_n 1, 1) := dk_27 (dk_at dksX0_row_2 0 rfl rfl)
theorem dX0_row_48 : decode cX0_row 48 = .ok (.invokestatic 140, 3) := dk_184 0 140 (dk_at dksX0_row_2 1 rfl rfl)
theorem dX0_row_51 : decode cX0_row 51 = .ok (.iconst 0, 1) := dk_3 (dk_at dksX0_row_2 4 rfl rfl)
theorem dX0_row_52 : decode cX0_row 52 = .ok (.istore_n 3, 1) := dk_62 (dk_at dksX0_row_2 5 rfl rfl)
theorem dX0_row_53 : decode cX0_row 53 = .ok (.iconst 4, 1) := dk_7 (dk_at dksX0_row_2 6 rfl rfl)
theorem dX0_row_54 : decode cX0_row 54 = .ok (.iload_n 3, 1) := dk_29 (dk_at dksX0_row_2 7 rfl rfl)
theorem dX0_row_55 : decode cX0_row 55 = .ok (.imul, 1) := dk_104 (dk_at dksX0_row_2 8 rfl rfl)
theorem dX0_row_56 : decode cX0_row 56 = .ok (.iload_n 1, 1) := dk_27 (dk_at dksX0_row_2 9 rfl rfl)
theorem dX0_row_57 : decode cX0_row 57 = .ok (.if_icmp .ge 41, 3) := dk_162 0 41 (dk_at dksX0_row_2 10 rfl rfl)
theorem dX0_row_60 : decode cX0_row 60 = .ok (.aload_n 2, 1) := dk_44 (dk_at dksX0_row_2 13 rfl rfl)
theorem dX0_row_61 : decode cX0_row 61 = .ok (.iconst 4, 1) := dk_7 (dk_at dksX0_row_2 14 rfl rfl)
theorem dX0_row_62 : decode cX0_row 62 = .ok (.iload_n 3, 1) := dk_29 (dk_at dksX0_row_2 15 rfl rfl)
theorem dX0_row_63 : decode cX0_row 63 = .ok (.imul, 1) := dk_104 (dk_at dksX0_row_2 16 rfl rfl)
theorem dX0_row_64 : decode cX0_row 64 = .ok (.invokestatic 146, 3) := dk_184 0 146 (dk_at dksX0_row_2 17 rfl rfl)
theorem dX0_row_67 : decode cX0_row 67 = .ok (.istore 4, 2) := dk_54 4 (dk_at dksX0_row_2 20 rfl rfl)
theorem dX0_row_69 : decode cX0_row 69 = .ok (.aload_n 0, 1) := dk_42 (dk_at dksX0_row_2 22 rfl rfl)
theorem dX0_row_70 : decode cX0_row 70 = .ok (.getfield 16, 3) := dk_180 0 16 (dk_at dksX0_row_3 0 rfl rfl)
theorem dX0_row_73 : decode cX0_row 73 = .ok (.getfield 110, 3) := dk_180 0 110 (dk_at dksX0_row_3 3 rfl rfl)
theorem dX0_row_76 : decode cX0_row 76 = .ok (.iload_n 3, 1) := dk_29 (dk_at dksX0_row_3 6 rfl rfl)
theorem dX0_row_77 : decode cX0_row 77 = .ok (.iload 4, 2) := dk_21 4 (dk_at dksX0_row_3 7 rfl rfl)
theorem dX0_row_79 : decode cX0_row 79 = .ok (.invokestatic 120, 3) := dk_184 0 120 (dk_at dksX0_row_3 9 rfl rfl)
theorem dX0_row_82 : decode cX0_row 82 = .ok (.ifCond .eq 8, 3) := dk_153 0 8 (dk_at dksX0_row_3 12 rfl rfl)
theorem dX0_row_85 : decode cX0_row 85 = .ok (.iload 4, 2) := dk_21 4 (dk_at dksX0_row_3 15 rfl rfl)
theorem dX0_row_87 : decode cX0_row 87 = .ok (.goto 4, 3) := dk_167 0 4 (dk_at dksX0_row_3 17 rfl rfl)
theorem dX0_row_90 : decode cX0_row 90 = .ok (.iconst 1, 1) := dk_4 (dk_at dksX0_row_3 20 rfl rfl)
theorem dX0_row_91 : decode cX0_row 91 = .ok (.iastore, 1) := dk_79 (dk_at dksX0_row_3 21 rfl rfl)
theorem dX0_row_92 : decode cX0_row 92 = .ok (.iinc 3 1, 3) := dk_132 3 1 (dk_at dksX0_row_4 0 rfl rfl)
theorem dX0_row_95 : decode cX0_row 95 = .ok (.goto (-42), 3) := dk_167 255 214 (dk_at dksX0_row_4 3 rfl rfl)
theorem dX0_row_98 : decode cX0_row 98 = .ok (.goto 11, 3) := dk_167 0 11 (dk_at dksX0_row_4 6 rfl rfl)
theorem dX0_row_101 : decode cX0_row 101 = .ok (.astore 4, 2) := dk_58 4 (dk_at dksX0_row_4 9 rfl rfl)
theorem dX0_row_103 : decode cX0_row 103 = .ok (.aload_n 0, 1) := dk_42 (dk_at dksX0_row_4 11 rfl rfl)
theorem dX0_row_104 : decode cX0_row 104 = .ok (.iload_n 3, 1) := dk_29 (dk_at dksX0_row_4 12 rfl rfl)
theorem dX0_row_105 : decode cX0_row 105 = .ok (.invokevirtual 104, 3) := dk_182 0 104 (dk_at dksX0_row_4 13 rfl rfl)
theorem dX0_row_108 : decode cX0_row 108 = .ok (.ireturn, 1) := dk_172 (dk_at dksX0_row_4 16 rfl rfl)
theorem dX0_row_109 : decode cX0_row 109 = .ok (.aload_n 0, 1) := dk_42 (dk_at dksX0_row_4 17 rfl rfl)
theorem dX0_row_110 : decode cX0_row 110 = .ok (.iload_n 3, 1) := dk_29 (dk_at dksX0_row_4 18 rfl rfl)
theorem dX0_row_111 : decode cX0_row 111 = .ok (.invokevirtual 104, 3) := dk_182 0 104 (dk_at dksX0_row_4 19 rfl rfl)
theorem dX0_row_114 : decode cX0_row 114 = .ok (.ireturn, 1) := dk_172 (dk_at dksX0_row_4 22 rfl rfl)
abbrev cX0_whole : ByteArray := prog_1_method_19_code
def yX0_whole : MethodName := ⟨RX0, "whole", "([BI)I"⟩
def dkwX0_whole_1 : List UInt8 := [17, 0, 255, 126, 16, 8, 120, 128, 42, 27, 6, 96, 51, 17, 0, 255, 126, 128, 172]
abbrev dktX0_whole_1 : List UInt8 := dkwX0_whole_1 ++ []
def dkwX0_whole_0 : List UInt8 := [42, 27, 51, 16, 24, 120, 42, 27, 4, 96, 51, 17, 0, 255, 126, 16, 16, 120, 128, 42, 27, 5, 96, 51]
abbrev dktX0_whole_0 : List UInt8 := dkwX0_whole_0 ++ dktX0_whole_1
theorem dksX0_whole_0 : cX0_whole.data.toList.drop 0 = dktX0_whole_0 := by decide +kernel
theorem dksX0_whole_1 : cX0_whole.data.toList.drop 24 = dktX0_whole_1 := dk_seg dksX0_whole_0 24 rfl rfl
theorem dX0_whole_0 : decode cX0_whole 0 = .ok (.aload_n 0, 1) := dk_42 (dk_at dksX0_whole_0 0 rfl rfl)
theorem dX0_whole_1 : decode cX0_whole 1 = .ok (.iload_n 1, 1) := dk_27 (dk_at dksX0_whole_0 1 rfl rfl)
theorem dX0_whole_2 : decode cX0_whole 2 = .ok (.baload, 1) := dk_51 (dk_at dksX0_whole_0 2 rfl rfl)
theorem dX0_whole_3 : decode cX0_whole 3 = .ok (.bipush 24, 2) := dk_16 24 (dk_at dksX0_whole_0 3 rfl rfl)
theorem dX0_whole_5 : decode cX0_whole 5 = .ok (.ishl, 1) := dk_120 (dk_at dksX0_whole_0 5 rfl rfl)
theorem dX0_whole_6 : decode cX0_whole 6 = .ok (.aload_n 0, 1) := dk_42 (dk_at dksX0_whole_0 6 rfl rfl)
theorem dX0_whole_7 : decode cX0_whole 7 = .ok (.iload_n 1, 1) := dk_27 (dk_at dksX0_whole_0 7 rfl rfl)
theorem dX0_whole_8 : decode cX0_whole 8 = .ok (.iconst 1, 1) := dk_4 (dk_at dksX0_whole_0 8 rfl rfl)
theorem dX0_whole_9 : decode cX0_whole 9 = .ok (.iadd, 1) := dk_96 (dk_at dksX0_whole_0 9 rfl rfl)
theorem dX0_whole_10 : decode cX0_whole 10 = .ok (.baload, 1) := dk_51 (dk_at dksX0_whole_0 10 rfl rfl)
theorem dX0_whole_11 : decode cX0_whole 11 = .ok (.sipush 255, 3) := dk_17 0 255 (dk_at dksX0_whole_0 11 rfl rfl)
theorem dX0_whole_14 : decode cX0_whole 14 = .ok (.iand, 1) := dk_126 (dk_at dksX0_whole_0 14 rfl rfl)
theorem dX0_whole_15 : decode cX0_whole 15 = .ok (.bipush 16, 2) := dk_16 16 (dk_at dksX0_whole_0 15 rfl rfl)
theorem dX0_whole_17 : decode cX0_whole 17 = .ok (.ishl, 1) := dk_120 (dk_at dksX0_whole_0 17 rfl rfl)
theorem dX0_whole_18 : decode cX0_whole 18 = .ok (.ior, 1) := dk_128 (dk_at dksX0_whole_0 18 rfl rfl)
theorem dX0_whole_19 : decode cX0_whole 19 = .ok (.aload_n 0, 1) := dk_42 (dk_at dksX0_whole_0 19 rfl rfl)
theorem dX0_whole_20 : decode cX0_whole 20 = .ok (.iload_n 1, 1) := dk_27 (dk_at dksX0_whole_0 20 rfl rfl)
theorem dX0_whole_21 : decode cX0_whole 21 = .ok (.iconst 2, 1) := dk_5 (dk_at dksX0_whole_0 21 rfl rfl)
theorem dX0_whole_22 : decode cX0_whole 22 = .ok (.iadd, 1) := dk_96 (dk_at dksX0_whole_0 22 rfl rfl)
theorem dX0_whole_23 : decode cX0_whole 23 = .ok (.baload, 1) := dk_51 (dk_at dksX0_whole_0 23 rfl rfl)
theorem dX0_whole_24 : decode cX0_whole 24 = .ok (.sipush 255, 3) := dk_17 0 255 (dk_at dksX0_whole_1 0 rfl rfl)
theorem dX0_whole_27 : decode cX0_whole 27 = .ok (.iand, 1) := dk_126 (dk_at dksX0_whole_1 3 rfl rfl)
theorem dX0_whole_28 : decode cX0_whole 28 = .ok (.bipush 8, 2) := dk_16 8 (dk_at dksX0_whole_1 4 rfl rfl)
theorem dX0_whole_30 : decode cX0_whole 30 = .ok (.ishl, 1) := dk_120 (dk_at dksX0_whole_1 6 rfl rfl)
theorem dX0_whole_31 : decode cX0_whole 31 = .ok (.ior, 1) := dk_128 (dk_at dksX0_whole_1 7 rfl rfl)
theorem dX0_whole_32 : decode cX0_whole 32 = .ok (.aload_n 0, 1) := dk_42 (dk_at dksX0_whole_1 8 rfl rfl)
theorem dX0_whole_33 : decode cX0_whole 33 = .ok (.iload_n 1, 1) := dk_27 (dk_at dksX0_whole_1 9 rfl rfl)
theorem dX0_whole_34 : decode cX0_whole 34 = .ok (.iconst 3, 1) := dk_6 (dk_at dksX0_whole_1 10 rfl rfl)
theorem dX0_whole_35 : decode cX0_whole 35 = .ok (.iadd, 1) := dk_96 (dk_at dksX0_whole_1 11 rfl rfl)
theorem dX0_whole_36 : decode cX0_whole 36 = .ok (.baload, 1) := dk_51 (dk_at dksX0_whole_1 12 rfl rfl)
theorem dX0_whole_37 : decode cX0_whole 37 = .ok (.sipush 255, 3) := dk_17 0 255 (dk_at dksX0_whole_1 13 rfl rfl)
theorem dX0_whole_40 : decode cX0_whole 40 = .ok (.iand, 1) := dk_126 (dk_at dksX0_whole_1 16 rfl rfl)
theorem dX0_whole_41 : decode cX0_whole 41 = .ok (.ior, 1) := dk_128 (dk_at dksX0_whole_1 17 rfl rfl)
theorem dX0_whole_42 : decode cX0_whole 42 = .ok (.ireturn, 1) := dk_172 (dk_at dksX0_whole_1 18 rfl rfl)
abbrev cX0_recipe : ByteArray := prog_1_method_21_code
def yX0_recipe : MethodName := ⟨RX0, "recipe", "()I"⟩
def dkwX0_recipe_4 : List UInt8 := [180, 0, 152, 182, 0, 156, 4, 100, 182, 0, 104, 172]
abbrev dktX0_recipe_4 : List UInt8 := dkwX0_recipe_4 ++ []
def dkwX0_recipe_3 : List UInt8 := [181, 0, 28, 42, 180, 0, 16, 180, 0, 152, 44, 180, 0, 175, 182, 0, 178, 87, 42, 42, 180, 0, 16]
abbrev dktX0_recipe_3 : List UInt8 := dkwX0_recipe_3 ++ dktX0_recipe_4
def dkwX0_recipe_2 : List UInt8 := [182, 0, 167, 167, 0, 19, 78, 42, 45, 180, 0, 172, 181, 0, 28, 42, 16, 250, 182, 0, 97, 172, 42, 2]
abbrev dktX0_recipe_2 : List UInt8 := dkwX0_recipe_2 ++ dktX0_recipe_3
def dkwX0_recipe_1 : List UInt8 := [160, 0, 10, 42, 16, 251, 182, 0, 97, 172, 187, 0, 162, 89, 42, 180, 0, 24, 27, 183, 0, 164, 77, 44]
abbrev dktX0_recipe_1 : List UInt8 := dkwX0_recipe_1 ++ dktX0_recipe_2
def dkwX0_recipe_0 : List UInt8 := [42, 180, 0, 133, 60, 42, 3, 181, 0, 133, 42, 180, 0, 16, 180, 0, 152, 182, 0, 156, 16, 8]
abbrev dktX0_recipe_0 : List UInt8 := dkwX0_recipe_0 ++ dktX0_recipe_1
theorem dksX0_recipe_0 : cX0_recipe.data.toList.drop 0 = dktX0_recipe_0 := by decide +kernel
theorem dksX0_recipe_1 : cX0_recipe.data.toList.drop 22 = dktX0_recipe_1 := dk_seg dksX0_recipe_0 22 rfl rfl
theorem dksX0_recipe_2 : cX0_recipe.data.toList.drop 46 = dktX0_recipe_2 := dk_seg dksX0_recipe_1 24 rfl rfl
theorem dksX0_recipe_3 : cX0_recipe.data.toList.drop 70 = dktX0_recipe_3 := dk_seg dksX0_recipe_2 24 rfl rfl
theorem dksX0_recipe_4 : cX0_recipe.data.toList.drop 93 = dktX0_recipe_4 := dk_seg dksX0_recipe_3 23 rfl rfl
theorem dX0_recipe_0 : decode cX0_recipe 0 = .ok (.aload_n 0, 1) := dk_42 (dk_at dksX0_recipe_0 0 rfl rfl)
theorem dX0_recipe_1 : decode cX0_recipe 1 = .ok (.getfield 133, 3) := dk_180 0 133 (dk_at dksX0_recipe_0 1 rfl rfl)
theorem dX0_recipe_4 : decode cX0_recipe 4 = .ok (.istore_n 1, 1) := dk_60 (dk_at dksX0_recipe_0 4 rfl rfl)
theorem dX0_recipe_5 : decode cX0_recipe 5 = .ok (.aload_n 0, 1) := dk_42 (dk_at dksX0_recipe_0 5 rfl rfl)
theorem dX0_recipe_6 : decode cX0_recipe 6 = .ok (.iconst 0, 1) := dk_3 (dk_at dksX0_recipe_0 6 rfl rfl)
theorem dX0_recipe_7 : decode cX0_recipe 7 = .ok (.putfield 133, 3) := dk_181 0 133 (dk_at dksX0_recipe_0 7 rfl rfl)
theorem dX0_recipe_10 : decode cX0_recipe 10 = .ok (.aload_n 0, 1) := dk_42 (dk_at dksX0_recipe_0 10 rfl rfl)
theorem dX0_recipe_11 : decode cX0_recipe 11 = .ok (.getfield 16, 3) := dk_180 0 16 (dk_at dksX0_recipe_0 11 rfl rfl)
theorem dX0_recipe_14 : decode cX0_recipe 14 = .ok (.getfield 152, 3) := dk_180 0 152 (dk_at dksX0_recipe_0 14 rfl rfl)
theorem dX0_recipe_17 : decode cX0_recipe 17 = .ok (.invokevirtual 156, 3) := dk_182 0 156 (dk_at dksX0_recipe_0 17 rfl rfl)
theorem dX0_recipe_20 : decode cX0_recipe 20 = .ok (.bipush 8, 2) := dk_16 8 (dk_at dksX0_recipe_0 20 rfl rfl)
theorem dX0_recipe_22 : decode cX0_recipe 22 = .ok (.if_icmp .ne 10, 3) := dk_160 0 10 (dk_at dksX0_recipe_1 0 rfl rfl)
theorem dX0_recipe_25 : decode cX0_recipe 25 = .ok (.aload_n 0, 1) := dk_42 (dk_at dksX0_recipe_1 3 rfl rfl)
theorem dX0_recipe_26 : decode cX0_recipe 26 = .ok (.bipush (-5), 2) := dk_16 251 (dk_at dksX0_recipe_1 4 rfl rfl)
theorem dX0_recipe_28 : decode cX0_recipe 28 = .ok (.invokevirtual 97, 3) := dk_182 0 97 (dk_at dksX0_recipe_1 6 rfl rfl)
theorem dX0_recipe_31 : decode cX0_recipe 31 = .ok (.ireturn, 1) := dk_172 (dk_at dksX0_recipe_1 9 rfl rfl)
theorem dX0_recipe_32 : decode cX0_recipe 32 = .ok (.new 162, 3) := dk_187 0 162 (dk_at dksX0_recipe_1 10 rfl rfl)
theorem dX0_recipe_35 : decode cX0_recipe 35 = .ok (.dup, 1) := dk_89 (dk_at dksX0_recipe_1 13 rfl rfl)
theorem dX0_recipe_36 : decode cX0_recipe 36 = .ok (.aload_n 0, 1) := dk_42 (dk_at dksX0_recipe_1 14 rfl rfl)
theorem dX0_recipe_37 : decode cX0_recipe 37 = .ok (.getfield 24, 3) := dk_180 0 24 (dk_at dksX0_recipe_1 15 rfl rfl)
theorem dX0_recipe_40 : decode cX0_recipe 40 = .ok (.iload_n 1, 1) := dk_27 (dk_at dksX0_recipe_1 18 rfl rfl)
theorem dX0_recipe_41 : decode cX0_recipe 41 = .ok (.invokespecial 164, 3) := dk_183 0 164 (dk_at dksX0_recipe_1 19 rfl rfl)
theorem dX0_recipe_44 : decode cX0_recipe 44 = .ok (.astore_n 2, 1) := dk_77 (dk_at dksX0_recipe_1 22 rfl rfl)
theorem dX0_recipe_45 : decode cX0_recipe 45 = .ok (.aload_n 2, 1) := dk_44 (dk_at dksX0_recipe_1 23 rfl rfl)
theorem dX0_recipe_46 : decode cX0_recipe 46 = .ok (.invokevirtual 167, 3) := dk_182 0 167 (dk_at dksX0_recipe_2 0 rfl rfl)
theorem dX0_recipe_49 : decode cX0_recipe 49 = .ok (.goto 19, 3) := dk_167 0 19 (dk_at dksX0_recipe_2 3 rfl rfl)
theorem dX0_recipe_52 : decode cX0_recipe 52 = .ok (.astore_n 3, 1) := dk_78 (dk_at dksX0_recipe_2 6 rfl rfl)
theorem dX0_recipe_53 : decode cX0_recipe 53 = .ok (.aload_n 0, 1) := dk_42 (dk_at dksX0_recipe_2 7 rfl rfl)
theorem dX0_recipe_54 : decode cX0_recipe 54 = .ok (.aload_n 3, 1) := dk_45 (dk_at dksX0_recipe_2 8 rfl rfl)
theorem dX0_recipe_55 : decode cX0_recipe 55 = .ok (.getfield 172, 3) := dk_180 0 172 (dk_at dksX0_recipe_2 9 rfl rfl)
theorem dX0_recipe_58 : decode cX0_recipe 58 = .ok (.putfield 28, 3) := dk_181 0 28 (dk_at dksX0_recipe_2 12 rfl rfl)
theorem dX0_recipe_61 : decode cX0_recipe 61 = .ok (.aload_n 0, 1) := dk_42 (dk_at dksX0_recipe_2 15 rfl rfl)
theorem dX0_recipe_62 : decode cX0_recipe 62 = .ok (.bipush (-6), 2) := dk_16 250 (dk_at dksX0_recipe_2 16 rfl rfl)
theorem dX0_recipe_64 : decode cX0_recipe 64 = .ok (.invokevirtual 97, 3) := dk_182 0 97 (dk_at dksX0_recipe_2 18 rfl rfl)
theorem dX0_recipe_67 : decode cX0_recipe 67 = .ok (.ireturn, 1) := dk_172 (dk_at dksX0_recipe_2 21 rfl rfl)
theorem dX0_recipe_68 : decode cX0_recipe 68 = .ok (.aload_n 0, 1) := dk_42 (dk_at dksX0_recipe_2 22 rfl rfl)
theorem dX0_recipe_69 : decode cX0_recipe 69 = .ok (.iconst (-1), 1) := dk_2 (dk_at dksX0_recipe_2 23 rfl rfl)
theorem dX0_recipe_70 : decode cX0_recipe 70 = .ok (.putfield 28, 3) := dk_181 0 28 (dk_at dksX0_recipe_3 0 rfl rfl)
theorem dX0_recipe_73 : decode cX0_recipe 73 = .ok (.aload_n 0, 1) := dk_42 (dk_at dksX0_recipe_3 3 rfl rfl)
theorem dX0_recipe_74 : decode cX0_recipe 74 = .ok (.getfield 16, 3) := dk_180 0 16 (dk_at dksX0_recipe_3 4 rfl rfl)
theorem dX0_recipe_77 : decode cX0_recipe 77 = .ok (.getfield 152, 3) := dk_180 0 152 (dk_at dksX0_recipe_3 7 rfl rfl)
theorem dX0_recipe_80 : decode cX0_recipe 80 = .ok (.aload_n 2, 1) := dk_44 (dk_at dksX0_recipe_3 10 rfl rfl)
theorem dX0_recipe_81 : decode cX0_recipe 81 = .ok (.getfield 175, 3) := dk_180 0 175 (dk_at dksX0_recipe_3 11 rfl rfl)
theorem dX0_recipe_84 : decode cX0_recipe 84 = .ok (.invokevirtual 178, 3) := dk_182 0 178 (dk_at dksX0_recipe_3 14 rfl rfl)
theorem dX0_recipe_87 : decode cX0_recipe 87 = .ok (.pop, 1) := dk_87 (dk_at dksX0_recipe_3 17 rfl rfl)
theorem dX0_recipe_88 : decode cX0_recipe 88 = .ok (.aload_n 0, 1) := dk_42 (dk_at dksX0_recipe_3 18 rfl rfl)
theorem dX0_recipe_89 : decode cX0_recipe 89 = .ok (.aload_n 0, 1) := dk_42 (dk_at dksX0_recipe_3 19 rfl rfl)
theorem dX0_recipe_90 : decode cX0_recipe 90 = .ok (.getfield 16, 3) := dk_180 0 16 (dk_at dksX0_recipe_3 20 rfl rfl)
theorem dX0_recipe_93 : decode cX0_recipe 93 = .ok (.getfield 152, 3) := dk_180 0 152 (dk_at dksX0_recipe_4 0 rfl rfl)
theorem dX0_recipe_96 : decode cX0_recipe 96 = .ok (.invokevirtual 156, 3) := dk_182 0 156 (dk_at dksX0_recipe_4 3 rfl rfl)
theorem dX0_recipe_99 : decode cX0_recipe 99 = .ok (.iconst 1, 1) := dk_4 (dk_at dksX0_recipe_4 6 rfl rfl)
theorem dX0_recipe_100 : decode cX0_recipe 100 = .ok (.isub, 1) := dk_100 (dk_at dksX0_recipe_4 7 rfl rfl)
theorem dX0_recipe_101 : decode cX0_recipe 101 = .ok (.invokevirtual 104, 3) := dk_182 0 104 (dk_at dksX0_recipe_4 8 rfl rfl)
theorem dX0_recipe_104 : decode cX0_recipe 104 = .ok (.ireturn, 1) := dk_172 (dk_at dksX0_recipe_4 11 rfl rfl)
abbrev cX0_fault : ByteArray := prog_1_method_22_code
def yX0_fault : MethodName := ⟨RX0, "fault", "()I"⟩
theorem dX0_fault_0 : decode cX0_fault 0 = .ok (.aload_n 0, 1) := by decide +kernel
theorem dX0_fault_1 : decode cX0_fault 1 = .ok (.getfield 28, 3) := by decide +kernel
theorem dX0_fault_4 : decode cX0_fault 4 = .ok (.ireturn, 1) := by decide +kernel
abbrev cX0_steps : ByteArray := prog_1_method_24_code
def yX0_steps : MethodName := ⟨RX0, "steps", "(I)I"⟩
def dkwX0_steps_1 : List UInt8 := [182, 0, 156, 167, 0, 4, 2, 172]
abbrev dktX0_steps_1 : List UInt8 := dkwX0_steps_1 ++ []
def dkwX0_steps_0 : List UInt8 := [42, 27, 182, 0, 182, 153, 0, 23, 42, 180, 0, 16, 180, 0, 152, 27, 182, 0, 185, 192, 0, 157]
abbrev dktX0_steps_0 : List UInt8 := dkwX0_steps_0 ++ dktX0_steps_1
theorem dksX0_steps_0 : cX0_steps.data.toList.drop 0 = dktX0_steps_0 := by decide +kernel
theorem dksX0_steps_1 : cX0_steps.data.toList.drop 22 = dktX0_steps_1 := dk_seg dksX0_steps_0 22 rfl rfl
theorem dX0_steps_0 : decode cX0_steps 0 = .ok (.aload_n 0, 1) := dk_42 (dk_at dksX0_steps_0 0 rfl rfl)
theorem dX0_steps_1 : decode cX0_steps 1 = .ok (.iload_n 1, 1) := dk_27 (dk_at dksX0_steps_0 1 rfl rfl)
theorem dX0_steps_2 : decode cX0_steps 2 = .ok (.invokevirtual 182, 3) := dk_182 0 182 (dk_at dksX0_steps_0 2 rfl rfl)
theorem dX0_steps_5 : decode cX0_steps 5 = .ok (.ifCond .eq 23, 3) := dk_153 0 23 (dk_at dksX0_steps_0 5 rfl rfl)
theorem dX0_steps_8 : decode cX0_steps 8 = .ok (.aload_n 0, 1) := dk_42 (dk_at dksX0_steps_0 8 rfl rfl)
theorem dX0_steps_9 : decode cX0_steps 9 = .ok (.getfield 16, 3) := dk_180 0 16 (dk_at dksX0_steps_0 9 rfl rfl)
theorem dX0_steps_12 : decode cX0_steps 12 = .ok (.getfield 152, 3) := dk_180 0 152 (dk_at dksX0_steps_0 12 rfl rfl)
theorem dX0_steps_15 : decode cX0_steps 15 = .ok (.iload_n 1, 1) := dk_27 (dk_at dksX0_steps_0 15 rfl rfl)
theorem dX0_steps_16 : decode cX0_steps 16 = .ok (.invokevirtual 185, 3) := dk_182 0 185 (dk_at dksX0_steps_0 16 rfl rfl)
theorem dX0_steps_19 : decode cX0_steps 19 = .ok (.checkcast 157, 3) := dk_192 0 157 (dk_at dksX0_steps_0 19 rfl rfl)
theorem dX0_steps_22 : decode cX0_steps 22 = .ok (.invokevirtual 156, 3) := dk_182 0 156 (dk_at dksX0_steps_1 0 rfl rfl)
theorem dX0_steps_25 : decode cX0_steps 25 = .ok (.goto 4, 3) := dk_167 0 4 (dk_at dksX0_steps_1 3 rfl rfl)
theorem dX0_steps_28 : decode cX0_steps 28 = .ok (.iconst (-1), 1) := dk_2 (dk_at dksX0_steps_1 6 rfl rfl)
theorem dX0_steps_29 : decode cX0_steps 29 = .ok (.ireturn, 1) := dk_172 (dk_at dksX0_steps_1 7 rfl rfl)
abbrev cX0_isRecipe : ByteArray := prog_1_method_23_code
def yX0_isRecipe : MethodName := ⟨RX0, "isRecipe", "(I)Z"⟩
def dkwX0_isRecipe_0 : List UInt8 := [27, 155, 0, 21, 27, 42, 180, 0, 16, 180, 0, 152, 182, 0, 156, 162, 0, 7, 4, 167, 0, 4, 3, 172]
abbrev dktX0_isRecipe_0 : List UInt8 := dkwX0_isRecipe_0 ++ []
theorem dksX0_isRecipe_0 : cX0_isRecipe.data.toList.drop 0 = dktX0_isRecipe_0 := by decide +kernel
theorem dX0_isRecipe_0 : decode cX0_isRecipe 0 = .ok (.iload_n 1, 1) := dk_27 (dk_at dksX0_isRecipe_0 0 rfl rfl)
theorem dX0_isRecipe_1 : decode cX0_isRecipe 1 = .ok (.ifCond .lt 21, 3) := dk_155 0 21 (dk_at dksX0_isRecipe_0 1 rfl rfl)
theorem dX0_isRecipe_4 : decode cX0_isRecipe 4 = .ok (.iload_n 1, 1) := dk_27 (dk_at dksX0_isRecipe_0 4 rfl rfl)
theorem dX0_isRecipe_5 : decode cX0_isRecipe 5 = .ok (.aload_n 0, 1) := dk_42 (dk_at dksX0_isRecipe_0 5 rfl rfl)
theorem dX0_isRecipe_6 : decode cX0_isRecipe 6 = .ok (.getfield 16, 3) := dk_180 0 16 (dk_at dksX0_isRecipe_0 6 rfl rfl)
theorem dX0_isRecipe_9 : decode cX0_isRecipe 9 = .ok (.getfield 152, 3) := dk_180 0 152 (dk_at dksX0_isRecipe_0 9 rfl rfl)
theorem dX0_isRecipe_12 : decode cX0_isRecipe 12 = .ok (.invokevirtual 156, 3) := dk_182 0 156 (dk_at dksX0_isRecipe_0 12 rfl rfl)
theorem dX0_isRecipe_15 : decode cX0_isRecipe 15 = .ok (.if_icmp .ge 7, 3) := dk_162 0 7 (dk_at dksX0_isRecipe_0 15 rfl rfl)
theorem dX0_isRecipe_18 : decode cX0_isRecipe 18 = .ok (.iconst 1, 1) := dk_4 (dk_at dksX0_isRecipe_0 18 rfl rfl)
theorem dX0_isRecipe_19 : decode cX0_isRecipe 19 = .ok (.goto 4, 3) := dk_167 0 4 (dk_at dksX0_isRecipe_0 19 rfl rfl)
theorem dX0_isRecipe_22 : decode cX0_isRecipe 22 = .ok (.iconst 0, 1) := dk_3 (dk_at dksX0_isRecipe_0 22 rfl rfl)
theorem dX0_isRecipe_23 : decode cX0_isRecipe 23 = .ok (.ireturn, 1) := dk_172 (dk_at dksX0_isRecipe_0 23 rfl rfl)
abbrev cX0_run : ByteArray := prog_1_method_26_code
def yX0_run : MethodName := ⟨RX0, "run", "(I)I"⟩
def dkwX0_run_1 : List UInt8 := [180, 0, 35, 27, 2, 1, 182, 0, 208, 182, 0, 89, 172]
abbrev dktX0_run_1 : List UInt8 := dkwX0_run_1 ++ []
def dkwX0_run_0 : List UInt8 := [42, 27, 182, 0, 182, 154, 0, 10, 42, 16, 254, 182, 0, 97, 172, 42, 4, 181, 0, 204, 42, 42, 42]
abbrev dktX0_run_0 : List UInt8 := dkwX0_run_0 ++ dktX0_run_1
theorem dksX0_run_0 : cX0_run.data.toList.drop 0 = dktX0_run_0 := by decide +kernel
theorem dksX0_run_1 : cX0_run.data.toList.drop 23 = dktX0_run_1 := dk_seg dksX0_run_0 23 rfl rfl
theorem dX0_run_0 : decode cX0_run 0 = .ok (.aload_n 0, 1) := dk_42 (dk_at dksX0_run_0 0 rfl rfl)
theorem dX0_run_1 : decode cX0_run 1 = .ok (.iload_n 1, 1) := dk_27 (dk_at dksX0_run_0 1 rfl rfl)
theorem dX0_run_2 : decode cX0_run 2 = .ok (.invokevirtual 182, 3) := dk_182 0 182 (dk_at dksX0_run_0 2 rfl rfl)
theorem dX0_run_5 : decode cX0_run 5 = .ok (.ifCond .ne 10, 3) := dk_154 0 10 (dk_at dksX0_run_0 5 rfl rfl)
theorem dX0_run_8 : decode cX0_run 8 = .ok (.aload_n 0, 1) := dk_42 (dk_at dksX0_run_0 8 rfl rfl)
theorem dX0_run_9 : decode cX0_run 9 = .ok (.bipush (-2), 2) := dk_16 254 (dk_at dksX0_run_0 9 rfl rfl)
theorem dX0_run_11 : decode cX0_run 11 = .ok (.invokevirtual 97, 3) := dk_182 0 97 (dk_at dksX0_run_0 11 rfl rfl)
theorem dX0_run_14 : decode cX0_run 14 = .ok (.ireturn, 1) := dk_172 (dk_at dksX0_run_0 14 rfl rfl)
theorem dX0_run_15 : decode cX0_run 15 = .ok (.aload_n 0, 1) := dk_42 (dk_at dksX0_run_0 15 rfl rfl)
theorem dX0_run_16 : decode cX0_run 16 = .ok (.iconst 1, 1) := dk_4 (dk_at dksX0_run_0 16 rfl rfl)
theorem dX0_run_17 : decode cX0_run 17 = .ok (.putfield 204, 3) := dk_181 0 204 (dk_at dksX0_run_0 17 rfl rfl)
theorem dX0_run_20 : decode cX0_run 20 = .ok (.aload_n 0, 1) := dk_42 (dk_at dksX0_run_0 20 rfl rfl)
theorem dX0_run_21 : decode cX0_run 21 = .ok (.aload_n 0, 1) := dk_42 (dk_at dksX0_run_0 21 rfl rfl)
theorem dX0_run_22 : decode cX0_run 22 = .ok (.aload_n 0, 1) := dk_42 (dk_at dksX0_run_0 22 rfl rfl)
theorem dX0_run_23 : decode cX0_run 23 = .ok (.getfield 35, 3) := dk_180 0 35 (dk_at dksX0_run_1 0 rfl rfl)
theorem dX0_run_26 : decode cX0_run 26 = .ok (.iload_n 1, 1) := dk_27 (dk_at dksX0_run_1 3 rfl rfl)
theorem dX0_run_27 : decode cX0_run 27 = .ok (.iconst (-1), 1) := dk_2 (dk_at dksX0_run_1 4 rfl rfl)
theorem dX0_run_28 : decode cX0_run 28 = .ok (.aconst_null, 1) := dk_1 (dk_at dksX0_run_1 5 rfl rfl)
theorem dX0_run_29 : decode cX0_run 29 = .ok (.invokevirtual 208, 3) := dk_182 0 208 (dk_at dksX0_run_1 6 rfl rfl)
theorem dX0_run_32 : decode cX0_run 32 = .ok (.invokevirtual 89, 3) := dk_182 0 89 (dk_at dksX0_run_1 9 rfl rfl)
theorem dX0_run_35 : decode cX0_run 35 = .ok (.ireturn, 1) := dk_172 (dk_at dksX0_run_1 12 rfl rfl)
abbrev cX0_goes : ByteArray := prog_1_method_25_code
def yX0_goes : MethodName := ⟨RX0, "goes", "(LHotIron$Work;IILHotIron$Hand;)I"⟩
def dkwX0_goes_6 : List UInt8 := [167, 0, 7, 21, 6, 4, 96, 54, 6, 132, 7, 1, 167, 255, 162, 21, 7, 172]
abbrev dktX0_goes_6 : List UInt8 := dkwX0_goes_6 ++ []
def dkwX0_goes_5 : List UInt8 := [192, 0, 194, 58, 8, 25, 8, 43, 182, 0, 196, 153, 0, 14, 25, 8, 43, 21, 6, 182, 0, 200]
abbrev dktX0_goes_5 : List UInt8 := dkwX0_goes_5 ++ dktX0_goes_6
def dkwX0_goes_4 : List UInt8 := [29, 155, 0, 18, 21, 6, 29, 4, 96, 160, 0, 10, 21, 6, 4, 100, 167, 0, 5, 21, 6, 182, 0, 185]
abbrev dktX0_goes_4 : List UInt8 := dkwX0_goes_4 ++ dktX0_goes_5
def dkwX0_goes_3 : List UInt8 := [16, 100, 162, 0, 83, 25, 5, 29, 155, 0, 16, 21, 6, 29, 160, 0, 10, 21, 6, 4, 96, 167, 0, 24]
abbrev dktX0_goes_3 : List UInt8 := dkwX0_goes_3 ++ dktX0_goes_4
def dkwX0_goes_2 : List UInt8 := [43, 25, 4, 181, 0, 193, 3, 54, 6, 3, 54, 7, 21, 6, 25, 5, 182, 0, 156, 162, 0, 90, 21, 7]
abbrev dktX0_goes_2 : List UInt8 := dkwX0_goes_2 ++ dktX0_goes_3
def dkwX0_goes_1 : List UInt8 := [42, 180, 0, 16, 180, 0, 107, 42, 180, 0, 16, 180, 0, 127, 42, 180, 0, 16, 180, 0, 130, 182, 0, 189]
abbrev dktX0_goes_1 : List UInt8 := dkwX0_goes_1 ++ dktX0_goes_2
def dkwX0_goes_0 : List UInt8 := [42, 180, 0, 16, 180, 0, 152, 28, 182, 0, 185, 192, 0, 157, 58, 5, 43, 42, 180, 0, 16, 180, 0, 110]
abbrev dktX0_goes_0 : List UInt8 := dkwX0_goes_0 ++ dktX0_goes_1
theorem dksX0_goes_0 : cX0_goes.data.toList.drop 0 = dktX0_goes_0 := by decide +kernel
theorem dksX0_goes_1 : cX0_goes.data.toList.drop 24 = dktX0_goes_1 := dk_seg dksX0_goes_0 24 rfl rfl
theorem dksX0_goes_2 : cX0_goes.data.toList.drop 48 = dktX0_goes_2 := dk_seg dksX0_goes_1 24 rfl rfl
theorem dksX0_goes_3 : cX0_goes.data.toList.drop 72 = dktX0_goes_3 := dk_seg dksX0_goes_2 24 rfl rfl
theorem dksX0_goes_4 : cX0_goes.data.toList.drop 96 = dktX0_goes_4 := dk_seg dksX0_goes_3 24 rfl rfl
theorem dksX0_goes_5 : cX0_goes.data.toList.drop 120 = dktX0_goes_5 := dk_seg dksX0_goes_4 24 rfl rfl
theorem dksX0_goes_6 : cX0_goes.data.toList.drop 142 = dktX0_goes_6 := dk_seg dksX0_goes_5 22 rfl rfl
theorem dX0_goes_0 : decode cX0_goes 0 = .ok (.aload_n 0, 1) := dk_42 (dk_at dksX0_goes_0 0 rfl rfl)
theorem dX0_goes_1 : decode cX0_goes 1 = .ok (.getfield 16, 3) := dk_180 0 16 (dk_at dksX0_goes_0 1 rfl rfl)
theorem dX0_goes_4 : decode cX0_goes 4 = .ok (.getfield 152, 3) := dk_180 0 152 (dk_at dksX0_goes_0 4 rfl rfl)
theorem dX0_goes_7 : decode cX0_goes 7 = .ok (.iload_n 2, 1) := dk_28 (dk_at dksX0_goes_0 7 rfl rfl)
theorem dX0_goes_8 : decode cX0_goes 8 = .ok (.invokevirtual 185, 3) := dk_182 0 185 (dk_at dksX0_goes_0 8 rfl rfl)
theorem dX0_goes_11 : decode cX0_goes 11 = .ok (.checkcast 157, 3) := dk_192 0 157 (dk_at dksX0_goes_0 11 rfl rfl)
theorem dX0_goes_14 : decode cX0_goes 14 = .ok (.astore 5, 2) := dk_58 5 (dk_at dksX0_goes_0 14 rfl rfl)
theorem dX0_goes_16 : decode cX0_goes 16 = .ok (.aload_n 1, 1) := dk_43 (dk_at dksX0_goes_0 16 rfl rfl)
theorem dX0_goes_17 : decode cX0_goes 17 = .ok (.aload_n 0, 1) := dk_42 (dk_at dksX0_goes_0 17 rfl rfl)
theorem dX0_goes_18 : decode cX0_goes 18 = .ok (.getfield 16, 3) := dk_180 0 16 (dk_at dksX0_goes_0 18 rfl rfl)
theorem dX0_goes_21 : decode cX0_goes 21 = .ok (.getfield 110, 3) := dk_180 0 110 (dk_at dksX0_goes_0 21 rfl rfl)
theorem dX0_goes_24 : decode cX0_goes 24 = .ok (.aload_n 0, 1) := dk_42 (dk_at dksX0_goes_1 0 rfl rfl)
theorem dX0_goes_25 : decode cX0_goes 25 = .ok (.getfield 16, 3) := dk_180 0 16 (dk_at dksX0_goes_1 1 rfl rfl)
theorem dX0_goes_28 : decode cX0_goes 28 = .ok (.getfield 107, 3) := dk_180 0 107 (dk_at dksX0_goes_1 4 rfl rfl)
theorem dX0_goes_31 : decode cX0_goes 31 = .ok (.aload_n 0, 1) := dk_42 (dk_at dksX0_goes_1 7 rfl rfl)
theorem dX0_goes_32 : decode cX0_goes 32 = .ok (.getfield 16, 3) := dk_180 0 16 (dk_at dksX0_goes_1 8 rfl rfl)
theorem dX0_goes_35 : decode cX0_goes 35 = .ok (.getfield 127, 3) := dk_180 0 127 (dk_at dksX0_goes_1 11 rfl rfl)
theorem dX0_goes_38 : decode cX0_goes 38 = .ok (.aload_n 0, 1) := dk_42 (dk_at dksX0_goes_1 14 rfl rfl)
theorem dX0_goes_39 : decode cX0_goes 39 = .ok (.getfield 16, 3) := dk_180 0 16 (dk_at dksX0_goes_1 15 rfl rfl)
theorem dX0_goes_42 : decode cX0_goes 42 = .ok (.getfield 130, 3) := dk_180 0 130 (dk_at dksX0_goes_1 18 rfl rfl)
theorem dX0_goes_45 : decode cX0_goes 45 = .ok (.invokevirtual 189, 3) := dk_182 0 189 (dk_at dksX0_goes_1 21 rfl rfl)
theorem dX0_goes_48 : decode cX0_goes 48 = .ok (.aload_n 1, 1) := dk_43 (dk_at dksX0_goes_2 0 rfl rfl)
theorem dX0_goes_49 : decode cX0_goes 49 = .ok (.aload 4, 2) := dk_25 4 (dk_at dksX0_goes_2 1 rfl rfl)
theorem dX0_goes_51 : decode cX0_goes 51 = .ok (.putfield 193, 3) := dk_181 0 193 (dk_at dksX0_goes_2 3 rfl rfl)
theorem dX0_goes_54 : decode cX0_goes 54 = .ok (.iconst 0, 1) := dk_3 (dk_at dksX0_goes_2 6 rfl rfl)
theorem dX0_goes_55 : decode cX0_goes 55 = .ok (.istore 6, 2) := dk_54 6 (dk_at dksX0_goes_2 7 rfl rfl)
theorem dX0_goes_57 : decode cX0_goes 57 = .ok (.iconst 0, 1) := dk_3 (dk_at dksX0_goes_2 9 rfl rfl)
theorem dX0_goes_58 : decode cX0_goes 58 = .ok (.istore 7, 2) := dk_54 7 (dk_at dksX0_goes_2 10 rfl rfl)
theorem dX0_goes_60 : decode cX0_goes 60 = .ok (.iload 6, 2) := dk_21 6 (dk_at dksX0_goes_2 12 rfl rfl)
theorem dX0_goes_62 : decode cX0_goes 62 = .ok (.aload 5, 2) := dk_25 5 (dk_at dksX0_goes_2 14 rfl rfl)
theorem dX0_goes_64 : decode cX0_goes 64 = .ok (.invokevirtual 156, 3) := dk_182 0 156 (dk_at dksX0_goes_2 16 rfl rfl)
theorem dX0_goes_67 : decode cX0_goes 67 = .ok (.if_icmp .ge 90, 3) := dk_162 0 90 (dk_at dksX0_goes_2 19 rfl rfl)
theorem dX0_goes_70 : decode cX0_goes 70 = .ok (.iload 7, 2) := dk_21 7 (dk_at dksX0_goes_2 22 rfl rfl)
theorem dX0_goes_72 : decode cX0_goes 72 = .ok (.bipush 100, 2) := dk_16 100 (dk_at dksX0_goes_3 0 rfl rfl)
theorem dX0_goes_74 : decode cX0_goes 74 = .ok (.if_icmp .ge 83, 3) := dk_162 0 83 (dk_at dksX0_goes_3 2 rfl rfl)
theorem dX0_goes_77 : decode cX0_goes 77 = .ok (.aload 5, 2) := dk_25 5 (dk_at dksX0_goes_3 5 rfl rfl)
theorem dX0_goes_79 : decode cX0_goes 79 = .ok (.iload_n 3, 1) := dk_29 (dk_at dksX0_goes_3 7 rfl rfl)
theorem dX0_goes_80 : decode cX0_goes 80 = .ok (.ifCond .lt 16, 3) := dk_155 0 16 (dk_at dksX0_goes_3 8 rfl rfl)
theorem dX0_goes_83 : decode cX0_goes 83 = .ok (.iload 6, 2) := dk_21 6 (dk_at dksX0_goes_3 11 rfl rfl)
theorem dX0_goes_85 : decode cX0_goes 85 = .ok (.iload_n 3, 1) := dk_29 (dk_at dksX0_goes_3 13 rfl rfl)
theorem dX0_goes_86 : decode cX0_goes 86 = .ok (.if_icmp .ne 10, 3) := dk_160 0 10 (dk_at dksX0_goes_3 14 rfl rfl)
theorem dX0_goes_89 : decode cX0_goes 89 = .ok (.iload 6, 2) := dk_21 6 (dk_at dksX0_goes_3 17 rfl rfl)
theorem dX0_goes_91 : decode cX0_goes 91 = .ok (.iconst 1, 1) := dk_4 (dk_at dksX0_goes_3 19 rfl rfl)
theorem dX0_goes_92 : decode cX0_goes 92 = .ok (.iadd, 1) := dk_96 (dk_at dksX0_goes_3 20 rfl rfl)
theorem dX0_goes_93 : decode cX0_goes 93 = .ok (.goto 24, 3) := dk_167 0 24 (dk_at dksX0_goes_3 21 rfl rfl)
theorem dX0_goes_96 : decode cX0_goes 96 = .ok (.iload_n 3, 1) := dk_29 (dk_at dksX0_goes_4 0 rfl rfl)
theorem dX0_goes_97 : decode cX0_goes 97 = .ok (.ifCond .lt 18, 3) := dk_155 0 18 (dk_at dksX0_goes_4 1 rfl rfl)
theorem dX0_goes_100 : decode cX0_goes 100 = .ok (.iload 6, 2) := dk_21 6 (dk_at dksX0_goes_4 4 rfl rfl)
theorem dX0_goes_102 : decode cX0_goes 102 = .ok (.iload_n 3, 1) := dk_29 (dk_at dksX0_goes_4 6 rfl rfl)
theorem dX0_goes_103 : decode cX0_goes 103 = .ok (.iconst 1, 1) := dk_4 (dk_at dksX0_goes_4 7 rfl rfl)
theorem dX0_goes_104 : decode cX0_goes 104 = .ok (.iadd, 1) := dk_96 (dk_at dksX0_goes_4 8 rfl rfl)
theorem dX0_goes_105 : decode cX0_goes 105 = .ok (.if_icmp .ne 10, 3) := dk_160 0 10 (dk_at dksX0_goes_4 9 rfl rfl)
theorem dX0_goes_108 : decode cX0_goes 108 = .ok (.iload 6, 2) := dk_21 6 (dk_at dksX0_goes_4 12 rfl rfl)
theorem dX0_goes_110 : decode cX0_goes 110 = .ok (.iconst 1, 1) := dk_4 (dk_at dksX0_goes_4 14 rfl rfl)
theorem dX0_goes_111 : decode cX0_goes 111 = .ok (.isub, 1) := dk_100 (dk_at dksX0_goes_4 15 rfl rfl)
theorem dX0_goes_112 : decode cX0_goes 112 = .ok (.goto 5, 3) := dk_167 0 5 (dk_at dksX0_goes_4 16 rfl rfl)
theorem dX0_goes_115 : decode cX0_goes 115 = .ok (.iload 6, 2) := dk_21 6 (dk_at dksX0_goes_4 19 rfl rfl)
theorem dX0_goes_117 : decode cX0_goes 117 = .ok (.invokevirtual 185, 3) := dk_182 0 185 (dk_at dksX0_goes_4 21 rfl rfl)
theorem dX0_goes_120 : decode cX0_goes 120 = .ok (.checkcast 194, 3) := dk_192 0 194 (dk_at dksX0_goes_5 0 rfl rfl)
theorem dX0_goes_123 : decode cX0_goes 123 = .ok (.astore 8, 2) := dk_58 8 (dk_at dksX0_goes_5 3 rfl rfl)
theorem dX0_goes_125 : decode cX0_goes 125 = .ok (.aload 8, 2) := dk_25 8 (dk_at dksX0_goes_5 5 rfl rfl)
theorem dX0_goes_127 : decode cX0_goes 127 = .ok (.aload_n 1, 1) := dk_43 (dk_at dksX0_goes_5 7 rfl rfl)
theorem dX0_goes_128 : decode cX0_goes 128 = .ok (.invokevirtual 196, 3) := dk_182 0 196 (dk_at dksX0_goes_5 8 rfl rfl)
theorem dX0_goes_131 : decode cX0_goes 131 = .ok (.ifCond .eq 14, 3) := dk_153 0 14 (dk_at dksX0_goes_5 11 rfl rfl)
theorem dX0_goes_134 : decode cX0_goes 134 = .ok (.aload 8, 2) := dk_25 8 (dk_at dksX0_goes_5 14 rfl rfl)
theorem dX0_goes_136 : decode cX0_goes 136 = .ok (.aload_n 1, 1) := dk_43 (dk_at dksX0_goes_5 16 rfl rfl)
theorem dX0_goes_137 : decode cX0_goes 137 = .ok (.iload 6, 2) := dk_21 6 (dk_at dksX0_goes_5 17 rfl rfl)
theorem dX0_goes_139 : decode cX0_goes 139 = .ok (.invokevirtual 200, 3) := dk_182 0 200 (dk_at dksX0_goes_5 19 rfl rfl)
theorem dX0_goes_142 : decode cX0_goes 142 = .ok (.goto 7, 3) := dk_167 0 7 (dk_at dksX0_goes_6 0 rfl rfl)
theorem dX0_goes_145 : decode cX0_goes 145 = .ok (.iload 6, 2) := dk_21 6 (dk_at dksX0_goes_6 3 rfl rfl)
theorem dX0_goes_147 : decode cX0_goes 147 = .ok (.iconst 1, 1) := dk_4 (dk_at dksX0_goes_6 5 rfl rfl)
theorem dX0_goes_148 : decode cX0_goes 148 = .ok (.iadd, 1) := dk_96 (dk_at dksX0_goes_6 6 rfl rfl)
theorem dX0_goes_149 : decode cX0_goes 149 = .ok (.istore 6, 2) := dk_54 6 (dk_at dksX0_goes_6 7 rfl rfl)
theorem dX0_goes_151 : decode cX0_goes 151 = .ok (.iinc 7 1, 3) := dk_132 7 1 (dk_at dksX0_goes_6 9 rfl rfl)
theorem dX0_goes_154 : decode cX0_goes 154 = .ok (.goto (-94), 3) := dk_167 255 162 (dk_at dksX0_goes_6 12 rfl rfl)
theorem dX0_goes_157 : decode cX0_goes 157 = .ok (.iload 7, 2) := dk_21 7 (dk_at dksX0_goes_6 15 rfl rfl)
theorem dX0_goes_159 : decode cX0_goes 159 = .ok (.ireturn, 1) := dk_172 (dk_at dksX0_goes_6 17 rfl rfl)
abbrev cX0_came : ByteArray := prog_1_method_27_code
def yX0_came : MethodName := ⟨RX0, "came", "(I)I"⟩
def dkwX0_came_8 : List UInt8 := [180, 0, 130, 6, 46, 104, 96, 172, 17, 252, 24, 172]
abbrev dktX0_came_8 : List UInt8 := dkwX0_came_8 ++ []
def dkwX0_came_7 : List UInt8 := [180, 0, 212, 42, 180, 0, 16, 180, 0, 130, 5, 46, 104, 42, 180, 0, 35, 180, 0, 215, 42, 180, 0, 16]
abbrev dktX0_came_7 : List UInt8 := dkwX0_came_7 ++ dktX0_came_8
def dkwX0_came_6 : List UInt8 := [42, 180, 0, 35, 180, 0, 212, 42, 180, 0, 16, 180, 0, 130, 4, 46, 104, 172, 42, 180, 0, 35]
abbrev dktX0_came_6 : List UInt8 := dkwX0_came_6 ++ dktX0_came_7
def dkwX0_came_5 : List UInt8 := [42, 180, 0, 35, 180, 0, 239, 172, 42, 180, 0, 35, 180, 0, 242, 172, 42, 180, 0, 35, 180, 0, 245, 172]
abbrev dktX0_came_5 : List UInt8 := dkwX0_came_5 ++ dktX0_came_6
def dkwX0_came_4 : List UInt8 := [42, 180, 0, 35, 180, 0, 230, 172, 42, 180, 0, 35, 180, 0, 233, 172, 42, 180, 0, 35, 180, 0, 236, 172]
abbrev dktX0_came_4 : List UInt8 := dkwX0_came_4 ++ dktX0_came_5
def dkwX0_came_3 : List UInt8 := [42, 180, 0, 35, 180, 0, 221, 172, 42, 180, 0, 35, 180, 0, 224, 172, 42, 180, 0, 35, 180, 0, 227, 172]
abbrev dktX0_came_3 : List UInt8 := dkwX0_came_3 ++ dktX0_came_4
def dkwX0_came_2 : List UInt8 := [42, 180, 0, 35, 180, 0, 212, 172, 42, 180, 0, 35, 180, 0, 215, 172, 42, 180, 0, 35, 180, 0, 218, 172]
abbrev dktX0_came_2 : List UInt8 := dkwX0_came_2 ++ dktX0_came_3
def dkwX0_came_1 : List UInt8 := [170, 0, 0, 0, 0, 0, 0, 222, 0, 0, 0, 0, 0, 0, 0, 13, 0, 0, 0, 72, 0, 0, 0, 80, 0, 0, 0, 88, 0, 0, 0, 96, 0, 0, 0, 104, 0, 0, 0, 112, 0, 0, 0, 120, 0, 0, 0, 128, 0, 0, 0, 136, 0, 0, 0, 144, 0, 0, 0, 152, 0, 0, 0, 160, 0, 0, 0, 168, 0, 0, 0, 186]
abbrev dktX0_came_1 : List UInt8 := dkwX0_came_1 ++ dktX0_came_2
def dkwX0_came_0 : List UInt8 := [42, 180, 0, 204, 154, 0, 7, 17, 252, 24, 172, 27]
abbrev dktX0_came_0 : List UInt8 := dkwX0_came_0 ++ dktX0_came_1
theorem dksX0_came_0 : cX0_came.data.toList.drop 0 = dktX0_came_0 := by decide +kernel
theorem dksX0_came_1 : cX0_came.data.toList.drop 12 = dktX0_came_1 := dk_seg dksX0_came_0 12 rfl rfl
theorem dksX0_came_2 : cX0_came.data.toList.drop 84 = dktX0_came_2 := dk_seg dksX0_came_1 72 rfl rfl
theorem dksX0_came_3 : cX0_came.data.toList.drop 108 = dktX0_came_3 := dk_seg dksX0_came_2 24 rfl rfl
theorem dksX0_came_4 : cX0_came.data.toList.drop 132 = dktX0_came_4 := dk_seg dksX0_came_3 24 rfl rfl
theorem dksX0_came_5 : cX0_came.data.toList.drop 156 = dktX0_came_5 := dk_seg dksX0_came_4 24 rfl rfl
theorem dksX0_came_6 : cX0_came.data.toList.drop 180 = dktX0_came_6 := dk_seg dksX0_came_5 24 rfl rfl
theorem dksX0_came_7 : cX0_came.data.toList.drop 202 = dktX0_came_7 := dk_seg dksX0_came_6 22 rfl rfl
theorem dksX0_came_8 : cX0_came.data.toList.drop 226 = dktX0_came_8 := dk_seg dksX0_came_7 24 rfl rfl
theorem dX0_came_0 : decode cX0_came 0 = .ok (.aload_n 0, 1) := dk_42 (dk_at dksX0_came_0 0 rfl rfl)
theorem dX0_came_1 : decode cX0_came 1 = .ok (.getfield 204, 3) := dk_180 0 204 (dk_at dksX0_came_0 1 rfl rfl)
theorem dX0_came_4 : decode cX0_came 4 = .ok (.ifCond .ne 7, 3) := dk_154 0 7 (dk_at dksX0_came_0 4 rfl rfl)
theorem dX0_came_7 : decode cX0_came 7 = .ok (.sipush (-1000), 3) := dk_17 252 24 (dk_at dksX0_came_0 7 rfl rfl)
theorem dX0_came_10 : decode cX0_came 10 = .ok (.ireturn, 1) := dk_172 (dk_at dksX0_came_0 10 rfl rfl)
theorem dX0_came_11 : decode cX0_came 11 = .ok (.iload_n 1, 1) := dk_27 (dk_at dksX0_came_0 11 rfl rfl)
theorem dX0_came_12 : decode cX0_came 12 = .ok (.tableswitch 222 0 13 #[72, 80, 88, 96, 104, 112, 120, 128, 136, 144, 152, 160, 168, 186], 72) := by decide +kernel
theorem dX0_came_84 : decode cX0_came 84 = .ok (.aload_n 0, 1) := dk_42 (dk_at dksX0_came_2 0 rfl rfl)
theorem dX0_came_85 : decode cX0_came 85 = .ok (.getfield 35, 3) := dk_180 0 35 (dk_at dksX0_came_2 1 rfl rfl)
theorem dX0_came_88 : decode cX0_came 88 = .ok (.getfield 212, 3) := dk_180 0 212 (dk_at dksX0_came_2 4 rfl rfl)
theorem dX0_came_91 : decode cX0_came 91 = .ok (.ireturn, 1) := dk_172 (dk_at dksX0_came_2 7 rfl rfl)
theorem dX0_came_92 : decode cX0_came 92 = .ok (.aload_n 0, 1) := dk_42 (dk_at dksX0_came_2 8 rfl rfl)
theorem dX0_came_93 : decode cX0_came 93 = .ok (.getfield 35, 3) := dk_180 0 35 (dk_at dksX0_came_2 9 rfl rfl)
theorem dX0_came_96 : decode cX0_came 96 = .ok (.getfield 215, 3) := dk_180 0 215 (dk_at dksX0_came_2 12 rfl rfl)
theorem dX0_came_99 : decode cX0_came 99 = .ok (.ireturn, 1) := dk_172 (dk_at dksX0_came_2 15 rfl rfl)
theorem dX0_came_100 : decode cX0_came 100 = .ok (.aload_n 0, 1) := dk_42 (dk_at dksX0_came_2 16 rfl rfl)
theorem dX0_came_101 : decode cX0_came 101 = .ok (.getfield 35, 3) := dk_180 0 35 (dk_at dksX0_came_2 17 rfl rfl)
theorem dX0_came_104 : decode cX0_came 104 = .ok (.getfield 218, 3) := dk_180 0 218 (dk_at dksX0_came_2 20 rfl rfl)
theorem dX0_came_107 : decode cX0_came 107 = .ok (.ireturn, 1) := dk_172 (dk_at dksX0_came_2 23 rfl rfl)
theorem dX0_came_108 : decode cX0_came 108 = .ok (.aload_n 0, 1) := dk_42 (dk_at dksX0_came_3 0 rfl rfl)
theorem dX0_came_109 : decode cX0_came 109 = .ok (.getfield 35, 3) := dk_180 0 35 (dk_at dksX0_came_3 1 rfl rfl)
theorem dX0_came_112 : decode cX0_came 112 = .ok (.getfield 221, 3) := dk_180 0 221 (dk_at dksX0_came_3 4 rfl rfl)
theorem dX0_came_115 : decode cX0_came 115 = .ok (.ireturn, 1) := dk_172 (dk_at dksX0_came_3 7 rfl rfl)
theorem dX0_came_116 : decode cX0_came 116 = .ok (.aload_n 0, 1) := dk_42 (dk_at dksX0_came_3 8 rfl rfl)
theorem dX0_came_117 : decode cX0_came 117 = .ok (.getfield 35, 3) := dk_180 0 35 (dk_at dksX0_came_3 9 rfl rfl)
theorem dX0_came_120 : decode cX0_came 120 = .ok (.getfield 224, 3) := dk_180 0 224 (dk_at dksX0_came_3 12 rfl rfl)
theorem dX0_came_123 : decode cX0_came 123 = .ok (.ireturn, 1) := dk_172 (dk_at dksX0_came_3 15 rfl rfl)
theorem dX0_came_124 : decode cX0_came 124 = .ok (.aload_n 0, 1) := dk_42 (dk_at dksX0_came_3 16 rfl rfl)
theorem dX0_came_125 : decode cX0_came 125 = .ok (.getfield 35, 3) := dk_180 0 35 (dk_at dksX0_came_3 17 rfl rfl)
theorem dX0_came_128 : decode cX0_came 128 = .ok (.getfield 227, 3) := dk_180 0 227 (dk_at dksX0_came_3 20 rfl rfl)
theorem dX0_came_131 : decode cX0_came 131 = .ok (.ireturn, 1) := dk_172 (dk_at dksX0_came_3 23 rfl rfl)
theorem dX0_came_132 : decode cX0_came 132 = .ok (.aload_n 0, 1) := dk_42 (dk_at dksX0_came_4 0 rfl rfl)
theorem dX0_came_133 : decode cX0_came 133 = .ok (.getfield 35, 3) := dk_180 0 35 (dk_at dksX0_came_4 1 rfl rfl)
theorem dX0_came_136 : decode cX0_came 136 = .ok (.getfield 230, 3) := dk_180 0 230 (dk_at dksX0_came_4 4 rfl rfl)
theorem dX0_came_139 : decode cX0_came 139 = .ok (.ireturn, 1) := dk_172 (dk_at dksX0_came_4 7 rfl rfl)
theorem dX0_came_140 : decode cX0_came 140 = .ok (.aload_n 0, 1) := dk_42 (dk_at dksX0_came_4 8 rfl rfl)
theorem dX0_came_141 : decode cX0_came 141 = .ok (.getfield 35, 3) := dk_180 0 35 (dk_at dksX0_came_4 9 rfl rfl)
theorem dX0_came_144 : decode cX0_came 144 = .ok (.getfield 233, 3) := dk_180 0 233 (dk_at dksX0_came_4 12 rfl rfl)
theorem dX0_came_147 : decode cX0_came 147 = .ok (.ireturn, 1) := dk_172 (dk_at dksX0_came_4 15 rfl rfl)
theorem dX0_came_148 : decode cX0_came 148 = .ok (.aload_n 0, 1) := dk_42 (dk_at dksX0_came_4 16 rfl rfl)
theorem dX0_came_149 : decode cX0_came 149 = .ok (.getfield 35, 3) := dk_180 0 35 (dk_at dksX0_came_4 17 rfl rfl)
theorem dX0_came_152 : decode cX0_came 152 = .ok (.getfield 236, 3) := dk_180 0 236 (dk_at dksX0_came_4 20 rfl rfl)
theorem dX0_came_155 : decode cX0_came 155 = .ok (.ireturn, 1) := dk_172 (dk_at dksX0_came_4 23 rfl rfl)
theorem dX0_came_156 : decode cX0_came 156 = .ok (.aload_n 0, 1) := dk_42 (dk_at dksX0_came_5 0 rfl rfl)
theorem dX0_came_157 : decode cX0_came 157 = .ok (.getfield 35, 3) := dk_180 0 35 (dk_at dksX0_came_5 1 rfl rfl)
theorem dX0_came_160 : decode cX0_came 160 = .ok (.getfield 239, 3) := dk_180 0 239 (dk_at dksX0_came_5 4 rfl rfl)
theorem dX0_came_163 : decode cX0_came 163 = .ok (.ireturn, 1) := dk_172 (dk_at dksX0_came_5 7 rfl rfl)
theorem dX0_came_164 : decode cX0_came 164 = .ok (.aload_n 0, 1) := dk_42 (dk_at dksX0_came_5 8 rfl rfl)
theorem dX0_came_165 : decode cX0_came 165 = .ok (.getfield 35, 3) := dk_180 0 35 (dk_at dksX0_came_5 9 rfl rfl)
theorem dX0_came_168 : decode cX0_came 168 = .ok (.getfield 242, 3) := dk_180 0 242 (dk_at dksX0_came_5 12 rfl rfl)
theorem dX0_came_171 : decode cX0_came 171 = .ok (.ireturn, 1) := dk_172 (dk_at dksX0_came_5 15 rfl rfl)
theorem dX0_came_172 : decode cX0_came 172 = .ok (.aload_n 0, 1) := dk_42 (dk_at dksX0_came_5 16 rfl rfl)
theorem dX0_came_173 : decode cX0_came 173 = .ok (.getfield 35, 3) := dk_180 0 35 (dk_at dksX0_came_5 17 rfl rfl)
theorem dX0_came_176 : decode cX0_came 176 = .ok (.getfield 245, 3) := dk_180 0 245 (dk_at dksX0_came_5 20 rfl rfl)
theorem dX0_came_179 : decode cX0_came 179 = .ok (.ireturn, 1) := dk_172 (dk_at dksX0_came_5 23 rfl rfl)
theorem dX0_came_180 : decode cX0_came 180 = .ok (.aload_n 0, 1) := dk_42 (dk_at dksX0_came_6 0 rfl rfl)
theorem dX0_came_181 : decode cX0_came 181 = .ok (.getfield 35, 3) := dk_180 0 35 (dk_at dksX0_came_6 1 rfl rfl)
theorem dX0_came_184 : decode cX0_came 184 = .ok (.getfield 212, 3) := dk_180 0 212 (dk_at dksX0_came_6 4 rfl rfl)
theorem dX0_came_187 : decode cX0_came 187 = .ok (.aload_n 0, 1) := dk_42 (dk_at dksX0_came_6 7 rfl rfl)
theorem dX0_came_188 : decode cX0_came 188 = .ok (.getfield 16, 3) := dk_180 0 16 (dk_at dksX0_came_6 8 rfl rfl)
theorem dX0_came_191 : decode cX0_came 191 = .ok (.getfield 130, 3) := dk_180 0 130 (dk_at dksX0_came_6 11 rfl rfl)
theorem dX0_came_194 : decode cX0_came 194 = .ok (.iconst 1, 1) := dk_4 (dk_at dksX0_came_6 14 rfl rfl)
theorem dX0_came_195 : decode cX0_came 195 = .ok (.iaload, 1) := dk_46 (dk_at dksX0_came_6 15 rfl rfl)
theorem dX0_came_196 : decode cX0_came 196 = .ok (.imul, 1) := dk_104 (dk_at dksX0_came_6 16 rfl rfl)
theorem dX0_came_197 : decode cX0_came 197 = .ok (.ireturn, 1) := dk_172 (dk_at dksX0_came_6 17 rfl rfl)
theorem dX0_came_198 : decode cX0_came 198 = .ok (.aload_n 0, 1) := dk_42 (dk_at dksX0_came_6 18 rfl rfl)
theorem dX0_came_199 : decode cX0_came 199 = .ok (.getfield 35, 3) := dk_180 0 35 (dk_at dksX0_came_6 19 rfl rfl)
theorem dX0_came_202 : decode cX0_came 202 = .ok (.getfield 212, 3) := dk_180 0 212 (dk_at dksX0_came_7 0 rfl rfl)
theorem dX0_came_205 : decode cX0_came 205 = .ok (.aload_n 0, 1) := dk_42 (dk_at dksX0_came_7 3 rfl rfl)
theorem dX0_came_206 : decode cX0_came 206 = .ok (.getfield 16, 3) := dk_180 0 16 (dk_at dksX0_came_7 4 rfl rfl)
theorem dX0_came_209 : decode cX0_came 209 = .ok (.getfield 130, 3) := dk_180 0 130 (dk_at dksX0_came_7 7 rfl rfl)
theorem dX0_came_212 : decode cX0_came 212 = .ok (.iconst 2, 1) := dk_5 (dk_at dksX0_came_7 10 rfl rfl)
theorem dX0_came_213 : decode cX0_came 213 = .ok (.iaload, 1) := dk_46 (dk_at dksX0_came_7 11 rfl rfl)
theorem dX0_came_214 : decode cX0_came 214 = .ok (.imul, 1) := dk_104 (dk_at dksX0_came_7 12 rfl rfl)
theorem dX0_came_215 : decode cX0_came 215 = .ok (.aload_n 0, 1) := dk_42 (dk_at dksX0_came_7 13 rfl rfl)
theorem dX0_came_216 : decode cX0_came 216 = .ok (.getfield 35, 3) := dk_180 0 35 (dk_at dksX0_came_7 14 rfl rfl)
theorem dX0_came_219 : decode cX0_came 219 = .ok (.getfield 215, 3) := dk_180 0 215 (dk_at dksX0_came_7 17 rfl rfl)
theorem dX0_came_222 : decode cX0_came 222 = .ok (.aload_n 0, 1) := dk_42 (dk_at dksX0_came_7 20 rfl rfl)
theorem dX0_came_223 : decode cX0_came 223 = .ok (.getfield 16, 3) := dk_180 0 16 (dk_at dksX0_came_7 21 rfl rfl)
theorem dX0_came_226 : decode cX0_came 226 = .ok (.getfield 130, 3) := dk_180 0 130 (dk_at dksX0_came_8 0 rfl rfl)
theorem dX0_came_229 : decode cX0_came 229 = .ok (.iconst 3, 1) := dk_6 (dk_at dksX0_came_8 3 rfl rfl)
theorem dX0_came_230 : decode cX0_came 230 = .ok (.iaload, 1) := dk_46 (dk_at dksX0_came_8 4 rfl rfl)
theorem dX0_came_231 : decode cX0_came 231 = .ok (.imul, 1) := dk_104 (dk_at dksX0_came_8 5 rfl rfl)
theorem dX0_came_232 : decode cX0_came 232 = .ok (.iadd, 1) := dk_96 (dk_at dksX0_came_8 6 rfl rfl)
theorem dX0_came_233 : decode cX0_came 233 = .ok (.ireturn, 1) := dk_172 (dk_at dksX0_came_8 7 rfl rfl)
theorem dX0_came_234 : decode cX0_came 234 = .ok (.sipush (-1000), 3) := dk_17 252 24 (dk_at dksX0_came_8 8 rfl rfl)
theorem dX0_came_237 : decode cX0_came 237 = .ok (.ireturn, 1) := dk_172 (dk_at dksX0_came_8 11 rfl rfl)
abbrev cX0_iron : ByteArray := prog_1_method_28_code
def yX0_iron : MethodName := ⟨RX0, "iron", "(I)I"⟩
def dkwX0_iron_1 : List UInt8 := [180, 0, 249, 27, 46, 167, 0, 4, 2, 172]
abbrev dktX0_iron_1 : List UInt8 := dkwX0_iron_1 ++ []
def dkwX0_iron_0 : List UInt8 := [42, 180, 0, 204, 153, 0, 26, 42, 180, 0, 35, 27, 182, 0, 248, 153, 0, 15, 42, 180, 0, 35]
abbrev dktX0_iron_0 : List UInt8 := dkwX0_iron_0 ++ dktX0_iron_1
theorem dksX0_iron_0 : cX0_iron.data.toList.drop 0 = dktX0_iron_0 := by decide +kernel
theorem dksX0_iron_1 : cX0_iron.data.toList.drop 22 = dktX0_iron_1 := dk_seg dksX0_iron_0 22 rfl rfl
theorem dX0_iron_0 : decode cX0_iron 0 = .ok (.aload_n 0, 1) := dk_42 (dk_at dksX0_iron_0 0 rfl rfl)
theorem dX0_iron_1 : decode cX0_iron 1 = .ok (.getfield 204, 3) := dk_180 0 204 (dk_at dksX0_iron_0 1 rfl rfl)
theorem dX0_iron_4 : decode cX0_iron 4 = .ok (.ifCond .eq 26, 3) := dk_153 0 26 (dk_at dksX0_iron_0 4 rfl rfl)
theorem dX0_iron_7 : decode cX0_iron 7 = .ok (.aload_n 0, 1) := dk_42 (dk_at dksX0_iron_0 7 rfl rfl)
theorem dX0_iron_8 : decode cX0_iron 8 = .ok (.getfield 35, 3) := dk_180 0 35 (dk_at dksX0_iron_0 8 rfl rfl)
theorem dX0_iron_11 : decode cX0_iron 11 = .ok (.iload_n 1, 1) := dk_27 (dk_at dksX0_iron_0 11 rfl rfl)
theorem dX0_iron_12 : decode cX0_iron 12 = .ok (.invokevirtual 248, 3) := dk_182 0 248 (dk_at dksX0_iron_0 12 rfl rfl)
theorem dX0_iron_15 : decode cX0_iron 15 = .ok (.ifCond .eq 15, 3) := dk_153 0 15 (dk_at dksX0_iron_0 15 rfl rfl)
theorem dX0_iron_18 : decode cX0_iron 18 = .ok (.aload_n 0, 1) := dk_42 (dk_at dksX0_iron_0 18 rfl rfl)
theorem dX0_iron_19 : decode cX0_iron 19 = .ok (.getfield 35, 3) := dk_180 0 35 (dk_at dksX0_iron_0 19 rfl rfl)
theorem dX0_iron_22 : decode cX0_iron 22 = .ok (.getfield 249, 3) := dk_180 0 249 (dk_at dksX0_iron_1 0 rfl rfl)
theorem dX0_iron_25 : decode cX0_iron 25 = .ok (.iload_n 1, 1) := dk_27 (dk_at dksX0_iron_1 3 rfl rfl)
theorem dX0_iron_26 : decode cX0_iron 26 = .ok (.iaload, 1) := dk_46 (dk_at dksX0_iron_1 4 rfl rfl)
theorem dX0_iron_27 : decode cX0_iron 27 = .ok (.goto 4, 3) := dk_167 0 4 (dk_at dksX0_iron_1 5 rfl rfl)
theorem dX0_iron_30 : decode cX0_iron 30 = .ok (.iconst (-1), 1) := dk_2 (dk_at dksX0_iron_1 8 rfl rfl)
theorem dX0_iron_31 : decode cX0_iron 31 = .ok (.ireturn, 1) := dk_172 (dk_at dksX0_iron_1 9 rfl rfl)
abbrev cX0_welds : ByteArray := prog_1_method_30_code
def yX0_welds : MethodName := ⟨RX0, "welds", "(I)J"⟩
def dkwX0_welds_4 : List UInt8 := [32, 22, 6, 109, 167, 0, 8, 22, 4, 22, 6, 109, 173]
abbrev dktX0_welds_4 : List UInt8 := dkwX0_welds_4 ++ []
def dkwX0_welds_3 : List UInt8 := [20, 1, 1, 105, 55, 4, 132, 6, 1, 167, 255, 207, 32, 22, 4, 184, 1, 3, 55, 6, 27, 154, 0, 10]
abbrev dktX0_welds_3 : List UInt8 := dkwX0_welds_3 ++ dktX0_welds_4
def dkwX0_welds_2 : List UInt8 := [154, 0, 6, 167, 0, 25, 32, 42, 180, 0, 35, 180, 0, 254, 21, 6, 46, 133, 105, 65, 22, 4]
abbrev dktX0_welds_2 : List UInt8 := dkwX0_welds_2 ++ dktX0_welds_3
def dkwX0_welds_1 : List UInt8 := [55, 4, 3, 54, 6, 21, 6, 8, 162, 0, 49, 42, 180, 0, 35, 180, 0, 239, 21, 6, 122, 4, 126]
abbrev dktX0_welds_1 : List UInt8 := dkwX0_welds_1 ++ dktX0_welds_2
def dkwX0_welds_0 : List UInt8 := [42, 180, 0, 204, 153, 0, 12, 27, 3, 4, 184, 0, 93, 154, 0, 7, 20, 0, 252, 173, 10, 65, 10]
abbrev dktX0_welds_0 : List UInt8 := dkwX0_welds_0 ++ dktX0_welds_1
theorem dksX0_welds_0 : cX0_welds.data.toList.drop 0 = dktX0_welds_0 := by decide +kernel
theorem dksX0_welds_1 : cX0_welds.data.toList.drop 23 = dktX0_welds_1 := dk_seg dksX0_welds_0 23 rfl rfl
theorem dksX0_welds_2 : cX0_welds.data.toList.drop 46 = dktX0_welds_2 := dk_seg dksX0_welds_1 23 rfl rfl
theorem dksX0_welds_3 : cX0_welds.data.toList.drop 68 = dktX0_welds_3 := dk_seg dksX0_welds_2 22 rfl rfl
theorem dksX0_welds_4 : cX0_welds.data.toList.drop 92 = dktX0_welds_4 := dk_seg dksX0_welds_3 24 rfl rfl
theorem dX0_welds_0 : decode cX0_welds 0 = .ok (.aload_n 0, 1) := dk_42 (dk_at dksX0_welds_0 0 rfl rfl)
theorem dX0_welds_1 : decode cX0_welds 1 = .ok (.getfield 204, 3) := dk_180 0 204 (dk_at dksX0_welds_0 1 rfl rfl)
theorem dX0_welds_4 : decode cX0_welds 4 = .ok (.ifCond .eq 12, 3) := dk_153 0 12 (dk_at dksX0_welds_0 4 rfl rfl)
theorem dX0_welds_7 : decode cX0_welds 7 = .ok (.iload_n 1, 1) := dk_27 (dk_at dksX0_welds_0 7 rfl rfl)
theorem dX0_welds_8 : decode cX0_welds 8 = .ok (.iconst 0, 1) := dk_3 (dk_at dksX0_welds_0 8 rfl rfl)
theorem dX0_welds_9 : decode cX0_welds 9 = .ok (.iconst 1, 1) := dk_4 (dk_at dksX0_welds_0 9 rfl rfl)
theorem dX0_welds_10 : decode cX0_welds 10 = .ok (.invokestatic 93, 3) := dk_184 0 93 (dk_at dksX0_welds_0 10 rfl rfl)
theorem dX0_welds_13 : decode cX0_welds 13 = .ok (.ifCond .ne 7, 3) := dk_154 0 7 (dk_at dksX0_welds_0 13 rfl rfl)
theorem dX0_welds_16 : decode cX0_welds 16 = .ok (.ldc2_w 252, 3) := dk_20 0 252 (dk_at dksX0_welds_0 16 rfl rfl)
theorem dX0_welds_19 : decode cX0_welds 19 = .ok (.lreturn, 1) := dk_173 (dk_at dksX0_welds_0 19 rfl rfl)
theorem dX0_welds_20 : decode cX0_welds 20 = .ok (.lconst 1, 1) := dk_10 (dk_at dksX0_welds_0 20 rfl rfl)
theorem dX0_welds_21 : decode cX0_welds 21 = .ok (.lstore_n 2, 1) := dk_65 (dk_at dksX0_welds_0 21 rfl rfl)
theorem dX0_welds_22 : decode cX0_welds 22 = .ok (.lconst 1, 1) := dk_10 (dk_at dksX0_welds_0 22 rfl rfl)
theorem dX0_welds_23 : decode cX0_welds 23 = .ok (.lstore 4, 2) := dk_55 4 (dk_at dksX0_welds_1 0 rfl rfl)
theorem dX0_welds_25 : decode cX0_welds 25 = .ok (.iconst 0, 1) := dk_3 (dk_at dksX0_welds_1 2 rfl rfl)
theorem dX0_welds_26 : decode cX0_welds 26 = .ok (.istore 6, 2) := dk_54 6 (dk_at dksX0_welds_1 3 rfl rfl)
theorem dX0_welds_28 : decode cX0_welds 28 = .ok (.iload 6, 2) := dk_21 6 (dk_at dksX0_welds_1 5 rfl rfl)
theorem dX0_welds_30 : decode cX0_welds 30 = .ok (.iconst 5, 1) := dk_8 (dk_at dksX0_welds_1 7 rfl rfl)
theorem dX0_welds_31 : decode cX0_welds 31 = .ok (.if_icmp .ge 49, 3) := dk_162 0 49 (dk_at dksX0_welds_1 8 rfl rfl)
theorem dX0_welds_34 : decode cX0_welds 34 = .ok (.aload_n 0, 1) := dk_42 (dk_at dksX0_welds_1 11 rfl rfl)
theorem dX0_welds_35 : decode cX0_welds 35 = .ok (.getfield 35, 3) := dk_180 0 35 (dk_at dksX0_welds_1 12 rfl rfl)
theorem dX0_welds_38 : decode cX0_welds 38 = .ok (.getfield 239, 3) := dk_180 0 239 (dk_at dksX0_welds_1 15 rfl rfl)
theorem dX0_welds_41 : decode cX0_welds 41 = .ok (.iload 6, 2) := dk_21 6 (dk_at dksX0_welds_1 18 rfl rfl)
theorem dX0_welds_43 : decode cX0_welds 43 = .ok (.ishr, 1) := dk_122 (dk_at dksX0_welds_1 20 rfl rfl)
theorem dX0_welds_44 : decode cX0_welds 44 = .ok (.iconst 1, 1) := dk_4 (dk_at dksX0_welds_1 21 rfl rfl)
theorem dX0_welds_45 : decode cX0_welds 45 = .ok (.iand, 1) := dk_126 (dk_at dksX0_welds_1 22 rfl rfl)
theorem dX0_welds_46 : decode cX0_welds 46 = .ok (.ifCond .ne 6, 3) := dk_154 0 6 (dk_at dksX0_welds_2 0 rfl rfl)
theorem dX0_welds_49 : decode cX0_welds 49 = .ok (.goto 25, 3) := dk_167 0 25 (dk_at dksX0_welds_2 3 rfl rfl)
theorem dX0_welds_52 : decode cX0_welds 52 = .ok (.lload_n 2, 1) := dk_32 (dk_at dksX0_welds_2 6 rfl rfl)
theorem dX0_welds_53 : decode cX0_welds 53 = .ok (.aload_n 0, 1) := dk_42 (dk_at dksX0_welds_2 7 rfl rfl)
theorem dX0_welds_54 : decode cX0_welds 54 = .ok (.getfield 35, 3) := dk_180 0 35 (dk_at dksX0_welds_2 8 rfl rfl)
theorem dX0_welds_57 : decode cX0_welds 57 = .ok (.getfield 254, 3) := dk_180 0 254 (dk_at dksX0_welds_2 11 rfl rfl)
theorem dX0_welds_60 : decode cX0_welds 60 = .ok (.iload 6, 2) := dk_21 6 (dk_at dksX0_welds_2 14 rfl rfl)
theorem dX0_welds_62 : decode cX0_welds 62 = .ok (.iaload, 1) := dk_46 (dk_at dksX0_welds_2 16 rfl rfl)
theorem dX0_welds_63 : decode cX0_welds 63 = .ok (.i2l, 1) := dk_133 (dk_at dksX0_welds_2 17 rfl rfl)
theorem dX0_welds_64 : decode cX0_welds 64 = .ok (.lmul, 1) := dk_105 (dk_at dksX0_welds_2 18 rfl rfl)
theorem dX0_welds_65 : decode cX0_welds 65 = .ok (.lstore_n 2, 1) := dk_65 (dk_at dksX0_welds_2 19 rfl rfl)
theorem dX0_welds_66 : decode cX0_welds 66 = .ok (.lload 4, 2) := dk_22 4 (dk_at dksX0_welds_2 20 rfl rfl)
theorem dX0_welds_68 : decode cX0_welds 68 = .ok (.ldc2_w 257, 3) := dk_20 1 1 (dk_at dksX0_welds_3 0 rfl rfl)
theorem dX0_welds_71 : decode cX0_welds 71 = .ok (.lmul, 1) := dk_105 (dk_at dksX0_welds_3 3 rfl rfl)
theorem dX0_welds_72 : decode cX0_welds 72 = .ok (.lstore 4, 2) := dk_55 4 (dk_at dksX0_welds_3 4 rfl rfl)
theorem dX0_welds_74 : decode cX0_welds 74 = .ok (.iinc 6 1, 3) := dk_132 6 1 (dk_at dksX0_welds_3 6 rfl rfl)
theorem dX0_welds_77 : decode cX0_welds 77 = .ok (.goto (-49), 3) := dk_167 255 207 (dk_at dksX0_welds_3 9 rfl rfl)
theorem dX0_welds_80 : decode cX0_welds 80 = .ok (.lload_n 2, 1) := dk_32 (dk_at dksX0_welds_3 12 rfl rfl)
theorem dX0_welds_81 : decode cX0_welds 81 = .ok (.lload 4, 2) := dk_22 4 (dk_at dksX0_welds_3 13 rfl rfl)
theorem dX0_welds_83 : decode cX0_welds 83 = .ok (.invokestatic 259, 3) := dk_184 1 3 (dk_at dksX0_welds_3 15 rfl rfl)
theorem dX0_welds_86 : decode cX0_welds 86 = .ok (.lstore 6, 2) := dk_55 6 (dk_at dksX0_welds_3 18 rfl rfl)
theorem dX0_welds_88 : decode cX0_welds 88 = .ok (.iload_n 1, 1) := dk_27 (dk_at dksX0_welds_3 20 rfl rfl)
theorem dX0_welds_89 : decode cX0_welds 89 = .ok (.ifCond .ne 10, 3) := dk_154 0 10 (dk_at dksX0_welds_3 21 rfl rfl)
theorem dX0_welds_92 : decode cX0_welds 92 = .ok (.lload_n 2, 1) := dk_32 (dk_at dksX0_welds_4 0 rfl rfl)
theorem dX0_welds_93 : decode cX0_welds 93 = .ok (.lload 6, 2) := dk_22 6 (dk_at dksX0_welds_4 1 rfl rfl)
theorem dX0_welds_95 : decode cX0_welds 95 = .ok (.ldiv, 1) := dk_109 (dk_at dksX0_welds_4 3 rfl rfl)
theorem dX0_welds_96 : decode cX0_welds 96 = .ok (.goto 8, 3) := dk_167 0 8 (dk_at dksX0_welds_4 4 rfl rfl)
theorem dX0_welds_99 : decode cX0_welds 99 = .ok (.lload 4, 2) := dk_22 4 (dk_at dksX0_welds_4 7 rfl rfl)
theorem dX0_welds_101 : decode cX0_welds 101 = .ok (.lload 6, 2) := dk_22 6 (dk_at dksX0_welds_4 9 rfl rfl)
theorem dX0_welds_103 : decode cX0_welds 103 = .ok (.ldiv, 1) := dk_109 (dk_at dksX0_welds_4 11 rfl rfl)
theorem dX0_welds_104 : decode cX0_welds 104 = .ok (.lreturn, 1) := dk_173 (dk_at dksX0_welds_4 12 rfl rfl)
abbrev cX0_common : ByteArray := prog_1_method_29_code
def yX0_common : MethodName := ⟨RX0, "common", "(JJ)J"⟩
def dkwX0_common_1 : List UInt8 := [22, 8, 55, 6, 167, 255, 234, 22, 4, 173]
abbrev dktX0_common_1 : List UInt8 := dkwX0_common_1 ++ []
def dkwX0_common_0 : List UInt8 := [30, 55, 4, 32, 55, 6, 22, 6, 9, 148, 153, 0, 21, 22, 4, 22, 6, 113, 55, 8, 22, 6, 55, 4]
abbrev dktX0_common_0 : List UInt8 := dkwX0_common_0 ++ dktX0_common_1
theorem dksX0_common_0 : cX0_common.data.toList.drop 0 = dktX0_common_0 := by decide +kernel
theorem dksX0_common_1 : cX0_common.data.toList.drop 24 = dktX0_common_1 := dk_seg dksX0_common_0 24 rfl rfl
theorem dX0_common_0 : decode cX0_common 0 = .ok (.lload_n 0, 1) := dk_30 (dk_at dksX0_common_0 0 rfl rfl)
theorem dX0_common_1 : decode cX0_common 1 = .ok (.lstore 4, 2) := dk_55 4 (dk_at dksX0_common_0 1 rfl rfl)
theorem dX0_common_3 : decode cX0_common 3 = .ok (.lload_n 2, 1) := dk_32 (dk_at dksX0_common_0 3 rfl rfl)
theorem dX0_common_4 : decode cX0_common 4 = .ok (.lstore 6, 2) := dk_55 6 (dk_at dksX0_common_0 4 rfl rfl)
theorem dX0_common_6 : decode cX0_common 6 = .ok (.lload 6, 2) := dk_22 6 (dk_at dksX0_common_0 6 rfl rfl)
theorem dX0_common_8 : decode cX0_common 8 = .ok (.lconst 0, 1) := dk_9 (dk_at dksX0_common_0 8 rfl rfl)
theorem dX0_common_9 : decode cX0_common 9 = .ok (.lcmp, 1) := dk_148 (dk_at dksX0_common_0 9 rfl rfl)
theorem dX0_common_10 : decode cX0_common 10 = .ok (.ifCond .eq 21, 3) := dk_153 0 21 (dk_at dksX0_common_0 10 rfl rfl)
theorem dX0_common_13 : decode cX0_common 13 = .ok (.lload 4, 2) := dk_22 4 (dk_at dksX0_common_0 13 rfl rfl)
theorem dX0_common_15 : decode cX0_common 15 = .ok (.lload 6, 2) := dk_22 6 (dk_at dksX0_common_0 15 rfl rfl)
theorem dX0_common_17 : decode cX0_common 17 = .ok (.lrem, 1) := dk_113 (dk_at dksX0_common_0 17 rfl rfl)
theorem dX0_common_18 : decode cX0_common 18 = .ok (.lstore 8, 2) := dk_55 8 (dk_at dksX0_common_0 18 rfl rfl)
theorem dX0_common_20 : decode cX0_common 20 = .ok (.lload 6, 2) := dk_22 6 (dk_at dksX0_common_0 20 rfl rfl)
theorem dX0_common_22 : decode cX0_common 22 = .ok (.lstore 4, 2) := dk_55 4 (dk_at dksX0_common_0 22 rfl rfl)
theorem dX0_common_24 : decode cX0_common 24 = .ok (.lload 8, 2) := dk_22 8 (dk_at dksX0_common_1 0 rfl rfl)
theorem dX0_common_26 : decode cX0_common 26 = .ok (.lstore 6, 2) := dk_55 6 (dk_at dksX0_common_1 2 rfl rfl)
theorem dX0_common_28 : decode cX0_common 28 = .ok (.goto (-22), 3) := dk_167 255 234 (dk_at dksX0_common_1 4 rfl rfl)
theorem dX0_common_31 : decode cX0_common 31 = .ok (.lload 4, 2) := dk_22 4 (dk_at dksX0_common_1 7 rfl rfl)
theorem dX0_common_33 : decode cX0_common 33 = .ok (.lreturn, 1) := dk_173 (dk_at dksX0_common_1 9 rfl rfl)
abbrev cX0_heats : ByteArray := prog_1_method_31_code
def yX0_heats : MethodName := ⟨RX0, "heats", "()I"⟩
def dkwX0_heats_0 : List UInt8 := [42, 180, 0, 50, 182, 1, 7, 42, 180, 0, 50, 180, 1, 10, 172]
abbrev dktX0_heats_0 : List UInt8 := dkwX0_heats_0 ++ []
theorem dksX0_heats_0 : cX0_heats.data.toList.drop 0 = dktX0_heats_0 := by decide +kernel
theorem dX0_heats_0 : decode cX0_heats 0 = .ok (.aload_n 0, 1) := dk_42 (dk_at dksX0_heats_0 0 rfl rfl)
theorem dX0_heats_1 : decode cX0_heats 1 = .ok (.getfield 50, 3) := dk_180 0 50 (dk_at dksX0_heats_0 1 rfl rfl)
theorem dX0_heats_4 : decode cX0_heats 4 = .ok (.invokevirtual 263, 3) := dk_182 1 7 (dk_at dksX0_heats_0 4 rfl rfl)
theorem dX0_heats_7 : decode cX0_heats 7 = .ok (.aload_n 0, 1) := dk_42 (dk_at dksX0_heats_0 7 rfl rfl)
theorem dX0_heats_8 : decode cX0_heats 8 = .ok (.getfield 50, 3) := dk_180 0 50 (dk_at dksX0_heats_0 8 rfl rfl)
theorem dX0_heats_11 : decode cX0_heats 11 = .ok (.getfield 266, 3) := dk_180 1 10 (dk_at dksX0_heats_0 11 rfl rfl)
theorem dX0_heats_14 : decode cX0_heats 14 = .ok (.ireturn, 1) := dk_172 (dk_at dksX0_heats_0 14 rfl rfl)
abbrev cX0_plan : ByteArray := prog_1_method_32_code
def yX0_plan : MethodName := ⟨RX0, "plan", "(II)I"⟩
def dkwX0_plan_3 : List UInt8 := [182, 1, 17, 172]
abbrev dktX0_plan_3 : List UInt8 := dkwX0_plan_3 ++ []
def dkwX0_plan_2 : List UInt8 := [180, 1, 11, 27, 46, 167, 0, 22, 42, 180, 0, 50, 42, 180, 0, 50, 180, 1, 14, 27, 4, 96, 46, 28]
abbrev dktX0_plan_2 : List UInt8 := dkwX0_plan_2 ++ dktX0_plan_3
def dkwX0_plan_1 : List UInt8 := [28, 2, 159, 0, 13, 42, 28, 182, 0, 116, 154, 0, 5, 2, 172, 28, 2, 160, 0, 15, 42, 180, 0, 50]
abbrev dktX0_plan_1 : List UInt8 := dkwX0_plan_1 ++ dktX0_plan_2
def dkwX0_plan_0 : List UInt8 := [42, 180, 0, 50, 182, 1, 7, 27, 3, 42, 180, 0, 50, 180, 1, 10, 4, 100, 184, 0, 93, 153, 0, 16]
abbrev dktX0_plan_0 : List UInt8 := dkwX0_plan_0 ++ dktX0_plan_1
theorem dksX0_plan_0 : cX0_plan.data.toList.drop 0 = dktX0_plan_0 := by decide +kernel
theorem dksX0_plan_1 : cX0_plan.data.toList.drop 24 = dktX0_plan_1 := dk_seg dksX0_plan_0 24 rfl rfl
theorem dksX0_plan_2 : cX0_plan.data.toList.drop 48 = dktX0_plan_2 := dk_seg dksX0_plan_1 24 rfl rfl
theorem dksX0_plan_3 : cX0_plan.data.toList.drop 72 = dktX0_plan_3 := dk_seg dksX0_plan_2 24 rfl rfl
theorem dX0_plan_0 : decode cX0_plan 0 = .ok (.aload_n 0, 1) := dk_42 (dk_at dksX0_plan_0 0 rfl rfl)
theorem dX0_plan_1 : decode cX0_plan 1 = .ok (.getfield 50, 3) := dk_180 0 50 (dk_at dksX0_plan_0 1 rfl rfl)
theorem dX0_plan_4 : decode cX0_plan 4 = .ok (.invokevirtual 263, 3) := dk_182 1 7 (dk_at dksX0_plan_0 4 rfl rfl)
theorem dX0_plan_7 : decode cX0_plan 7 = .ok (.iload_n 1, 1) := dk_27 (dk_at dksX0_plan_0 7 rfl rfl)
theorem dX0_plan_8 : decode cX0_plan 8 = .ok (.iconst 0, 1) := dk_3 (dk_at dksX0_plan_0 8 rfl rfl)
theorem dX0_plan_9 : decode cX0_plan 9 = .ok (.aload_n 0, 1) := dk_42 (dk_at dksX0_plan_0 9 rfl rfl)
theorem dX0_plan_10 : decode cX0_plan 10 = .ok (.getfield 50, 3) := dk_180 0 50 (dk_at dksX0_plan_0 10 rfl rfl)
theorem dX0_plan_13 : decode cX0_plan 13 = .ok (.getfield 266, 3) := dk_180 1 10 (dk_at dksX0_plan_0 13 rfl rfl)
theorem dX0_plan_16 : decode cX0_plan 16 = .ok (.iconst 1, 1) := dk_4 (dk_at dksX0_plan_0 16 rfl rfl)
theorem dX0_plan_17 : decode cX0_plan 17 = .ok (.isub, 1) := dk_100 (dk_at dksX0_plan_0 17 rfl rfl)
theorem dX0_plan_18 : decode cX0_plan 18 = .ok (.invokestatic 93, 3) := dk_184 0 93 (dk_at dksX0_plan_0 18 rfl rfl)
theorem dX0_plan_21 : decode cX0_plan 21 = .ok (.ifCond .eq 16, 3) := dk_153 0 16 (dk_at dksX0_plan_0 21 rfl rfl)
theorem dX0_plan_24 : decode cX0_plan 24 = .ok (.iload_n 2, 1) := dk_28 (dk_at dksX0_plan_1 0 rfl rfl)
theorem dX0_plan_25 : decode cX0_plan 25 = .ok (.iconst (-1), 1) := dk_2 (dk_at dksX0_plan_1 1 rfl rfl)
theorem dX0_plan_26 : decode cX0_plan 26 = .ok (.if_icmp .eq 13, 3) := dk_159 0 13 (dk_at dksX0_plan_1 2 rfl rfl)
theorem dX0_plan_29 : decode cX0_plan 29 = .ok (.aload_n 0, 1) := dk_42 (dk_at dksX0_plan_1 5 rfl rfl)
theorem dX0_plan_30 : decode cX0_plan 30 = .ok (.iload_n 2, 1) := dk_28 (dk_at dksX0_plan_1 6 rfl rfl)
theorem dX0_plan_31 : decode cX0_plan 31 = .ok (.invokevirtual 116, 3) := dk_182 0 116 (dk_at dksX0_plan_1 7 rfl rfl)
theorem dX0_plan_34 : decode cX0_plan 34 = .ok (.ifCond .ne 5, 3) := dk_154 0 5 (dk_at dksX0_plan_1 10 rfl rfl)
theorem dX0_plan_37 : decode cX0_plan 37 = .ok (.iconst (-1), 1) := dk_2 (dk_at dksX0_plan_1 13 rfl rfl)
theorem dX0_plan_38 : decode cX0_plan 38 = .ok (.ireturn, 1) := dk_172 (dk_at dksX0_plan_1 14 rfl rfl)
theorem dX0_plan_39 : decode cX0_plan 39 = .ok (.iload_n 2, 1) := dk_28 (dk_at dksX0_plan_1 15 rfl rfl)
theorem dX0_plan_40 : decode cX0_plan 40 = .ok (.iconst (-1), 1) := dk_2 (dk_at dksX0_plan_1 16 rfl rfl)
theorem dX0_plan_41 : decode cX0_plan 41 = .ok (.if_icmp .ne 15, 3) := dk_160 0 15 (dk_at dksX0_plan_1 17 rfl rfl)
theorem dX0_plan_44 : decode cX0_plan 44 = .ok (.aload_n 0, 1) := dk_42 (dk_at dksX0_plan_1 20 rfl rfl)
theorem dX0_plan_45 : decode cX0_plan 45 = .ok (.getfield 50, 3) := dk_180 0 50 (dk_at dksX0_plan_1 21 rfl rfl)
theorem dX0_plan_48 : decode cX0_plan 48 = .ok (.getfield 267, 3) := dk_180 1 11 (dk_at dksX0_plan_2 0 rfl rfl)
theorem dX0_plan_51 : decode cX0_plan 51 = .ok (.iload_n 1, 1) := dk_27 (dk_at dksX0_plan_2 3 rfl rfl)
theorem dX0_plan_52 : decode cX0_plan 52 = .ok (.iaload, 1) := dk_46 (dk_at dksX0_plan_2 4 rfl rfl)
theorem dX0_plan_53 : decode cX0_plan 53 = .ok (.goto 22, 3) := dk_167 0 22 (dk_at dksX0_plan_2 5 rfl rfl)
theorem dX0_plan_56 : decode cX0_plan 56 = .ok (.aload_n 0, 1) := dk_42 (dk_at dksX0_plan_2 8 rfl rfl)
theorem dX0_plan_57 : decode cX0_plan 57 = .ok (.getfield 50, 3) := dk_180 0 50 (dk_at dksX0_plan_2 9 rfl rfl)
theorem dX0_plan_60 : decode cX0_plan 60 = .ok (.aload_n 0, 1) := dk_42 (dk_at dksX0_plan_2 12 rfl rfl)
theorem dX0_plan_61 : decode cX0_plan 61 = .ok (.getfield 50, 3) := dk_180 0 50 (dk_at dksX0_plan_2 13 rfl rfl)
theorem dX0_plan_64 : decode cX0_plan 64 = .ok (.getfield 270, 3) := dk_180 1 14 (dk_at dksX0_plan_2 16 rfl rfl)
theorem dX0_plan_67 : decode cX0_plan 67 = .ok (.iload_n 1, 1) := dk_27 (dk_at dksX0_plan_2 19 rfl rfl)
theorem dX0_plan_68 : decode cX0_plan 68 = .ok (.iconst 1, 1) := dk_4 (dk_at dksX0_plan_2 20 rfl rfl)
theorem dX0_plan_69 : decode cX0_plan 69 = .ok (.iadd, 1) := dk_96 (dk_at dksX0_plan_2 21 rfl rfl)
theorem dX0_plan_70 : decode cX0_plan 70 = .ok (.iaload, 1) := dk_46 (dk_at dksX0_plan_2 22 rfl rfl)
theorem dX0_plan_71 : decode cX0_plan 71 = .ok (.iload_n 2, 1) := dk_28 (dk_at dksX0_plan_2 23 rfl rfl)
theorem dX0_plan_72 : decode cX0_plan 72 = .ok (.invokevirtual 273, 3) := dk_182 1 17 (dk_at dksX0_plan_3 0 rfl rfl)
theorem dX0_plan_75 : decode cX0_plan 75 = .ok (.ireturn, 1) := dk_172 (dk_at dksX0_plan_3 3 rfl rfl)
abbrev cX0_reached : ByteArray := prog_1_method_33_code
def yX0_reached : MethodName := ⟨RX0, "reached", "(I)I"⟩
def dkwX0_reached_3 : List UInt8 := [27, 181, 0, 60, 42, 180, 0, 54, 180, 1, 31, 27, 46, 172]
abbrev dktX0_reached_3 : List UInt8 := dkwX0_reached_3 ++ []
def dkwX0_reached_2 : List UInt8 := [180, 0, 16, 180, 0, 110, 182, 1, 23, 2, 27, 182, 1, 27, 87, 42, 42, 180, 0, 86, 181, 0, 57, 42]
abbrev dktX0_reached_2 : List UInt8 := dkwX0_reached_2 ++ dktX0_reached_3
def dkwX0_reached_1 : List UInt8 := [180, 0, 60, 27, 162, 0, 48, 42, 180, 0, 54, 3, 182, 1, 21, 42, 180, 0, 54, 42, 180, 0, 54, 42]
abbrev dktX0_reached_1 : List UInt8 := dkwX0_reached_1 ++ dktX0_reached_2
def dkwX0_reached_0 : List UInt8 := [27, 3, 16, 6, 184, 0, 93, 154, 0, 5, 2, 172, 42, 180, 0, 57, 42, 180, 0, 86, 160, 0, 11, 42]
abbrev dktX0_reached_0 : List UInt8 := dkwX0_reached_0 ++ dktX0_reached_1
theorem dksX0_reached_0 : cX0_reached.data.toList.drop 0 = dktX0_reached_0 := by decide +kernel
theorem dksX0_reached_1 : cX0_reached.data.toList.drop 24 = dktX0_reached_1 := dk_seg dksX0_reached_0 24 rfl rfl
theorem dksX0_reached_2 : cX0_reached.data.toList.drop 48 = dktX0_reached_2 := dk_seg dksX0_reached_1 24 rfl rfl
theorem dksX0_reached_3 : cX0_reached.data.toList.drop 72 = dktX0_reached_3 := dk_seg dksX0_reached_2 24 rfl rfl
theorem dX0_reached_0 : decode cX0_reached 0 = .ok (.iload_n 1, 1) := dk_27 (dk_at dksX0_reached_0 0 rfl rfl)
theorem dX0_reached_1 : decode cX0_reached 1 = .ok (.iconst 0, 1) := dk_3 (dk_at dksX0_reached_0 1 rfl rfl)
theorem dX0_reached_2 : decode cX0_reached 2 = .ok (.bipush 6, 2) := dk_16 6 (dk_at dksX0_reached_0 2 rfl rfl)
theorem dX0_reached_4 : decode cX0_reached 4 = .ok (.invokestatic 93, 3) := dk_184 0 93 (dk_at dksX0_reached_0 4 rfl rfl)
theorem dX0_reached_7 : decode cX0_reached 7 = .ok (.ifCond .ne 5, 3) := dk_154 0 5 (dk_at dksX0_reached_0 7 rfl rfl)
theorem dX0_reached_10 : decode cX0_reached 10 = .ok (.iconst (-1), 1) := dk_2 (dk_at dksX0_reached_0 10 rfl rfl)
theorem dX0_reached_11 : decode cX0_reached 11 = .ok (.ireturn, 1) := dk_172 (dk_at dksX0_reached_0 11 rfl rfl)
theorem dX0_reached_12 : decode cX0_reached 12 = .ok (.aload_n 0, 1) := dk_42 (dk_at dksX0_reached_0 12 rfl rfl)
theorem dX0_reached_13 : decode cX0_reached 13 = .ok (.getfield 57, 3) := dk_180 0 57 (dk_at dksX0_reached_0 13 rfl rfl)
theorem dX0_reached_16 : decode cX0_reached 16 = .ok (.aload_n 0, 1) := dk_42 (dk_at dksX0_reached_0 16 rfl rfl)
theorem dX0_reached_17 : decode cX0_reached 17 = .ok (.getfield 86, 3) := dk_180 0 86 (dk_at dksX0_reached_0 17 rfl rfl)
theorem dX0_reached_20 : decode cX0_reached 20 = .ok (.if_icmp .ne 11, 3) := dk_160 0 11 (dk_at dksX0_reached_0 20 rfl rfl)
theorem dX0_reached_23 : decode cX0_reached 23 = .ok (.aload_n 0, 1) := dk_42 (dk_at dksX0_reached_0 23 rfl rfl)
theorem dX0_reached_24 : decode cX0_reached 24 = .ok (.getfield 60, 3) := dk_180 0 60 (dk_at dksX0_reached_1 0 rfl rfl)
theorem dX0_reached_27 : decode cX0_reached 27 = .ok (.iload_n 1, 1) := dk_27 (dk_at dksX0_reached_1 3 rfl rfl)
theorem dX0_reached_28 : decode cX0_reached 28 = .ok (.if_icmp .ge 48, 3) := dk_162 0 48 (dk_at dksX0_reached_1 4 rfl rfl)
theorem dX0_reached_31 : decode cX0_reached 31 = .ok (.aload_n 0, 1) := dk_42 (dk_at dksX0_reached_1 7 rfl rfl)
theorem dX0_reached_32 : decode cX0_reached 32 = .ok (.getfield 54, 3) := dk_180 0 54 (dk_at dksX0_reached_1 8 rfl rfl)
theorem dX0_reached_35 : decode cX0_reached 35 = .ok (.iconst 0, 1) := dk_3 (dk_at dksX0_reached_1 11 rfl rfl)
theorem dX0_reached_36 : decode cX0_reached 36 = .ok (.invokevirtual 277, 3) := dk_182 1 21 (dk_at dksX0_reached_1 12 rfl rfl)
theorem dX0_reached_39 : decode cX0_reached 39 = .ok (.aload_n 0, 1) := dk_42 (dk_at dksX0_reached_1 15 rfl rfl)
theorem dX0_reached_40 : decode cX0_reached 40 = .ok (.getfield 54, 3) := dk_180 0 54 (dk_at dksX0_reached_1 16 rfl rfl)
theorem dX0_reached_43 : decode cX0_reached 43 = .ok (.aload_n 0, 1) := dk_42 (dk_at dksX0_reached_1 19 rfl rfl)
theorem dX0_reached_44 : decode cX0_reached 44 = .ok (.getfield 54, 3) := dk_180 0 54 (dk_at dksX0_reached_1 20 rfl rfl)
theorem dX0_reached_47 : decode cX0_reached 47 = .ok (.aload_n 0, 1) := dk_42 (dk_at dksX0_reached_1 23 rfl rfl)
theorem dX0_reached_48 : decode cX0_reached 48 = .ok (.getfield 16, 3) := dk_180 0 16 (dk_at dksX0_reached_2 0 rfl rfl)
theorem dX0_reached_51 : decode cX0_reached 51 = .ok (.getfield 110, 3) := dk_180 0 110 (dk_at dksX0_reached_2 3 rfl rfl)
theorem dX0_reached_54 : decode cX0_reached 54 = .ok (.invokevirtual 279, 3) := dk_182 1 23 (dk_at dksX0_reached_2 6 rfl rfl)
theorem dX0_reached_57 : decode cX0_reached 57 = .ok (.iconst (-1), 1) := dk_2 (dk_at dksX0_reached_2 9 rfl rfl)
theorem dX0_reached_58 : decode cX0_reached 58 = .ok (.iload_n 1, 1) := dk_27 (dk_at dksX0_reached_2 10 rfl rfl)
theorem dX0_reached_59 : decode cX0_reached 59 = .ok (.invokevirtual 283, 3) := dk_182 1 27 (dk_at dksX0_reached_2 11 rfl rfl)
theorem dX0_reached_62 : decode cX0_reached 62 = .ok (.pop, 1) := dk_87 (dk_at dksX0_reached_2 14 rfl rfl)
theorem dX0_reached_63 : decode cX0_reached 63 = .ok (.aload_n 0, 1) := dk_42 (dk_at dksX0_reached_2 15 rfl rfl)
theorem dX0_reached_64 : decode cX0_reached 64 = .ok (.aload_n 0, 1) := dk_42 (dk_at dksX0_reached_2 16 rfl rfl)
theorem dX0_reached_65 : decode cX0_reached 65 = .ok (.getfield 86, 3) := dk_180 0 86 (dk_at dksX0_reached_2 17 rfl rfl)
theorem dX0_reached_68 : decode cX0_reached 68 = .ok (.putfield 57, 3) := dk_181 0 57 (dk_at dksX0_reached_2 20 rfl rfl)
theorem dX0_reached_71 : decode cX0_reached 71 = .ok (.aload_n 0, 1) := dk_42 (dk_at dksX0_reached_2 23 rfl rfl)
theorem dX0_reached_72 : decode cX0_reached 72 = .ok (.iload_n 1, 1) := dk_27 (dk_at dksX0_reached_3 0 rfl rfl)
theorem dX0_reached_73 : decode cX0_reached 73 = .ok (.putfield 60, 3) := dk_181 0 60 (dk_at dksX0_reached_3 1 rfl rfl)
theorem dX0_reached_76 : decode cX0_reached 76 = .ok (.aload_n 0, 1) := dk_42 (dk_at dksX0_reached_3 4 rfl rfl)
theorem dX0_reached_77 : decode cX0_reached 77 = .ok (.getfield 54, 3) := dk_180 0 54 (dk_at dksX0_reached_3 5 rfl rfl)
theorem dX0_reached_80 : decode cX0_reached 80 = .ok (.getfield 287, 3) := dk_180 1 31 (dk_at dksX0_reached_3 8 rfl rfl)
theorem dX0_reached_83 : decode cX0_reached 83 = .ok (.iload_n 1, 1) := dk_27 (dk_at dksX0_reached_3 11 rfl rfl)
theorem dX0_reached_84 : decode cX0_reached 84 = .ok (.iaload, 1) := dk_46 (dk_at dksX0_reached_3 12 rfl rfl)
theorem dX0_reached_85 : decode cX0_reached 85 = .ok (.ireturn, 1) := dk_172 (dk_at dksX0_reached_3 13 rfl rfl)
abbrev cX0_even : ByteArray := prog_1_method_34_code
def yX0_even : MethodName := ⟨RX0, "even", "()I"⟩
def dkwX0_even_2 : List UInt8 := [159, 0, 5, 27, 172, 132, 1, 1, 167, 255, 209, 2, 172]
abbrev dktX0_even_2 : List UInt8 := dkwX0_even_2 ++ []
def dkwX0_even_1 : List UInt8 := [28, 27, 79, 132, 2, 1, 167, 255, 241, 42, 180, 0, 54, 42, 180, 0, 63, 3, 182, 1, 34, 2]
abbrev dktX0_even_1 : List UInt8 := dkwX0_even_1 ++ dktX0_even_2
def dkwX0_even_0 : List UInt8 := [42, 2, 181, 0, 57, 4, 60, 27, 16, 9, 163, 0, 47, 3, 61, 28, 8, 162, 0, 16, 42, 180, 0, 63]
abbrev dktX0_even_0 : List UInt8 := dkwX0_even_0 ++ dktX0_even_1
theorem dksX0_even_0 : cX0_even.data.toList.drop 0 = dktX0_even_0 := by decide +kernel
theorem dksX0_even_1 : cX0_even.data.toList.drop 24 = dktX0_even_1 := dk_seg dksX0_even_0 24 rfl rfl
theorem dksX0_even_2 : cX0_even.data.toList.drop 46 = dktX0_even_2 := dk_seg dksX0_even_1 22 rfl rfl
theorem dX0_even_0 : decode cX0_even 0 = .ok (.aload_n 0, 1) := dk_42 (dk_at dksX0_even_0 0 rfl rfl)
theorem dX0_even_1 : decode cX0_even 1 = .ok (.iconst (-1), 1) := dk_2 (dk_at dksX0_even_0 1 rfl rfl)
theorem dX0_even_2 : decode cX0_even 2 = .ok (.putfield 57, 3) := dk_181 0 57 (dk_at dksX0_even_0 2 rfl rfl)
theorem dX0_even_5 : decode cX0_even 5 = .ok (.iconst 1, 1) := dk_4 (dk_at dksX0_even_0 5 rfl rfl)
theorem dX0_even_6 : decode cX0_even 6 = .ok (.istore_n 1, 1) := dk_60 (dk_at dksX0_even_0 6 rfl rfl)
theorem dX0_even_7 : decode cX0_even 7 = .ok (.iload_n 1, 1) := dk_27 (dk_at dksX0_even_0 7 rfl rfl)
theorem dX0_even_8 : decode cX0_even 8 = .ok (.bipush 9, 2) := dk_16 9 (dk_at dksX0_even_0 8 rfl rfl)
theorem dX0_even_10 : decode cX0_even 10 = .ok (.if_icmp .gt 47, 3) := dk_163 0 47 (dk_at dksX0_even_0 10 rfl rfl)
theorem dX0_even_13 : decode cX0_even 13 = .ok (.iconst 0, 1) := dk_3 (dk_at dksX0_even_0 13 rfl rfl)
theorem dX0_even_14 : decode cX0_even 14 = .ok (.istore_n 2, 1) := dk_61 (dk_at dksX0_even_0 14 rfl rfl)
theorem dX0_even_15 : decode cX0_even 15 = .ok (.iload_n 2, 1) := dk_28 (dk_at dksX0_even_0 15 rfl rfl)
theorem dX0_even_16 : decode cX0_even 16 = .ok (.iconst 5, 1) := dk_8 (dk_at dksX0_even_0 16 rfl rfl)
theorem dX0_even_17 : decode cX0_even 17 = .ok (.if_icmp .ge 16, 3) := dk_162 0 16 (dk_at dksX0_even_0 17 rfl rfl)
theorem dX0_even_20 : decode cX0_even 20 = .ok (.aload_n 0, 1) := dk_42 (dk_at dksX0_even_0 20 rfl rfl)
theorem dX0_even_21 : decode cX0_even 21 = .ok (.getfield 63, 3) := dk_180 0 63 (dk_at dksX0_even_0 21 rfl rfl)
theorem dX0_even_24 : decode cX0_even 24 = .ok (.iload_n 2, 1) := dk_28 (dk_at dksX0_even_1 0 rfl rfl)
theorem dX0_even_25 : decode cX0_even 25 = .ok (.iload_n 1, 1) := dk_27 (dk_at dksX0_even_1 1 rfl rfl)
theorem dX0_even_26 : decode cX0_even 26 = .ok (.iastore, 1) := dk_79 (dk_at dksX0_even_1 2 rfl rfl)
theorem dX0_even_27 : decode cX0_even 27 = .ok (.iinc 2 1, 3) := dk_132 2 1 (dk_at dksX0_even_1 3 rfl rfl)
theorem dX0_even_30 : decode cX0_even 30 = .ok (.goto (-15), 3) := dk_167 255 241 (dk_at dksX0_even_1 6 rfl rfl)
theorem dX0_even_33 : decode cX0_even 33 = .ok (.aload_n 0, 1) := dk_42 (dk_at dksX0_even_1 9 rfl rfl)
theorem dX0_even_34 : decode cX0_even 34 = .ok (.getfield 54, 3) := dk_180 0 54 (dk_at dksX0_even_1 10 rfl rfl)
theorem dX0_even_37 : decode cX0_even 37 = .ok (.aload_n 0, 1) := dk_42 (dk_at dksX0_even_1 13 rfl rfl)
theorem dX0_even_38 : decode cX0_even 38 = .ok (.getfield 63, 3) := dk_180 0 63 (dk_at dksX0_even_1 14 rfl rfl)
theorem dX0_even_41 : decode cX0_even 41 = .ok (.iconst 0, 1) := dk_3 (dk_at dksX0_even_1 17 rfl rfl)
theorem dX0_even_42 : decode cX0_even 42 = .ok (.invokevirtual 290, 3) := dk_182 1 34 (dk_at dksX0_even_1 18 rfl rfl)
theorem dX0_even_45 : decode cX0_even 45 = .ok (.iconst (-1), 1) := dk_2 (dk_at dksX0_even_1 21 rfl rfl)
theorem dX0_even_46 : decode cX0_even 46 = .ok (.if_icmp .eq 5, 3) := dk_159 0 5 (dk_at dksX0_even_2 0 rfl rfl)
theorem dX0_even_49 : decode cX0_even 49 = .ok (.iload_n 1, 1) := dk_27 (dk_at dksX0_even_2 3 rfl rfl)
theorem dX0_even_50 : decode cX0_even 50 = .ok (.ireturn, 1) := dk_172 (dk_at dksX0_even_2 4 rfl rfl)
theorem dX0_even_51 : decode cX0_even 51 = .ok (.iinc 1 1, 3) := dk_132 1 1 (dk_at dksX0_even_2 5 rfl rfl)
theorem dX0_even_54 : decode cX0_even 54 = .ok (.goto (-47), 3) := dk_167 255 209 (dk_at dksX0_even_2 8 rfl rfl)
theorem dX0_even_57 : decode cX0_even 57 = .ok (.iconst (-1), 1) := dk_2 (dk_at dksX0_even_2 11 rfl rfl)
theorem dX0_even_58 : decode cX0_even 58 = .ok (.ireturn, 1) := dk_172 (dk_at dksX0_even_2 12 rfl rfl)
abbrev cX0_striker : ByteArray := prog_1_method_35_code
def yX0_striker : MethodName := ⟨RX0, "striker", "()I"⟩
def dkwX0_striker_2 : List UInt8 := [42, 180, 0, 50, 180, 1, 10, 27, 100, 172]
abbrev dktX0_striker_2 : List UInt8 := dkwX0_striker_2 ++ []
def dkwX0_striker_1 : List UInt8 := [182, 1, 34, 60, 42, 180, 0, 50, 180, 1, 10, 2, 159, 0, 8, 27, 2, 160, 0, 7, 2, 167, 0, 12]
abbrev dktX0_striker_1 : List UInt8 := dkwX0_striker_1 ++ dktX0_striker_2
def dkwX0_striker_0 : List UInt8 := [42, 180, 0, 50, 182, 1, 7, 42, 2, 181, 0, 57, 42, 180, 0, 54, 42, 180, 0, 16, 180, 0, 110, 4]
abbrev dktX0_striker_0 : List UInt8 := dkwX0_striker_0 ++ dktX0_striker_1
theorem dksX0_striker_0 : cX0_striker.data.toList.drop 0 = dktX0_striker_0 := by decide +kernel
theorem dksX0_striker_1 : cX0_striker.data.toList.drop 24 = dktX0_striker_1 := dk_seg dksX0_striker_0 24 rfl rfl
theorem dksX0_striker_2 : cX0_striker.data.toList.drop 48 = dktX0_striker_2 := dk_seg dksX0_striker_1 24 rfl rfl
theorem dX0_striker_0 : decode cX0_striker 0 = .ok (.aload_n 0, 1) := dk_42 (dk_at dksX0_striker_0 0 rfl rfl)
theorem dX0_striker_1 : decode cX0_striker 1 = .ok (.getfield 50, 3) := dk_180 0 50 (dk_at dksX0_striker_0 1 rfl rfl)
theorem dX0_striker_4 : decode cX0_striker 4 = .ok (.invokevirtual 263, 3) := dk_182 1 7 (dk_at dksX0_striker_0 4 rfl rfl)
theorem dX0_striker_7 : decode cX0_striker 7 = .ok (.aload_n 0, 1) := dk_42 (dk_at dksX0_striker_0 7 rfl rfl)
theorem dX0_striker_8 : decode cX0_striker 8 = .ok (.iconst (-1), 1) := dk_2 (dk_at dksX0_striker_0 8 rfl rfl)
theorem dX0_striker_9 : decode cX0_striker 9 = .ok (.putfield 57, 3) := dk_181 0 57 (dk_at dksX0_striker_0 9 rfl rfl)
theorem dX0_striker_12 : decode cX0_striker 12 = .ok (.aload_n 0, 1) := dk_42 (dk_at dksX0_striker_0 12 rfl rfl)
theorem dX0_striker_13 : decode cX0_striker 13 = .ok (.getfield 54, 3) := dk_180 0 54 (dk_at dksX0_striker_0 13 rfl rfl)
theorem dX0_striker_16 : decode cX0_striker 16 = .ok (.aload_n 0, 1) := dk_42 (dk_at dksX0_striker_0 16 rfl rfl)
theorem dX0_striker_17 : decode cX0_striker 17 = .ok (.getfield 16, 3) := dk_180 0 16 (dk_at dksX0_striker_0 17 rfl rfl)
theorem dX0_striker_20 : decode cX0_striker 20 = .ok (.getfield 110, 3) := dk_180 0 110 (dk_at dksX0_striker_0 20 rfl rfl)
theorem dX0_striker_23 : decode cX0_striker 23 = .ok (.iconst 1, 1) := dk_4 (dk_at dksX0_striker_0 23 rfl rfl)
theorem dX0_striker_24 : decode cX0_striker 24 = .ok (.invokevirtual 290, 3) := dk_182 1 34 (dk_at dksX0_striker_1 0 rfl rfl)
theorem dX0_striker_27 : decode cX0_striker 27 = .ok (.istore_n 1, 1) := dk_60 (dk_at dksX0_striker_1 3 rfl rfl)
theorem dX0_striker_28 : decode cX0_striker 28 = .ok (.aload_n 0, 1) := dk_42 (dk_at dksX0_striker_1 4 rfl rfl)
theorem dX0_striker_29 : decode cX0_striker 29 = .ok (.getfield 50, 3) := dk_180 0 50 (dk_at dksX0_striker_1 5 rfl rfl)
theorem dX0_striker_32 : decode cX0_striker 32 = .ok (.getfield 266, 3) := dk_180 1 10 (dk_at dksX0_striker_1 8 rfl rfl)
theorem dX0_striker_35 : decode cX0_striker 35 = .ok (.iconst (-1), 1) := dk_2 (dk_at dksX0_striker_1 11 rfl rfl)
theorem dX0_striker_36 : decode cX0_striker 36 = .ok (.if_icmp .eq 8, 3) := dk_159 0 8 (dk_at dksX0_striker_1 12 rfl rfl)
theorem dX0_striker_39 : decode cX0_striker 39 = .ok (.iload_n 1, 1) := dk_27 (dk_at dksX0_striker_1 15 rfl rfl)
theorem dX0_striker_40 : decode cX0_striker 40 = .ok (.iconst (-1), 1) := dk_2 (dk_at dksX0_striker_1 16 rfl rfl)
theorem dX0_striker_41 : decode cX0_striker 41 = .ok (.if_icmp .ne 7, 3) := dk_160 0 7 (dk_at dksX0_striker_1 17 rfl rfl)
theorem dX0_striker_44 : decode cX0_striker 44 = .ok (.iconst (-1), 1) := dk_2 (dk_at dksX0_striker_1 20 rfl rfl)
theorem dX0_striker_45 : decode cX0_striker 45 = .ok (.goto 12, 3) := dk_167 0 12 (dk_at dksX0_striker_1 21 rfl rfl)
theorem dX0_striker_48 : decode cX0_striker 48 = .ok (.aload_n 0, 1) := dk_42 (dk_at dksX0_striker_2 0 rfl rfl)
theorem dX0_striker_49 : decode cX0_striker 49 = .ok (.getfield 50, 3) := dk_180 0 50 (dk_at dksX0_striker_2 1 rfl rfl)
theorem dX0_striker_52 : decode cX0_striker 52 = .ok (.getfield 266, 3) := dk_180 1 10 (dk_at dksX0_striker_2 4 rfl rfl)
theorem dX0_striker_55 : decode cX0_striker 55 = .ok (.iload_n 1, 1) := dk_27 (dk_at dksX0_striker_2 7 rfl rfl)
theorem dX0_striker_56 : decode cX0_striker 56 = .ok (.isub, 1) := dk_100 (dk_at dksX0_striker_2 8 rfl rfl)
theorem dX0_striker_57 : decode cX0_striker 57 = .ok (.ireturn, 1) := dk_172 (dk_at dksX0_striker_2 9 rfl rfl)
abbrev cX0_change : ByteArray := prog_1_method_36_code
def yX0_change : MethodName := ⟨RX0, "change", "(II)I"⟩
def dkwX0_change_2 : List UInt8 := [87, 42, 180, 0, 39, 42, 180, 0, 42, 182, 1, 41, 153, 0, 7, 4, 167, 0, 4, 3, 172]
abbrev dktX0_change_2 : List UInt8 := dkwX0_change_2 ++ []
def dkwX0_change_1 : List UInt8 := [172, 42, 42, 180, 0, 39, 27, 2, 1, 182, 0, 208, 87, 42, 42, 180, 0, 42, 27, 28, 1, 182, 0, 208]
abbrev dktX0_change_1 : List UInt8 := dkwX0_change_1 ++ dktX0_change_2
def dkwX0_change_0 : List UInt8 := [42, 27, 182, 0, 182, 153, 0, 18, 28, 3, 42, 27, 182, 1, 38, 5, 100, 184, 0, 93, 154, 0, 5, 2]
abbrev dktX0_change_0 : List UInt8 := dkwX0_change_0 ++ dktX0_change_1
theorem dksX0_change_0 : cX0_change.data.toList.drop 0 = dktX0_change_0 := by decide +kernel
theorem dksX0_change_1 : cX0_change.data.toList.drop 24 = dktX0_change_1 := dk_seg dksX0_change_0 24 rfl rfl
theorem dksX0_change_2 : cX0_change.data.toList.drop 48 = dktX0_change_2 := dk_seg dksX0_change_1 24 rfl rfl
theorem dX0_change_0 : decode cX0_change 0 = .ok (.aload_n 0, 1) := dk_42 (dk_at dksX0_change_0 0 rfl rfl)
theorem dX0_change_1 : decode cX0_change 1 = .ok (.iload_n 1, 1) := dk_27 (dk_at dksX0_change_0 1 rfl rfl)
theorem dX0_change_2 : decode cX0_change 2 = .ok (.invokevirtual 182, 3) := dk_182 0 182 (dk_at dksX0_change_0 2 rfl rfl)
theorem dX0_change_5 : decode cX0_change 5 = .ok (.ifCond .eq 18, 3) := dk_153 0 18 (dk_at dksX0_change_0 5 rfl rfl)
theorem dX0_change_8 : decode cX0_change 8 = .ok (.iload_n 2, 1) := dk_28 (dk_at dksX0_change_0 8 rfl rfl)
theorem dX0_change_9 : decode cX0_change 9 = .ok (.iconst 0, 1) := dk_3 (dk_at dksX0_change_0 9 rfl rfl)
theorem dX0_change_10 : decode cX0_change 10 = .ok (.aload_n 0, 1) := dk_42 (dk_at dksX0_change_0 10 rfl rfl)
theorem dX0_change_11 : decode cX0_change 11 = .ok (.iload_n 1, 1) := dk_27 (dk_at dksX0_change_0 11 rfl rfl)
theorem dX0_change_12 : decode cX0_change 12 = .ok (.invokevirtual 294, 3) := dk_182 1 38 (dk_at dksX0_change_0 12 rfl rfl)
theorem dX0_change_15 : decode cX0_change 15 = .ok (.iconst 2, 1) := dk_5 (dk_at dksX0_change_0 15 rfl rfl)
theorem dX0_change_16 : decode cX0_change 16 = .ok (.isub, 1) := dk_100 (dk_at dksX0_change_0 16 rfl rfl)
theorem dX0_change_17 : decode cX0_change 17 = .ok (.invokestatic 93, 3) := dk_184 0 93 (dk_at dksX0_change_0 17 rfl rfl)
theorem dX0_change_20 : decode cX0_change 20 = .ok (.ifCond .ne 5, 3) := dk_154 0 5 (dk_at dksX0_change_0 20 rfl rfl)
theorem dX0_change_23 : decode cX0_change 23 = .ok (.iconst (-1), 1) := dk_2 (dk_at dksX0_change_0 23 rfl rfl)
theorem dX0_change_24 : decode cX0_change 24 = .ok (.ireturn, 1) := dk_172 (dk_at dksX0_change_1 0 rfl rfl)
theorem dX0_change_25 : decode cX0_change 25 = .ok (.aload_n 0, 1) := dk_42 (dk_at dksX0_change_1 1 rfl rfl)
theorem dX0_change_26 : decode cX0_change 26 = .ok (.aload_n 0, 1) := dk_42 (dk_at dksX0_change_1 2 rfl rfl)
theorem dX0_change_27 : decode cX0_change 27 = .ok (.getfield 39, 3) := dk_180 0 39 (dk_at dksX0_change_1 3 rfl rfl)
theorem dX0_change_30 : decode cX0_change 30 = .ok (.iload_n 1, 1) := dk_27 (dk_at dksX0_change_1 6 rfl rfl)
theorem dX0_change_31 : decode cX0_change 31 = .ok (.iconst (-1), 1) := dk_2 (dk_at dksX0_change_1 7 rfl rfl)
theorem dX0_change_32 : decode cX0_change 32 = .ok (.aconst_null, 1) := dk_1 (dk_at dksX0_change_1 8 rfl rfl)
theorem dX0_change_33 : decode cX0_change 33 = .ok (.invokevirtual 208, 3) := dk_182 0 208 (dk_at dksX0_change_1 9 rfl rfl)
theorem dX0_change_36 : decode cX0_change 36 = .ok (.pop, 1) := dk_87 (dk_at dksX0_change_1 12 rfl rfl)
theorem dX0_change_37 : decode cX0_change 37 = .ok (.aload_n 0, 1) := dk_42 (dk_at dksX0_change_1 13 rfl rfl)
theorem dX0_change_38 : decode cX0_change 38 = .ok (.aload_n 0, 1) := dk_42 (dk_at dksX0_change_1 14 rfl rfl)
theorem dX0_change_39 : decode cX0_change 39 = .ok (.getfield 42, 3) := dk_180 0 42 (dk_at dksX0_change_1 15 rfl rfl)
theorem dX0_change_42 : decode cX0_change 42 = .ok (.iload_n 1, 1) := dk_27 (dk_at dksX0_change_1 18 rfl rfl)
theorem dX0_change_43 : decode cX0_change 43 = .ok (.iload_n 2, 1) := dk_28 (dk_at dksX0_change_1 19 rfl rfl)
theorem dX0_change_44 : decode cX0_change 44 = .ok (.aconst_null, 1) := dk_1 (dk_at dksX0_change_1 20 rfl rfl)
theorem dX0_change_45 : decode cX0_change 45 = .ok (.invokevirtual 208, 3) := dk_182 0 208 (dk_at dksX0_change_1 21 rfl rfl)
theorem dX0_change_48 : decode cX0_change 48 = .ok (.pop, 1) := dk_87 (dk_at dksX0_change_2 0 rfl rfl)
theorem dX0_change_49 : decode cX0_change 49 = .ok (.aload_n 0, 1) := dk_42 (dk_at dksX0_change_2 1 rfl rfl)
theorem dX0_change_50 : decode cX0_change 50 = .ok (.getfield 39, 3) := dk_180 0 39 (dk_at dksX0_change_2 2 rfl rfl)
theorem dX0_change_53 : decode cX0_change 53 = .ok (.aload_n 0, 1) := dk_42 (dk_at dksX0_change_2 5 rfl rfl)
theorem dX0_change_54 : decode cX0_change 54 = .ok (.getfield 42, 3) := dk_180 0 42 (dk_at dksX0_change_2 6 rfl rfl)
theorem dX0_change_57 : decode cX0_change 57 = .ok (.invokevirtual 297, 3) := dk_182 1 41 (dk_at dksX0_change_2 9 rfl rfl)
theorem dX0_change_60 : decode cX0_change 60 = .ok (.ifCond .eq 7, 3) := dk_153 0 7 (dk_at dksX0_change_2 12 rfl rfl)
theorem dX0_change_63 : decode cX0_change 63 = .ok (.iconst 1, 1) := dk_4 (dk_at dksX0_change_2 15 rfl rfl)
theorem dX0_change_64 : decode cX0_change 64 = .ok (.goto 4, 3) := dk_167 0 4 (dk_at dksX0_change_2 16 rfl rfl)
theorem dX0_change_67 : decode cX0_change 67 = .ok (.iconst 0, 1) := dk_3 (dk_at dksX0_change_2 19 rfl rfl)
theorem dX0_change_68 : decode cX0_change 68 = .ok (.ireturn, 1) := dk_172 (dk_at dksX0_change_2 20 rfl rfl)
abbrev cX0_made : ByteArray := prog_1_method_37_code
def yX0_made : MethodName := ⟨RX0, "made", "(III)I"⟩
def dkwX0_made_8 : List UInt8 := [4, 21, 9, 120, 128, 54, 8, 132, 9, 1, 167, 255, 171, 21, 8, 172]
abbrev dktX0_made_8 : List UInt8 := dkwX0_made_8 ++ []
def dkwX0_made_7 : List UInt8 := [42, 180, 0, 39, 180, 0, 236, 28, 160, 0, 23, 42, 180, 0, 39, 180, 0, 242, 29, 160, 0, 12, 21, 8]
abbrev dktX0_made_7 : List UInt8 := dkwX0_made_7 ++ dktX0_made_8
def dkwX0_made_6 : List UInt8 := [87, 42, 180, 0, 39, 180, 0, 230, 2, 160, 0, 46, 42, 180, 0, 39, 182, 1, 44, 21, 4, 160, 0, 34]
abbrev dktX0_made_6 : List UInt8 := dkwX0_made_6 ++ dktX0_made_7
def dkwX0_made_5 : List UInt8 := [180, 0, 16, 180, 0, 152, 182, 0, 156, 162, 0, 76, 42, 42, 180, 0, 39, 21, 9, 2, 1, 182, 0, 208]
abbrev dktX0_made_5 : List UInt8 := dkwX0_made_5 ++ dktX0_made_6
def dkwX0_made_4 : List UInt8 := [153, 0, 13, 29, 3, 21, 7, 184, 0, 93, 154, 0, 5, 2, 172, 3, 54, 8, 3, 54, 9, 21, 9, 42]
abbrev dktX0_made_4 : List UInt8 := dkwX0_made_4 ++ dktX0_made_5
def dkwX0_made_3 : List UInt8 := [180, 0, 16, 180, 0, 107, 120, 4, 100, 54, 7, 21, 5, 154, 0, 23, 28, 3, 21, 7, 184, 0, 93]
abbrev dktX0_made_3 : List UInt8 := dkwX0_made_3 ++ dktX0_made_4
def dkwX0_made_2 : List UInt8 := [54, 4, 21, 6, 16, 9, 104, 54, 6, 21, 5, 16, 10, 108, 54, 5, 132, 7, 1, 167, 255, 201, 4, 42]
abbrev dktX0_made_2 : List UInt8 := dkwX0_made_2 ++ dktX0_made_3
def dkwX0_made_1 : List UInt8 := [21, 5, 16, 10, 112, 4, 162, 0, 5, 2, 172, 21, 4, 21, 6, 21, 5, 16, 10, 112, 4, 100, 104, 96]
abbrev dktX0_made_1 : List UInt8 := dkwX0_made_1 ++ dktX0_made_2
def dkwX0_made_0 : List UInt8 := [3, 54, 4, 27, 54, 5, 4, 54, 6, 3, 54, 7, 21, 7, 42, 180, 0, 16, 180, 0, 107, 162, 0, 49]
abbrev dktX0_made_0 : List UInt8 := dkwX0_made_0 ++ dktX0_made_1
theorem dksX0_made_0 : cX0_made.data.toList.drop 0 = dktX0_made_0 := by decide +kernel
theorem dksX0_made_1 : cX0_made.data.toList.drop 24 = dktX0_made_1 := dk_seg dksX0_made_0 24 rfl rfl
theorem dksX0_made_2 : cX0_made.data.toList.drop 48 = dktX0_made_2 := dk_seg dksX0_made_1 24 rfl rfl
theorem dksX0_made_3 : cX0_made.data.toList.drop 72 = dktX0_made_3 := dk_seg dksX0_made_2 24 rfl rfl
theorem dksX0_made_4 : cX0_made.data.toList.drop 95 = dktX0_made_4 := dk_seg dksX0_made_3 23 rfl rfl
theorem dksX0_made_5 : cX0_made.data.toList.drop 119 = dktX0_made_5 := dk_seg dksX0_made_4 24 rfl rfl
theorem dksX0_made_6 : cX0_made.data.toList.drop 143 = dktX0_made_6 := dk_seg dksX0_made_5 24 rfl rfl
theorem dksX0_made_7 : cX0_made.data.toList.drop 167 = dktX0_made_7 := dk_seg dksX0_made_6 24 rfl rfl
theorem dksX0_made_8 : cX0_made.data.toList.drop 191 = dktX0_made_8 := dk_seg dksX0_made_7 24 rfl rfl
theorem dX0_made_0 : decode cX0_made 0 = .ok (.iconst 0, 1) := dk_3 (dk_at dksX0_made_0 0 rfl rfl)
theorem dX0_made_1 : decode cX0_made 1 = .ok (.istore 4, 2) := dk_54 4 (dk_at dksX0_made_0 1 rfl rfl)
theorem dX0_made_3 : decode cX0_made 3 = .ok (.iload_n 1, 1) := dk_27 (dk_at dksX0_made_0 3 rfl rfl)
theorem dX0_made_4 : decode cX0_made 4 = .ok (.istore 5, 2) := dk_54 5 (dk_at dksX0_made_0 4 rfl rfl)
theorem dX0_made_6 : decode cX0_made 6 = .ok (.iconst 1, 1) := dk_4 (dk_at dksX0_made_0 6 rfl rfl)
theorem dX0_made_7 : decode cX0_made 7 = .ok (.istore 6, 2) := dk_54 6 (dk_at dksX0_made_0 7 rfl rfl)
theorem dX0_made_9 : decode cX0_made 9 = .ok (.iconst 0, 1) := dk_3 (dk_at dksX0_made_0 9 rfl rfl)
theorem dX0_made_10 : decode cX0_made 10 = .ok (.istore 7, 2) := dk_54 7 (dk_at dksX0_made_0 10 rfl rfl)
theorem dX0_made_12 : decode cX0_made 12 = .ok (.iload 7, 2) := dk_21 7 (dk_at dksX0_made_0 12 rfl rfl)
theorem dX0_made_14 : decode cX0_made 14 = .ok (.aload_n 0, 1) := dk_42 (dk_at dksX0_made_0 14 rfl rfl)
theorem dX0_made_15 : decode cX0_made 15 = .ok (.getfield 16, 3) := dk_180 0 16 (dk_at dksX0_made_0 15 rfl rfl)
theorem dX0_made_18 : decode cX0_made 18 = .ok (.getfield 107, 3) := dk_180 0 107 (dk_at dksX0_made_0 18 rfl rfl)
theorem dX0_made_21 : decode cX0_made 21 = .ok (.if_icmp .ge 49, 3) := dk_162 0 49 (dk_at dksX0_made_0 21 rfl rfl)
theorem dX0_made_24 : decode cX0_made 24 = .ok (.iload 5, 2) := dk_21 5 (dk_at dksX0_made_1 0 rfl rfl)
theorem dX0_made_26 : decode cX0_made 26 = .ok (.bipush 10, 2) := dk_16 10 (dk_at dksX0_made_1 2 rfl rfl)
theorem dX0_made_28 : decode cX0_made 28 = .ok (.irem, 1) := dk_112 (dk_at dksX0_made_1 4 rfl rfl)
theorem dX0_made_29 : decode cX0_made 29 = .ok (.iconst 1, 1) := dk_4 (dk_at dksX0_made_1 5 rfl rfl)
theorem dX0_made_30 : decode cX0_made 30 = .ok (.if_icmp .ge 5, 3) := dk_162 0 5 (dk_at dksX0_made_1 6 rfl rfl)
theorem dX0_made_33 : decode cX0_made 33 = .ok (.iconst (-1), 1) := dk_2 (dk_at dksX0_made_1 9 rfl rfl)
theorem dX0_made_34 : decode cX0_made 34 = .ok (.ireturn, 1) := dk_172 (dk_at dksX0_made_1 10 rfl rfl)
theorem dX0_made_35 : decode cX0_made 35 = .ok (.iload 4, 2) := dk_21 4 (dk_at dksX0_made_1 11 rfl rfl)
theorem dX0_made_37 : decode cX0_made 37 = .ok (.iload 6, 2) := dk_21 6 (dk_at dksX0_made_1 13 rfl rfl)
theorem dX0_made_39 : decode cX0_made 39 = .ok (.iload 5, 2) := dk_21 5 (dk_at dksX0_made_1 15 rfl rfl)
theorem dX0_made_41 : decode cX0_made 41 = .ok (.bipush 10, 2) := dk_16 10 (dk_at dksX0_made_1 17 rfl rfl)
theorem dX0_made_43 : decode cX0_made 43 = .ok (.irem, 1) := dk_112 (dk_at dksX0_made_1 19 rfl rfl)
theorem dX0_made_44 : decode cX0_made 44 = .ok (.iconst 1, 1) := dk_4 (dk_at dksX0_made_1 20 rfl rfl)
theorem dX0_made_45 : decode cX0_made 45 = .ok (.isub, 1) := dk_100 (dk_at dksX0_made_1 21 rfl rfl)
theorem dX0_made_46 : decode cX0_made 46 = .ok (.imul, 1) := dk_104 (dk_at dksX0_made_1 22 rfl rfl)
theorem dX0_made_47 : decode cX0_made 47 = .ok (.iadd, 1) := dk_96 (dk_at dksX0_made_1 23 rfl rfl)
theorem dX0_made_48 : decode cX0_made 48 = .ok (.istore 4, 2) := dk_54 4 (dk_at dksX0_made_2 0 rfl rfl)
theorem dX0_made_50 : decode cX0_made 50 = .ok (.iload 6, 2) := dk_21 6 (dk_at dksX0_made_2 2 rfl rfl)
theorem dX0_made_52 : decode cX0_made 52 = .ok (.bipush 9, 2) := dk_16 9 (dk_at dksX0_made_2 4 rfl rfl)
theorem dX0_made_54 : decode cX0_made 54 = .ok (.imul, 1) := dk_104 (dk_at dksX0_made_2 6 rfl rfl)
theorem dX0_made_55 : decode cX0_made 55 = .ok (.istore 6, 2) := dk_54 6 (dk_at dksX0_made_2 7 rfl rfl)
theorem dX0_made_57 : decode cX0_made 57 = .ok (.iload 5, 2) := dk_21 5 (dk_at dksX0_made_2 9 rfl rfl)
theorem dX0_made_59 : decode cX0_made 59 = .ok (.bipush 10, 2) := dk_16 10 (dk_at dksX0_made_2 11 rfl rfl)
theorem dX0_made_61 : decode cX0_made 61 = .ok (.idiv, 1) := dk_108 (dk_at dksX0_made_2 13 rfl rfl)
theorem dX0_made_62 : decode cX0_made 62 = .ok (.istore 5, 2) := dk_54 5 (dk_at dksX0_made_2 14 rfl rfl)
theorem dX0_made_64 : decode cX0_made 64 = .ok (.iinc 7 1, 3) := dk_132 7 1 (dk_at dksX0_made_2 16 rfl rfl)
theorem dX0_made_67 : decode cX0_made 67 = .ok (.goto (-55), 3) := dk_167 255 201 (dk_at dksX0_made_2 19 rfl rfl)
theorem dX0_made_70 : decode cX0_made 70 = .ok (.iconst 1, 1) := dk_4 (dk_at dksX0_made_2 22 rfl rfl)
theorem dX0_made_71 : decode cX0_made 71 = .ok (.aload_n 0, 1) := dk_42 (dk_at dksX0_made_2 23 rfl rfl)
theorem dX0_made_72 : decode cX0_made 72 = .ok (.getfield 16, 3) := dk_180 0 16 (dk_at dksX0_made_3 0 rfl rfl)
theorem dX0_made_75 : decode cX0_made 75 = .ok (.getfield 107, 3) := dk_180 0 107 (dk_at dksX0_made_3 3 rfl rfl)
theorem dX0_made_78 : decode cX0_made 78 = .ok (.ishl, 1) := dk_120 (dk_at dksX0_made_3 6 rfl rfl)
theorem dX0_made_79 : decode cX0_made 79 = .ok (.iconst 1, 1) := dk_4 (dk_at dksX0_made_3 7 rfl rfl)
theorem dX0_made_80 : decode cX0_made 80 = .ok (.isub, 1) := dk_100 (dk_at dksX0_made_3 8 rfl rfl)
theorem dX0_made_81 : decode cX0_made 81 = .ok (.istore 7, 2) := dk_54 7 (dk_at dksX0_made_3 9 rfl rfl)
theorem dX0_made_83 : decode cX0_made 83 = .ok (.iload 5, 2) := dk_21 5 (dk_at dksX0_made_3 11 rfl rfl)
theorem dX0_made_85 : decode cX0_made 85 = .ok (.ifCond .ne 23, 3) := dk_154 0 23 (dk_at dksX0_made_3 13 rfl rfl)
theorem dX0_made_88 : decode cX0_made 88 = .ok (.iload_n 2, 1) := dk_28 (dk_at dksX0_made_3 16 rfl rfl)
theorem dX0_made_89 : decode cX0_made 89 = .ok (.iconst 0, 1) := dk_3 (dk_at dksX0_made_3 17 rfl rfl)
theorem dX0_made_90 : decode cX0_made 90 = .ok (.iload 7, 2) := dk_21 7 (dk_at dksX0_made_3 18 rfl rfl)
theorem dX0_made_92 : decode cX0_made 92 = .ok (.invokestatic 93, 3) := dk_184 0 93 (dk_at dksX0_made_3 20 rfl rfl)
theorem dX0_made_95 : decode cX0_made 95 = .ok (.ifCond .eq 13, 3) := dk_153 0 13 (dk_at dksX0_made_4 0 rfl rfl)
theorem dX0_made_98 : decode cX0_made 98 = .ok (.iload_n 3, 1) := dk_29 (dk_at dksX0_made_4 3 rfl rfl)
theorem dX0_made_99 : decode cX0_made 99 = .ok (.iconst 0, 1) := dk_3 (dk_at dksX0_made_4 4 rfl rfl)
theorem dX0_made_100 : decode cX0_made 100 = .ok (.iload 7, 2) := dk_21 7 (dk_at dksX0_made_4 5 rfl rfl)
theorem dX0_made_102 : decode cX0_made 102 = .ok (.invokestatic 93, 3) := dk_184 0 93 (dk_at dksX0_made_4 7 rfl rfl)
theorem dX0_made_105 : decode cX0_made 105 = .ok (.ifCond .ne 5, 3) := dk_154 0 5 (dk_at dksX0_made_4 10 rfl rfl)
theorem dX0_made_108 : decode cX0_made 108 = .ok (.iconst (-1), 1) := dk_2 (dk_at dksX0_made_4 13 rfl rfl)
theorem dX0_made_109 : decode cX0_made 109 = .ok (.ireturn, 1) := dk_172 (dk_at dksX0_made_4 14 rfl rfl)
theorem dX0_made_110 : decode cX0_made 110 = .ok (.iconst 0, 1) := dk_3 (dk_at dksX0_made_4 15 rfl rfl)
theorem dX0_made_111 : decode cX0_made 111 = .ok (.istore 8, 2) := dk_54 8 (dk_at dksX0_made_4 16 rfl rfl)
theorem dX0_made_113 : decode cX0_made 113 = .ok (.iconst 0, 1) := dk_3 (dk_at dksX0_made_4 18 rfl rfl)
theorem dX0_made_114 : decode cX0_made 114 = .ok (.istore 9, 2) := dk_54 9 (dk_at dksX0_made_4 19 rfl rfl)
theorem dX0_made_116 : decode cX0_made 116 = .ok (.iload 9, 2) := dk_21 9 (dk_at dksX0_made_4 21 rfl rfl)
theorem dX0_made_118 : decode cX0_made 118 = .ok (.aload_n 0, 1) := dk_42 (dk_at dksX0_made_4 23 rfl rfl)
theorem dX0_made_119 : decode cX0_made 119 = .ok (.getfield 16, 3) := dk_180 0 16 (dk_at dksX0_made_5 0 rfl rfl)
theorem dX0_made_122 : decode cX0_made 122 = .ok (.getfield 152, 3) := dk_180 0 152 (dk_at dksX0_made_5 3 rfl rfl)
theorem dX0_made_125 : decode cX0_made 125 = .ok (.invokevirtual 156, 3) := dk_182 0 156 (dk_at dksX0_made_5 6 rfl rfl)
theorem dX0_made_128 : decode cX0_made 128 = .ok (.if_icmp .ge 76, 3) := dk_162 0 76 (dk_at dksX0_made_5 9 rfl rfl)
theorem dX0_made_131 : decode cX0_made 131 = .ok (.aload_n 0, 1) := dk_42 (dk_at dksX0_made_5 12 rfl rfl)
theorem dX0_made_132 : decode cX0_made 132 = .ok (.aload_n 0, 1) := dk_42 (dk_at dksX0_made_5 13 rfl rfl)
theorem dX0_made_133 : decode cX0_made 133 = .ok (.getfield 39, 3) := dk_180 0 39 (dk_at dksX0_made_5 14 rfl rfl)
theorem dX0_made_136 : decode cX0_made 136 = .ok (.iload 9, 2) := dk_21 9 (dk_at dksX0_made_5 17 rfl rfl)
theorem dX0_made_138 : decode cX0_made 138 = .ok (.iconst (-1), 1) := dk_2 (dk_at dksX0_made_5 19 rfl rfl)
theorem dX0_made_139 : decode cX0_made 139 = .ok (.aconst_null, 1) := dk_1 (dk_at dksX0_made_5 20 rfl rfl)
theorem dX0_made_140 : decode cX0_made 140 = .ok (.invokevirtual 208, 3) := dk_182 0 208 (dk_at dksX0_made_5 21 rfl rfl)
theorem dX0_made_143 : decode cX0_made 143 = .ok (.pop, 1) := dk_87 (dk_at dksX0_made_6 0 rfl rfl)
theorem dX0_made_144 : decode cX0_made 144 = .ok (.aload_n 0, 1) := dk_42 (dk_at dksX0_made_6 1 rfl rfl)
theorem dX0_made_145 : decode cX0_made 145 = .ok (.getfield 39, 3) := dk_180 0 39 (dk_at dksX0_made_6 2 rfl rfl)
theorem dX0_made_148 : decode cX0_made 148 = .ok (.getfield 230, 3) := dk_180 0 230 (dk_at dksX0_made_6 5 rfl rfl)
theorem dX0_made_151 : decode cX0_made 151 = .ok (.iconst (-1), 1) := dk_2 (dk_at dksX0_made_6 8 rfl rfl)
theorem dX0_made_152 : decode cX0_made 152 = .ok (.if_icmp .ne 46, 3) := dk_160 0 46 (dk_at dksX0_made_6 9 rfl rfl)
theorem dX0_made_155 : decode cX0_made 155 = .ok (.aload_n 0, 1) := dk_42 (dk_at dksX0_made_6 12 rfl rfl)
theorem dX0_made_156 : decode cX0_made 156 = .ok (.getfield 39, 3) := dk_180 0 39 (dk_at dksX0_made_6 13 rfl rfl)
theorem dX0_made_159 : decode cX0_made 159 = .ok (.invokevirtual 300, 3) := dk_182 1 44 (dk_at dksX0_made_6 16 rfl rfl)
theorem dX0_made_162 : decode cX0_made 162 = .ok (.iload 4, 2) := dk_21 4 (dk_at dksX0_made_6 19 rfl rfl)
theorem dX0_made_164 : decode cX0_made 164 = .ok (.if_icmp .ne 34, 3) := dk_160 0 34 (dk_at dksX0_made_6 21 rfl rfl)
theorem dX0_made_167 : decode cX0_made 167 = .ok (.aload_n 0, 1) := dk_42 (dk_at dksX0_made_7 0 rfl rfl)
theorem dX0_made_168 : decode cX0_made 168 = .ok (.getfield 39, 3) := dk_180 0 39 (dk_at dksX0_made_7 1 rfl rfl)
theorem dX0_made_171 : decode cX0_made 171 = .ok (.getfield 236, 3) := dk_180 0 236 (dk_at dksX0_made_7 4 rfl rfl)
theorem dX0_made_174 : decode cX0_made 174 = .ok (.iload_n 2, 1) := dk_28 (dk_at dksX0_made_7 7 rfl rfl)
theorem dX0_made_175 : decode cX0_made 175 = .ok (.if_icmp .ne 23, 3) := dk_160 0 23 (dk_at dksX0_made_7 8 rfl rfl)
theorem dX0_made_178 : decode cX0_made 178 = .ok (.aload_n 0, 1) := dk_42 (dk_at dksX0_made_7 11 rfl rfl)
theorem dX0_made_179 : decode cX0_made 179 = .ok (.getfield 39, 3) := dk_180 0 39 (dk_at dksX0_made_7 12 rfl rfl)
theorem dX0_made_182 : decode cX0_made 182 = .ok (.getfield 242, 3) := dk_180 0 242 (dk_at dksX0_made_7 15 rfl rfl)
theorem dX0_made_185 : decode cX0_made 185 = .ok (.iload_n 3, 1) := dk_29 (dk_at dksX0_made_7 18 rfl rfl)
theorem dX0_made_186 : decode cX0_made 186 = .ok (.if_icmp .ne 12, 3) := dk_160 0 12 (dk_at dksX0_made_7 19 rfl rfl)
theorem dX0_made_189 : decode cX0_made 189 = .ok (.iload 8, 2) := dk_21 8 (dk_at dksX0_made_7 22 rfl rfl)
theorem dX0_made_191 : decode cX0_made 191 = .ok (.iconst 1, 1) := dk_4 (dk_at dksX0_made_8 0 rfl rfl)
theorem dX0_made_192 : decode cX0_made 192 = .ok (.iload 9, 2) := dk_21 9 (dk_at dksX0_made_8 1 rfl rfl)
theorem dX0_made_194 : decode cX0_made 194 = .ok (.ishl, 1) := dk_120 (dk_at dksX0_made_8 3 rfl rfl)
theorem dX0_made_195 : decode cX0_made 195 = .ok (.ior, 1) := dk_128 (dk_at dksX0_made_8 4 rfl rfl)
theorem dX0_made_196 : decode cX0_made 196 = .ok (.istore 8, 2) := dk_54 8 (dk_at dksX0_made_8 5 rfl rfl)
theorem dX0_made_198 : decode cX0_made 198 = .ok (.iinc 9 1, 3) := dk_132 9 1 (dk_at dksX0_made_8 7 rfl rfl)
theorem dX0_made_201 : decode cX0_made 201 = .ok (.goto (-85), 3) := dk_167 255 171 (dk_at dksX0_made_8 10 rfl rfl)
theorem dX0_made_204 : decode cX0_made 204 = .ok (.iload 8, 2) := dk_21 8 (dk_at dksX0_made_8 13 rfl rfl)
theorem dX0_made_206 : decode cX0_made 206 = .ok (.ireturn, 1) := dk_172 (dk_at dksX0_made_8 15 rfl rfl)
abbrev cX0_twelve : ByteArray := prog_1_method_39_code
def yX0_twelve : MethodName := ⟨RX0, "twelve", "(IIII)I"⟩
def dkwX0_twelve_9 : List UInt8 := [167, 0, 16, 21, 4, 4, 160, 0, 8, 21, 7, 167, 0, 5, 21, 5, 172]
abbrev dktX0_twelve_9 : List UInt8 := dkwX0_twelve_9 ++ []
def dkwX0_twelve_8 : List UInt8 := [184, 1, 62, 54, 7, 132, 9, 1, 167, 255, 231, 132, 8, 1, 167, 255, 133, 21, 4, 154, 0, 8, 21, 6]
abbrev dktX0_twelve_8 : List UInt8 := dkwX0_twelve_8 ++ dktX0_twelve_9
def dkwX0_twelve_7 : List UInt8 := [3, 96, 54, 6, 3, 54, 9, 21, 9, 21, 8, 162, 0, 24, 21, 7, 42, 21, 8, 21, 9, 182, 1, 59]
abbrev dktX0_twelve_7 : List UInt8 := dkwX0_twelve_7 ++ dktX0_twelve_8
def dkwX0_twelve_6 : List UInt8 := [4, 167, 0, 4, 3, 96, 54, 5, 21, 6, 42, 21, 8, 3, 182, 1, 59, 154, 0, 7, 4, 167, 0, 4]
abbrev dktX0_twelve_6 : List UInt8 := dkwX0_twelve_6 ++ dktX0_twelve_7
def dkwX0_twelve_5 : List UInt8 := [104, 8, 184, 0, 140, 21, 5, 42, 180, 0, 39, 182, 1, 44, 42, 180, 0, 42, 182, 1, 44, 160, 0, 7]
abbrev dktX0_twelve_5 : List UInt8 := dkwX0_twelve_5 ++ dktX0_twelve_6
def dkwX0_twelve_4 : List UInt8 := [2, 42, 180, 0, 72, 182, 0, 208, 87, 42, 180, 0, 39, 180, 0, 249, 3, 42, 180, 0, 66, 8, 21, 8]
abbrev dktX0_twelve_4 : List UInt8 := dkwX0_twelve_4 ++ dktX0_twelve_5
def dkwX0_twelve_3 : List UInt8 := [54, 5, 3, 54, 6, 3, 54, 7, 3, 54, 8, 21, 8, 16, 12, 162, 0, 122, 42, 42, 180, 0, 39, 27]
abbrev dktX0_twelve_3 : List UInt8 := dkwX0_twelve_3 ++ dktX0_twelve_4
def dkwX0_twelve_2 : List UInt8 := [181, 1, 53, 42, 180, 0, 72, 29, 181, 1, 56, 42, 42, 180, 0, 42, 27, 2, 1, 182, 0, 208, 87, 3]
abbrev dktX0_twelve_2 : List UInt8 := dkwX0_twelve_2 ++ dktX0_twelve_3
def dkwX0_twelve_1 : List UInt8 := [184, 0, 93, 153, 0, 13, 21, 4, 3, 5, 184, 0, 93, 154, 0, 5, 2, 172, 42, 180, 0, 72, 28]
abbrev dktX0_twelve_1 : List UInt8 := dkwX0_twelve_1 ++ dktX0_twelve_2
def dkwX0_twelve_0 : List UInt8 := [42, 27, 182, 0, 182, 153, 0, 34, 28, 3, 16, 100, 184, 0, 93, 153, 0, 24, 29, 3, 19, 1, 52]
abbrev dktX0_twelve_0 : List UInt8 := dkwX0_twelve_0 ++ dktX0_twelve_1
theorem dksX0_twelve_0 : cX0_twelve.data.toList.drop 0 = dktX0_twelve_0 := by decide +kernel
theorem dksX0_twelve_1 : cX0_twelve.data.toList.drop 23 = dktX0_twelve_1 := dk_seg dksX0_twelve_0 23 rfl rfl
theorem dksX0_twelve_2 : cX0_twelve.data.toList.drop 46 = dktX0_twelve_2 := dk_seg dksX0_twelve_1 23 rfl rfl
theorem dksX0_twelve_3 : cX0_twelve.data.toList.drop 70 = dktX0_twelve_3 := dk_seg dksX0_twelve_2 24 rfl rfl
theorem dksX0_twelve_4 : cX0_twelve.data.toList.drop 94 = dktX0_twelve_4 := dk_seg dksX0_twelve_3 24 rfl rfl
theorem dksX0_twelve_5 : cX0_twelve.data.toList.drop 118 = dktX0_twelve_5 := dk_seg dksX0_twelve_4 24 rfl rfl
theorem dksX0_twelve_6 : cX0_twelve.data.toList.drop 142 = dktX0_twelve_6 := dk_seg dksX0_twelve_5 24 rfl rfl
theorem dksX0_twelve_7 : cX0_twelve.data.toList.drop 166 = dktX0_twelve_7 := dk_seg dksX0_twelve_6 24 rfl rfl
theorem dksX0_twelve_8 : cX0_twelve.data.toList.drop 190 = dktX0_twelve_8 := dk_seg dksX0_twelve_7 24 rfl rfl
theorem dksX0_twelve_9 : cX0_twelve.data.toList.drop 214 = dktX0_twelve_9 := dk_seg dksX0_twelve_8 24 rfl rfl
theorem dX0_twelve_0 : decode cX0_twelve 0 = .ok (.aload_n 0, 1) := dk_42 (dk_at dksX0_twelve_0 0 rfl rfl)
theorem dX0_twelve_1 : decode cX0_twelve 1 = .ok (.iload_n 1, 1) := dk_27 (dk_at dksX0_twelve_0 1 rfl rfl)
theorem dX0_twelve_2 : decode cX0_twelve 2 = .ok (.invokevirtual 182, 3) := dk_182 0 182 (dk_at dksX0_twelve_0 2 rfl rfl)
theorem dX0_twelve_5 : decode cX0_twelve 5 = .ok (.ifCond .eq 34, 3) := dk_153 0 34 (dk_at dksX0_twelve_0 5 rfl rfl)
theorem dX0_twelve_8 : decode cX0_twelve 8 = .ok (.iload_n 2, 1) := dk_28 (dk_at dksX0_twelve_0 8 rfl rfl)
theorem dX0_twelve_9 : decode cX0_twelve 9 = .ok (.iconst 0, 1) := dk_3 (dk_at dksX0_twelve_0 9 rfl rfl)
theorem dX0_twelve_10 : decode cX0_twelve 10 = .ok (.bipush 100, 2) := dk_16 100 (dk_at dksX0_twelve_0 10 rfl rfl)
theorem dX0_twelve_12 : decode cX0_twelve 12 = .ok (.invokestatic 93, 3) := dk_184 0 93 (dk_at dksX0_twelve_0 12 rfl rfl)
theorem dX0_twelve_15 : decode cX0_twelve 15 = .ok (.ifCond .eq 24, 3) := dk_153 0 24 (dk_at dksX0_twelve_0 15 rfl rfl)
theorem dX0_twelve_18 : decode cX0_twelve 18 = .ok (.iload_n 3, 1) := dk_29 (dk_at dksX0_twelve_0 18 rfl rfl)
theorem dX0_twelve_19 : decode cX0_twelve 19 = .ok (.iconst 0, 1) := dk_3 (dk_at dksX0_twelve_0 19 rfl rfl)
theorem dX0_twelve_20 : decode cX0_twelve 20 = .ok (.ldc_w 308, 3) := dk_19 1 52 (dk_at dksX0_twelve_0 20 rfl rfl)
theorem dX0_twelve_23 : decode cX0_twelve 23 = .ok (.invokestatic 93, 3) := dk_184 0 93 (dk_at dksX0_twelve_1 0 rfl rfl)
theorem dX0_twelve_26 : decode cX0_twelve 26 = .ok (.ifCond .eq 13, 3) := dk_153 0 13 (dk_at dksX0_twelve_1 3 rfl rfl)
theorem dX0_twelve_29 : decode cX0_twelve 29 = .ok (.iload 4, 2) := dk_21 4 (dk_at dksX0_twelve_1 6 rfl rfl)
theorem dX0_twelve_31 : decode cX0_twelve 31 = .ok (.iconst 0, 1) := dk_3 (dk_at dksX0_twelve_1 8 rfl rfl)
theorem dX0_twelve_32 : decode cX0_twelve 32 = .ok (.iconst 2, 1) := dk_5 (dk_at dksX0_twelve_1 9 rfl rfl)
theorem dX0_twelve_33 : decode cX0_twelve 33 = .ok (.invokestatic 93, 3) := dk_184 0 93 (dk_at dksX0_twelve_1 10 rfl rfl)
theorem dX0_twelve_36 : decode cX0_twelve 36 = .ok (.ifCond .ne 5, 3) := dk_154 0 5 (dk_at dksX0_twelve_1 13 rfl rfl)
theorem dX0_twelve_39 : decode cX0_twelve 39 = .ok (.iconst (-1), 1) := dk_2 (dk_at dksX0_twelve_1 16 rfl rfl)
theorem dX0_twelve_40 : decode cX0_twelve 40 = .ok (.ireturn, 1) := dk_172 (dk_at dksX0_twelve_1 17 rfl rfl)
theorem dX0_twelve_41 : decode cX0_twelve 41 = .ok (.aload_n 0, 1) := dk_42 (dk_at dksX0_twelve_1 18 rfl rfl)
theorem dX0_twelve_42 : decode cX0_twelve 42 = .ok (.getfield 72, 3) := dk_180 0 72 (dk_at dksX0_twelve_1 19 rfl rfl)
theorem dX0_twelve_45 : decode cX0_twelve 45 = .ok (.iload_n 2, 1) := dk_28 (dk_at dksX0_twelve_1 22 rfl rfl)
theorem dX0_twelve_46 : decode cX0_twelve 46 = .ok (.putfield 309, 3) := dk_181 1 53 (dk_at dksX0_twelve_2 0 rfl rfl)
theorem dX0_twelve_49 : decode cX0_twelve 49 = .ok (.aload_n 0, 1) := dk_42 (dk_at dksX0_twelve_2 3 rfl rfl)
theorem dX0_twelve_50 : decode cX0_twelve 50 = .ok (.getfield 72, 3) := dk_180 0 72 (dk_at dksX0_twelve_2 4 rfl rfl)
theorem dX0_twelve_53 : decode cX0_twelve 53 = .ok (.iload_n 3, 1) := dk_29 (dk_at dksX0_twelve_2 7 rfl rfl)
theorem dX0_twelve_54 : decode cX0_twelve 54 = .ok (.putfield 312, 3) := dk_181 1 56 (dk_at dksX0_twelve_2 8 rfl rfl)
theorem dX0_twelve_57 : decode cX0_twelve 57 = .ok (.aload_n 0, 1) := dk_42 (dk_at dksX0_twelve_2 11 rfl rfl)
theorem dX0_twelve_58 : decode cX0_twelve 58 = .ok (.aload_n 0, 1) := dk_42 (dk_at dksX0_twelve_2 12 rfl rfl)
theorem dX0_twelve_59 : decode cX0_twelve 59 = .ok (.getfield 42, 3) := dk_180 0 42 (dk_at dksX0_twelve_2 13 rfl rfl)
theorem dX0_twelve_62 : decode cX0_twelve 62 = .ok (.iload_n 1, 1) := dk_27 (dk_at dksX0_twelve_2 16 rfl rfl)
theorem dX0_twelve_63 : decode cX0_twelve 63 = .ok (.iconst (-1), 1) := dk_2 (dk_at dksX0_twelve_2 17 rfl rfl)
theorem dX0_twelve_64 : decode cX0_twelve 64 = .ok (.aconst_null, 1) := dk_1 (dk_at dksX0_twelve_2 18 rfl rfl)
theorem dX0_twelve_65 : decode cX0_twelve 65 = .ok (.invokevirtual 208, 3) := dk_182 0 208 (dk_at dksX0_twelve_2 19 rfl rfl)
theorem dX0_twelve_68 : decode cX0_twelve 68 = .ok (.pop, 1) := dk_87 (dk_at dksX0_twelve_2 22 rfl rfl)
theorem dX0_twelve_69 : decode cX0_twelve 69 = .ok (.iconst 0, 1) := dk_3 (dk_at dksX0_twelve_2 23 rfl rfl)
theorem dX0_twelve_70 : decode cX0_twelve 70 = .ok (.istore 5, 2) := dk_54 5 (dk_at dksX0_twelve_3 0 rfl rfl)
theorem dX0_twelve_72 : decode cX0_twelve 72 = .ok (.iconst 0, 1) := dk_3 (dk_at dksX0_twelve_3 2 rfl rfl)
theorem dX0_twelve_73 : decode cX0_twelve 73 = .ok (.istore 6, 2) := dk_54 6 (dk_at dksX0_twelve_3 3 rfl rfl)
theorem dX0_twelve_75 : decode cX0_twelve 75 = .ok (.iconst 0, 1) := dk_3 (dk_at dksX0_twelve_3 5 rfl rfl)
theorem dX0_twelve_76 : decode cX0_twelve 76 = .ok (.istore 7, 2) := dk_54 7 (dk_at dksX0_twelve_3 6 rfl rfl)
theorem dX0_twelve_78 : decode cX0_twelve 78 = .ok (.iconst 0, 1) := dk_3 (dk_at dksX0_twelve_3 8 rfl rfl)
theorem dX0_twelve_79 : decode cX0_twelve 79 = .ok (.istore 8, 2) := dk_54 8 (dk_at dksX0_twelve_3 9 rfl rfl)
theorem dX0_twelve_81 : decode cX0_twelve 81 = .ok (.iload 8, 2) := dk_21 8 (dk_at dksX0_twelve_3 11 rfl rfl)
theorem dX0_twelve_83 : decode cX0_twelve 83 = .ok (.bipush 12, 2) := dk_16 12 (dk_at dksX0_twelve_3 13 rfl rfl)
theorem dX0_twelve_85 : decode cX0_twelve 85 = .ok (.if_icmp .ge 122, 3) := dk_162 0 122 (dk_at dksX0_twelve_3 15 rfl rfl)
theorem dX0_twelve_88 : decode cX0_twelve 88 = .ok (.aload_n 0, 1) := dk_42 (dk_at dksX0_twelve_3 18 rfl rfl)
theorem dX0_twelve_89 : decode cX0_twelve 89 = .ok (.aload_n 0, 1) := dk_42 (dk_at dksX0_twelve_3 19 rfl rfl)
theorem dX0_twelve_90 : decode cX0_twelve 90 = .ok (.getfield 39, 3) := dk_180 0 39 (dk_at dksX0_twelve_3 20 rfl rfl)
theorem dX0_twelve_93 : decode cX0_twelve 93 = .ok (.iload_n 1, 1) := dk_27 (dk_at dksX0_twelve_3 23 rfl rfl)
theorem dX0_twelve_94 : decode cX0_twelve 94 = .ok (.iconst (-1), 1) := dk_2 (dk_at dksX0_twelve_4 0 rfl rfl)
theorem dX0_twelve_95 : decode cX0_twelve 95 = .ok (.aload_n 0, 1) := dk_42 (dk_at dksX0_twelve_4 1 rfl rfl)
theorem dX0_twelve_96 : decode cX0_twelve 96 = .ok (.getfield 72, 3) := dk_180 0 72 (dk_at dksX0_twelve_4 2 rfl rfl)
theorem dX0_twelve_99 : decode cX0_twelve 99 = .ok (.invokevirtual 208, 3) := dk_182 0 208 (dk_at dksX0_twelve_4 5 rfl rfl)
theorem dX0_twelve_102 : decode cX0_twelve 102 = .ok (.pop, 1) := dk_87 (dk_at dksX0_twelve_4 8 rfl rfl)
theorem dX0_twelve_103 : decode cX0_twelve 103 = .ok (.aload_n 0, 1) := dk_42 (dk_at dksX0_twelve_4 9 rfl rfl)
theorem dX0_twelve_104 : decode cX0_twelve 104 = .ok (.getfield 39, 3) := dk_180 0 39 (dk_at dksX0_twelve_4 10 rfl rfl)
theorem dX0_twelve_107 : decode cX0_twelve 107 = .ok (.getfield 249, 3) := dk_180 0 249 (dk_at dksX0_twelve_4 13 rfl rfl)
theorem dX0_twelve_110 : decode cX0_twelve 110 = .ok (.iconst 0, 1) := dk_3 (dk_at dksX0_twelve_4 16 rfl rfl)
theorem dX0_twelve_111 : decode cX0_twelve 111 = .ok (.aload_n 0, 1) := dk_42 (dk_at dksX0_twelve_4 17 rfl rfl)
theorem dX0_twelve_112 : decode cX0_twelve 112 = .ok (.getfield 66, 3) := dk_180 0 66 (dk_at dksX0_twelve_4 18 rfl rfl)
theorem dX0_twelve_115 : decode cX0_twelve 115 = .ok (.iconst 5, 1) := dk_8 (dk_at dksX0_twelve_4 21 rfl rfl)
theorem dX0_twelve_116 : decode cX0_twelve 116 = .ok (.iload 8, 2) := dk_21 8 (dk_at dksX0_twelve_4 22 rfl rfl)
theorem dX0_twelve_118 : decode cX0_twelve 118 = .ok (.imul, 1) := dk_104 (dk_at dksX0_twelve_5 0 rfl rfl)
theorem dX0_twelve_119 : decode cX0_twelve 119 = .ok (.iconst 5, 1) := dk_8 (dk_at dksX0_twelve_5 1 rfl rfl)
theorem dX0_twelve_120 : decode cX0_twelve 120 = .ok (.invokestatic 140, 3) := dk_184 0 140 (dk_at dksX0_twelve_5 2 rfl rfl)
theorem dX0_twelve_123 : decode cX0_twelve 123 = .ok (.iload 5, 2) := dk_21 5 (dk_at dksX0_twelve_5 5 rfl rfl)
theorem dX0_twelve_125 : decode cX0_twelve 125 = .ok (.aload_n 0, 1) := dk_42 (dk_at dksX0_twelve_5 7 rfl rfl)
theorem dX0_twelve_126 : decode cX0_twelve 126 = .ok (.getfield 39, 3) := dk_180 0 39 (dk_at dksX0_twelve_5 8 rfl rfl)
theorem dX0_twelve_129 : decode cX0_twelve 129 = .ok (.invokevirtual 300, 3) := dk_182 1 44 (dk_at dksX0_twelve_5 11 rfl rfl)
theorem dX0_twelve_132 : decode cX0_twelve 132 = .ok (.aload_n 0, 1) := dk_42 (dk_at dksX0_twelve_5 14 rfl rfl)
theorem dX0_twelve_133 : decode cX0_twelve 133 = .ok (.getfield 42, 3) := dk_180 0 42 (dk_at dksX0_twelve_5 15 rfl rfl)
theorem dX0_twelve_136 : decode cX0_twelve 136 = .ok (.invokevirtual 300, 3) := dk_182 1 44 (dk_at dksX0_twelve_5 18 rfl rfl)
theorem dX0_twelve_139 : decode cX0_twelve 139 = .ok (.if_icmp .ne 7, 3) := dk_160 0 7 (dk_at dksX0_twelve_5 21 rfl rfl)
theorem dX0_twelve_142 : decode cX0_twelve 142 = .ok (.iconst 1, 1) := dk_4 (dk_at dksX0_twelve_6 0 rfl rfl)
theorem dX0_twelve_143 : decode cX0_twelve 143 = .ok (.goto 4, 3) := dk_167 0 4 (dk_at dksX0_twelve_6 1 rfl rfl)
theorem dX0_twelve_146 : decode cX0_twelve 146 = .ok (.iconst 0, 1) := dk_3 (dk_at dksX0_twelve_6 4 rfl rfl)
theorem dX0_twelve_147 : decode cX0_twelve 147 = .ok (.iadd, 1) := dk_96 (dk_at dksX0_twelve_6 5 rfl rfl)
theorem dX0_twelve_148 : decode cX0_twelve 148 = .ok (.istore 5, 2) := dk_54 5 (dk_at dksX0_twelve_6 6 rfl rfl)
theorem dX0_twelve_150 : decode cX0_twelve 150 = .ok (.iload 6, 2) := dk_21 6 (dk_at dksX0_twelve_6 8 rfl rfl)
theorem dX0_twelve_152 : decode cX0_twelve 152 = .ok (.aload_n 0, 1) := dk_42 (dk_at dksX0_twelve_6 10 rfl rfl)
theorem dX0_twelve_153 : decode cX0_twelve 153 = .ok (.iload 8, 2) := dk_21 8 (dk_at dksX0_twelve_6 11 rfl rfl)
theorem dX0_twelve_155 : decode cX0_twelve 155 = .ok (.iconst 0, 1) := dk_3 (dk_at dksX0_twelve_6 13 rfl rfl)
theorem dX0_twelve_156 : decode cX0_twelve 156 = .ok (.invokevirtual 315, 3) := dk_182 1 59 (dk_at dksX0_twelve_6 14 rfl rfl)
theorem dX0_twelve_159 : decode cX0_twelve 159 = .ok (.ifCond .ne 7, 3) := dk_154 0 7 (dk_at dksX0_twelve_6 17 rfl rfl)
theorem dX0_twelve_162 : decode cX0_twelve 162 = .ok (.iconst 1, 1) := dk_4 (dk_at dksX0_twelve_6 20 rfl rfl)
theorem dX0_twelve_163 : decode cX0_twelve 163 = .ok (.goto 4, 3) := dk_167 0 4 (dk_at dksX0_twelve_6 21 rfl rfl)
theorem dX0_twelve_166 : decode cX0_twelve 166 = .ok (.iconst 0, 1) := dk_3 (dk_at dksX0_twelve_7 0 rfl rfl)
theorem dX0_twelve_167 : decode cX0_twelve 167 = .ok (.iadd, 1) := dk_96 (dk_at dksX0_twelve_7 1 rfl rfl)
theorem dX0_twelve_168 : decode cX0_twelve 168 = .ok (.istore 6, 2) := dk_54 6 (dk_at dksX0_twelve_7 2 rfl rfl)
theorem dX0_twelve_170 : decode cX0_twelve 170 = .ok (.iconst 0, 1) := dk_3 (dk_at dksX0_twelve_7 4 rfl rfl)
theorem dX0_twelve_171 : decode cX0_twelve 171 = .ok (.istore 9, 2) := dk_54 9 (dk_at dksX0_twelve_7 5 rfl rfl)
theorem dX0_twelve_173 : decode cX0_twelve 173 = .ok (.iload 9, 2) := dk_21 9 (dk_at dksX0_twelve_7 7 rfl rfl)
theorem dX0_twelve_175 : decode cX0_twelve 175 = .ok (.iload 8, 2) := dk_21 8 (dk_at dksX0_twelve_7 9 rfl rfl)
theorem dX0_twelve_177 : decode cX0_twelve 177 = .ok (.if_icmp .ge 24, 3) := dk_162 0 24 (dk_at dksX0_twelve_7 11 rfl rfl)
theorem dX0_twelve_180 : decode cX0_twelve 180 = .ok (.iload 7, 2) := dk_21 7 (dk_at dksX0_twelve_7 14 rfl rfl)
theorem dX0_twelve_182 : decode cX0_twelve 182 = .ok (.aload_n 0, 1) := dk_42 (dk_at dksX0_twelve_7 16 rfl rfl)
theorem dX0_twelve_183 : decode cX0_twelve 183 = .ok (.iload 8, 2) := dk_21 8 (dk_at dksX0_twelve_7 17 rfl rfl)
theorem dX0_twelve_185 : decode cX0_twelve 185 = .ok (.iload 9, 2) := dk_21 9 (dk_at dksX0_twelve_7 19 rfl rfl)
theorem dX0_twelve_187 : decode cX0_twelve 187 = .ok (.invokevirtual 315, 3) := dk_182 1 59 (dk_at dksX0_twelve_7 21 rfl rfl)
theorem dX0_twelve_190 : decode cX0_twelve 190 = .ok (.invokestatic 318, 3) := dk_184 1 62 (dk_at dksX0_twelve_8 0 rfl rfl)
theorem dX0_twelve_193 : decode cX0_twelve 193 = .ok (.istore 7, 2) := dk_54 7 (dk_at dksX0_twelve_8 3 rfl rfl)
theorem dX0_twelve_195 : decode cX0_twelve 195 = .ok (.iinc 9 1, 3) := dk_132 9 1 (dk_at dksX0_twelve_8 5 rfl rfl)
theorem dX0_twelve_198 : decode cX0_twelve 198 = .ok (.goto (-25), 3) := dk_167 255 231 (dk_at dksX0_twelve_8 8 rfl rfl)
theorem dX0_twelve_201 : decode cX0_twelve 201 = .ok (.iinc 8 1, 3) := dk_132 8 1 (dk_at dksX0_twelve_8 11 rfl rfl)
theorem dX0_twelve_204 : decode cX0_twelve 204 = .ok (.goto (-123), 3) := dk_167 255 133 (dk_at dksX0_twelve_8 14 rfl rfl)
theorem dX0_twelve_207 : decode cX0_twelve 207 = .ok (.iload 4, 2) := dk_21 4 (dk_at dksX0_twelve_8 17 rfl rfl)
theorem dX0_twelve_209 : decode cX0_twelve 209 = .ok (.ifCond .ne 8, 3) := dk_154 0 8 (dk_at dksX0_twelve_8 19 rfl rfl)
theorem dX0_twelve_212 : decode cX0_twelve 212 = .ok (.iload 6, 2) := dk_21 6 (dk_at dksX0_twelve_8 22 rfl rfl)
theorem dX0_twelve_214 : decode cX0_twelve 214 = .ok (.goto 16, 3) := dk_167 0 16 (dk_at dksX0_twelve_9 0 rfl rfl)
theorem dX0_twelve_217 : decode cX0_twelve 217 = .ok (.iload 4, 2) := dk_21 4 (dk_at dksX0_twelve_9 3 rfl rfl)
theorem dX0_twelve_219 : decode cX0_twelve 219 = .ok (.iconst 1, 1) := dk_4 (dk_at dksX0_twelve_9 5 rfl rfl)
theorem dX0_twelve_220 : decode cX0_twelve 220 = .ok (.if_icmp .ne 8, 3) := dk_160 0 8 (dk_at dksX0_twelve_9 6 rfl rfl)
theorem dX0_twelve_223 : decode cX0_twelve 223 = .ok (.iload 7, 2) := dk_21 7 (dk_at dksX0_twelve_9 9 rfl rfl)
theorem dX0_twelve_225 : decode cX0_twelve 225 = .ok (.goto 5, 3) := dk_167 0 5 (dk_at dksX0_twelve_9 11 rfl rfl)
theorem dX0_twelve_228 : decode cX0_twelve 228 = .ok (.iload 5, 2) := dk_21 5 (dk_at dksX0_twelve_9 14 rfl rfl)
theorem dX0_twelve_230 : decode cX0_twelve 230 = .ok (.ireturn, 1) := dk_172 (dk_at dksX0_twelve_9 16 rfl rfl)
abbrev cX0_apart : ByteArray := prog_1_method_38_code
def yX0_apart : MethodName := ⟨RX0, "apart", "(II)I"⟩
def dkwX0_apart_2 : List UInt8 := [132, 4, 1, 167, 255, 212, 29, 172]
abbrev dktX0_apart_2 : List UInt8 := dkwX0_apart_2 ++ []
def dkwX0_apart_1 : List UInt8 := [104, 21, 4, 96, 46, 42, 180, 0, 66, 8, 28, 104, 21, 4, 96, 46, 100, 184, 1, 47, 96, 62]
abbrev dktX0_apart_1 : List UInt8 := dkwX0_apart_1 ++ dktX0_apart_2
def dkwX0_apart_0 : List UInt8 := [3, 62, 3, 54, 4, 21, 4, 42, 180, 0, 16, 180, 0, 107, 162, 0, 38, 29, 42, 180, 0, 66, 8, 27]
abbrev dktX0_apart_0 : List UInt8 := dkwX0_apart_0 ++ dktX0_apart_1
theorem dksX0_apart_0 : cX0_apart.data.toList.drop 0 = dktX0_apart_0 := by decide +kernel
theorem dksX0_apart_1 : cX0_apart.data.toList.drop 24 = dktX0_apart_1 := dk_seg dksX0_apart_0 24 rfl rfl
theorem dksX0_apart_2 : cX0_apart.data.toList.drop 46 = dktX0_apart_2 := dk_seg dksX0_apart_1 22 rfl rfl
theorem dX0_apart_0 : decode cX0_apart 0 = .ok (.iconst 0, 1) := dk_3 (dk_at dksX0_apart_0 0 rfl rfl)
theorem dX0_apart_1 : decode cX0_apart 1 = .ok (.istore_n 3, 1) := dk_62 (dk_at dksX0_apart_0 1 rfl rfl)
theorem dX0_apart_2 : decode cX0_apart 2 = .ok (.iconst 0, 1) := dk_3 (dk_at dksX0_apart_0 2 rfl rfl)
theorem dX0_apart_3 : decode cX0_apart 3 = .ok (.istore 4, 2) := dk_54 4 (dk_at dksX0_apart_0 3 rfl rfl)
theorem dX0_apart_5 : decode cX0_apart 5 = .ok (.iload 4, 2) := dk_21 4 (dk_at dksX0_apart_0 5 rfl rfl)
theorem dX0_apart_7 : decode cX0_apart 7 = .ok (.aload_n 0, 1) := dk_42 (dk_at dksX0_apart_0 7 rfl rfl)
theorem dX0_apart_8 : decode cX0_apart 8 = .ok (.getfield 16, 3) := dk_180 0 16 (dk_at dksX0_apart_0 8 rfl rfl)
theorem dX0_apart_11 : decode cX0_apart 11 = .ok (.getfield 107, 3) := dk_180 0 107 (dk_at dksX0_apart_0 11 rfl rfl)
theorem dX0_apart_14 : decode cX0_apart 14 = .ok (.if_icmp .ge 38, 3) := dk_162 0 38 (dk_at dksX0_apart_0 14 rfl rfl)
theorem dX0_apart_17 : decode cX0_apart 17 = .ok (.iload_n 3, 1) := dk_29 (dk_at dksX0_apart_0 17 rfl rfl)
theorem dX0_apart_18 : decode cX0_apart 18 = .ok (.aload_n 0, 1) := dk_42 (dk_at dksX0_apart_0 18 rfl rfl)
theorem dX0_apart_19 : decode cX0_apart 19 = .ok (.getfield 66, 3) := dk_180 0 66 (dk_at dksX0_apart_0 19 rfl rfl)
theorem dX0_apart_22 : decode cX0_apart 22 = .ok (.iconst 5, 1) := dk_8 (dk_at dksX0_apart_0 22 rfl rfl)
theorem dX0_apart_23 : decode cX0_apart 23 = .ok (.iload_n 1, 1) := dk_27 (dk_at dksX0_apart_0 23 rfl rfl)
theorem dX0_apart_24 : decode cX0_apart 24 = .ok (.imul, 1) := dk_104 (dk_at dksX0_apart_1 0 rfl rfl)
theorem dX0_apart_25 : decode cX0_apart 25 = .ok (.iload 4, 2) := dk_21 4 (dk_at dksX0_apart_1 1 rfl rfl)
theorem dX0_apart_27 : decode cX0_apart 27 = .ok (.iadd, 1) := dk_96 (dk_at dksX0_apart_1 3 rfl rfl)
theorem dX0_apart_28 : decode cX0_apart 28 = .ok (.iaload, 1) := dk_46 (dk_at dksX0_apart_1 4 rfl rfl)
theorem dX0_apart_29 : decode cX0_apart 29 = .ok (.aload_n 0, 1) := dk_42 (dk_at dksX0_apart_1 5 rfl rfl)
theorem dX0_apart_30 : decode cX0_apart 30 = .ok (.getfield 66, 3) := dk_180 0 66 (dk_at dksX0_apart_1 6 rfl rfl)
theorem dX0_apart_33 : decode cX0_apart 33 = .ok (.iconst 5, 1) := dk_8 (dk_at dksX0_apart_1 9 rfl rfl)
theorem dX0_apart_34 : decode cX0_apart 34 = .ok (.iload_n 2, 1) := dk_28 (dk_at dksX0_apart_1 10 rfl rfl)
theorem dX0_apart_35 : decode cX0_apart 35 = .ok (.imul, 1) := dk_104 (dk_at dksX0_apart_1 11 rfl rfl)
theorem dX0_apart_36 : decode cX0_apart 36 = .ok (.iload 4, 2) := dk_21 4 (dk_at dksX0_apart_1 12 rfl rfl)
theorem dX0_apart_38 : decode cX0_apart 38 = .ok (.iadd, 1) := dk_96 (dk_at dksX0_apart_1 14 rfl rfl)
theorem dX0_apart_39 : decode cX0_apart 39 = .ok (.iaload, 1) := dk_46 (dk_at dksX0_apart_1 15 rfl rfl)
theorem dX0_apart_40 : decode cX0_apart 40 = .ok (.isub, 1) := dk_100 (dk_at dksX0_apart_1 16 rfl rfl)
theorem dX0_apart_41 : decode cX0_apart 41 = .ok (.invokestatic 303, 3) := dk_184 1 47 (dk_at dksX0_apart_1 17 rfl rfl)
theorem dX0_apart_44 : decode cX0_apart 44 = .ok (.iadd, 1) := dk_96 (dk_at dksX0_apart_1 20 rfl rfl)
theorem dX0_apart_45 : decode cX0_apart 45 = .ok (.istore_n 3, 1) := dk_62 (dk_at dksX0_apart_1 21 rfl rfl)
theorem dX0_apart_46 : decode cX0_apart 46 = .ok (.iinc 4 1, 3) := dk_132 4 1 (dk_at dksX0_apart_2 0 rfl rfl)
theorem dX0_apart_49 : decode cX0_apart 49 = .ok (.goto (-44), 3) := dk_167 255 212 (dk_at dksX0_apart_2 3 rfl rfl)
theorem dX0_apart_52 : decode cX0_apart 52 = .ok (.iload_n 3, 1) := dk_29 (dk_at dksX0_apart_2 6 rfl rfl)
theorem dX0_apart_53 : decode cX0_apart 53 = .ok (.ireturn, 1) := dk_172 (dk_at dksX0_apart_2 7 rfl rfl)
abbrev cX0_piece : ByteArray := prog_1_method_40_code
def yX0_piece : MethodName := ⟨RX0, "piece", "(II)I"⟩
def dkwX0_piece_4 : List UInt8 := [180, 1, 65, 182, 0, 156, 4, 100, 182, 0, 104, 172]
abbrev dktX0_piece_4 : List UInt8 := dkwX0_piece_4 ++ []
def dkwX0_piece_3 : List UInt8 := [180, 0, 16, 180, 1, 65, 187, 1, 68, 89, 27, 28, 183, 1, 70, 182, 0, 178, 87, 42, 42, 180, 0, 16]
abbrev dktX0_piece_3 : List UInt8 := dkwX0_piece_3 ++ dktX0_piece_4
def dkwX0_piece_2 : List UInt8 := [172, 42, 180, 0, 16, 180, 1, 65, 182, 0, 156, 16, 8, 160, 0, 10, 42, 16, 251, 182, 0, 97, 172, 42]
abbrev dktX0_piece_2 : List UInt8 := dkwX0_piece_2 ++ dktX0_piece_3
def dkwX0_piece_1 : List UInt8 := [42, 180, 0, 16, 180, 1, 65, 182, 0, 156, 4, 100, 184, 0, 93, 154, 0, 10, 42, 16, 254, 182, 0, 97]
abbrev dktX0_piece_1 : List UInt8 := dkwX0_piece_1 ++ dktX0_piece_2
def dkwX0_piece_0 : List UInt8 := [27, 4, 17, 0, 200, 184, 0, 93, 154, 0, 9, 42, 2, 182, 0, 97, 172, 28, 2, 159, 0, 30, 28, 3]
abbrev dktX0_piece_0 : List UInt8 := dkwX0_piece_0 ++ dktX0_piece_1
theorem dksX0_piece_0 : cX0_piece.data.toList.drop 0 = dktX0_piece_0 := by decide +kernel
theorem dksX0_piece_1 : cX0_piece.data.toList.drop 24 = dktX0_piece_1 := dk_seg dksX0_piece_0 24 rfl rfl
theorem dksX0_piece_2 : cX0_piece.data.toList.drop 48 = dktX0_piece_2 := dk_seg dksX0_piece_1 24 rfl rfl
theorem dksX0_piece_3 : cX0_piece.data.toList.drop 72 = dktX0_piece_3 := dk_seg dksX0_piece_2 24 rfl rfl
theorem dksX0_piece_4 : cX0_piece.data.toList.drop 96 = dktX0_piece_4 := dk_seg dksX0_piece_3 24 rfl rfl
theorem dX0_piece_0 : decode cX0_piece 0 = .ok (.iload_n 1, 1) := dk_27 (dk_at dksX0_piece_0 0 rfl rfl)
theorem dX0_piece_1 : decode cX0_piece 1 = .ok (.iconst 1, 1) := dk_4 (dk_at dksX0_piece_0 1 rfl rfl)
theorem dX0_piece_2 : decode cX0_piece 2 = .ok (.sipush 200, 3) := dk_17 0 200 (dk_at dksX0_piece_0 2 rfl rfl)
theorem dX0_piece_5 : decode cX0_piece 5 = .ok (.invokestatic 93, 3) := dk_184 0 93 (dk_at dksX0_piece_0 5 rfl rfl)
theorem dX0_piece_8 : decode cX0_piece 8 = .ok (.ifCond .ne 9, 3) := dk_154 0 9 (dk_at dksX0_piece_0 8 rfl rfl)
theorem dX0_piece_11 : decode cX0_piece 11 = .ok (.aload_n 0, 1) := dk_42 (dk_at dksX0_piece_0 11 rfl rfl)
theorem dX0_piece_12 : decode cX0_piece 12 = .ok (.iconst (-1), 1) := dk_2 (dk_at dksX0_piece_0 12 rfl rfl)
theorem dX0_piece_13 : decode cX0_piece 13 = .ok (.invokevirtual 97, 3) := dk_182 0 97 (dk_at dksX0_piece_0 13 rfl rfl)
theorem dX0_piece_16 : decode cX0_piece 16 = .ok (.ireturn, 1) := dk_172 (dk_at dksX0_piece_0 16 rfl rfl)
theorem dX0_piece_17 : decode cX0_piece 17 = .ok (.iload_n 2, 1) := dk_28 (dk_at dksX0_piece_0 17 rfl rfl)
theorem dX0_piece_18 : decode cX0_piece 18 = .ok (.iconst (-1), 1) := dk_2 (dk_at dksX0_piece_0 18 rfl rfl)
theorem dX0_piece_19 : decode cX0_piece 19 = .ok (.if_icmp .eq 30, 3) := dk_159 0 30 (dk_at dksX0_piece_0 19 rfl rfl)
theorem dX0_piece_22 : decode cX0_piece 22 = .ok (.iload_n 2, 1) := dk_28 (dk_at dksX0_piece_0 22 rfl rfl)
theorem dX0_piece_23 : decode cX0_piece 23 = .ok (.iconst 0, 1) := dk_3 (dk_at dksX0_piece_0 23 rfl rfl)
theorem dX0_piece_24 : decode cX0_piece 24 = .ok (.aload_n 0, 1) := dk_42 (dk_at dksX0_piece_1 0 rfl rfl)
theorem dX0_piece_25 : decode cX0_piece 25 = .ok (.getfield 16, 3) := dk_180 0 16 (dk_at dksX0_piece_1 1 rfl rfl)
theorem dX0_piece_28 : decode cX0_piece 28 = .ok (.getfield 321, 3) := dk_180 1 65 (dk_at dksX0_piece_1 4 rfl rfl)
theorem dX0_piece_31 : decode cX0_piece 31 = .ok (.invokevirtual 156, 3) := dk_182 0 156 (dk_at dksX0_piece_1 7 rfl rfl)
theorem dX0_piece_34 : decode cX0_piece 34 = .ok (.iconst 1, 1) := dk_4 (dk_at dksX0_piece_1 10 rfl rfl)
theorem dX0_piece_35 : decode cX0_piece 35 = .ok (.isub, 1) := dk_100 (dk_at dksX0_piece_1 11 rfl rfl)
theorem dX0_piece_36 : decode cX0_piece 36 = .ok (.invokestatic 93, 3) := dk_184 0 93 (dk_at dksX0_piece_1 12 rfl rfl)
theorem dX0_piece_39 : decode cX0_piece 39 = .ok (.ifCond .ne 10, 3) := dk_154 0 10 (dk_at dksX0_piece_1 15 rfl rfl)
theorem dX0_piece_42 : decode cX0_piece 42 = .ok (.aload_n 0, 1) := dk_42 (dk_at dksX0_piece_1 18 rfl rfl)
theorem dX0_piece_43 : decode cX0_piece 43 = .ok (.bipush (-2), 2) := dk_16 254 (dk_at dksX0_piece_1 19 rfl rfl)
theorem dX0_piece_45 : decode cX0_piece 45 = .ok (.invokevirtual 97, 3) := dk_182 0 97 (dk_at dksX0_piece_1 21 rfl rfl)
theorem dX0_piece_48 : decode cX0_piece 48 = .ok (.ireturn, 1) := dk_172 (dk_at dksX0_piece_2 0 rfl rfl)
theorem dX0_piece_49 : decode cX0_piece 49 = .ok (.aload_n 0, 1) := dk_42 (dk_at dksX0_piece_2 1 rfl rfl)
theorem dX0_piece_50 : decode cX0_piece 50 = .ok (.getfield 16, 3) := dk_180 0 16 (dk_at dksX0_piece_2 2 rfl rfl)
theorem dX0_piece_53 : decode cX0_piece 53 = .ok (.getfield 321, 3) := dk_180 1 65 (dk_at dksX0_piece_2 5 rfl rfl)
theorem dX0_piece_56 : decode cX0_piece 56 = .ok (.invokevirtual 156, 3) := dk_182 0 156 (dk_at dksX0_piece_2 8 rfl rfl)
theorem dX0_piece_59 : decode cX0_piece 59 = .ok (.bipush 8, 2) := dk_16 8 (dk_at dksX0_piece_2 11 rfl rfl)
theorem dX0_piece_61 : decode cX0_piece 61 = .ok (.if_icmp .ne 10, 3) := dk_160 0 10 (dk_at dksX0_piece_2 13 rfl rfl)
theorem dX0_piece_64 : decode cX0_piece 64 = .ok (.aload_n 0, 1) := dk_42 (dk_at dksX0_piece_2 16 rfl rfl)
theorem dX0_piece_65 : decode cX0_piece 65 = .ok (.bipush (-5), 2) := dk_16 251 (dk_at dksX0_piece_2 17 rfl rfl)
theorem dX0_piece_67 : decode cX0_piece 67 = .ok (.invokevirtual 97, 3) := dk_182 0 97 (dk_at dksX0_piece_2 19 rfl rfl)
theorem dX0_piece_70 : decode cX0_piece 70 = .ok (.ireturn, 1) := dk_172 (dk_at dksX0_piece_2 22 rfl rfl)
theorem dX0_piece_71 : decode cX0_piece 71 = .ok (.aload_n 0, 1) := dk_42 (dk_at dksX0_piece_2 23 rfl rfl)
theorem dX0_piece_72 : decode cX0_piece 72 = .ok (.getfield 16, 3) := dk_180 0 16 (dk_at dksX0_piece_3 0 rfl rfl)
theorem dX0_piece_75 : decode cX0_piece 75 = .ok (.getfield 321, 3) := dk_180 1 65 (dk_at dksX0_piece_3 3 rfl rfl)
theorem dX0_piece_78 : decode cX0_piece 78 = .ok (.new 324, 3) := dk_187 1 68 (dk_at dksX0_piece_3 6 rfl rfl)
theorem dX0_piece_81 : decode cX0_piece 81 = .ok (.dup, 1) := dk_89 (dk_at dksX0_piece_3 9 rfl rfl)
theorem dX0_piece_82 : decode cX0_piece 82 = .ok (.iload_n 1, 1) := dk_27 (dk_at dksX0_piece_3 10 rfl rfl)
theorem dX0_piece_83 : decode cX0_piece 83 = .ok (.iload_n 2, 1) := dk_28 (dk_at dksX0_piece_3 11 rfl rfl)
theorem dX0_piece_84 : decode cX0_piece 84 = .ok (.invokespecial 326, 3) := dk_183 1 70 (dk_at dksX0_piece_3 12 rfl rfl)
theorem dX0_piece_87 : decode cX0_piece 87 = .ok (.invokevirtual 178, 3) := dk_182 0 178 (dk_at dksX0_piece_3 15 rfl rfl)
theorem dX0_piece_90 : decode cX0_piece 90 = .ok (.pop, 1) := dk_87 (dk_at dksX0_piece_3 18 rfl rfl)
theorem dX0_piece_91 : decode cX0_piece 91 = .ok (.aload_n 0, 1) := dk_42 (dk_at dksX0_piece_3 19 rfl rfl)
theorem dX0_piece_92 : decode cX0_piece 92 = .ok (.aload_n 0, 1) := dk_42 (dk_at dksX0_piece_3 20 rfl rfl)
theorem dX0_piece_93 : decode cX0_piece 93 = .ok (.getfield 16, 3) := dk_180 0 16 (dk_at dksX0_piece_3 21 rfl rfl)
theorem dX0_piece_96 : decode cX0_piece 96 = .ok (.getfield 321, 3) := dk_180 1 65 (dk_at dksX0_piece_4 0 rfl rfl)
theorem dX0_piece_99 : decode cX0_piece 99 = .ok (.invokevirtual 156, 3) := dk_182 0 156 (dk_at dksX0_piece_4 3 rfl rfl)
theorem dX0_piece_102 : decode cX0_piece 102 = .ok (.iconst 1, 1) := dk_4 (dk_at dksX0_piece_4 6 rfl rfl)
theorem dX0_piece_103 : decode cX0_piece 103 = .ok (.isub, 1) := dk_100 (dk_at dksX0_piece_4 7 rfl rfl)
theorem dX0_piece_104 : decode cX0_piece 104 = .ok (.invokevirtual 104, 3) := dk_182 0 104 (dk_at dksX0_piece_4 8 rfl rfl)
theorem dX0_piece_107 : decode cX0_piece 107 = .ok (.ireturn, 1) := dk_172 (dk_at dksX0_piece_4 11 rfl rfl)
abbrev cX0_soonest : ByteArray := prog_1_method_41_code
def yX0_soonest : MethodName := ⟨RX0, "soonest", "(II)I"⟩
def dkwX0_soonest_2 : List UInt8 := [160, 0, 13, 42, 180, 0, 79, 180, 1, 75, 167, 0, 12, 42, 180, 0, 79, 180, 1, 78, 28, 46, 172]
abbrev dktX0_soonest_2 : List UInt8 := dkwX0_soonest_2 ++ []
def dkwX0_soonest_1 : List UInt8 := [28, 2, 29, 4, 100, 184, 0, 93, 154, 0, 5, 2, 172, 42, 180, 0, 79, 27, 182, 1, 73, 28, 2]
abbrev dktX0_soonest_1 : List UInt8 := dkwX0_soonest_1 ++ dktX0_soonest_2
def dkwX0_soonest_0 : List UInt8 := [42, 180, 0, 16, 180, 1, 65, 182, 0, 156, 62, 29, 153, 0, 23, 27, 4, 6, 184, 0, 93, 153, 0, 14]
abbrev dktX0_soonest_0 : List UInt8 := dkwX0_soonest_0 ++ dktX0_soonest_1
theorem dksX0_soonest_0 : cX0_soonest.data.toList.drop 0 = dktX0_soonest_0 := by decide +kernel
theorem dksX0_soonest_1 : cX0_soonest.data.toList.drop 24 = dktX0_soonest_1 := dk_seg dksX0_soonest_0 24 rfl rfl
theorem dksX0_soonest_2 : cX0_soonest.data.toList.drop 47 = dktX0_soonest_2 := dk_seg dksX0_soonest_1 23 rfl rfl
theorem dX0_soonest_0 : decode cX0_soonest 0 = .ok (.aload_n 0, 1) := dk_42 (dk_at dksX0_soonest_0 0 rfl rfl)
theorem dX0_soonest_1 : decode cX0_soonest 1 = .ok (.getfield 16, 3) := dk_180 0 16 (dk_at dksX0_soonest_0 1 rfl rfl)
theorem dX0_soonest_4 : decode cX0_soonest 4 = .ok (.getfield 321, 3) := dk_180 1 65 (dk_at dksX0_soonest_0 4 rfl rfl)
theorem dX0_soonest_7 : decode cX0_soonest 7 = .ok (.invokevirtual 156, 3) := dk_182 0 156 (dk_at dksX0_soonest_0 7 rfl rfl)
theorem dX0_soonest_10 : decode cX0_soonest 10 = .ok (.istore_n 3, 1) := dk_62 (dk_at dksX0_soonest_0 10 rfl rfl)
theorem dX0_soonest_11 : decode cX0_soonest 11 = .ok (.iload_n 3, 1) := dk_29 (dk_at dksX0_soonest_0 11 rfl rfl)
theorem dX0_soonest_12 : decode cX0_soonest 12 = .ok (.ifCond .eq 23, 3) := dk_153 0 23 (dk_at dksX0_soonest_0 12 rfl rfl)
theorem dX0_soonest_15 : decode cX0_soonest 15 = .ok (.iload_n 1, 1) := dk_27 (dk_at dksX0_soonest_0 15 rfl rfl)
theorem dX0_soonest_16 : decode cX0_soonest 16 = .ok (.iconst 1, 1) := dk_4 (dk_at dksX0_soonest_0 16 rfl rfl)
theorem dX0_soonest_17 : decode cX0_soonest 17 = .ok (.iconst 3, 1) := dk_6 (dk_at dksX0_soonest_0 17 rfl rfl)
theorem dX0_soonest_18 : decode cX0_soonest 18 = .ok (.invokestatic 93, 3) := dk_184 0 93 (dk_at dksX0_soonest_0 18 rfl rfl)
theorem dX0_soonest_21 : decode cX0_soonest 21 = .ok (.ifCond .eq 14, 3) := dk_153 0 14 (dk_at dksX0_soonest_0 21 rfl rfl)
theorem dX0_soonest_24 : decode cX0_soonest 24 = .ok (.iload_n 2, 1) := dk_28 (dk_at dksX0_soonest_1 0 rfl rfl)
theorem dX0_soonest_25 : decode cX0_soonest 25 = .ok (.iconst (-1), 1) := dk_2 (dk_at dksX0_soonest_1 1 rfl rfl)
theorem dX0_soonest_26 : decode cX0_soonest 26 = .ok (.iload_n 3, 1) := dk_29 (dk_at dksX0_soonest_1 2 rfl rfl)
theorem dX0_soonest_27 : decode cX0_soonest 27 = .ok (.iconst 1, 1) := dk_4 (dk_at dksX0_soonest_1 3 rfl rfl)
theorem dX0_soonest_28 : decode cX0_soonest 28 = .ok (.isub, 1) := dk_100 (dk_at dksX0_soonest_1 4 rfl rfl)
theorem dX0_soonest_29 : decode cX0_soonest 29 = .ok (.invokestatic 93, 3) := dk_184 0 93 (dk_at dksX0_soonest_1 5 rfl rfl)
theorem dX0_soonest_32 : decode cX0_soonest 32 = .ok (.ifCond .ne 5, 3) := dk_154 0 5 (dk_at dksX0_soonest_1 8 rfl rfl)
theorem dX0_soonest_35 : decode cX0_soonest 35 = .ok (.iconst (-1), 1) := dk_2 (dk_at dksX0_soonest_1 11 rfl rfl)
theorem dX0_soonest_36 : decode cX0_soonest 36 = .ok (.ireturn, 1) := dk_172 (dk_at dksX0_soonest_1 12 rfl rfl)
theorem dX0_soonest_37 : decode cX0_soonest 37 = .ok (.aload_n 0, 1) := dk_42 (dk_at dksX0_soonest_1 13 rfl rfl)
theorem dX0_soonest_38 : decode cX0_soonest 38 = .ok (.getfield 79, 3) := dk_180 0 79 (dk_at dksX0_soonest_1 14 rfl rfl)
theorem dX0_soonest_41 : decode cX0_soonest 41 = .ok (.iload_n 1, 1) := dk_27 (dk_at dksX0_soonest_1 17 rfl rfl)
theorem dX0_soonest_42 : decode cX0_soonest 42 = .ok (.invokevirtual 329, 3) := dk_182 1 73 (dk_at dksX0_soonest_1 18 rfl rfl)
theorem dX0_soonest_45 : decode cX0_soonest 45 = .ok (.iload_n 2, 1) := dk_28 (dk_at dksX0_soonest_1 21 rfl rfl)
theorem dX0_soonest_46 : decode cX0_soonest 46 = .ok (.iconst (-1), 1) := dk_2 (dk_at dksX0_soonest_1 22 rfl rfl)
theorem dX0_soonest_47 : decode cX0_soonest 47 = .ok (.if_icmp .ne 13, 3) := dk_160 0 13 (dk_at dksX0_soonest_2 0 rfl rfl)
theorem dX0_soonest_50 : decode cX0_soonest 50 = .ok (.aload_n 0, 1) := dk_42 (dk_at dksX0_soonest_2 3 rfl rfl)
theorem dX0_soonest_51 : decode cX0_soonest 51 = .ok (.getfield 79, 3) := dk_180 0 79 (dk_at dksX0_soonest_2 4 rfl rfl)
theorem dX0_soonest_54 : decode cX0_soonest 54 = .ok (.getfield 331, 3) := dk_180 1 75 (dk_at dksX0_soonest_2 7 rfl rfl)
theorem dX0_soonest_57 : decode cX0_soonest 57 = .ok (.goto 12, 3) := dk_167 0 12 (dk_at dksX0_soonest_2 10 rfl rfl)
theorem dX0_soonest_60 : decode cX0_soonest 60 = .ok (.aload_n 0, 1) := dk_42 (dk_at dksX0_soonest_2 13 rfl rfl)
theorem dX0_soonest_61 : decode cX0_soonest 61 = .ok (.getfield 79, 3) := dk_180 0 79 (dk_at dksX0_soonest_2 14 rfl rfl)
theorem dX0_soonest_64 : decode cX0_soonest 64 = .ok (.getfield 334, 3) := dk_180 1 78 (dk_at dksX0_soonest_2 17 rfl rfl)
theorem dX0_soonest_67 : decode cX0_soonest 67 = .ok (.iload_n 2, 1) := dk_28 (dk_at dksX0_soonest_2 20 rfl rfl)
theorem dX0_soonest_68 : decode cX0_soonest 68 = .ok (.iaload, 1) := dk_46 (dk_at dksX0_soonest_2 21 rfl rfl)
theorem dX0_soonest_69 : decode cX0_soonest 69 = .ok (.ireturn, 1) := dk_172 (dk_at dksX0_soonest_2 22 rfl rfl)
abbrev cX0_count : ByteArray := prog_1_method_42_code
def yX0_count : MethodName := ⟨RX0, "count", "(I)I"⟩
def dkwX0_count_5 : List UInt8 := [180, 0, 7, 27, 6, 100, 46, 172, 2, 172]
abbrev dktX0_count_5 : List UInt8 := dkwX0_count_5 ++ []
def dkwX0_count_4 : List UInt8 := [180, 1, 65, 182, 0, 156, 172, 28, 172, 42, 180, 0, 133, 172, 42, 180, 0, 7, 27, 7, 100, 46, 172, 42]
abbrev dktX0_count_4 : List UInt8 := dkwX0_count_4 ++ dktX0_count_5
def dkwX0_count_3 : List UInt8 := [42, 180, 0, 16, 180, 0, 107, 172, 42, 180, 0, 16, 180, 0, 152, 182, 0, 156, 172, 42, 180, 0, 16]
abbrev dktX0_count_3 : List UInt8 := dkwX0_count_3 ++ dktX0_count_4
def dkwX0_count_2 : List UInt8 := [170, 0, 0, 0, 0, 109, 0, 0, 0, 0, 0, 0, 0, 9, 0, 0, 0, 54, 0, 0, 0, 62, 0, 0, 0, 73, 0, 0, 0, 84, 0, 0, 0, 86, 0, 0, 0, 91, 0, 0, 0, 91, 0, 0, 0, 91, 0, 0, 0, 100, 0, 0, 0, 100]
abbrev dktX0_count_2 : List UInt8 := dkwX0_count_2 ++ dktX0_count_3
def dkwX0_count_1 : List UInt8 := [46, 96, 61, 132, 3, 1, 167, 255, 230, 27]
abbrev dktX0_count_1 : List UInt8 := dkwX0_count_1 ++ dktX0_count_2
def dkwX0_count_0 : List UInt8 := [3, 61, 3, 62, 29, 42, 180, 0, 16, 180, 0, 107, 162, 0, 21, 28, 42, 180, 0, 16, 180, 0, 110, 29]
abbrev dktX0_count_0 : List UInt8 := dkwX0_count_0 ++ dktX0_count_1
theorem dksX0_count_0 : cX0_count.data.toList.drop 0 = dktX0_count_0 := by decide +kernel
theorem dksX0_count_1 : cX0_count.data.toList.drop 24 = dktX0_count_1 := dk_seg dksX0_count_0 24 rfl rfl
theorem dksX0_count_2 : cX0_count.data.toList.drop 34 = dktX0_count_2 := dk_seg dksX0_count_1 10 rfl rfl
theorem dksX0_count_3 : cX0_count.data.toList.drop 88 = dktX0_count_3 := dk_seg dksX0_count_2 54 rfl rfl
theorem dksX0_count_4 : cX0_count.data.toList.drop 111 = dktX0_count_4 := dk_seg dksX0_count_3 23 rfl rfl
theorem dksX0_count_5 : cX0_count.data.toList.drop 135 = dktX0_count_5 := dk_seg dksX0_count_4 24 rfl rfl
theorem dX0_count_0 : decode cX0_count 0 = .ok (.iconst 0, 1) := dk_3 (dk_at dksX0_count_0 0 rfl rfl)
theorem dX0_count_1 : decode cX0_count 1 = .ok (.istore_n 2, 1) := dk_61 (dk_at dksX0_count_0 1 rfl rfl)
theorem dX0_count_2 : decode cX0_count 2 = .ok (.iconst 0, 1) := dk_3 (dk_at dksX0_count_0 2 rfl rfl)
theorem dX0_count_3 : decode cX0_count 3 = .ok (.istore_n 3, 1) := dk_62 (dk_at dksX0_count_0 3 rfl rfl)
theorem dX0_count_4 : decode cX0_count 4 = .ok (.iload_n 3, 1) := dk_29 (dk_at dksX0_count_0 4 rfl rfl)
theorem dX0_count_5 : decode cX0_count 5 = .ok (.aload_n 0, 1) := dk_42 (dk_at dksX0_count_0 5 rfl rfl)
theorem dX0_count_6 : decode cX0_count 6 = .ok (.getfield 16, 3) := dk_180 0 16 (dk_at dksX0_count_0 6 rfl rfl)
theorem dX0_count_9 : decode cX0_count 9 = .ok (.getfield 107, 3) := dk_180 0 107 (dk_at dksX0_count_0 9 rfl rfl)
theorem dX0_count_12 : decode cX0_count 12 = .ok (.if_icmp .ge 21, 3) := dk_162 0 21 (dk_at dksX0_count_0 12 rfl rfl)
theorem dX0_count_15 : decode cX0_count 15 = .ok (.iload_n 2, 1) := dk_28 (dk_at dksX0_count_0 15 rfl rfl)
theorem dX0_count_16 : decode cX0_count 16 = .ok (.aload_n 0, 1) := dk_42 (dk_at dksX0_count_0 16 rfl rfl)
theorem dX0_count_17 : decode cX0_count 17 = .ok (.getfield 16, 3) := dk_180 0 16 (dk_at dksX0_count_0 17 rfl rfl)
theorem dX0_count_20 : decode cX0_count 20 = .ok (.getfield 110, 3) := dk_180 0 110 (dk_at dksX0_count_0 20 rfl rfl)
theorem dX0_count_23 : decode cX0_count 23 = .ok (.iload_n 3, 1) := dk_29 (dk_at dksX0_count_0 23 rfl rfl)
theorem dX0_count_24 : decode cX0_count 24 = .ok (.iaload, 1) := dk_46 (dk_at dksX0_count_1 0 rfl rfl)
theorem dX0_count_25 : decode cX0_count 25 = .ok (.iadd, 1) := dk_96 (dk_at dksX0_count_1 1 rfl rfl)
theorem dX0_count_26 : decode cX0_count 26 = .ok (.istore_n 2, 1) := dk_61 (dk_at dksX0_count_1 2 rfl rfl)
theorem dX0_count_27 : decode cX0_count 27 = .ok (.iinc 3 1, 3) := dk_132 3 1 (dk_at dksX0_count_1 3 rfl rfl)
theorem dX0_count_30 : decode cX0_count 30 = .ok (.goto (-26), 3) := dk_167 255 230 (dk_at dksX0_count_1 6 rfl rfl)
theorem dX0_count_33 : decode cX0_count 33 = .ok (.iload_n 1, 1) := dk_27 (dk_at dksX0_count_1 9 rfl rfl)
theorem dX0_count_34 : decode cX0_count 34 = .ok (.tableswitch 109 0 9 #[54, 62, 73, 84, 86, 91, 91, 91, 100, 100], 54) := by decide +kernel
theorem dX0_count_88 : decode cX0_count 88 = .ok (.aload_n 0, 1) := dk_42 (dk_at dksX0_count_3 0 rfl rfl)
theorem dX0_count_89 : decode cX0_count 89 = .ok (.getfield 16, 3) := dk_180 0 16 (dk_at dksX0_count_3 1 rfl rfl)
theorem dX0_count_92 : decode cX0_count 92 = .ok (.getfield 107, 3) := dk_180 0 107 (dk_at dksX0_count_3 4 rfl rfl)
theorem dX0_count_95 : decode cX0_count 95 = .ok (.ireturn, 1) := dk_172 (dk_at dksX0_count_3 7 rfl rfl)
theorem dX0_count_96 : decode cX0_count 96 = .ok (.aload_n 0, 1) := dk_42 (dk_at dksX0_count_3 8 rfl rfl)
theorem dX0_count_97 : decode cX0_count 97 = .ok (.getfield 16, 3) := dk_180 0 16 (dk_at dksX0_count_3 9 rfl rfl)
theorem dX0_count_100 : decode cX0_count 100 = .ok (.getfield 152, 3) := dk_180 0 152 (dk_at dksX0_count_3 12 rfl rfl)
theorem dX0_count_103 : decode cX0_count 103 = .ok (.invokevirtual 156, 3) := dk_182 0 156 (dk_at dksX0_count_3 15 rfl rfl)
theorem dX0_count_106 : decode cX0_count 106 = .ok (.ireturn, 1) := dk_172 (dk_at dksX0_count_3 18 rfl rfl)
theorem dX0_count_107 : decode cX0_count 107 = .ok (.aload_n 0, 1) := dk_42 (dk_at dksX0_count_3 19 rfl rfl)
theorem dX0_count_108 : decode cX0_count 108 = .ok (.getfield 16, 3) := dk_180 0 16 (dk_at dksX0_count_3 20 rfl rfl)
theorem dX0_count_111 : decode cX0_count 111 = .ok (.getfield 321, 3) := dk_180 1 65 (dk_at dksX0_count_4 0 rfl rfl)
theorem dX0_count_114 : decode cX0_count 114 = .ok (.invokevirtual 156, 3) := dk_182 0 156 (dk_at dksX0_count_4 3 rfl rfl)
theorem dX0_count_117 : decode cX0_count 117 = .ok (.ireturn, 1) := dk_172 (dk_at dksX0_count_4 6 rfl rfl)
theorem dX0_count_118 : decode cX0_count 118 = .ok (.iload_n 2, 1) := dk_28 (dk_at dksX0_count_4 7 rfl rfl)
theorem dX0_count_119 : decode cX0_count 119 = .ok (.ireturn, 1) := dk_172 (dk_at dksX0_count_4 8 rfl rfl)
theorem dX0_count_120 : decode cX0_count 120 = .ok (.aload_n 0, 1) := dk_42 (dk_at dksX0_count_4 9 rfl rfl)
theorem dX0_count_121 : decode cX0_count 121 = .ok (.getfield 133, 3) := dk_180 0 133 (dk_at dksX0_count_4 10 rfl rfl)
theorem dX0_count_124 : decode cX0_count 124 = .ok (.ireturn, 1) := dk_172 (dk_at dksX0_count_4 13 rfl rfl)
theorem dX0_count_125 : decode cX0_count 125 = .ok (.aload_n 0, 1) := dk_42 (dk_at dksX0_count_4 14 rfl rfl)
theorem dX0_count_126 : decode cX0_count 126 = .ok (.getfield 7, 3) := dk_180 0 7 (dk_at dksX0_count_4 15 rfl rfl)
theorem dX0_count_129 : decode cX0_count 129 = .ok (.iload_n 1, 1) := dk_27 (dk_at dksX0_count_4 18 rfl rfl)
theorem dX0_count_130 : decode cX0_count 130 = .ok (.iconst 4, 1) := dk_7 (dk_at dksX0_count_4 19 rfl rfl)
theorem dX0_count_131 : decode cX0_count 131 = .ok (.isub, 1) := dk_100 (dk_at dksX0_count_4 20 rfl rfl)
theorem dX0_count_132 : decode cX0_count 132 = .ok (.iaload, 1) := dk_46 (dk_at dksX0_count_4 21 rfl rfl)
theorem dX0_count_133 : decode cX0_count 133 = .ok (.ireturn, 1) := dk_172 (dk_at dksX0_count_4 22 rfl rfl)
theorem dX0_count_134 : decode cX0_count 134 = .ok (.aload_n 0, 1) := dk_42 (dk_at dksX0_count_4 23 rfl rfl)
theorem dX0_count_135 : decode cX0_count 135 = .ok (.getfield 7, 3) := dk_180 0 7 (dk_at dksX0_count_5 0 rfl rfl)
theorem dX0_count_138 : decode cX0_count 138 = .ok (.iload_n 1, 1) := dk_27 (dk_at dksX0_count_5 3 rfl rfl)
theorem dX0_count_139 : decode cX0_count 139 = .ok (.iconst 3, 1) := dk_6 (dk_at dksX0_count_5 4 rfl rfl)
theorem dX0_count_140 : decode cX0_count 140 = .ok (.isub, 1) := dk_100 (dk_at dksX0_count_5 5 rfl rfl)
theorem dX0_count_141 : decode cX0_count 141 = .ok (.iaload, 1) := dk_46 (dk_at dksX0_count_5 6 rfl rfl)
theorem dX0_count_142 : decode cX0_count 142 = .ok (.ireturn, 1) := dk_172 (dk_at dksX0_count_5 7 rfl rfl)
theorem dX0_count_143 : decode cX0_count 143 = .ok (.iconst (-1), 1) := dk_2 (dk_at dksX0_count_5 8 rfl rfl)
theorem dX0_count_144 : decode cX0_count 144 = .ok (.ireturn, 1) := dk_172 (dk_at dksX0_count_5 9 rfl rfl)
abbrev cX0_status : ByteArray := prog_1_method_43_code
def yX0_status : MethodName := ⟨RX0, "status", "()I"⟩
theorem dX0_status_0 : decode cX0_status 0 = .ok (.aload_n 0, 1) := by decide +kernel
theorem dX0_status_1 : decode cX0_status 1 = .ok (.getfield 83, 3) := by decide +kernel
theorem dX0_status_4 : decode cX0_status 4 = .ok (.ireturn, 1) := by decide +kernel
theorem q105 : (Jvm.Cond.initialized "HotIron") ∈ lw_all := lw_g (lw_at lw_m1 1 rfl) rfl
theorem q150 : (Jvm.Cond.instantiable "HotIron" (20 : Nat)) ∈ lw_all := lw_g (lw_at lw_m1 46 rfl) rfl
theorem q152 : (Jvm.Cond.instanceMethod ({ cls := "HotIron", name := "<init>", desc := "()V" } : Jvm.MethodName)) ∈ lw_all := lw_g (lw_at lw_m1 48 rfl) rfl
theorem q153 : (Jvm.Cond.code ({ cls := "HotIron", name := "<init>", desc := "()V" } : Jvm.MethodName) prog_1_method_1_code (1 : Nat) (Option.none : Option Jvm.ClassFile.FieldType)) ∈ lw_all := lw_g (lw_at lw_m1 49 rfl) rfl
theorem q154 : (Jvm.Cond.methodLink "HotIron" (1 : Nat) ({ cls := "java/lang/Object", name := "<init>", desc := "()V" } : Jvm.MethodName)) ∈ lw_all := lw_g (lw_at lw_m1 50 rfl) rfl
theorem q157 : (Jvm.Cond.classLink "HotIron" (13 : Nat) "HotIron$State") ∈ lw_all := lw_g (lw_at lw_m1 53 rfl) rfl
theorem q159 : (Jvm.Cond.methodLinkNest "HotIron" (15 : Nat) ({ cls := "HotIron$State", name := "<init>", desc := "()V" } : Jvm.MethodName) "HotIron") ∈ lw_tbl := lw_at lw_m1 55 rfl
theorem q193 : (Jvm.Cond.fieldLinkNest "HotIron" (110 : Nat) "HotIron$State" "bar" "[I" "HotIron") ∈ lw_tbl := lw_at lw_m1 89 rfl
theorem q196 : (Jvm.Cond.fieldLinkNest "HotIron" (113 : Nat) "HotIron$State" "shape" "[I" "HotIron") ∈ lw_tbl := lw_at lw_m1 92 rfl
theorem q200 : (Jvm.Cond.fieldLinkNest "HotIron" (130 : Nat) "HotIron$State" "terms" "[I" "HotIron") ∈ lw_tbl := lw_at lw_m1 96 rfl
theorem q202 : (Jvm.Cond.fieldLinkNest "HotIron" (152 : Nat) "HotIron$State" "recipes" "Ljava/util/ArrayList;" "HotIron") ∈ lw_tbl := lw_at lw_m1 98 rfl
theorem q205 : (Jvm.Cond.fieldLinkNest "HotIron" (321 : Nat) "HotIron$State" "pieces" "Ljava/util/ArrayList;" "HotIron") ∈ lw_tbl := lw_at lw_m1 101 rfl
theorem q208 : (Jvm.Cond.fieldLinkNest "HotIron" (107 : Nat) "HotIron$State" "cells" "I" "HotIron") ∈ lw_tbl := lw_at lw_m1 104 rfl
theorem q211 : (Jvm.Cond.fieldLinkNest "HotIron" (127 : Nat) "HotIron$State" "tongs" "I" "HotIron") ∈ lw_tbl := lw_at lw_m1 107 rfl
theorem q228 : (Jvm.Cond.classLink "HotIron" (32 : Nat) "HotIron$Work") ∈ lw_all := lw_g (lw_at lw_m1 124 rfl) rfl
theorem q230 : (Jvm.Cond.methodLinkNest "HotIron" (34 : Nat) ({ cls := "HotIron$Work", name := "<init>", desc := "()V" } : Jvm.MethodName) "HotIron") ∈ lw_tbl := lw_at lw_m1 126 rfl
theorem q235 : (Jvm.Cond.fieldLinkNest "HotIron" (249 : Nat) "HotIron$Work" "iron" "[I" "HotIron") ∈ lw_tbl := lw_at lw_m1 131 rfl
theorem q238 : (Jvm.Cond.fieldLinkNest "HotIron" (254 : Nat) "HotIron$Work" "odds" "[I" "HotIron") ∈ lw_tbl := lw_at lw_m1 134 rfl
theorem q249 : (Jvm.Cond.fieldLinkNest "HotIron" (212 : Nat) "HotIron$Work" "heats" "I" "HotIron") ∈ lw_tbl := lw_at lw_m1 145 rfl
theorem q252 : (Jvm.Cond.fieldLinkNest "HotIron" (215 : Nat) "HotIron$Work" "struck" "I" "HotIron") ∈ lw_tbl := lw_at lw_m1 148 rfl
theorem q254 : (Jvm.Cond.fieldLinkNest "HotIron" (218 : Nat) "HotIron$Work" "moves" "I" "HotIron") ∈ lw_tbl := lw_at lw_m1 150 rfl
theorem q256 : (Jvm.Cond.fieldLinkNest "HotIron" (221 : Nat) "HotIron$Work" "duds" "I" "HotIron") ∈ lw_tbl := lw_at lw_m1 152 rfl
theorem q258 : (Jvm.Cond.fieldLinkNest "HotIron" (224 : Nat) "HotIron$Work" "cold" "I" "HotIron") ∈ lw_tbl := lw_at lw_m1 154 rfl
theorem q260 : (Jvm.Cond.fieldLinkNest "HotIron" (227 : Nat) "HotIron$Work" "scale" "I" "HotIron") ∈ lw_tbl := lw_at lw_m1 156 rfl
theorem q262 : (Jvm.Cond.fieldLinkNest "HotIron" (233 : Nat) "HotIron$Work" "shoulders" "I" "HotIron") ∈ lw_tbl := lw_at lw_m1 158 rfl
theorem q264 : (Jvm.Cond.fieldLinkNest "HotIron" (236 : Nat) "HotIron$Work" "holes" "I" "HotIron") ∈ lw_tbl := lw_at lw_m1 160 rfl
theorem q266 : (Jvm.Cond.fieldLinkNest "HotIron" (239 : Nat) "HotIron$Work" "welds" "I" "HotIron") ∈ lw_tbl := lw_at lw_m1 162 rfl
theorem q268 : (Jvm.Cond.fieldLinkNest "HotIron" (242 : Nat) "HotIron$Work" "folds" "I" "HotIron") ∈ lw_tbl := lw_at lw_m1 164 rfl
theorem q270 : (Jvm.Cond.fieldLinkNest "HotIron" (245 : Nat) "HotIron$Work" "cracks" "I" "HotIron") ∈ lw_tbl := lw_at lw_m1 166 rfl
theorem q274 : (Jvm.Cond.fieldLinkNest "HotIron" (230 : Nat) "HotIron$Work" "dropped" "I" "HotIron") ∈ lw_tbl := lw_at lw_m1 170 rfl
theorem q276 : (Jvm.Cond.fieldLinkNest "HotIron" (193 : Nat) "HotIron$Work" "hand" "LHotIron$Hand;" "HotIron") ∈ lw_tbl := lw_at lw_m1 172 rfl
theorem q325 : (Jvm.Cond.classLink "HotIron" (45 : Nat) "HotIron$Plans") ∈ lw_all := lw_g (lw_at lw_m1 221 rfl) rfl
theorem q327 : (Jvm.Cond.methodLinkNest "HotIron" (47 : Nat) ({ cls := "HotIron$Plans", name := "<init>", desc := "(LHotIron;)V" } : Jvm.MethodName) "HotIron") ∈ lw_tbl := lw_at lw_m1 223 rfl
theorem q340 : (Jvm.Cond.fieldLinkNest "HotIron" (287 : Nat) "HotIron$Plans" "counts" "[I" "HotIron") ∈ lw_tbl := lw_at lw_m1 236 rfl
theorem q342 : (Jvm.Cond.fieldLinkNest "HotIron" (267 : Nat) "HotIron$Plans" "places" "[I" "HotIron") ∈ lw_tbl := lw_at lw_m1 238 rfl
theorem q344 : (Jvm.Cond.fieldLinkNest "HotIron" (270 : Nat) "HotIron$Plans" "rows" "[I" "HotIron") ∈ lw_tbl := lw_at lw_m2 0 rfl
theorem q351 : (Jvm.Cond.fieldLinkNest "HotIron" (266 : Nat) "HotIron$Plans" "heats" "I" "HotIron") ∈ lw_tbl := lw_at lw_m2 7 rfl
theorem q391 : (Jvm.Cond.classLink "HotIron" (69 : Nat) "HotIron$Hand") ∈ lw_all := lw_g (lw_at lw_m2 47 rfl) rfl
theorem q393 : (Jvm.Cond.methodLinkNest "HotIron" (71 : Nat) ({ cls := "HotIron$Hand", name := "<init>", desc := "()V" } : Jvm.MethodName) "HotIron") ∈ lw_tbl := lw_at lw_m2 49 rfl
theorem q398 : (Jvm.Cond.fieldLinkNest "HotIron" (309 : Nat) "HotIron$Hand" "slip" "I" "HotIron") ∈ lw_tbl := lw_at lw_m2 54 rfl
theorem q400 : (Jvm.Cond.fieldLinkNest "HotIron" (312 : Nat) "HotIron$Hand" "drawn" "I" "HotIron") ∈ lw_tbl := lw_at lw_m2 56 rfl
theorem q406 : (Jvm.Cond.classLink "HotIron" (76 : Nat) "HotIron$Gate") ∈ lw_all := lw_g (lw_at lw_m2 62 rfl) rfl
theorem q408 : (Jvm.Cond.methodLinkNest "HotIron" (78 : Nat) ({ cls := "HotIron$Gate", name := "<init>", desc := "(LHotIron;)V" } : Jvm.MethodName) "HotIron") ∈ lw_tbl := lw_at lw_m2 64 rfl
theorem q415 : (Jvm.Cond.fieldLinkNest "HotIron" (334 : Nat) "HotIron$Gate" "best" "[I" "HotIron") ∈ lw_tbl := lw_at lw_m2 71 rfl
theorem q418 : (Jvm.Cond.fieldLinkNest "HotIron" (331 : Nat) "HotIron$Gate" "soonest" "I" "HotIron") ∈ lw_tbl := lw_at lw_m2 74 rfl
theorem q436 : (Jvm.Cond.fieldLink "HotIron" (83 : Nat) "HotIron" "status" "I") ∈ lw_all := lw_g (lw_at lw_m2 92 rfl) rfl
theorem q437 : (Jvm.Cond.fieldLink "HotIron" (7 : Nat) "HotIron" "refused" "[I") ∈ lw_all := lw_g (lw_at lw_m2 93 rfl) rfl
theorem q438 : (Jvm.Cond.fieldLink "HotIron" (16 : Nat) "HotIron" "state" "LHotIron$State;") ∈ lw_all := lw_g (lw_at lw_m2 94 rfl) rfl
theorem q441 : (Jvm.Cond.fieldLink "HotIron" (20 : Nat) "HotIron" "images" "[LHotIron$State;") ∈ lw_all := lw_g (lw_at lw_m2 97 rfl) rfl
theorem q442 : (Jvm.Cond.fieldLink "HotIron" (24 : Nat) "HotIron" "tape" "[B") ∈ lw_all := lw_g (lw_at lw_m2 98 rfl) rfl
theorem q443 : (Jvm.Cond.fieldLink "HotIron" (133 : Nat) "HotIron" "taped" "I") ∈ lw_all := lw_g (lw_at lw_m2 99 rfl) rfl
theorem q444 : (Jvm.Cond.fieldLink "HotIron" (28 : Nat) "HotIron" "fault" "I") ∈ lw_all := lw_g (lw_at lw_m2 100 rfl) rfl
theorem q445 : (Jvm.Cond.fieldLink "HotIron" (86 : Nat) "HotIron" "version" "I") ∈ lw_all := lw_g (lw_at lw_m2 101 rfl) rfl
theorem q447 : (Jvm.Cond.fieldLink "HotIron" (35 : Nat) "HotIron" "latest" "LHotIron$Work;") ∈ lw_all := lw_g (lw_at lw_m2 103 rfl) rfl
theorem q448 : (Jvm.Cond.fieldLink "HotIron" (39 : Nat) "HotIron" "work" "LHotIron$Work;") ∈ lw_all := lw_g (lw_at lw_m2 104 rfl) rfl
theorem q449 : (Jvm.Cond.fieldLink "HotIron" (42 : Nat) "HotIron" "other" "LHotIron$Work;") ∈ lw_all := lw_g (lw_at lw_m2 105 rfl) rfl
theorem q450 : (Jvm.Cond.fieldLink "HotIron" (204 : Nat) "HotIron" "ran" "Z") ∈ lw_all := lw_g (lw_at lw_m2 106 rfl) rfl
theorem q451 : (Jvm.Cond.fieldLink "HotIron" (50 : Nat) "HotIron" "plans" "LHotIron$Plans;") ∈ lw_all := lw_g (lw_at lw_m2 107 rfl) rfl
theorem q452 : (Jvm.Cond.fieldLink "HotIron" (54 : Nat) "HotIron" "tried" "LHotIron$Plans;") ∈ lw_all := lw_g (lw_at lw_m2 108 rfl) rfl
theorem q453 : (Jvm.Cond.fieldLink "HotIron" (57 : Nat) "HotIron" "triedAt" "I") ∈ lw_all := lw_g (lw_at lw_m2 109 rfl) rfl
theorem q454 : (Jvm.Cond.fieldLink "HotIron" (60 : Nat) "HotIron" "triedFar" "I") ∈ lw_all := lw_g (lw_at lw_m2 110 rfl) rfl
theorem q455 : (Jvm.Cond.fieldLink "HotIron" (63 : Nat) "HotIron" "evenBar" "[I") ∈ lw_all := lw_g (lw_at lw_m2 111 rfl) rfl
theorem q456 : (Jvm.Cond.fieldLink "HotIron" (66 : Nat) "HotIron" "twelve" "[I") ∈ lw_all := lw_g (lw_at lw_m2 112 rfl) rfl
theorem q457 : (Jvm.Cond.fieldLink "HotIron" (72 : Nat) "HotIron" "hand" "LHotIron$Hand;") ∈ lw_all := lw_g (lw_at lw_m2 113 rfl) rfl
theorem q458 : (Jvm.Cond.fieldLink "HotIron" (79 : Nat) "HotIron" "gate" "LHotIron$Gate;") ∈ lw_all := lw_g (lw_at lw_m2 114 rfl) rfl
theorem q459 : (Jvm.Cond.lays "HotIron" "HotIron" "status" "I") ∈ lw_all := lw_g (lw_at lw_m2 115 rfl) rfl
theorem q460 : (Jvm.Cond.soleField "HotIron" "status") ∈ lw_all := lw_g (lw_at lw_m2 116 rfl) rfl
theorem q461 : (Jvm.Cond.laysFinal "HotIron" "HotIron" "refused" "[I") ∈ lw_all := lw_g (lw_at lw_m2 117 rfl) rfl
theorem q462 : (Jvm.Cond.soleField "HotIron" "refused") ∈ lw_all := lw_g (lw_at lw_m2 118 rfl) rfl
theorem q463 : (Jvm.Cond.laysFinal "HotIron" "HotIron" "state" "LHotIron$State;") ∈ lw_all := lw_g (lw_at lw_m2 119 rfl) rfl
theorem q464 : (Jvm.Cond.soleField "HotIron" "state") ∈ lw_all := lw_g (lw_at lw_m2 120 rfl) rfl
theorem q465 : (Jvm.Cond.laysFinal "HotIron" "HotIron" "images" "[LHotIron$State;") ∈ lw_all := lw_g (lw_at lw_m2 121 rfl) rfl
theorem q466 : (Jvm.Cond.soleField "HotIron" "images") ∈ lw_all := lw_g (lw_at lw_m2 122 rfl) rfl
theorem q467 : (Jvm.Cond.laysFinal "HotIron" "HotIron" "tape" "[B") ∈ lw_all := lw_g (lw_at lw_m2 123 rfl) rfl
theorem q468 : (Jvm.Cond.soleField "HotIron" "tape") ∈ lw_all := lw_g (lw_at lw_m2 124 rfl) rfl
theorem q469 : (Jvm.Cond.lays "HotIron" "HotIron" "taped" "I") ∈ lw_all := lw_g (lw_at lw_m2 125 rfl) rfl
theorem q470 : (Jvm.Cond.soleField "HotIron" "taped") ∈ lw_all := lw_g (lw_at lw_m2 126 rfl) rfl
theorem q471 : (Jvm.Cond.lays "HotIron" "HotIron" "fault" "I") ∈ lw_all := lw_g (lw_at lw_m2 127 rfl) rfl
theorem q472 : (Jvm.Cond.soleField "HotIron" "fault") ∈ lw_all := lw_g (lw_at lw_m2 128 rfl) rfl
theorem q473 : (Jvm.Cond.lays "HotIron" "HotIron" "version" "I") ∈ lw_all := lw_g (lw_at lw_m2 129 rfl) rfl
theorem q474 : (Jvm.Cond.soleField "HotIron" "version") ∈ lw_all := lw_g (lw_at lw_m2 130 rfl) rfl
theorem q475 : (Jvm.Cond.laysFinal "HotIron" "HotIron" "latest" "LHotIron$Work;") ∈ lw_all := lw_g (lw_at lw_m2 131 rfl) rfl
theorem q476 : (Jvm.Cond.soleField "HotIron" "latest") ∈ lw_all := lw_g (lw_at lw_m2 132 rfl) rfl
theorem q477 : (Jvm.Cond.laysFinal "HotIron" "HotIron" "work" "LHotIron$Work;") ∈ lw_all := lw_g (lw_at lw_m2 133 rfl) rfl
theorem q478 : (Jvm.Cond.soleField "HotIron" "work") ∈ lw_all := lw_g (lw_at lw_m2 134 rfl) rfl
theorem q479 : (Jvm.Cond.laysFinal "HotIron" "HotIron" "other" "LHotIron$Work;") ∈ lw_all := lw_g (lw_at lw_m2 135 rfl) rfl
theorem q480 : (Jvm.Cond.soleField "HotIron" "other") ∈ lw_all := lw_g (lw_at lw_m2 136 rfl) rfl
theorem q481 : (Jvm.Cond.lays "HotIron" "HotIron" "ran" "Z") ∈ lw_all := lw_g (lw_at lw_m2 137 rfl) rfl
theorem q482 : (Jvm.Cond.soleField "HotIron" "ran") ∈ lw_all := lw_g (lw_at lw_m2 138 rfl) rfl
theorem q483 : (Jvm.Cond.laysFinal "HotIron" "HotIron" "plans" "LHotIron$Plans;") ∈ lw_all := lw_g (lw_at lw_m2 139 rfl) rfl
theorem q484 : (Jvm.Cond.soleField "HotIron" "plans") ∈ lw_all := lw_g (lw_at lw_m2 140 rfl) rfl
theorem q485 : (Jvm.Cond.laysFinal "HotIron" "HotIron" "tried" "LHotIron$Plans;") ∈ lw_all := lw_g (lw_at lw_m2 141 rfl) rfl
theorem q486 : (Jvm.Cond.soleField "HotIron" "tried") ∈ lw_all := lw_g (lw_at lw_m2 142 rfl) rfl
theorem q487 : (Jvm.Cond.lays "HotIron" "HotIron" "triedAt" "I") ∈ lw_all := lw_g (lw_at lw_m2 143 rfl) rfl
theorem q488 : (Jvm.Cond.soleField "HotIron" "triedAt") ∈ lw_all := lw_g (lw_at lw_m2 144 rfl) rfl
theorem q489 : (Jvm.Cond.lays "HotIron" "HotIron" "triedFar" "I") ∈ lw_all := lw_g (lw_at lw_m2 145 rfl) rfl
theorem q490 : (Jvm.Cond.soleField "HotIron" "triedFar") ∈ lw_all := lw_g (lw_at lw_m2 146 rfl) rfl
theorem q491 : (Jvm.Cond.laysFinal "HotIron" "HotIron" "evenBar" "[I") ∈ lw_all := lw_g (lw_at lw_m2 147 rfl) rfl
theorem q492 : (Jvm.Cond.soleField "HotIron" "evenBar") ∈ lw_all := lw_g (lw_at lw_m2 148 rfl) rfl
theorem q493 : (Jvm.Cond.laysFinal "HotIron" "HotIron" "twelve" "[I") ∈ lw_all := lw_g (lw_at lw_m2 149 rfl) rfl
theorem q494 : (Jvm.Cond.soleField "HotIron" "twelve") ∈ lw_all := lw_g (lw_at lw_m2 150 rfl) rfl
theorem q495 : (Jvm.Cond.laysFinal "HotIron" "HotIron" "hand" "LHotIron$Hand;") ∈ lw_all := lw_g (lw_at lw_m2 151 rfl) rfl
theorem q496 : (Jvm.Cond.soleField "HotIron" "hand") ∈ lw_all := lw_g (lw_at lw_m2 152 rfl) rfl
theorem q497 : (Jvm.Cond.laysFinal "HotIron" "HotIron" "gate" "LHotIron$Gate;") ∈ lw_all := lw_g (lw_at lw_m2 153 rfl) rfl
theorem q498 : (Jvm.Cond.soleField "HotIron" "gate") ∈ lw_all := lw_g (lw_at lw_m2 154 rfl) rfl
theorem q499 : (Jvm.Cond.superclass "HotIron" "java/lang/Object") ∈ lw_all := lw_g (lw_at lw_m2 155 rfl) rfl
theorem q501 : (Jvm.Cond.instanceMethod ({ cls := "HotIron", name := "image", desc := "(I)I" } : Jvm.MethodName)) ∈ lw_all := lw_g (lw_at lw_m2 157 rfl) rfl
theorem q502 : (Jvm.Cond.selects "HotIron" ({ cls := "HotIron", name := "image", desc := "(I)I" } : Jvm.MethodName) ({ cls := "HotIron", name := "image", desc := "(I)I" } : Jvm.MethodName)) ∈ lw_all := lw_g (lw_at lw_m2 158 rfl) rfl
theorem q503 : (Jvm.Cond.code ({ cls := "HotIron", name := "image", desc := "(I)I" } : Jvm.MethodName) prog_1_method_6_code (2 : Nat) (Option.some Jvm.ClassFile.FieldType.int)) ∈ lw_all := lw_g (lw_at lw_m2 159 rfl) rfl
theorem q504 : (Jvm.Cond.methodLink "HotIron" (93 : Nat) ({ cls := "HotIron", name := "in", desc := "(III)Z" } : Jvm.MethodName)) ∈ lw_all := lw_g (lw_at lw_m2 160 rfl) rfl
theorem q505 : (Jvm.Cond.static ({ cls := "HotIron", name := "in", desc := "(III)Z" } : Jvm.MethodName)) ∈ lw_all := lw_g (lw_at lw_m2 161 rfl) rfl
theorem q506 : (Jvm.Cond.code ({ cls := "HotIron", name := "in", desc := "(III)Z" } : Jvm.MethodName) prog_1_method_4_code (3 : Nat) (Option.some Jvm.ClassFile.FieldType.boolean)) ∈ lw_all := lw_g (lw_at lw_m2 162 rfl) rfl
theorem q507 : (Jvm.Cond.methodLink "HotIron" (97 : Nat) ({ cls := "HotIron", name := "refuse", desc := "(I)I" } : Jvm.MethodName)) ∈ lw_all := lw_g (lw_at lw_m2 163 rfl) rfl
theorem q508 : (Jvm.Cond.privateMethod ({ cls := "HotIron", name := "refuse", desc := "(I)I" } : Jvm.MethodName)) ∈ lw_tbl := lw_at lw_m2 164 rfl
theorem q509 : (Jvm.Cond.instanceMethod ({ cls := "HotIron", name := "refuse", desc := "(I)I" } : Jvm.MethodName)) ∈ lw_all := lw_g (lw_at lw_m2 165 rfl) rfl
theorem q510 : (Jvm.Cond.code ({ cls := "HotIron", name := "refuse", desc := "(I)I" } : Jvm.MethodName) prog_1_method_2_code (2 : Nat) (Option.some Jvm.ClassFile.FieldType.int)) ∈ lw_all := lw_g (lw_at lw_m2 166 rfl) rfl
theorem q511 : (Jvm.Cond.methodLink "HotIron" (100 : Nat) ({ cls := "HotIron$State", name := "takes", desc := "(LHotIron$State;)V" } : Jvm.MethodName)) ∈ lw_all := lw_g (lw_at lw_m2 167 rfl) rfl
theorem q542 : (Jvm.Cond.selects "HotIron" ({ cls := "java/lang/Object", name := "getClass", desc := "()Ljava/lang/Class;" } : Jvm.MethodName) ({ cls := "java/lang/Object", name := "getClass", desc := "()Ljava/lang/Class;" } : Jvm.MethodName)) ∈ lw_all := lw_g (lw_at lw_m2 198 rfl) rfl
theorem q596 : (Jvm.Cond.methodLink "HotIron" (89 : Nat) ({ cls := "HotIron", name := "done", desc := "(I)I" } : Jvm.MethodName)) ∈ lw_all := lw_g (lw_at lw_m3 12 rfl) rfl
theorem q597 : (Jvm.Cond.privateMethod ({ cls := "HotIron", name := "done", desc := "(I)I" } : Jvm.MethodName)) ∈ lw_tbl := lw_at lw_m3 13 rfl
theorem q598 : (Jvm.Cond.instanceMethod ({ cls := "HotIron", name := "done", desc := "(I)I" } : Jvm.MethodName)) ∈ lw_all := lw_g (lw_at lw_m3 14 rfl) rfl
theorem q599 : (Jvm.Cond.code ({ cls := "HotIron", name := "done", desc := "(I)I" } : Jvm.MethodName) prog_1_method_3_code (2 : Nat) (Option.some Jvm.ClassFile.FieldType.int)) ∈ lw_all := lw_g (lw_at lw_m3 15 rfl) rfl
theorem q601 : (Jvm.Cond.instanceMethod ({ cls := "HotIron", name := "back", desc := "(I)I" } : Jvm.MethodName)) ∈ lw_all := lw_g (lw_at lw_m3 17 rfl) rfl
theorem q602 : (Jvm.Cond.selects "HotIron" ({ cls := "HotIron", name := "back", desc := "(I)I" } : Jvm.MethodName) ({ cls := "HotIron", name := "back", desc := "(I)I" } : Jvm.MethodName)) ∈ lw_all := lw_g (lw_at lw_m3 18 rfl) rfl
theorem q603 : (Jvm.Cond.code ({ cls := "HotIron", name := "back", desc := "(I)I" } : Jvm.MethodName) prog_1_method_7_code (2 : Nat) (Option.some Jvm.ClassFile.FieldType.int)) ∈ lw_all := lw_g (lw_at lw_m3 19 rfl) rfl
theorem q604 : (Jvm.Cond.methodLink "HotIron" (104 : Nat) ({ cls := "HotIron", name := "told", desc := "(I)I" } : Jvm.MethodName)) ∈ lw_all := lw_g (lw_at lw_m3 20 rfl) rfl
theorem q605 : (Jvm.Cond.privateMethod ({ cls := "HotIron", name := "told", desc := "(I)I" } : Jvm.MethodName)) ∈ lw_tbl := lw_at lw_m3 21 rfl
theorem q606 : (Jvm.Cond.instanceMethod ({ cls := "HotIron", name := "told", desc := "(I)I" } : Jvm.MethodName)) ∈ lw_all := lw_g (lw_at lw_m3 22 rfl) rfl
theorem q607 : (Jvm.Cond.code ({ cls := "HotIron", name := "told", desc := "(I)I" } : Jvm.MethodName) prog_1_method_5_code (2 : Nat) (Option.some Jvm.ClassFile.FieldType.int)) ∈ lw_all := lw_g (lw_at lw_m3 23 rfl) rfl
theorem q609 : (Jvm.Cond.instanceMethod ({ cls := "HotIron", name := "wide", desc := "(I)I" } : Jvm.MethodName)) ∈ lw_all := lw_g (lw_at lw_m3 25 rfl) rfl
theorem q610 : (Jvm.Cond.selects "HotIron" ({ cls := "HotIron", name := "wide", desc := "(I)I" } : Jvm.MethodName) ({ cls := "HotIron", name := "wide", desc := "(I)I" } : Jvm.MethodName)) ∈ lw_all := lw_g (lw_at lw_m3 26 rfl) rfl
theorem q611 : (Jvm.Cond.code ({ cls := "HotIron", name := "wide", desc := "(I)I" } : Jvm.MethodName) prog_1_method_10_code (4 : Nat) (Option.some Jvm.ClassFile.FieldType.int)) ∈ lw_all := lw_g (lw_at lw_m3 27 rfl) rfl
theorem q613 : (Jvm.Cond.instanceMethod ({ cls := "HotIron", name := "bar", desc := "(II)I" } : Jvm.MethodName)) ∈ lw_all := lw_g (lw_at lw_m3 29 rfl) rfl
theorem q614 : (Jvm.Cond.selects "HotIron" ({ cls := "HotIron", name := "bar", desc := "(II)I" } : Jvm.MethodName) ({ cls := "HotIron", name := "bar", desc := "(II)I" } : Jvm.MethodName)) ∈ lw_all := lw_g (lw_at lw_m3 30 rfl) rfl
theorem q615 : (Jvm.Cond.code ({ cls := "HotIron", name := "bar", desc := "(II)I" } : Jvm.MethodName) prog_1_method_12_code (3 : Nat) (Option.some Jvm.ClassFile.FieldType.int)) ∈ lw_all := lw_g (lw_at lw_m3 31 rfl) rfl
theorem q616 : (Jvm.Cond.methodLink "HotIron" (123 : Nat) ({ cls := "HotIron", name := "puts", desc := "([III)I" } : Jvm.MethodName)) ∈ lw_all := lw_g (lw_at lw_m3 32 rfl) rfl
theorem q617 : (Jvm.Cond.privateMethod ({ cls := "HotIron", name := "puts", desc := "([III)I" } : Jvm.MethodName)) ∈ lw_tbl := lw_at lw_m3 33 rfl
theorem q618 : (Jvm.Cond.instanceMethod ({ cls := "HotIron", name := "puts", desc := "([III)I" } : Jvm.MethodName)) ∈ lw_all := lw_g (lw_at lw_m3 34 rfl) rfl
theorem q619 : (Jvm.Cond.code ({ cls := "HotIron", name := "puts", desc := "([III)I" } : Jvm.MethodName) prog_1_method_11_code (5 : Nat) (Option.some Jvm.ClassFile.FieldType.int)) ∈ lw_all := lw_g (lw_at lw_m3 35 rfl) rfl
theorem q620 : (Jvm.Cond.methodLink "HotIron" (116 : Nat) ({ cls := "HotIron", name := "isCell", desc := "(I)Z" } : Jvm.MethodName)) ∈ lw_all := lw_g (lw_at lw_m3 36 rfl) rfl
theorem q621 : (Jvm.Cond.privateMethod ({ cls := "HotIron", name := "isCell", desc := "(I)Z" } : Jvm.MethodName)) ∈ lw_tbl := lw_at lw_m3 37 rfl
theorem q622 : (Jvm.Cond.instanceMethod ({ cls := "HotIron", name := "isCell", desc := "(I)Z" } : Jvm.MethodName)) ∈ lw_all := lw_g (lw_at lw_m3 38 rfl) rfl
theorem q623 : (Jvm.Cond.code ({ cls := "HotIron", name := "isCell", desc := "(I)Z" } : Jvm.MethodName) prog_1_method_8_code (2 : Nat) (Option.some Jvm.ClassFile.FieldType.boolean)) ∈ lw_all := lw_g (lw_at lw_m3 39 rfl) rfl
theorem q624 : (Jvm.Cond.methodLink "HotIron" (120 : Nat) ({ cls := "HotIron", name := "isIron", desc := "(I)Z" } : Jvm.MethodName)) ∈ lw_all := lw_g (lw_at lw_m3 40 rfl) rfl
theorem q625 : (Jvm.Cond.static ({ cls := "HotIron", name := "isIron", desc := "(I)Z" } : Jvm.MethodName)) ∈ lw_all := lw_g (lw_at lw_m3 41 rfl) rfl
theorem q626 : (Jvm.Cond.code ({ cls := "HotIron", name := "isIron", desc := "(I)Z" } : Jvm.MethodName) prog_1_method_9_code (1 : Nat) (Option.some Jvm.ClassFile.FieldType.boolean)) ∈ lw_all := lw_g (lw_at lw_m3 42 rfl) rfl
theorem q628 : (Jvm.Cond.instanceMethod ({ cls := "HotIron", name := "shape", desc := "(II)I" } : Jvm.MethodName)) ∈ lw_all := lw_g (lw_at lw_m3 44 rfl) rfl
theorem q629 : (Jvm.Cond.selects "HotIron" ({ cls := "HotIron", name := "shape", desc := "(II)I" } : Jvm.MethodName) ({ cls := "HotIron", name := "shape", desc := "(II)I" } : Jvm.MethodName)) ∈ lw_all := lw_g (lw_at lw_m3 45 rfl) rfl
theorem q630 : (Jvm.Cond.code ({ cls := "HotIron", name := "shape", desc := "(II)I" } : Jvm.MethodName) prog_1_method_13_code (3 : Nat) (Option.some Jvm.ClassFile.FieldType.int)) ∈ lw_all := lw_g (lw_at lw_m3 46 rfl) rfl
theorem q632 : (Jvm.Cond.instanceMethod ({ cls := "HotIron", name := "tongs", desc := "(I)I" } : Jvm.MethodName)) ∈ lw_all := lw_g (lw_at lw_m3 48 rfl) rfl
theorem q633 : (Jvm.Cond.selects "HotIron" ({ cls := "HotIron", name := "tongs", desc := "(I)I" } : Jvm.MethodName) ({ cls := "HotIron", name := "tongs", desc := "(I)I" } : Jvm.MethodName)) ∈ lw_all := lw_g (lw_at lw_m3 49 rfl) rfl
theorem q634 : (Jvm.Cond.code ({ cls := "HotIron", name := "tongs", desc := "(I)I" } : Jvm.MethodName) prog_1_method_14_code (3 : Nat) (Option.some Jvm.ClassFile.FieldType.int)) ∈ lw_all := lw_g (lw_at lw_m3 50 rfl) rfl
theorem q636 : (Jvm.Cond.instanceMethod ({ cls := "HotIron", name := "terms", desc := "(II)I" } : Jvm.MethodName)) ∈ lw_all := lw_g (lw_at lw_m3 52 rfl) rfl
theorem q637 : (Jvm.Cond.selects "HotIron" ({ cls := "HotIron", name := "terms", desc := "(II)I" } : Jvm.MethodName) ({ cls := "HotIron", name := "terms", desc := "(II)I" } : Jvm.MethodName)) ∈ lw_all := lw_g (lw_at lw_m3 53 rfl) rfl
theorem q638 : (Jvm.Cond.code ({ cls := "HotIron", name := "terms", desc := "(II)I" } : Jvm.MethodName) prog_1_method_15_code (5 : Nat) (Option.some Jvm.ClassFile.FieldType.int)) ∈ lw_all := lw_g (lw_at lw_m3 54 rfl) rfl
theorem q640 : (Jvm.Cond.instanceMethod ({ cls := "HotIron", name := "feed", desc := "(IIIII)I" } : Jvm.MethodName)) ∈ lw_all := lw_g (lw_at lw_m3 56 rfl) rfl
theorem q641 : (Jvm.Cond.selects "HotIron" ({ cls := "HotIron", name := "feed", desc := "(IIIII)I" } : Jvm.MethodName) ({ cls := "HotIron", name := "feed", desc := "(IIIII)I" } : Jvm.MethodName)) ∈ lw_all := lw_g (lw_at lw_m3 57 rfl) rfl
theorem q642 : (Jvm.Cond.code ({ cls := "HotIron", name := "feed", desc := "(IIIII)I" } : Jvm.MethodName) prog_1_method_16_code (6 : Nat) (Option.some Jvm.ClassFile.FieldType.int)) ∈ lw_all := lw_g (lw_at lw_m3 58 rfl) rfl
theorem q643 : (Jvm.Cond.methodLink "HotIron" (136 : Nat) ({ cls := "HotIron", name := "four", desc := "(I)V" } : Jvm.MethodName)) ∈ lw_all := lw_g (lw_at lw_m3 59 rfl) rfl
theorem q644 : (Jvm.Cond.privateMethod ({ cls := "HotIron", name := "four", desc := "(I)V" } : Jvm.MethodName)) ∈ lw_tbl := lw_at lw_m3 60 rfl
theorem q645 : (Jvm.Cond.instanceMethod ({ cls := "HotIron", name := "four", desc := "(I)V" } : Jvm.MethodName)) ∈ lw_all := lw_g (lw_at lw_m3 61 rfl) rfl
theorem q646 : (Jvm.Cond.code ({ cls := "HotIron", name := "four", desc := "(I)V" } : Jvm.MethodName) prog_1_method_17_code (3 : Nat) (Option.none : Option Jvm.ClassFile.FieldType)) ∈ lw_all := lw_g (lw_at lw_m3 62 rfl) rfl
theorem q648 : (Jvm.Cond.instanceMethod ({ cls := "HotIron", name := "end", desc := "(I)I" } : Jvm.MethodName)) ∈ lw_all := lw_g (lw_at lw_m3 64 rfl) rfl
theorem q649 : (Jvm.Cond.selects "HotIron" ({ cls := "HotIron", name := "end", desc := "(I)I" } : Jvm.MethodName) ({ cls := "HotIron", name := "end", desc := "(I)I" } : Jvm.MethodName)) ∈ lw_all := lw_g (lw_at lw_m3 65 rfl) rfl
theorem q650 : (Jvm.Cond.code ({ cls := "HotIron", name := "end", desc := "(I)I" } : Jvm.MethodName) prog_1_method_18_code (2 : Nat) (Option.some Jvm.ClassFile.FieldType.int)) ∈ lw_all := lw_g (lw_at lw_m3 66 rfl) rfl
theorem q652 : (Jvm.Cond.instanceMethod ({ cls := "HotIron", name := "row", desc := "()I" } : Jvm.MethodName)) ∈ lw_all := lw_g (lw_at lw_m3 68 rfl) rfl
theorem q653 : (Jvm.Cond.selects "HotIron" ({ cls := "HotIron", name := "row", desc := "()I" } : Jvm.MethodName) ({ cls := "HotIron", name := "row", desc := "()I" } : Jvm.MethodName)) ∈ lw_all := lw_g (lw_at lw_m3 69 rfl) rfl
theorem q654 : (Jvm.Cond.codeWith ({ cls := "HotIron", name := "row", desc := "()I" } : Jvm.MethodName) prog_1_method_20_code (5 : Nat) (Option.some Jvm.ClassFile.FieldType.int) [((53 : Nat), (98 : Nat), (101 : Nat), (150 : Nat))]) ∈ lw_all := lw_g (lw_at lw_m3 70 rfl) rfl
theorem q655 : (Jvm.Cond.classLink "HotIron" (150 : Nat) "java/lang/ArrayIndexOutOfBoundsException") ∈ lw_all := lw_g (lw_at lw_m3 71 rfl) rfl
theorem q729 : (Jvm.Cond.methodLink "HotIron" (140 : Nat) ({ cls := "java/lang/System", name := "arraycopy", desc := "(Ljava/lang/Object;ILjava/lang/Object;II)V" } : Jvm.MethodName)) ∈ lw_all := lw_g (lw_at lw_m3 145 rfl) rfl
theorem q730 : (Jvm.Cond.methodLink "HotIron" (146 : Nat) ({ cls := "HotIron", name := "whole", desc := "([BI)I" } : Jvm.MethodName)) ∈ lw_all := lw_g (lw_at lw_m3 146 rfl) rfl
theorem q731 : (Jvm.Cond.static ({ cls := "HotIron", name := "whole", desc := "([BI)I" } : Jvm.MethodName)) ∈ lw_all := lw_g (lw_at lw_m3 147 rfl) rfl
theorem q732 : (Jvm.Cond.code ({ cls := "HotIron", name := "whole", desc := "([BI)I" } : Jvm.MethodName) prog_1_method_19_code (2 : Nat) (Option.some Jvm.ClassFile.FieldType.int)) ∈ lw_all := lw_g (lw_at lw_m3 148 rfl) rfl
theorem q734 : (Jvm.Cond.instanceMethod ({ cls := "HotIron", name := "recipe", desc := "()I" } : Jvm.MethodName)) ∈ lw_all := lw_g (lw_at lw_m3 150 rfl) rfl
theorem q735 : (Jvm.Cond.selects "HotIron" ({ cls := "HotIron", name := "recipe", desc := "()I" } : Jvm.MethodName) ({ cls := "HotIron", name := "recipe", desc := "()I" } : Jvm.MethodName)) ∈ lw_all := lw_g (lw_at lw_m3 151 rfl) rfl
theorem q736 : (Jvm.Cond.codeWith ({ cls := "HotIron", name := "recipe", desc := "()I" } : Jvm.MethodName) prog_1_method_21_code (4 : Nat) (Option.some Jvm.ClassFile.FieldType.int) [((45 : Nat), (49 : Nat), (52 : Nat), (170 : Nat))]) ∈ lw_all := lw_g (lw_at lw_m3 152 rfl) rfl
theorem q737 : (Jvm.Cond.classLink "HotIron" (170 : Nat) "HotIron$Fault") ∈ lw_all := lw_g (lw_at lw_m3 153 rfl) rfl
theorem q738 : (Jvm.Cond.methodLink "HotIron" (156 : Nat) ({ cls := "java/util/ArrayList", name := "size", desc := "()I" } : Jvm.MethodName)) ∈ lw_all := lw_g (lw_at lw_m3 154 rfl) rfl
theorem q742 : (Jvm.Cond.classLink "HotIron" (162 : Nat) "HotIron$Reader") ∈ lw_all := lw_g (lw_at lw_m3 158 rfl) rfl
theorem q744 : (Jvm.Cond.methodLink "HotIron" (164 : Nat) ({ cls := "HotIron$Reader", name := "<init>", desc := "([BI)V" } : Jvm.MethodName)) ∈ lw_all := lw_g (lw_at lw_m3 160 rfl) rfl
theorem q753 : (Jvm.Cond.fieldLinkNest "HotIron" (175 : Nat) "HotIron$Reader" "made" "Ljava/util/ArrayList;" "HotIron") ∈ lw_tbl := lw_at lw_m3 169 rfl
theorem q773 : (Jvm.Cond.methodLink "HotIron" (167 : Nat) ({ cls := "HotIron$Reader", name := "read", desc := "()V" } : Jvm.MethodName)) ∈ lw_all := lw_g (lw_at lw_m3 189 rfl) rfl
theorem q809 : (Jvm.Cond.fieldLinkNest "HotIron" (172 : Nat) "HotIron$Fault" "place" "I" "HotIron") ∈ lw_tbl := lw_at lw_m3 225 rfl
theorem q1146 : (Jvm.Cond.methodLink "HotIron" (178 : Nat) ({ cls := "java/util/ArrayList", name := "add", desc := "(Ljava/lang/Object;)Z" } : Jvm.MethodName)) ∈ lw_all := lw_g (lw_at lw_m5 82 rfl) rfl
theorem q1148 : (Jvm.Cond.instanceMethod ({ cls := "HotIron", name := "fault", desc := "()I" } : Jvm.MethodName)) ∈ lw_all := lw_g (lw_at lw_m5 84 rfl) rfl
theorem q1149 : (Jvm.Cond.selects "HotIron" ({ cls := "HotIron", name := "fault", desc := "()I" } : Jvm.MethodName) ({ cls := "HotIron", name := "fault", desc := "()I" } : Jvm.MethodName)) ∈ lw_all := lw_g (lw_at lw_m5 85 rfl) rfl
theorem q1150 : (Jvm.Cond.code ({ cls := "HotIron", name := "fault", desc := "()I" } : Jvm.MethodName) prog_1_method_22_code (1 : Nat) (Option.some Jvm.ClassFile.FieldType.int)) ∈ lw_all := lw_g (lw_at lw_m5 86 rfl) rfl
theorem q1152 : (Jvm.Cond.instanceMethod ({ cls := "HotIron", name := "steps", desc := "(I)I" } : Jvm.MethodName)) ∈ lw_all := lw_g (lw_at lw_m5 88 rfl) rfl
theorem q1153 : (Jvm.Cond.selects "HotIron" ({ cls := "HotIron", name := "steps", desc := "(I)I" } : Jvm.MethodName) ({ cls := "HotIron", name := "steps", desc := "(I)I" } : Jvm.MethodName)) ∈ lw_all := lw_g (lw_at lw_m5 89 rfl) rfl
theorem q1154 : (Jvm.Cond.code ({ cls := "HotIron", name := "steps", desc := "(I)I" } : Jvm.MethodName) prog_1_method_24_code (2 : Nat) (Option.some Jvm.ClassFile.FieldType.int)) ∈ lw_all := lw_g (lw_at lw_m5 90 rfl) rfl
theorem q1155 : (Jvm.Cond.methodLink "HotIron" (182 : Nat) ({ cls := "HotIron", name := "isRecipe", desc := "(I)Z" } : Jvm.MethodName)) ∈ lw_all := lw_g (lw_at lw_m5 91 rfl) rfl
theorem q1156 : (Jvm.Cond.privateMethod ({ cls := "HotIron", name := "isRecipe", desc := "(I)Z" } : Jvm.MethodName)) ∈ lw_tbl := lw_at lw_m5 92 rfl
theorem q1157 : (Jvm.Cond.instanceMethod ({ cls := "HotIron", name := "isRecipe", desc := "(I)Z" } : Jvm.MethodName)) ∈ lw_all := lw_g (lw_at lw_m5 93 rfl) rfl
theorem q1158 : (Jvm.Cond.code ({ cls := "HotIron", name := "isRecipe", desc := "(I)Z" } : Jvm.MethodName) prog_1_method_23_code (2 : Nat) (Option.some Jvm.ClassFile.FieldType.boolean)) ∈ lw_all := lw_g (lw_at lw_m5 94 rfl) rfl
theorem q1159 : (Jvm.Cond.methodLink "HotIron" (185 : Nat) ({ cls := "java/util/ArrayList", name := "get", desc := "(I)Ljava/lang/Object;" } : Jvm.MethodName)) ∈ lw_all := lw_g (lw_at lw_m5 95 rfl) rfl
theorem q1171 : (Jvm.Cond.classLink "HotIron" (157 : Nat) "java/util/ArrayList") ∈ lw_all := lw_g (lw_at lw_m5 107 rfl) rfl
theorem q1173 : (Jvm.Cond.instanceMethod ({ cls := "HotIron", name := "run", desc := "(I)I" } : Jvm.MethodName)) ∈ lw_all := lw_g (lw_at lw_m5 109 rfl) rfl
theorem q1174 : (Jvm.Cond.selects "HotIron" ({ cls := "HotIron", name := "run", desc := "(I)I" } : Jvm.MethodName) ({ cls := "HotIron", name := "run", desc := "(I)I" } : Jvm.MethodName)) ∈ lw_all := lw_g (lw_at lw_m5 110 rfl) rfl
theorem q1175 : (Jvm.Cond.code ({ cls := "HotIron", name := "run", desc := "(I)I" } : Jvm.MethodName) prog_1_method_26_code (2 : Nat) (Option.some Jvm.ClassFile.FieldType.int)) ∈ lw_all := lw_g (lw_at lw_m5 111 rfl) rfl
theorem q1176 : (Jvm.Cond.methodLink "HotIron" (208 : Nat) ({ cls := "HotIron", name := "goes", desc := "(LHotIron$Work;IILHotIron$Hand;)I" } : Jvm.MethodName)) ∈ lw_all := lw_g (lw_at lw_m5 112 rfl) rfl
theorem q1177 : (Jvm.Cond.privateMethod ({ cls := "HotIron", name := "goes", desc := "(LHotIron$Work;IILHotIron$Hand;)I" } : Jvm.MethodName)) ∈ lw_tbl := lw_at lw_m5 113 rfl
theorem q1178 : (Jvm.Cond.instanceMethod ({ cls := "HotIron", name := "goes", desc := "(LHotIron$Work;IILHotIron$Hand;)I" } : Jvm.MethodName)) ∈ lw_all := lw_g (lw_at lw_m5 114 rfl) rfl
theorem q1179 : (Jvm.Cond.code ({ cls := "HotIron", name := "goes", desc := "(LHotIron$Work;IILHotIron$Hand;)I" } : Jvm.MethodName) prog_1_method_25_code (9 : Nat) (Option.some Jvm.ClassFile.FieldType.int)) ∈ lw_all := lw_g (lw_at lw_m5 115 rfl) rfl
theorem q1180 : (Jvm.Cond.methodLink "HotIron" (189 : Nat) ({ cls := "HotIron$Work", name := "begins", desc := "([III[I)V" } : Jvm.MethodName)) ∈ lw_all := lw_g (lw_at lw_m5 116 rfl) rfl
theorem q1184 : (Jvm.Cond.classLink "HotIron" (194 : Nat) "HotIron$Step") ∈ lw_all := lw_g (lw_at lw_m5 120 rfl) rfl
theorem q1185 : (Jvm.Cond.methodLink "HotIron" (196 : Nat) ({ cls := "HotIron$Step", name := "holds", desc := "(LHotIron$Work;)Z" } : Jvm.MethodName)) ∈ lw_all := lw_g (lw_at lw_m5 121 rfl) rfl
theorem q1246 : (Jvm.Cond.methodLink "HotIron" (200 : Nat) ({ cls := "HotIron$Step", name := "does", desc := "(LHotIron$Work;I)I" } : Jvm.MethodName)) ∈ lw_all := lw_g (lw_at lw_m5 182 rfl) rfl
theorem q1318 : (Jvm.Cond.instanceMethod ({ cls := "HotIron", name := "came", desc := "(I)I" } : Jvm.MethodName)) ∈ lw_all := lw_g (lw_at lw_m6 14 rfl) rfl
theorem q1319 : (Jvm.Cond.selects "HotIron" ({ cls := "HotIron", name := "came", desc := "(I)I" } : Jvm.MethodName) ({ cls := "HotIron", name := "came", desc := "(I)I" } : Jvm.MethodName)) ∈ lw_all := lw_g (lw_at lw_m6 15 rfl) rfl
theorem q1320 : (Jvm.Cond.code ({ cls := "HotIron", name := "came", desc := "(I)I" } : Jvm.MethodName) prog_1_method_27_code (2 : Nat) (Option.some Jvm.ClassFile.FieldType.int)) ∈ lw_all := lw_g (lw_at lw_m6 16 rfl) rfl
theorem q1322 : (Jvm.Cond.instanceMethod ({ cls := "HotIron", name := "iron", desc := "(I)I" } : Jvm.MethodName)) ∈ lw_all := lw_g (lw_at lw_m6 18 rfl) rfl
theorem q1323 : (Jvm.Cond.selects "HotIron" ({ cls := "HotIron", name := "iron", desc := "(I)I" } : Jvm.MethodName) ({ cls := "HotIron", name := "iron", desc := "(I)I" } : Jvm.MethodName)) ∈ lw_all := lw_g (lw_at lw_m6 19 rfl) rfl
theorem q1324 : (Jvm.Cond.code ({ cls := "HotIron", name := "iron", desc := "(I)I" } : Jvm.MethodName) prog_1_method_28_code (2 : Nat) (Option.some Jvm.ClassFile.FieldType.int)) ∈ lw_all := lw_g (lw_at lw_m6 20 rfl) rfl
theorem q1325 : (Jvm.Cond.methodLink "HotIron" (248 : Nat) ({ cls := "HotIron$Work", name := "isCell", desc := "(I)Z" } : Jvm.MethodName)) ∈ lw_all := lw_g (lw_at lw_m6 21 rfl) rfl
theorem q1327 : (Jvm.Cond.instanceMethod ({ cls := "HotIron", name := "welds", desc := "(I)J" } : Jvm.MethodName)) ∈ lw_all := lw_g (lw_at lw_m6 23 rfl) rfl
theorem q1328 : (Jvm.Cond.selects "HotIron" ({ cls := "HotIron", name := "welds", desc := "(I)J" } : Jvm.MethodName) ({ cls := "HotIron", name := "welds", desc := "(I)J" } : Jvm.MethodName)) ∈ lw_all := lw_g (lw_at lw_m6 24 rfl) rfl
theorem q1329 : (Jvm.Cond.code ({ cls := "HotIron", name := "welds", desc := "(I)J" } : Jvm.MethodName) prog_1_method_30_code (8 : Nat) (Option.some Jvm.ClassFile.FieldType.long)) ∈ lw_all := lw_g (lw_at lw_m6 25 rfl) rfl
theorem q1330 : (Jvm.Cond.constantLong "HotIron" (252 : Nat) (-1 : Int64)) ∈ lw_all := lw_g (lw_at lw_m6 26 rfl) rfl
theorem q1331 : (Jvm.Cond.constantLong "HotIron" (257 : Nat) (100 : Int64)) ∈ lw_all := lw_g (lw_at lw_m6 27 rfl) rfl
theorem q1332 : (Jvm.Cond.methodLink "HotIron" (259 : Nat) ({ cls := "HotIron", name := "common", desc := "(JJ)J" } : Jvm.MethodName)) ∈ lw_all := lw_g (lw_at lw_m6 28 rfl) rfl
theorem q1333 : (Jvm.Cond.static ({ cls := "HotIron", name := "common", desc := "(JJ)J" } : Jvm.MethodName)) ∈ lw_all := lw_g (lw_at lw_m6 29 rfl) rfl
theorem q1334 : (Jvm.Cond.code ({ cls := "HotIron", name := "common", desc := "(JJ)J" } : Jvm.MethodName) prog_1_method_29_code (10 : Nat) (Option.some Jvm.ClassFile.FieldType.long)) ∈ lw_all := lw_g (lw_at lw_m6 30 rfl) rfl
theorem q1336 : (Jvm.Cond.instanceMethod ({ cls := "HotIron", name := "heats", desc := "()I" } : Jvm.MethodName)) ∈ lw_all := lw_g (lw_at lw_m6 32 rfl) rfl
theorem q1337 : (Jvm.Cond.selects "HotIron" ({ cls := "HotIron", name := "heats", desc := "()I" } : Jvm.MethodName) ({ cls := "HotIron", name := "heats", desc := "()I" } : Jvm.MethodName)) ∈ lw_all := lw_g (lw_at lw_m6 33 rfl) rfl
theorem q1338 : (Jvm.Cond.code ({ cls := "HotIron", name := "heats", desc := "()I" } : Jvm.MethodName) prog_1_method_31_code (1 : Nat) (Option.some Jvm.ClassFile.FieldType.int)) ∈ lw_all := lw_g (lw_at lw_m6 34 rfl) rfl
theorem q1339 : (Jvm.Cond.methodLink "HotIron" (263 : Nat) ({ cls := "HotIron$Plans", name := "looks", desc := "()V" } : Jvm.MethodName)) ∈ lw_all := lw_g (lw_at lw_m6 35 rfl) rfl
theorem q1413 : (Jvm.Cond.instanceMethod ({ cls := "HotIron", name := "plan", desc := "(II)I" } : Jvm.MethodName)) ∈ lw_all := lw_g (lw_at lw_m6 109 rfl) rfl
theorem q1414 : (Jvm.Cond.selects "HotIron" ({ cls := "HotIron", name := "plan", desc := "(II)I" } : Jvm.MethodName) ({ cls := "HotIron", name := "plan", desc := "(II)I" } : Jvm.MethodName)) ∈ lw_all := lw_g (lw_at lw_m6 110 rfl) rfl
theorem q1415 : (Jvm.Cond.code ({ cls := "HotIron", name := "plan", desc := "(II)I" } : Jvm.MethodName) prog_1_method_32_code (3 : Nat) (Option.some Jvm.ClassFile.FieldType.int)) ∈ lw_all := lw_g (lw_at lw_m6 111 rfl) rfl
theorem q1416 : (Jvm.Cond.methodLinkNest "HotIron" (273 : Nat) ({ cls := "HotIron$Plans", name := "ironAt", desc := "(II)I" } : Jvm.MethodName) "HotIron") ∈ lw_tbl := lw_at lw_m6 112 rfl
theorem q1418 : (Jvm.Cond.instanceMethod ({ cls := "HotIron", name := "reached", desc := "(I)I" } : Jvm.MethodName)) ∈ lw_all := lw_g (lw_at lw_m6 114 rfl) rfl
theorem q1419 : (Jvm.Cond.selects "HotIron" ({ cls := "HotIron", name := "reached", desc := "(I)I" } : Jvm.MethodName) ({ cls := "HotIron", name := "reached", desc := "(I)I" } : Jvm.MethodName)) ∈ lw_all := lw_g (lw_at lw_m6 115 rfl) rfl
theorem q1420 : (Jvm.Cond.code ({ cls := "HotIron", name := "reached", desc := "(I)I" } : Jvm.MethodName) prog_1_method_33_code (2 : Nat) (Option.some Jvm.ClassFile.FieldType.int)) ∈ lw_all := lw_g (lw_at lw_m6 116 rfl) rfl
theorem q1421 : (Jvm.Cond.methodLink "HotIron" (277 : Nat) ({ cls := "HotIron$Plans", name := "begins", desc := "(I)V" } : Jvm.MethodName)) ∈ lw_all := lw_g (lw_at lw_m6 117 rfl) rfl
theorem q1422 : (Jvm.Cond.methodLink "HotIron" (279 : Nat) ({ cls := "HotIron$Plans", name := "rowOf", desc := "([I)I" } : Jvm.MethodName)) ∈ lw_all := lw_g (lw_at lw_m6 118 rfl) rfl
theorem q1423 : (Jvm.Cond.methodLinkNest "HotIron" (283 : Nat) ({ cls := "HotIron$Plans", name := "lays", desc := "(III)I" } : Jvm.MethodName) "HotIron") ∈ lw_tbl := lw_at lw_m6 119 rfl
theorem q1425 : (Jvm.Cond.instanceMethod ({ cls := "HotIron", name := "even", desc := "()I" } : Jvm.MethodName)) ∈ lw_all := lw_g (lw_at lw_m6 121 rfl) rfl
theorem q1426 : (Jvm.Cond.selects "HotIron" ({ cls := "HotIron", name := "even", desc := "()I" } : Jvm.MethodName) ({ cls := "HotIron", name := "even", desc := "()I" } : Jvm.MethodName)) ∈ lw_all := lw_g (lw_at lw_m6 122 rfl) rfl
theorem q1427 : (Jvm.Cond.code ({ cls := "HotIron", name := "even", desc := "()I" } : Jvm.MethodName) prog_1_method_34_code (3 : Nat) (Option.some Jvm.ClassFile.FieldType.int)) ∈ lw_all := lw_g (lw_at lw_m6 123 rfl) rfl
theorem q1428 : (Jvm.Cond.methodLink "HotIron" (290 : Nat) ({ cls := "HotIron$Plans", name := "fewest", desc := "([II)I" } : Jvm.MethodName)) ∈ lw_all := lw_g (lw_at lw_m6 124 rfl) rfl
theorem q1430 : (Jvm.Cond.instanceMethod ({ cls := "HotIron", name := "striker", desc := "()I" } : Jvm.MethodName)) ∈ lw_all := lw_g (lw_at lw_m6 126 rfl) rfl
theorem q1431 : (Jvm.Cond.selects "HotIron" ({ cls := "HotIron", name := "striker", desc := "()I" } : Jvm.MethodName) ({ cls := "HotIron", name := "striker", desc := "()I" } : Jvm.MethodName)) ∈ lw_all := lw_g (lw_at lw_m6 127 rfl) rfl
theorem q1432 : (Jvm.Cond.code ({ cls := "HotIron", name := "striker", desc := "()I" } : Jvm.MethodName) prog_1_method_35_code (2 : Nat) (Option.some Jvm.ClassFile.FieldType.int)) ∈ lw_all := lw_g (lw_at lw_m6 128 rfl) rfl
theorem q1434 : (Jvm.Cond.instanceMethod ({ cls := "HotIron", name := "change", desc := "(II)I" } : Jvm.MethodName)) ∈ lw_all := lw_g (lw_at lw_m6 130 rfl) rfl
theorem q1435 : (Jvm.Cond.selects "HotIron" ({ cls := "HotIron", name := "change", desc := "(II)I" } : Jvm.MethodName) ({ cls := "HotIron", name := "change", desc := "(II)I" } : Jvm.MethodName)) ∈ lw_all := lw_g (lw_at lw_m6 131 rfl) rfl
theorem q1436 : (Jvm.Cond.code ({ cls := "HotIron", name := "change", desc := "(II)I" } : Jvm.MethodName) prog_1_method_36_code (3 : Nat) (Option.some Jvm.ClassFile.FieldType.int)) ∈ lw_all := lw_g (lw_at lw_m6 132 rfl) rfl
theorem q1437 : (Jvm.Cond.methodLink "HotIron" (294 : Nat) ({ cls := "HotIron", name := "steps", desc := "(I)I" } : Jvm.MethodName)) ∈ lw_all := lw_g (lw_at lw_m6 133 rfl) rfl
theorem q1438 : (Jvm.Cond.methodLink "HotIron" (297 : Nat) ({ cls := "HotIron$Work", name := "isAs", desc := "(LHotIron$Work;)Z" } : Jvm.MethodName)) ∈ lw_all := lw_g (lw_at lw_m6 134 rfl) rfl
theorem q1447 : (Jvm.Cond.instanceMethod ({ cls := "HotIron", name := "made", desc := "(III)I" } : Jvm.MethodName)) ∈ lw_all := lw_g (lw_at lw_m6 143 rfl) rfl
theorem q1448 : (Jvm.Cond.selects "HotIron" ({ cls := "HotIron", name := "made", desc := "(III)I" } : Jvm.MethodName) ({ cls := "HotIron", name := "made", desc := "(III)I" } : Jvm.MethodName)) ∈ lw_all := lw_g (lw_at lw_m6 144 rfl) rfl
theorem q1449 : (Jvm.Cond.code ({ cls := "HotIron", name := "made", desc := "(III)I" } : Jvm.MethodName) prog_1_method_37_code (10 : Nat) (Option.some Jvm.ClassFile.FieldType.int)) ∈ lw_all := lw_g (lw_at lw_m6 145 rfl) rfl
theorem q1450 : (Jvm.Cond.methodLink "HotIron" (300 : Nat) ({ cls := "HotIron$Work", name := "row", desc := "()I" } : Jvm.MethodName)) ∈ lw_all := lw_g (lw_at lw_m6 146 rfl) rfl
theorem q1452 : (Jvm.Cond.instanceMethod ({ cls := "HotIron", name := "twelve", desc := "(IIII)I" } : Jvm.MethodName)) ∈ lw_all := lw_g (lw_at lw_m6 148 rfl) rfl
theorem q1453 : (Jvm.Cond.selects "HotIron" ({ cls := "HotIron", name := "twelve", desc := "(IIII)I" } : Jvm.MethodName) ({ cls := "HotIron", name := "twelve", desc := "(IIII)I" } : Jvm.MethodName)) ∈ lw_all := lw_g (lw_at lw_m6 149 rfl) rfl
theorem q1454 : (Jvm.Cond.code ({ cls := "HotIron", name := "twelve", desc := "(IIII)I" } : Jvm.MethodName) prog_1_method_39_code (10 : Nat) (Option.some Jvm.ClassFile.FieldType.int)) ∈ lw_all := lw_g (lw_at lw_m6 150 rfl) rfl
theorem q1455 : (Jvm.Cond.constant "HotIron" (308 : Nat) (1000000 : Int32)) ∈ lw_all := lw_g (lw_at lw_m6 151 rfl) rfl
theorem q1456 : (Jvm.Cond.methodLink "HotIron" (315 : Nat) ({ cls := "HotIron", name := "apart", desc := "(II)I" } : Jvm.MethodName)) ∈ lw_all := lw_g (lw_at lw_m6 152 rfl) rfl
theorem q1457 : (Jvm.Cond.privateMethod ({ cls := "HotIron", name := "apart", desc := "(II)I" } : Jvm.MethodName)) ∈ lw_tbl := lw_at lw_m6 153 rfl
theorem q1458 : (Jvm.Cond.instanceMethod ({ cls := "HotIron", name := "apart", desc := "(II)I" } : Jvm.MethodName)) ∈ lw_all := lw_g (lw_at lw_m6 154 rfl) rfl
theorem q1459 : (Jvm.Cond.code ({ cls := "HotIron", name := "apart", desc := "(II)I" } : Jvm.MethodName) prog_1_method_38_code (5 : Nat) (Option.some Jvm.ClassFile.FieldType.int)) ∈ lw_all := lw_g (lw_at lw_m6 155 rfl) rfl
theorem q1460 : (Jvm.Cond.methodLink "HotIron" (303 : Nat) ({ cls := "java/lang/Math", name := "abs", desc := "(I)I" } : Jvm.MethodName)) ∈ lw_all := lw_g (lw_at lw_m6 156 rfl) rfl
theorem q1461 : (Jvm.Cond.methodLink "HotIron" (318 : Nat) ({ cls := "java/lang/Math", name := "max", desc := "(II)I" } : Jvm.MethodName)) ∈ lw_all := lw_g (lw_at lw_m6 157 rfl) rfl
theorem q1463 : (Jvm.Cond.instanceMethod ({ cls := "HotIron", name := "piece", desc := "(II)I" } : Jvm.MethodName)) ∈ lw_all := lw_g (lw_at lw_m6 159 rfl) rfl
theorem q1464 : (Jvm.Cond.selects "HotIron" ({ cls := "HotIron", name := "piece", desc := "(II)I" } : Jvm.MethodName) ({ cls := "HotIron", name := "piece", desc := "(II)I" } : Jvm.MethodName)) ∈ lw_all := lw_g (lw_at lw_m6 160 rfl) rfl
theorem q1465 : (Jvm.Cond.code ({ cls := "HotIron", name := "piece", desc := "(II)I" } : Jvm.MethodName) prog_1_method_40_code (3 : Nat) (Option.some Jvm.ClassFile.FieldType.int)) ∈ lw_all := lw_g (lw_at lw_m6 161 rfl) rfl
theorem q1466 : (Jvm.Cond.classLink "HotIron" (324 : Nat) "HotIron$Piece") ∈ lw_all := lw_g (lw_at lw_m6 162 rfl) rfl
theorem q1468 : (Jvm.Cond.methodLink "HotIron" (326 : Nat) ({ cls := "HotIron$Piece", name := "<init>", desc := "(II)V" } : Jvm.MethodName)) ∈ lw_all := lw_g (lw_at lw_m6 164 rfl) rfl
theorem q1482 : (Jvm.Cond.instanceMethod ({ cls := "HotIron", name := "soonest", desc := "(II)I" } : Jvm.MethodName)) ∈ lw_all := lw_g (lw_at lw_m6 178 rfl) rfl
theorem q1483 : (Jvm.Cond.selects "HotIron" ({ cls := "HotIron", name := "soonest", desc := "(II)I" } : Jvm.MethodName) ({ cls := "HotIron", name := "soonest", desc := "(II)I" } : Jvm.MethodName)) ∈ lw_all := lw_g (lw_at lw_m6 179 rfl) rfl
theorem q1484 : (Jvm.Cond.code ({ cls := "HotIron", name := "soonest", desc := "(II)I" } : Jvm.MethodName) prog_1_method_41_code (4 : Nat) (Option.some Jvm.ClassFile.FieldType.int)) ∈ lw_all := lw_g (lw_at lw_m6 180 rfl) rfl
theorem q1485 : (Jvm.Cond.methodLink "HotIron" (329 : Nat) ({ cls := "HotIron$Gate", name := "looks", desc := "(I)V" } : Jvm.MethodName)) ∈ lw_all := lw_g (lw_at lw_m6 181 rfl) rfl
theorem q1500 : (Jvm.Cond.instanceMethod ({ cls := "HotIron", name := "count", desc := "(I)I" } : Jvm.MethodName)) ∈ lw_all := lw_g (lw_at lw_m6 196 rfl) rfl
theorem q1501 : (Jvm.Cond.selects "HotIron" ({ cls := "HotIron", name := "count", desc := "(I)I" } : Jvm.MethodName) ({ cls := "HotIron", name := "count", desc := "(I)I" } : Jvm.MethodName)) ∈ lw_all := lw_g (lw_at lw_m6 197 rfl) rfl
theorem q1502 : (Jvm.Cond.code ({ cls := "HotIron", name := "count", desc := "(I)I" } : Jvm.MethodName) prog_1_method_42_code (4 : Nat) (Option.some Jvm.ClassFile.FieldType.int)) ∈ lw_all := lw_g (lw_at lw_m6 198 rfl) rfl
theorem q1504 : (Jvm.Cond.instanceMethod ({ cls := "HotIron", name := "status", desc := "()I" } : Jvm.MethodName)) ∈ lw_all := lw_g (lw_at lw_m6 200 rfl) rfl
theorem q1505 : (Jvm.Cond.selects "HotIron" ({ cls := "HotIron", name := "status", desc := "()I" } : Jvm.MethodName) ({ cls := "HotIron", name := "status", desc := "()I" } : Jvm.MethodName)) ∈ lw_all := lw_g (lw_at lw_m6 201 rfl) rfl
theorem q1506 : (Jvm.Cond.code ({ cls := "HotIron", name := "status", desc := "()I" } : Jvm.MethodName) prog_1_method_43_code (1 : Nat) (Option.some Jvm.ClassFile.FieldType.int)) ∈ lw_all := lw_g (lw_at lw_m6 202 rfl) rfl
theorem q2129 : (Jvm.Cond.castable "HotIron" "java/lang/Object") ∈ lw_tbl := lw_at lw_m9 105 rfl
theorem in_X0 : ∀ w ∈ wsX00, w ∈ lw_all := lw_in wsX00 [459, 461, 463, 465, 467, 469, 471, 473, 475, 477, 479, 481, 483, 485, 487, 489, 491, 493, 495, 497] (by decide +kernel) (by decide +kernel)
/-! HotIron$State -/
set_option maxRecDepth 100000
def RX1 : String := "HotIron$State"
def TX1 : u_T := fun k => match k with
  | 0 => ("HotIron$State", "bar", "[I", true)
  | 1 => ("HotIron$State", "shape", "[I", true)
  | 2 => ("HotIron$State", "terms", "[I", true)
  | 3 => ("HotIron$State", "recipes", "Ljava/util/ArrayList;", true)
  | 4 => ("HotIron$State", "pieces", "Ljava/util/ArrayList;", true)
  | 5 => ("HotIron$State", "cells", "I", false)
  | _ => ("HotIron$State", "tongs", "I", false)
def tyX1 : Nat → FieldType := fun k => match k with
  | 0 => .array .int
  | 1 => .array .int
  | 2 => .array .int
  | 3 => .object "java/util/ArrayList"
  | 4 => .object "java/util/ArrayList"
  | 5 => .int
  | _ => .int
abbrev wsX10 : List Cond := u_ws RX1 TX1 7
theorem nmX1 : ∀ a, a < 7 → ∀ b, b < 7 → a ≠ b → (TX1 a).2.1 ≠ (TX1 b).2.1 := by decide +kernel
theorem tyX1_ok : ∀ k, k < 7 → parseFieldDescriptor (TX1 k).2.2.1 = some (tyX1 k) := by decide +kernel
abbrev cX1_init : ByteArray := prog_18_method_1_code
def yX1_init : MethodName := ⟨RX1, "<init>", "()V"⟩
def dkwX1_init_5 : List UInt8 := [181, 0, 37, 177]
abbrev dktX1_init_5 : List UInt8 := dkwX1_init_5 ++ []
def dkwX1_init_4 : List UInt8 := [181, 0, 26, 42, 187, 0, 21, 89, 5, 183, 0, 23, 181, 0, 30, 42, 7, 181, 0, 33, 42, 17, 3, 254]
abbrev dktX1_init_4 : List UInt8 := dkwX1_init_4 ++ dktX1_init_5
def dkwX1_init_3 : List UInt8 := [8, 79, 89, 6, 4, 79, 89, 7, 16, 20, 79, 181, 0, 18, 42, 187, 0, 21, 89, 5, 183, 0, 23]
abbrev dktX1_init_3 : List UInt8 := dkwX1_init_3 ++ dktX1_init_4
def dkwX1_init_2 : List UInt8 := [6, 6, 79, 89, 7, 6, 79, 181, 0, 15, 42, 8, 188, 10, 89, 3, 6, 79, 89, 4, 6, 79, 89, 5]
abbrev dktX1_init_2 : List UInt8 := dkwX1_init_2 ++ dktX1_init_3
def dkwX1_init_1 : List UInt8 := [89, 7, 6, 79, 181, 0, 9, 42, 8, 188, 10, 89, 3, 6, 79, 89, 4, 6, 79, 89, 5, 6, 79, 89]
abbrev dktX1_init_1 : List UInt8 := dkwX1_init_1 ++ dktX1_init_2
def dkwX1_init_0 : List UInt8 := [42, 183, 0, 3, 42, 8, 188, 10, 89, 3, 6, 79, 89, 4, 6, 79, 89, 5, 6, 79, 89, 6, 6, 79]
abbrev dktX1_init_0 : List UInt8 := dkwX1_init_0 ++ dktX1_init_1
theorem dksX1_init_0 : cX1_init.data.toList.drop 0 = dktX1_init_0 := by decide +kernel
theorem dksX1_init_1 : cX1_init.data.toList.drop 24 = dktX1_init_1 := dk_seg dksX1_init_0 24 rfl rfl
theorem dksX1_init_2 : cX1_init.data.toList.drop 48 = dktX1_init_2 := dk_seg dksX1_init_1 24 rfl rfl
theorem dksX1_init_3 : cX1_init.data.toList.drop 72 = dktX1_init_3 := dk_seg dksX1_init_2 24 rfl rfl
theorem dksX1_init_4 : cX1_init.data.toList.drop 95 = dktX1_init_4 := dk_seg dksX1_init_3 23 rfl rfl
theorem dksX1_init_5 : cX1_init.data.toList.drop 119 = dktX1_init_5 := dk_seg dksX1_init_4 24 rfl rfl
theorem dX1_init_0 : decode cX1_init 0 = .ok (.aload_n 0, 1) := dk_42 (dk_at dksX1_init_0 0 rfl rfl)
theorem dX1_init_1 : decode cX1_init 1 = .ok (.invokespecial 3, 3) := dk_183 0 3 (dk_at dksX1_init_0 1 rfl rfl)
theorem dX1_init_4 : decode cX1_init 4 = .ok (.aload_n 0, 1) := dk_42 (dk_at dksX1_init_0 4 rfl rfl)
theorem dX1_init_5 : decode cX1_init 5 = .ok (.iconst 5, 1) := dk_8 (dk_at dksX1_init_0 5 rfl rfl)
theorem dX1_init_6 : decode cX1_init 6 = .ok (.newarray .int, 2) := dk_188_10 (dk_at dksX1_init_0 6 rfl rfl)
theorem dX1_init_8 : decode cX1_init 8 = .ok (.dup, 1) := dk_89 (dk_at dksX1_init_0 8 rfl rfl)
theorem dX1_init_9 : decode cX1_init 9 = .ok (.iconst 0, 1) := dk_3 (dk_at dksX1_init_0 9 rfl rfl)
theorem dX1_init_10 : decode cX1_init 10 = .ok (.iconst 3, 1) := dk_6 (dk_at dksX1_init_0 10 rfl rfl)
theorem dX1_init_11 : decode cX1_init 11 = .ok (.iastore, 1) := dk_79 (dk_at dksX1_init_0 11 rfl rfl)
theorem dX1_init_12 : decode cX1_init 12 = .ok (.dup, 1) := dk_89 (dk_at dksX1_init_0 12 rfl rfl)
theorem dX1_init_13 : decode cX1_init 13 = .ok (.iconst 1, 1) := dk_4 (dk_at dksX1_init_0 13 rfl rfl)
theorem dX1_init_14 : decode cX1_init 14 = .ok (.iconst 3, 1) := dk_6 (dk_at dksX1_init_0 14 rfl rfl)
theorem dX1_init_15 : decode cX1_init 15 = .ok (.iastore, 1) := dk_79 (dk_at dksX1_init_0 15 rfl rfl)
theorem dX1_init_16 : decode cX1_init 16 = .ok (.dup, 1) := dk_89 (dk_at dksX1_init_0 16 rfl rfl)
theorem dX1_init_17 : decode cX1_init 17 = .ok (.iconst 2, 1) := dk_5 (dk_at dksX1_init_0 17 rfl rfl)
theorem dX1_init_18 : decode cX1_init 18 = .ok (.iconst 3, 1) := dk_6 (dk_at dksX1_init_0 18 rfl rfl)
theorem dX1_init_19 : decode cX1_init 19 = .ok (.iastore, 1) := dk_79 (dk_at dksX1_init_0 19 rfl rfl)
theorem dX1_init_20 : decode cX1_init 20 = .ok (.dup, 1) := dk_89 (dk_at dksX1_init_0 20 rfl rfl)
theorem dX1_init_21 : decode cX1_init 21 = .ok (.iconst 3, 1) := dk_6 (dk_at dksX1_init_0 21 rfl rfl)
theorem dX1_init_22 : decode cX1_init 22 = .ok (.iconst 3, 1) := dk_6 (dk_at dksX1_init_0 22 rfl rfl)
theorem dX1_init_23 : decode cX1_init 23 = .ok (.iastore, 1) := dk_79 (dk_at dksX1_init_0 23 rfl rfl)
theorem dX1_init_24 : decode cX1_init 24 = .ok (.dup, 1) := dk_89 (dk_at dksX1_init_1 0 rfl rfl)
theorem dX1_init_25 : decode cX1_init 25 = .ok (.iconst 4, 1) := dk_7 (dk_at dksX1_init_1 1 rfl rfl)
theorem dX1_init_26 : decode cX1_init 26 = .ok (.iconst 3, 1) := dk_6 (dk_at dksX1_init_1 2 rfl rfl)
theorem dX1_init_27 : decode cX1_init 27 = .ok (.iastore, 1) := dk_79 (dk_at dksX1_init_1 3 rfl rfl)
theorem dX1_init_28 : decode cX1_init 28 = .ok (.putfield 9, 3) := dk_181 0 9 (dk_at dksX1_init_1 4 rfl rfl)
theorem dX1_init_31 : decode cX1_init 31 = .ok (.aload_n 0, 1) := dk_42 (dk_at dksX1_init_1 7 rfl rfl)
theorem dX1_init_32 : decode cX1_init 32 = .ok (.iconst 5, 1) := dk_8 (dk_at dksX1_init_1 8 rfl rfl)
theorem dX1_init_33 : decode cX1_init 33 = .ok (.newarray .int, 2) := dk_188_10 (dk_at dksX1_init_1 9 rfl rfl)
theorem dX1_init_35 : decode cX1_init 35 = .ok (.dup, 1) := dk_89 (dk_at dksX1_init_1 11 rfl rfl)
theorem dX1_init_36 : decode cX1_init 36 = .ok (.iconst 0, 1) := dk_3 (dk_at dksX1_init_1 12 rfl rfl)
theorem dX1_init_37 : decode cX1_init 37 = .ok (.iconst 3, 1) := dk_6 (dk_at dksX1_init_1 13 rfl rfl)
theorem dX1_init_38 : decode cX1_init 38 = .ok (.iastore, 1) := dk_79 (dk_at dksX1_init_1 14 rfl rfl)
theorem dX1_init_39 : decode cX1_init 39 = .ok (.dup, 1) := dk_89 (dk_at dksX1_init_1 15 rfl rfl)
theorem dX1_init_40 : decode cX1_init 40 = .ok (.iconst 1, 1) := dk_4 (dk_at dksX1_init_1 16 rfl rfl)
theorem dX1_init_41 : decode cX1_init 41 = .ok (.iconst 3, 1) := dk_6 (dk_at dksX1_init_1 17 rfl rfl)
theorem dX1_init_42 : decode cX1_init 42 = .ok (.iastore, 1) := dk_79 (dk_at dksX1_init_1 18 rfl rfl)
theorem dX1_init_43 : decode cX1_init 43 = .ok (.dup, 1) := dk_89 (dk_at dksX1_init_1 19 rfl rfl)
theorem dX1_init_44 : decode cX1_init 44 = .ok (.iconst 2, 1) := dk_5 (dk_at dksX1_init_1 20 rfl rfl)
theorem dX1_init_45 : decode cX1_init 45 = .ok (.iconst 3, 1) := dk_6 (dk_at dksX1_init_1 21 rfl rfl)
theorem dX1_init_46 : decode cX1_init 46 = .ok (.iastore, 1) := dk_79 (dk_at dksX1_init_1 22 rfl rfl)
theorem dX1_init_47 : decode cX1_init 47 = .ok (.dup, 1) := dk_89 (dk_at dksX1_init_1 23 rfl rfl)
theorem dX1_init_48 : decode cX1_init 48 = .ok (.iconst 3, 1) := dk_6 (dk_at dksX1_init_2 0 rfl rfl)
theorem dX1_init_49 : decode cX1_init 49 = .ok (.iconst 3, 1) := dk_6 (dk_at dksX1_init_2 1 rfl rfl)
theorem dX1_init_50 : decode cX1_init 50 = .ok (.iastore, 1) := dk_79 (dk_at dksX1_init_2 2 rfl rfl)
theorem dX1_init_51 : decode cX1_init 51 = .ok (.dup, 1) := dk_89 (dk_at dksX1_init_2 3 rfl rfl)
theorem dX1_init_52 : decode cX1_init 52 = .ok (.iconst 4, 1) := dk_7 (dk_at dksX1_init_2 4 rfl rfl)
theorem dX1_init_53 : decode cX1_init 53 = .ok (.iconst 3, 1) := dk_6 (dk_at dksX1_init_2 5 rfl rfl)
theorem dX1_init_54 : decode cX1_init 54 = .ok (.iastore, 1) := dk_79 (dk_at dksX1_init_2 6 rfl rfl)
theorem dX1_init_55 : decode cX1_init 55 = .ok (.putfield 15, 3) := dk_181 0 15 (dk_at dksX1_init_2 7 rfl rfl)
theorem dX1_init_58 : decode cX1_init 58 = .ok (.aload_n 0, 1) := dk_42 (dk_at dksX1_init_2 10 rfl rfl)
theorem dX1_init_59 : decode cX1_init 59 = .ok (.iconst 5, 1) := dk_8 (dk_at dksX1_init_2 11 rfl rfl)
theorem dX1_init_60 : decode cX1_init 60 = .ok (.newarray .int, 2) := dk_188_10 (dk_at dksX1_init_2 12 rfl rfl)
theorem dX1_init_62 : decode cX1_init 62 = .ok (.dup, 1) := dk_89 (dk_at dksX1_init_2 14 rfl rfl)
theorem dX1_init_63 : decode cX1_init 63 = .ok (.iconst 0, 1) := dk_3 (dk_at dksX1_init_2 15 rfl rfl)
theorem dX1_init_64 : decode cX1_init 64 = .ok (.iconst 3, 1) := dk_6 (dk_at dksX1_init_2 16 rfl rfl)
theorem dX1_init_65 : decode cX1_init 65 = .ok (.iastore, 1) := dk_79 (dk_at dksX1_init_2 17 rfl rfl)
theorem dX1_init_66 : decode cX1_init 66 = .ok (.dup, 1) := dk_89 (dk_at dksX1_init_2 18 rfl rfl)
theorem dX1_init_67 : decode cX1_init 67 = .ok (.iconst 1, 1) := dk_4 (dk_at dksX1_init_2 19 rfl rfl)
theorem dX1_init_68 : decode cX1_init 68 = .ok (.iconst 3, 1) := dk_6 (dk_at dksX1_init_2 20 rfl rfl)
theorem dX1_init_69 : decode cX1_init 69 = .ok (.iastore, 1) := dk_79 (dk_at dksX1_init_2 21 rfl rfl)
theorem dX1_init_70 : decode cX1_init 70 = .ok (.dup, 1) := dk_89 (dk_at dksX1_init_2 22 rfl rfl)
theorem dX1_init_71 : decode cX1_init 71 = .ok (.iconst 2, 1) := dk_5 (dk_at dksX1_init_2 23 rfl rfl)
theorem dX1_init_72 : decode cX1_init 72 = .ok (.iconst 5, 1) := dk_8 (dk_at dksX1_init_3 0 rfl rfl)
theorem dX1_init_73 : decode cX1_init 73 = .ok (.iastore, 1) := dk_79 (dk_at dksX1_init_3 1 rfl rfl)
theorem dX1_init_74 : decode cX1_init 74 = .ok (.dup, 1) := dk_89 (dk_at dksX1_init_3 2 rfl rfl)
theorem dX1_init_75 : decode cX1_init 75 = .ok (.iconst 3, 1) := dk_6 (dk_at dksX1_init_3 3 rfl rfl)
theorem dX1_init_76 : decode cX1_init 76 = .ok (.iconst 1, 1) := dk_4 (dk_at dksX1_init_3 4 rfl rfl)
theorem dX1_init_77 : decode cX1_init 77 = .ok (.iastore, 1) := dk_79 (dk_at dksX1_init_3 5 rfl rfl)
theorem dX1_init_78 : decode cX1_init 78 = .ok (.dup, 1) := dk_89 (dk_at dksX1_init_3 6 rfl rfl)
theorem dX1_init_79 : decode cX1_init 79 = .ok (.iconst 4, 1) := dk_7 (dk_at dksX1_init_3 7 rfl rfl)
theorem dX1_init_80 : decode cX1_init 80 = .ok (.bipush 20, 2) := dk_16 20 (dk_at dksX1_init_3 8 rfl rfl)
theorem dX1_init_82 : decode cX1_init 82 = .ok (.iastore, 1) := dk_79 (dk_at dksX1_init_3 10 rfl rfl)
theorem dX1_init_83 : decode cX1_init 83 = .ok (.putfield 18, 3) := dk_181 0 18 (dk_at dksX1_init_3 11 rfl rfl)
theorem dX1_init_86 : decode cX1_init 86 = .ok (.aload_n 0, 1) := dk_42 (dk_at dksX1_init_3 14 rfl rfl)
theorem dX1_init_87 : decode cX1_init 87 = .ok (.new 21, 3) := dk_187 0 21 (dk_at dksX1_init_3 15 rfl rfl)
theorem dX1_init_90 : decode cX1_init 90 = .ok (.dup, 1) := dk_89 (dk_at dksX1_init_3 18 rfl rfl)
theorem dX1_init_91 : decode cX1_init 91 = .ok (.iconst 2, 1) := dk_5 (dk_at dksX1_init_3 19 rfl rfl)
theorem dX1_init_92 : decode cX1_init 92 = .ok (.invokespecial 23, 3) := dk_183 0 23 (dk_at dksX1_init_3 20 rfl rfl)
theorem dX1_init_95 : decode cX1_init 95 = .ok (.putfield 26, 3) := dk_181 0 26 (dk_at dksX1_init_4 0 rfl rfl)
theorem dX1_init_98 : decode cX1_init 98 = .ok (.aload_n 0, 1) := dk_42 (dk_at dksX1_init_4 3 rfl rfl)
theorem dX1_init_99 : decode cX1_init 99 = .ok (.new 21, 3) := dk_187 0 21 (dk_at dksX1_init_4 4 rfl rfl)
theorem dX1_init_102 : decode cX1_init 102 = .ok (.dup, 1) := dk_89 (dk_at dksX1_init_4 7 rfl rfl)
theorem dX1_init_103 : decode cX1_init 103 = .ok (.iconst 2, 1) := dk_5 (dk_at dksX1_init_4 8 rfl rfl)
theorem dX1_init_104 : decode cX1_init 104 = .ok (.invokespecial 23, 3) := dk_183 0 23 (dk_at dksX1_init_4 9 rfl rfl)
theorem dX1_init_107 : decode cX1_init 107 = .ok (.putfield 30, 3) := dk_181 0 30 (dk_at dksX1_init_4 12 rfl rfl)
theorem dX1_init_110 : decode cX1_init 110 = .ok (.aload_n 0, 1) := dk_42 (dk_at dksX1_init_4 15 rfl rfl)
theorem dX1_init_111 : decode cX1_init 111 = .ok (.iconst 4, 1) := dk_7 (dk_at dksX1_init_4 16 rfl rfl)
theorem dX1_init_112 : decode cX1_init 112 = .ok (.putfield 33, 3) := dk_181 0 33 (dk_at dksX1_init_4 17 rfl rfl)
theorem dX1_init_115 : decode cX1_init 115 = .ok (.aload_n 0, 1) := dk_42 (dk_at dksX1_init_4 20 rfl rfl)
theorem dX1_init_116 : decode cX1_init 116 = .ok (.sipush 1022, 3) := dk_17 3 254 (dk_at dksX1_init_4 21 rfl rfl)
theorem dX1_init_119 : decode cX1_init 119 = .ok (.putfield 37, 3) := dk_181 0 37 (dk_at dksX1_init_5 0 rfl rfl)
theorem dX1_init_122 : decode cX1_init 122 = .ok (.return_, 1) := dk_177 (dk_at dksX1_init_5 3 rfl rfl)
abbrev cX1_takes : ByteArray := prog_18_method_2_code
def yX1_takes : MethodName := ⟨RX1, "takes", "(LHotIron$State;)V"⟩
def dkwX1_takes_4 : List UInt8 := [181, 0, 37, 177]
abbrev dktX1_takes_4 : List UInt8 := dkwX1_takes_4 ++ []
def dkwX1_takes_3 : List UInt8 := [180, 0, 30, 43, 180, 0, 30, 182, 0, 49, 87, 42, 43, 180, 0, 33, 181, 0, 33, 42, 43, 180, 0, 37]
abbrev dktX1_takes_3 : List UInt8 := dkwX1_takes_3 ++ dktX1_takes_4
def dkwX1_takes_2 : List UInt8 := [182, 0, 46, 42, 180, 0, 26, 43, 180, 0, 26, 182, 0, 49, 87, 42, 180, 0, 30, 182, 0, 46, 42]
abbrev dktX1_takes_2 : List UInt8 := dkwX1_takes_2 ++ dktX1_takes_3
def dkwX1_takes_1 : List UInt8 := [8, 184, 0, 40, 43, 180, 0, 18, 3, 42, 180, 0, 18, 3, 8, 184, 0, 40, 42, 180, 0, 26]
abbrev dktX1_takes_1 : List UInt8 := dkwX1_takes_1 ++ dktX1_takes_2
def dkwX1_takes_0 : List UInt8 := [43, 180, 0, 9, 3, 42, 180, 0, 9, 3, 8, 184, 0, 40, 43, 180, 0, 15, 3, 42, 180, 0, 15, 3]
abbrev dktX1_takes_0 : List UInt8 := dkwX1_takes_0 ++ dktX1_takes_1
theorem dksX1_takes_0 : cX1_takes.data.toList.drop 0 = dktX1_takes_0 := by decide +kernel
theorem dksX1_takes_1 : cX1_takes.data.toList.drop 24 = dktX1_takes_1 := dk_seg dksX1_takes_0 24 rfl rfl
theorem dksX1_takes_2 : cX1_takes.data.toList.drop 46 = dktX1_takes_2 := dk_seg dksX1_takes_1 22 rfl rfl
theorem dksX1_takes_3 : cX1_takes.data.toList.drop 69 = dktX1_takes_3 := dk_seg dksX1_takes_2 23 rfl rfl
theorem dksX1_takes_4 : cX1_takes.data.toList.drop 93 = dktX1_takes_4 := dk_seg dksX1_takes_3 24 rfl rfl
theorem dX1_takes_0 : decode cX1_takes 0 = .ok (.aload_n 1, 1) := dk_43 (dk_at dksX1_takes_0 0 rfl rfl)
theorem dX1_takes_1 : decode cX1_takes 1 = .ok (.getfield 9, 3) := dk_180 0 9 (dk_at dksX1_takes_0 1 rfl rfl)
theorem dX1_takes_4 : decode cX1_takes 4 = .ok (.iconst 0, 1) := dk_3 (dk_at dksX1_takes_0 4 rfl rfl)
theorem dX1_takes_5 : decode cX1_takes 5 = .ok (.aload_n 0, 1) := dk_42 (dk_at dksX1_takes_0 5 rfl rfl)
theorem dX1_takes_6 : decode cX1_takes 6 = .ok (.getfield 9, 3) := dk_180 0 9 (dk_at dksX1_takes_0 6 rfl rfl)
theorem dX1_takes_9 : decode cX1_takes 9 = .ok (.iconst 0, 1) := dk_3 (dk_at dksX1_takes_0 9 rfl rfl)
theorem dX1_takes_10 : decode cX1_takes 10 = .ok (.iconst 5, 1) := dk_8 (dk_at dksX1_takes_0 10 rfl rfl)
theorem dX1_takes_11 : decode cX1_takes 11 = .ok (.invokestatic 40, 3) := dk_184 0 40 (dk_at dksX1_takes_0 11 rfl rfl)
theorem dX1_takes_14 : decode cX1_takes 14 = .ok (.aload_n 1, 1) := dk_43 (dk_at dksX1_takes_0 14 rfl rfl)
theorem dX1_takes_15 : decode cX1_takes 15 = .ok (.getfield 15, 3) := dk_180 0 15 (dk_at dksX1_takes_0 15 rfl rfl)
theorem dX1_takes_18 : decode cX1_takes 18 = .ok (.iconst 0, 1) := dk_3 (dk_at dksX1_takes_0 18 rfl rfl)
theorem dX1_takes_19 : decode cX1_takes 19 = .ok (.aload_n 0, 1) := dk_42 (dk_at dksX1_takes_0 19 rfl rfl)
theorem dX1_takes_20 : decode cX1_takes 20 = .ok (.getfield 15, 3) := dk_180 0 15 (dk_at dksX1_takes_0 20 rfl rfl)
theorem dX1_takes_23 : decode cX1_takes 23 = .ok (.iconst 0, 1) := dk_3 (dk_at dksX1_takes_0 23 rfl rfl)
theorem dX1_takes_24 : decode cX1_takes 24 = .ok (.iconst 5, 1) := dk_8 (dk_at dksX1_takes_1 0 rfl rfl)
theorem dX1_takes_25 : decode cX1_takes 25 = .ok (.invokestatic 40, 3) := dk_184 0 40 (dk_at dksX1_takes_1 1 rfl rfl)
theorem dX1_takes_28 : decode cX1_takes 28 = .ok (.aload_n 1, 1) := dk_43 (dk_at dksX1_takes_1 4 rfl rfl)
theorem dX1_takes_29 : decode cX1_takes 29 = .ok (.getfield 18, 3) := dk_180 0 18 (dk_at dksX1_takes_1 5 rfl rfl)
theorem dX1_takes_32 : decode cX1_takes 32 = .ok (.iconst 0, 1) := dk_3 (dk_at dksX1_takes_1 8 rfl rfl)
theorem dX1_takes_33 : decode cX1_takes 33 = .ok (.aload_n 0, 1) := dk_42 (dk_at dksX1_takes_1 9 rfl rfl)
theorem dX1_takes_34 : decode cX1_takes 34 = .ok (.getfield 18, 3) := dk_180 0 18 (dk_at dksX1_takes_1 10 rfl rfl)
theorem dX1_takes_37 : decode cX1_takes 37 = .ok (.iconst 0, 1) := dk_3 (dk_at dksX1_takes_1 13 rfl rfl)
theorem dX1_takes_38 : decode cX1_takes 38 = .ok (.iconst 5, 1) := dk_8 (dk_at dksX1_takes_1 14 rfl rfl)
theorem dX1_takes_39 : decode cX1_takes 39 = .ok (.invokestatic 40, 3) := dk_184 0 40 (dk_at dksX1_takes_1 15 rfl rfl)
theorem dX1_takes_42 : decode cX1_takes 42 = .ok (.aload_n 0, 1) := dk_42 (dk_at dksX1_takes_1 18 rfl rfl)
theorem dX1_takes_43 : decode cX1_takes 43 = .ok (.getfield 26, 3) := dk_180 0 26 (dk_at dksX1_takes_1 19 rfl rfl)
theorem dX1_takes_46 : decode cX1_takes 46 = .ok (.invokevirtual 46, 3) := dk_182 0 46 (dk_at dksX1_takes_2 0 rfl rfl)
theorem dX1_takes_49 : decode cX1_takes 49 = .ok (.aload_n 0, 1) := dk_42 (dk_at dksX1_takes_2 3 rfl rfl)
theorem dX1_takes_50 : decode cX1_takes 50 = .ok (.getfield 26, 3) := dk_180 0 26 (dk_at dksX1_takes_2 4 rfl rfl)
theorem dX1_takes_53 : decode cX1_takes 53 = .ok (.aload_n 1, 1) := dk_43 (dk_at dksX1_takes_2 7 rfl rfl)
theorem dX1_takes_54 : decode cX1_takes 54 = .ok (.getfield 26, 3) := dk_180 0 26 (dk_at dksX1_takes_2 8 rfl rfl)
theorem dX1_takes_57 : decode cX1_takes 57 = .ok (.invokevirtual 49, 3) := dk_182 0 49 (dk_at dksX1_takes_2 11 rfl rfl)
theorem dX1_takes_60 : decode cX1_takes 60 = .ok (.pop, 1) := dk_87 (dk_at dksX1_takes_2 14 rfl rfl)
theorem dX1_takes_61 : decode cX1_takes 61 = .ok (.aload_n 0, 1) := dk_42 (dk_at dksX1_takes_2 15 rfl rfl)
theorem dX1_takes_62 : decode cX1_takes 62 = .ok (.getfield 30, 3) := dk_180 0 30 (dk_at dksX1_takes_2 16 rfl rfl)
theorem dX1_takes_65 : decode cX1_takes 65 = .ok (.invokevirtual 46, 3) := dk_182 0 46 (dk_at dksX1_takes_2 19 rfl rfl)
theorem dX1_takes_68 : decode cX1_takes 68 = .ok (.aload_n 0, 1) := dk_42 (dk_at dksX1_takes_2 22 rfl rfl)
theorem dX1_takes_69 : decode cX1_takes 69 = .ok (.getfield 30, 3) := dk_180 0 30 (dk_at dksX1_takes_3 0 rfl rfl)
theorem dX1_takes_72 : decode cX1_takes 72 = .ok (.aload_n 1, 1) := dk_43 (dk_at dksX1_takes_3 3 rfl rfl)
theorem dX1_takes_73 : decode cX1_takes 73 = .ok (.getfield 30, 3) := dk_180 0 30 (dk_at dksX1_takes_3 4 rfl rfl)
theorem dX1_takes_76 : decode cX1_takes 76 = .ok (.invokevirtual 49, 3) := dk_182 0 49 (dk_at dksX1_takes_3 7 rfl rfl)
theorem dX1_takes_79 : decode cX1_takes 79 = .ok (.pop, 1) := dk_87 (dk_at dksX1_takes_3 10 rfl rfl)
theorem dX1_takes_80 : decode cX1_takes 80 = .ok (.aload_n 0, 1) := dk_42 (dk_at dksX1_takes_3 11 rfl rfl)
theorem dX1_takes_81 : decode cX1_takes 81 = .ok (.aload_n 1, 1) := dk_43 (dk_at dksX1_takes_3 12 rfl rfl)
theorem dX1_takes_82 : decode cX1_takes 82 = .ok (.getfield 33, 3) := dk_180 0 33 (dk_at dksX1_takes_3 13 rfl rfl)
theorem dX1_takes_85 : decode cX1_takes 85 = .ok (.putfield 33, 3) := dk_181 0 33 (dk_at dksX1_takes_3 16 rfl rfl)
theorem dX1_takes_88 : decode cX1_takes 88 = .ok (.aload_n 0, 1) := dk_42 (dk_at dksX1_takes_3 19 rfl rfl)
theorem dX1_takes_89 : decode cX1_takes 89 = .ok (.aload_n 1, 1) := dk_43 (dk_at dksX1_takes_3 20 rfl rfl)
theorem dX1_takes_90 : decode cX1_takes 90 = .ok (.getfield 37, 3) := dk_180 0 37 (dk_at dksX1_takes_3 21 rfl rfl)
theorem dX1_takes_93 : decode cX1_takes 93 = .ok (.putfield 37, 3) := dk_181 0 37 (dk_at dksX1_takes_4 0 rfl rfl)
theorem dX1_takes_96 : decode cX1_takes 96 = .ok (.return_, 1) := dk_177 (dk_at dksX1_takes_4 3 rfl rfl)
theorem q106 : (Jvm.Cond.initialized "HotIron$State") ∈ lw_all := lw_g (lw_at lw_m1 2 rfl) rfl
theorem q158 : (Jvm.Cond.instantiable "HotIron$State" (7 : Nat)) ∈ lw_all := lw_g (lw_at lw_m1 54 rfl) rfl
theorem q160 : (Jvm.Cond.instanceMethod ({ cls := "HotIron$State", name := "<init>", desc := "()V" } : Jvm.MethodName)) ∈ lw_all := lw_g (lw_at lw_m1 56 rfl) rfl
theorem q161 : (Jvm.Cond.code ({ cls := "HotIron$State", name := "<init>", desc := "()V" } : Jvm.MethodName) prog_18_method_1_code (1 : Nat) (Option.none : Option Jvm.ClassFile.FieldType)) ∈ lw_all := lw_g (lw_at lw_m1 57 rfl) rfl
theorem q162 : (Jvm.Cond.methodLink "HotIron$State" (3 : Nat) ({ cls := "java/lang/Object", name := "<init>", desc := "()V" } : Jvm.MethodName)) ∈ lw_all := lw_g (lw_at lw_m1 58 rfl) rfl
theorem q163 : (Jvm.Cond.classLink "HotIron$State" (21 : Nat) "java/util/ArrayList") ∈ lw_all := lw_g (lw_at lw_m1 59 rfl) rfl
theorem q165 : (Jvm.Cond.methodLink "HotIron$State" (23 : Nat) ({ cls := "java/util/ArrayList", name := "<init>", desc := "(I)V" } : Jvm.MethodName)) ∈ lw_all := lw_g (lw_at lw_m1 61 rfl) rfl
theorem q192 : (Jvm.Cond.fieldLink "HotIron$State" (9 : Nat) "HotIron$State" "bar" "[I") ∈ lw_all := lw_g (lw_at lw_m1 88 rfl) rfl
theorem q195 : (Jvm.Cond.fieldLink "HotIron$State" (15 : Nat) "HotIron$State" "shape" "[I") ∈ lw_all := lw_g (lw_at lw_m1 91 rfl) rfl
theorem q198 : (Jvm.Cond.fieldLink "HotIron$State" (18 : Nat) "HotIron$State" "terms" "[I") ∈ lw_all := lw_g (lw_at lw_m1 94 rfl) rfl
theorem q201 : (Jvm.Cond.fieldLink "HotIron$State" (26 : Nat) "HotIron$State" "recipes" "Ljava/util/ArrayList;") ∈ lw_all := lw_g (lw_at lw_m1 97 rfl) rfl
theorem q203 : (Jvm.Cond.fieldLink "HotIron$State" (30 : Nat) "HotIron$State" "pieces" "Ljava/util/ArrayList;") ∈ lw_all := lw_g (lw_at lw_m1 99 rfl) rfl
theorem q206 : (Jvm.Cond.fieldLink "HotIron$State" (33 : Nat) "HotIron$State" "cells" "I") ∈ lw_all := lw_g (lw_at lw_m1 102 rfl) rfl
theorem q209 : (Jvm.Cond.fieldLink "HotIron$State" (37 : Nat) "HotIron$State" "tongs" "I") ∈ lw_all := lw_g (lw_at lw_m1 105 rfl) rfl
theorem q212 : (Jvm.Cond.laysFinal "HotIron$State" "HotIron$State" "bar" "[I") ∈ lw_all := lw_g (lw_at lw_m1 108 rfl) rfl
theorem q213 : (Jvm.Cond.soleField "HotIron$State" "bar") ∈ lw_all := lw_g (lw_at lw_m1 109 rfl) rfl
theorem q214 : (Jvm.Cond.laysFinal "HotIron$State" "HotIron$State" "shape" "[I") ∈ lw_all := lw_g (lw_at lw_m1 110 rfl) rfl
theorem q215 : (Jvm.Cond.soleField "HotIron$State" "shape") ∈ lw_all := lw_g (lw_at lw_m1 111 rfl) rfl
theorem q216 : (Jvm.Cond.laysFinal "HotIron$State" "HotIron$State" "terms" "[I") ∈ lw_all := lw_g (lw_at lw_m1 112 rfl) rfl
theorem q217 : (Jvm.Cond.soleField "HotIron$State" "terms") ∈ lw_all := lw_g (lw_at lw_m1 113 rfl) rfl
theorem q218 : (Jvm.Cond.laysFinal "HotIron$State" "HotIron$State" "recipes" "Ljava/util/ArrayList;") ∈ lw_all := lw_g (lw_at lw_m1 114 rfl) rfl
theorem q219 : (Jvm.Cond.soleField "HotIron$State" "recipes") ∈ lw_all := lw_g (lw_at lw_m1 115 rfl) rfl
theorem q220 : (Jvm.Cond.laysFinal "HotIron$State" "HotIron$State" "pieces" "Ljava/util/ArrayList;") ∈ lw_all := lw_g (lw_at lw_m1 116 rfl) rfl
theorem q221 : (Jvm.Cond.soleField "HotIron$State" "pieces") ∈ lw_all := lw_g (lw_at lw_m1 117 rfl) rfl
theorem q222 : (Jvm.Cond.lays "HotIron$State" "HotIron$State" "cells" "I") ∈ lw_all := lw_g (lw_at lw_m1 118 rfl) rfl
theorem q223 : (Jvm.Cond.soleField "HotIron$State" "cells") ∈ lw_all := lw_g (lw_at lw_m1 119 rfl) rfl
theorem q224 : (Jvm.Cond.lays "HotIron$State" "HotIron$State" "tongs" "I") ∈ lw_all := lw_g (lw_at lw_m1 120 rfl) rfl
theorem q225 : (Jvm.Cond.soleField "HotIron$State" "tongs") ∈ lw_all := lw_g (lw_at lw_m1 121 rfl) rfl
theorem q226 : (Jvm.Cond.superclass "HotIron$State" "java/lang/Object") ∈ lw_all := lw_g (lw_at lw_m1 122 rfl) rfl
theorem q512 : (Jvm.Cond.instanceMethod ({ cls := "HotIron$State", name := "takes", desc := "(LHotIron$State;)V" } : Jvm.MethodName)) ∈ lw_all := lw_g (lw_at lw_m2 168 rfl) rfl
theorem q513 : (Jvm.Cond.selects "HotIron$State" ({ cls := "HotIron$State", name := "takes", desc := "(LHotIron$State;)V" } : Jvm.MethodName) ({ cls := "HotIron$State", name := "takes", desc := "(LHotIron$State;)V" } : Jvm.MethodName)) ∈ lw_all := lw_g (lw_at lw_m2 169 rfl) rfl
theorem q514 : (Jvm.Cond.code ({ cls := "HotIron$State", name := "takes", desc := "(LHotIron$State;)V" } : Jvm.MethodName) prog_18_method_2_code (2 : Nat) (Option.none : Option Jvm.ClassFile.FieldType)) ∈ lw_all := lw_g (lw_at lw_m2 170 rfl) rfl
theorem q515 : (Jvm.Cond.methodLink "HotIron$State" (40 : Nat) ({ cls := "java/lang/System", name := "arraycopy", desc := "(Ljava/lang/Object;ILjava/lang/Object;II)V" } : Jvm.MethodName)) ∈ lw_all := lw_g (lw_at lw_m2 171 rfl) rfl
theorem q518 : (Jvm.Cond.methodLink "HotIron$State" (46 : Nat) ({ cls := "java/util/ArrayList", name := "clear", desc := "()V" } : Jvm.MethodName)) ∈ lw_all := lw_g (lw_at lw_m2 174 rfl) rfl
theorem q522 : (Jvm.Cond.methodLink "HotIron$State" (49 : Nat) ({ cls := "java/util/ArrayList", name := "addAll", desc := "(Ljava/util/Collection;)Z" } : Jvm.MethodName)) ∈ lw_all := lw_g (lw_at lw_m2 178 rfl) rfl
theorem q559 : (Jvm.Cond.selects "HotIron$State" ({ cls := "java/lang/Object", name := "getClass", desc := "()Ljava/lang/Class;" } : Jvm.MethodName) ({ cls := "java/lang/Object", name := "getClass", desc := "()Ljava/lang/Class;" } : Jvm.MethodName)) ∈ lw_all := lw_g (lw_at lw_m2 215 rfl) rfl
theorem q2128 : (Jvm.Cond.castable "HotIron$State" "java/lang/Object") ∈ lw_tbl := lw_at lw_m9 104 rfl
theorem in_X1 : ∀ w ∈ wsX10, w ∈ lw_all := lw_in wsX10 [212, 214, 216, 218, 220, 222, 224] (by decide +kernel) (by decide +kernel)
/-! HotIron$Work -/
set_option maxRecDepth 100000
def RX2 : String := "HotIron$Work"
def TX2 : u_T := fun k => match k with
  | 0 => ("HotIron$Work", "iron", "[I", true)
  | 1 => ("HotIron$Work", "punched", "[I", true)
  | 2 => ("HotIron$Work", "odds", "[I", true)
  | 3 => ("HotIron$Work", "cells", "I", false)
  | 4 => ("HotIron$Work", "tongs", "I", false)
  | 5 => ("HotIron$Work", "blows", "I", false)
  | 6 => ("HotIron$Work", "sand", "I", false)
  | 7 => ("HotIron$Work", "hot", "I", false)
  | 8 => ("HotIron$Work", "left", "I", false)
  | 9 => ("HotIron$Work", "heats", "I", false)
  | 10 => ("HotIron$Work", "struck", "I", false)
  | 11 => ("HotIron$Work", "moves", "I", false)
  | 12 => ("HotIron$Work", "duds", "I", false)
  | 13 => ("HotIron$Work", "cold", "I", false)
  | 14 => ("HotIron$Work", "scale", "I", false)
  | 15 => ("HotIron$Work", "shoulders", "I", false)
  | 16 => ("HotIron$Work", "holes", "I", false)
  | 17 => ("HotIron$Work", "welds", "I", false)
  | 18 => ("HotIron$Work", "folds", "I", false)
  | 19 => ("HotIron$Work", "cracks", "I", false)
  | 20 => ("HotIron$Work", "latest", "I", false)
  | 21 => ("HotIron$Work", "dropped", "I", false)
  | _ => ("HotIron$Work", "hand", "LHotIron$Hand;", false)
def tyX2 : Nat → FieldType := fun k => match k with
  | 0 => .array .int
  | 1 => .array .int
  | 2 => .array .int
  | 3 => .int
  | 4 => .int
  | 5 => .int
  | 6 => .int
  | 7 => .int
  | 8 => .int
  | 9 => .int
  | 10 => .int
  | 11 => .int
  | 12 => .int
  | 13 => .int
  | 14 => .int
  | 15 => .int
  | 16 => .int
  | 17 => .int
  | 18 => .int
  | 19 => .int
  | 20 => .int
  | 21 => .int
  | _ => .object "HotIron$Hand"
abbrev wsX20 : List Cond := u_ws RX2 TX2 23
set_option maxRecDepth 100000 in
theorem nmX2 : ∀ a, a < 23 → ∀ b, b < 23 → a ≠ b → (TX2 a).2.1 ≠ (TX2 b).2.1 := by decide +kernel
set_option maxRecDepth 100000 in
theorem tyX2_ok : ∀ k, k < 23 → parseFieldDescriptor (TX2 k).2.2.1 = some (tyX2 k) := by decide +kernel
abbrev cX2_init : ByteArray := prog_26_method_1_code
def yX2_init : MethodName := ⟨RX2, "<init>", "()V"⟩
def dkwX2_init_1 : List UInt8 := [181, 0, 18, 177]
abbrev dktX2_init_1 : List UInt8 := dkwX2_init_1 ++ []
def dkwX2_init_0 : List UInt8 := [42, 183, 0, 3, 42, 8, 188, 10, 181, 0, 9, 42, 8, 188, 10, 181, 0, 15, 42, 8, 188, 10]
abbrev dktX2_init_0 : List UInt8 := dkwX2_init_0 ++ dktX2_init_1
theorem dksX2_init_0 : cX2_init.data.toList.drop 0 = dktX2_init_0 := by decide +kernel
theorem dksX2_init_1 : cX2_init.data.toList.drop 22 = dktX2_init_1 := dk_seg dksX2_init_0 22 rfl rfl
theorem dX2_init_0 : decode cX2_init 0 = .ok (.aload_n 0, 1) := dk_42 (dk_at dksX2_init_0 0 rfl rfl)
theorem dX2_init_1 : decode cX2_init 1 = .ok (.invokespecial 3, 3) := dk_183 0 3 (dk_at dksX2_init_0 1 rfl rfl)
theorem dX2_init_4 : decode cX2_init 4 = .ok (.aload_n 0, 1) := dk_42 (dk_at dksX2_init_0 4 rfl rfl)
theorem dX2_init_5 : decode cX2_init 5 = .ok (.iconst 5, 1) := dk_8 (dk_at dksX2_init_0 5 rfl rfl)
theorem dX2_init_6 : decode cX2_init 6 = .ok (.newarray .int, 2) := dk_188_10 (dk_at dksX2_init_0 6 rfl rfl)
theorem dX2_init_8 : decode cX2_init 8 = .ok (.putfield 9, 3) := dk_181 0 9 (dk_at dksX2_init_0 8 rfl rfl)
theorem dX2_init_11 : decode cX2_init 11 = .ok (.aload_n 0, 1) := dk_42 (dk_at dksX2_init_0 11 rfl rfl)
theorem dX2_init_12 : decode cX2_init 12 = .ok (.iconst 5, 1) := dk_8 (dk_at dksX2_init_0 12 rfl rfl)
theorem dX2_init_13 : decode cX2_init 13 = .ok (.newarray .int, 2) := dk_188_10 (dk_at dksX2_init_0 13 rfl rfl)
theorem dX2_init_15 : decode cX2_init 15 = .ok (.putfield 15, 3) := dk_181 0 15 (dk_at dksX2_init_0 15 rfl rfl)
theorem dX2_init_18 : decode cX2_init 18 = .ok (.aload_n 0, 1) := dk_42 (dk_at dksX2_init_0 18 rfl rfl)
theorem dX2_init_19 : decode cX2_init 19 = .ok (.iconst 5, 1) := dk_8 (dk_at dksX2_init_0 19 rfl rfl)
theorem dX2_init_20 : decode cX2_init 20 = .ok (.newarray .int, 2) := dk_188_10 (dk_at dksX2_init_0 20 rfl rfl)
theorem dX2_init_22 : decode cX2_init 22 = .ok (.putfield 18, 3) := dk_181 0 18 (dk_at dksX2_init_1 0 rfl rfl)
theorem dX2_init_25 : decode cX2_init 25 = .ok (.return_, 1) := dk_177 (dk_at dksX2_init_1 3 rfl rfl)
abbrev cX2_begins : ByteArray := prog_26_method_2_code
def yX2_begins : MethodName := ⟨RX2, "begins", "([III[I)V"⟩
def dkwX2_begins_6 : List UInt8 := [42, 2, 181, 0, 73, 42, 2, 181, 0, 76, 177]
abbrev dktX2_begins_6 : List UInt8 := dkwX2_begins_6 ++ []
def dkwX2_begins_5 : List UInt8 := [3, 181, 0, 58, 42, 3, 181, 0, 61, 42, 3, 181, 0, 64, 42, 3, 181, 0, 67, 42, 3, 181, 0, 70]
abbrev dktX2_begins_5 : List UInt8 := dkwX2_begins_5 ++ dktX2_begins_6
def dkwX2_begins_4 : List UInt8 := [181, 0, 43, 42, 3, 181, 0, 46, 42, 3, 181, 0, 49, 42, 3, 181, 0, 52, 42, 3, 181, 0, 55, 42]
abbrev dktX2_begins_4 : List UInt8 := dkwX2_begins_4 ++ dktX2_begins_5
def dkwX2_begins_3 : List UInt8 := [79, 132, 5, 1, 167, 255, 210, 42, 3, 181, 0, 34, 42, 3, 181, 0, 37, 42, 3, 181, 0, 40, 42, 3]
abbrev dktX2_begins_3 : List UInt8 := dkwX2_begins_3 ++ dktX2_begins_4
def dkwX2_begins_2 : List UInt8 := [43, 21, 5, 46, 167, 0, 4, 3, 79, 42, 180, 0, 15, 21, 5, 3, 79, 42, 180, 0, 18, 21, 5, 3]
abbrev dktX2_begins_2 : List UInt8 := dkwX2_begins_2 ++ dktX2_begins_3
def dkwX2_begins_1 : List UInt8 := [181, 0, 31, 3, 54, 5, 21, 5, 8, 162, 0, 46, 42, 180, 0, 9, 21, 5, 21, 5, 28, 162, 0, 10]
abbrev dktX2_begins_1 : List UInt8 := dkwX2_begins_1 ++ dktX2_begins_2
def dkwX2_begins_0 : List UInt8 := [42, 28, 181, 0, 21, 42, 29, 181, 0, 25, 42, 25, 4, 3, 46, 181, 0, 28, 42, 25, 4, 7, 46]
abbrev dktX2_begins_0 : List UInt8 := dkwX2_begins_0 ++ dktX2_begins_1
theorem dksX2_begins_0 : cX2_begins.data.toList.drop 0 = dktX2_begins_0 := by decide +kernel
theorem dksX2_begins_1 : cX2_begins.data.toList.drop 23 = dktX2_begins_1 := dk_seg dksX2_begins_0 23 rfl rfl
theorem dksX2_begins_2 : cX2_begins.data.toList.drop 47 = dktX2_begins_2 := dk_seg dksX2_begins_1 24 rfl rfl
theorem dksX2_begins_3 : cX2_begins.data.toList.drop 71 = dktX2_begins_3 := dk_seg dksX2_begins_2 24 rfl rfl
theorem dksX2_begins_4 : cX2_begins.data.toList.drop 95 = dktX2_begins_4 := dk_seg dksX2_begins_3 24 rfl rfl
theorem dksX2_begins_5 : cX2_begins.data.toList.drop 119 = dktX2_begins_5 := dk_seg dksX2_begins_4 24 rfl rfl
theorem dksX2_begins_6 : cX2_begins.data.toList.drop 143 = dktX2_begins_6 := dk_seg dksX2_begins_5 24 rfl rfl
theorem dX2_begins_0 : decode cX2_begins 0 = .ok (.aload_n 0, 1) := dk_42 (dk_at dksX2_begins_0 0 rfl rfl)
theorem dX2_begins_1 : decode cX2_begins 1 = .ok (.iload_n 2, 1) := dk_28 (dk_at dksX2_begins_0 1 rfl rfl)
theorem dX2_begins_2 : decode cX2_begins 2 = .ok (.putfield 21, 3) := dk_181 0 21 (dk_at dksX2_begins_0 2 rfl rfl)
theorem dX2_begins_5 : decode cX2_begins 5 = .ok (.aload_n 0, 1) := dk_42 (dk_at dksX2_begins_0 5 rfl rfl)
theorem dX2_begins_6 : decode cX2_begins 6 = .ok (.iload_n 3, 1) := dk_29 (dk_at dksX2_begins_0 6 rfl rfl)
theorem dX2_begins_7 : decode cX2_begins 7 = .ok (.putfield 25, 3) := dk_181 0 25 (dk_at dksX2_begins_0 7 rfl rfl)
theorem dX2_begins_10 : decode cX2_begins 10 = .ok (.aload_n 0, 1) := dk_42 (dk_at dksX2_begins_0 10 rfl rfl)
theorem dX2_begins_11 : decode cX2_begins 11 = .ok (.aload 4, 2) := dk_25 4 (dk_at dksX2_begins_0 11 rfl rfl)
theorem dX2_begins_13 : decode cX2_begins 13 = .ok (.iconst 0, 1) := dk_3 (dk_at dksX2_begins_0 13 rfl rfl)
theorem dX2_begins_14 : decode cX2_begins 14 = .ok (.iaload, 1) := dk_46 (dk_at dksX2_begins_0 14 rfl rfl)
theorem dX2_begins_15 : decode cX2_begins 15 = .ok (.putfield 28, 3) := dk_181 0 28 (dk_at dksX2_begins_0 15 rfl rfl)
theorem dX2_begins_18 : decode cX2_begins 18 = .ok (.aload_n 0, 1) := dk_42 (dk_at dksX2_begins_0 18 rfl rfl)
theorem dX2_begins_19 : decode cX2_begins 19 = .ok (.aload 4, 2) := dk_25 4 (dk_at dksX2_begins_0 19 rfl rfl)
theorem dX2_begins_21 : decode cX2_begins 21 = .ok (.iconst 4, 1) := dk_7 (dk_at dksX2_begins_0 21 rfl rfl)
theorem dX2_begins_22 : decode cX2_begins 22 = .ok (.iaload, 1) := dk_46 (dk_at dksX2_begins_0 22 rfl rfl)
theorem dX2_begins_23 : decode cX2_begins 23 = .ok (.putfield 31, 3) := dk_181 0 31 (dk_at dksX2_begins_1 0 rfl rfl)
theorem dX2_begins_26 : decode cX2_begins 26 = .ok (.iconst 0, 1) := dk_3 (dk_at dksX2_begins_1 3 rfl rfl)
theorem dX2_begins_27 : decode cX2_begins 27 = .ok (.istore 5, 2) := dk_54 5 (dk_at dksX2_begins_1 4 rfl rfl)
theorem dX2_begins_29 : decode cX2_begins 29 = .ok (.iload 5, 2) := dk_21 5 (dk_at dksX2_begins_1 6 rfl rfl)
theorem dX2_begins_31 : decode cX2_begins 31 = .ok (.iconst 5, 1) := dk_8 (dk_at dksX2_begins_1 8 rfl rfl)
theorem dX2_begins_32 : decode cX2_begins 32 = .ok (.if_icmp .ge 46, 3) := dk_162 0 46 (dk_at dksX2_begins_1 9 rfl rfl)
theorem dX2_begins_35 : decode cX2_begins 35 = .ok (.aload_n 0, 1) := dk_42 (dk_at dksX2_begins_1 12 rfl rfl)
theorem dX2_begins_36 : decode cX2_begins 36 = .ok (.getfield 9, 3) := dk_180 0 9 (dk_at dksX2_begins_1 13 rfl rfl)
theorem dX2_begins_39 : decode cX2_begins 39 = .ok (.iload 5, 2) := dk_21 5 (dk_at dksX2_begins_1 16 rfl rfl)
theorem dX2_begins_41 : decode cX2_begins 41 = .ok (.iload 5, 2) := dk_21 5 (dk_at dksX2_begins_1 18 rfl rfl)
theorem dX2_begins_43 : decode cX2_begins 43 = .ok (.iload_n 2, 1) := dk_28 (dk_at dksX2_begins_1 20 rfl rfl)
theorem dX2_begins_44 : decode cX2_begins 44 = .ok (.if_icmp .ge 10, 3) := dk_162 0 10 (dk_at dksX2_begins_1 21 rfl rfl)
theorem dX2_begins_47 : decode cX2_begins 47 = .ok (.aload_n 1, 1) := dk_43 (dk_at dksX2_begins_2 0 rfl rfl)
theorem dX2_begins_48 : decode cX2_begins 48 = .ok (.iload 5, 2) := dk_21 5 (dk_at dksX2_begins_2 1 rfl rfl)
theorem dX2_begins_50 : decode cX2_begins 50 = .ok (.iaload, 1) := dk_46 (dk_at dksX2_begins_2 3 rfl rfl)
theorem dX2_begins_51 : decode cX2_begins 51 = .ok (.goto 4, 3) := dk_167 0 4 (dk_at dksX2_begins_2 4 rfl rfl)
theorem dX2_begins_54 : decode cX2_begins 54 = .ok (.iconst 0, 1) := dk_3 (dk_at dksX2_begins_2 7 rfl rfl)
theorem dX2_begins_55 : decode cX2_begins 55 = .ok (.iastore, 1) := dk_79 (dk_at dksX2_begins_2 8 rfl rfl)
theorem dX2_begins_56 : decode cX2_begins 56 = .ok (.aload_n 0, 1) := dk_42 (dk_at dksX2_begins_2 9 rfl rfl)
theorem dX2_begins_57 : decode cX2_begins 57 = .ok (.getfield 15, 3) := dk_180 0 15 (dk_at dksX2_begins_2 10 rfl rfl)
theorem dX2_begins_60 : decode cX2_begins 60 = .ok (.iload 5, 2) := dk_21 5 (dk_at dksX2_begins_2 13 rfl rfl)
theorem dX2_begins_62 : decode cX2_begins 62 = .ok (.iconst 0, 1) := dk_3 (dk_at dksX2_begins_2 15 rfl rfl)
theorem dX2_begins_63 : decode cX2_begins 63 = .ok (.iastore, 1) := dk_79 (dk_at dksX2_begins_2 16 rfl rfl)
theorem dX2_begins_64 : decode cX2_begins 64 = .ok (.aload_n 0, 1) := dk_42 (dk_at dksX2_begins_2 17 rfl rfl)
theorem dX2_begins_65 : decode cX2_begins 65 = .ok (.getfield 18, 3) := dk_180 0 18 (dk_at dksX2_begins_2 18 rfl rfl)
theorem dX2_begins_68 : decode cX2_begins 68 = .ok (.iload 5, 2) := dk_21 5 (dk_at dksX2_begins_2 21 rfl rfl)
theorem dX2_begins_70 : decode cX2_begins 70 = .ok (.iconst 0, 1) := dk_3 (dk_at dksX2_begins_2 23 rfl rfl)
theorem dX2_begins_71 : decode cX2_begins 71 = .ok (.iastore, 1) := dk_79 (dk_at dksX2_begins_3 0 rfl rfl)
theorem dX2_begins_72 : decode cX2_begins 72 = .ok (.iinc 5 1, 3) := dk_132 5 1 (dk_at dksX2_begins_3 1 rfl rfl)
theorem dX2_begins_75 : decode cX2_begins 75 = .ok (.goto (-46), 3) := dk_167 255 210 (dk_at dksX2_begins_3 4 rfl rfl)
theorem dX2_begins_78 : decode cX2_begins 78 = .ok (.aload_n 0, 1) := dk_42 (dk_at dksX2_begins_3 7 rfl rfl)
theorem dX2_begins_79 : decode cX2_begins 79 = .ok (.iconst 0, 1) := dk_3 (dk_at dksX2_begins_3 8 rfl rfl)
theorem dX2_begins_80 : decode cX2_begins 80 = .ok (.putfield 34, 3) := dk_181 0 34 (dk_at dksX2_begins_3 9 rfl rfl)
theorem dX2_begins_83 : decode cX2_begins 83 = .ok (.aload_n 0, 1) := dk_42 (dk_at dksX2_begins_3 12 rfl rfl)
theorem dX2_begins_84 : decode cX2_begins 84 = .ok (.iconst 0, 1) := dk_3 (dk_at dksX2_begins_3 13 rfl rfl)
theorem dX2_begins_85 : decode cX2_begins 85 = .ok (.putfield 37, 3) := dk_181 0 37 (dk_at dksX2_begins_3 14 rfl rfl)
theorem dX2_begins_88 : decode cX2_begins 88 = .ok (.aload_n 0, 1) := dk_42 (dk_at dksX2_begins_3 17 rfl rfl)
theorem dX2_begins_89 : decode cX2_begins 89 = .ok (.iconst 0, 1) := dk_3 (dk_at dksX2_begins_3 18 rfl rfl)
theorem dX2_begins_90 : decode cX2_begins 90 = .ok (.putfield 40, 3) := dk_181 0 40 (dk_at dksX2_begins_3 19 rfl rfl)
theorem dX2_begins_93 : decode cX2_begins 93 = .ok (.aload_n 0, 1) := dk_42 (dk_at dksX2_begins_3 22 rfl rfl)
theorem dX2_begins_94 : decode cX2_begins 94 = .ok (.iconst 0, 1) := dk_3 (dk_at dksX2_begins_3 23 rfl rfl)
theorem dX2_begins_95 : decode cX2_begins 95 = .ok (.putfield 43, 3) := dk_181 0 43 (dk_at dksX2_begins_4 0 rfl rfl)
theorem dX2_begins_98 : decode cX2_begins 98 = .ok (.aload_n 0, 1) := dk_42 (dk_at dksX2_begins_4 3 rfl rfl)
theorem dX2_begins_99 : decode cX2_begins 99 = .ok (.iconst 0, 1) := dk_3 (dk_at dksX2_begins_4 4 rfl rfl)
theorem dX2_begins_100 : decode cX2_begins 100 = .ok (.putfield 46, 3) := dk_181 0 46 (dk_at dksX2_begins_4 5 rfl rfl)
theorem dX2_begins_103 : decode cX2_begins 103 = .ok (.aload_n 0, 1) := dk_42 (dk_at dksX2_begins_4 8 rfl rfl)
theorem dX2_begins_104 : decode cX2_begins 104 = .ok (.iconst 0, 1) := dk_3 (dk_at dksX2_begins_4 9 rfl rfl)
theorem dX2_begins_105 : decode cX2_begins 105 = .ok (.putfield 49, 3) := dk_181 0 49 (dk_at dksX2_begins_4 10 rfl rfl)
theorem dX2_begins_108 : decode cX2_begins 108 = .ok (.aload_n 0, 1) := dk_42 (dk_at dksX2_begins_4 13 rfl rfl)
theorem dX2_begins_109 : decode cX2_begins 109 = .ok (.iconst 0, 1) := dk_3 (dk_at dksX2_begins_4 14 rfl rfl)
theorem dX2_begins_110 : decode cX2_begins 110 = .ok (.putfield 52, 3) := dk_181 0 52 (dk_at dksX2_begins_4 15 rfl rfl)
theorem dX2_begins_113 : decode cX2_begins 113 = .ok (.aload_n 0, 1) := dk_42 (dk_at dksX2_begins_4 18 rfl rfl)
theorem dX2_begins_114 : decode cX2_begins 114 = .ok (.iconst 0, 1) := dk_3 (dk_at dksX2_begins_4 19 rfl rfl)
theorem dX2_begins_115 : decode cX2_begins 115 = .ok (.putfield 55, 3) := dk_181 0 55 (dk_at dksX2_begins_4 20 rfl rfl)
theorem dX2_begins_118 : decode cX2_begins 118 = .ok (.aload_n 0, 1) := dk_42 (dk_at dksX2_begins_4 23 rfl rfl)
theorem dX2_begins_119 : decode cX2_begins 119 = .ok (.iconst 0, 1) := dk_3 (dk_at dksX2_begins_5 0 rfl rfl)
theorem dX2_begins_120 : decode cX2_begins 120 = .ok (.putfield 58, 3) := dk_181 0 58 (dk_at dksX2_begins_5 1 rfl rfl)
theorem dX2_begins_123 : decode cX2_begins 123 = .ok (.aload_n 0, 1) := dk_42 (dk_at dksX2_begins_5 4 rfl rfl)
theorem dX2_begins_124 : decode cX2_begins 124 = .ok (.iconst 0, 1) := dk_3 (dk_at dksX2_begins_5 5 rfl rfl)
theorem dX2_begins_125 : decode cX2_begins 125 = .ok (.putfield 61, 3) := dk_181 0 61 (dk_at dksX2_begins_5 6 rfl rfl)
theorem dX2_begins_128 : decode cX2_begins 128 = .ok (.aload_n 0, 1) := dk_42 (dk_at dksX2_begins_5 9 rfl rfl)
theorem dX2_begins_129 : decode cX2_begins 129 = .ok (.iconst 0, 1) := dk_3 (dk_at dksX2_begins_5 10 rfl rfl)
theorem dX2_begins_130 : decode cX2_begins 130 = .ok (.putfield 64, 3) := dk_181 0 64 (dk_at dksX2_begins_5 11 rfl rfl)
theorem dX2_begins_133 : decode cX2_begins 133 = .ok (.aload_n 0, 1) := dk_42 (dk_at dksX2_begins_5 14 rfl rfl)
theorem dX2_begins_134 : decode cX2_begins 134 = .ok (.iconst 0, 1) := dk_3 (dk_at dksX2_begins_5 15 rfl rfl)
theorem dX2_begins_135 : decode cX2_begins 135 = .ok (.putfield 67, 3) := dk_181 0 67 (dk_at dksX2_begins_5 16 rfl rfl)
theorem dX2_begins_138 : decode cX2_begins 138 = .ok (.aload_n 0, 1) := dk_42 (dk_at dksX2_begins_5 19 rfl rfl)
theorem dX2_begins_139 : decode cX2_begins 139 = .ok (.iconst 0, 1) := dk_3 (dk_at dksX2_begins_5 20 rfl rfl)
theorem dX2_begins_140 : decode cX2_begins 140 = .ok (.putfield 70, 3) := dk_181 0 70 (dk_at dksX2_begins_5 21 rfl rfl)
theorem dX2_begins_143 : decode cX2_begins 143 = .ok (.aload_n 0, 1) := dk_42 (dk_at dksX2_begins_6 0 rfl rfl)
theorem dX2_begins_144 : decode cX2_begins 144 = .ok (.iconst (-1), 1) := dk_2 (dk_at dksX2_begins_6 1 rfl rfl)
theorem dX2_begins_145 : decode cX2_begins 145 = .ok (.putfield 73, 3) := dk_181 0 73 (dk_at dksX2_begins_6 2 rfl rfl)
theorem dX2_begins_148 : decode cX2_begins 148 = .ok (.aload_n 0, 1) := dk_42 (dk_at dksX2_begins_6 5 rfl rfl)
theorem dX2_begins_149 : decode cX2_begins 149 = .ok (.iconst (-1), 1) := dk_2 (dk_at dksX2_begins_6 6 rfl rfl)
theorem dX2_begins_150 : decode cX2_begins 150 = .ok (.putfield 76, 3) := dk_181 0 76 (dk_at dksX2_begins_6 7 rfl rfl)
theorem dX2_begins_153 : decode cX2_begins 153 = .ok (.return_, 1) := dk_177 (dk_at dksX2_begins_6 10 rfl rfl)
abbrev cX2_ironOf : ByteArray := prog_26_method_5_code
def yX2_ironOf : MethodName := ⟨RX2, "ironOf", "(I)I"⟩
def dkwX2_ironOf_0 : List UInt8 := [42, 27, 182, 0, 79, 153, 0, 12, 42, 180, 0, 9, 27, 46, 167, 0, 4, 3, 172]
abbrev dktX2_ironOf_0 : List UInt8 := dkwX2_ironOf_0 ++ []
theorem dksX2_ironOf_0 : cX2_ironOf.data.toList.drop 0 = dktX2_ironOf_0 := by decide +kernel
theorem dX2_ironOf_0 : decode cX2_ironOf 0 = .ok (.aload_n 0, 1) := dk_42 (dk_at dksX2_ironOf_0 0 rfl rfl)
theorem dX2_ironOf_1 : decode cX2_ironOf 1 = .ok (.iload_n 1, 1) := dk_27 (dk_at dksX2_ironOf_0 1 rfl rfl)
theorem dX2_ironOf_2 : decode cX2_ironOf 2 = .ok (.invokevirtual 79, 3) := dk_182 0 79 (dk_at dksX2_ironOf_0 2 rfl rfl)
theorem dX2_ironOf_5 : decode cX2_ironOf 5 = .ok (.ifCond .eq 12, 3) := dk_153 0 12 (dk_at dksX2_ironOf_0 5 rfl rfl)
theorem dX2_ironOf_8 : decode cX2_ironOf 8 = .ok (.aload_n 0, 1) := dk_42 (dk_at dksX2_ironOf_0 8 rfl rfl)
theorem dX2_ironOf_9 : decode cX2_ironOf 9 = .ok (.getfield 9, 3) := dk_180 0 9 (dk_at dksX2_ironOf_0 9 rfl rfl)
theorem dX2_ironOf_12 : decode cX2_ironOf 12 = .ok (.iload_n 1, 1) := dk_27 (dk_at dksX2_ironOf_0 12 rfl rfl)
theorem dX2_ironOf_13 : decode cX2_ironOf 13 = .ok (.iaload, 1) := dk_46 (dk_at dksX2_ironOf_0 13 rfl rfl)
theorem dX2_ironOf_14 : decode cX2_ironOf 14 = .ok (.goto 4, 3) := dk_167 0 4 (dk_at dksX2_ironOf_0 14 rfl rfl)
theorem dX2_ironOf_17 : decode cX2_ironOf 17 = .ok (.iconst 0, 1) := dk_3 (dk_at dksX2_ironOf_0 17 rfl rfl)
theorem dX2_ironOf_18 : decode cX2_ironOf 18 = .ok (.ireturn, 1) := dk_172 (dk_at dksX2_ironOf_0 18 rfl rfl)
abbrev cX2_isCell : ByteArray := prog_26_method_3_code
def yX2_isCell : MethodName := ⟨RX2, "isCell", "(I)Z"⟩
def dkwX2_isCell_0 : List UInt8 := [27, 155, 0, 15, 27, 42, 180, 0, 21, 162, 0, 7, 4, 167, 0, 4, 3, 172]
abbrev dktX2_isCell_0 : List UInt8 := dkwX2_isCell_0 ++ []
theorem dksX2_isCell_0 : cX2_isCell.data.toList.drop 0 = dktX2_isCell_0 := by decide +kernel
theorem dX2_isCell_0 : decode cX2_isCell 0 = .ok (.iload_n 1, 1) := dk_27 (dk_at dksX2_isCell_0 0 rfl rfl)
theorem dX2_isCell_1 : decode cX2_isCell 1 = .ok (.ifCond .lt 15, 3) := dk_155 0 15 (dk_at dksX2_isCell_0 1 rfl rfl)
theorem dX2_isCell_4 : decode cX2_isCell 4 = .ok (.iload_n 1, 1) := dk_27 (dk_at dksX2_isCell_0 4 rfl rfl)
theorem dX2_isCell_5 : decode cX2_isCell 5 = .ok (.aload_n 0, 1) := dk_42 (dk_at dksX2_isCell_0 5 rfl rfl)
theorem dX2_isCell_6 : decode cX2_isCell 6 = .ok (.getfield 21, 3) := dk_180 0 21 (dk_at dksX2_isCell_0 6 rfl rfl)
theorem dX2_isCell_9 : decode cX2_isCell 9 = .ok (.if_icmp .ge 7, 3) := dk_162 0 7 (dk_at dksX2_isCell_0 9 rfl rfl)
theorem dX2_isCell_12 : decode cX2_isCell 12 = .ok (.iconst 1, 1) := dk_4 (dk_at dksX2_isCell_0 12 rfl rfl)
theorem dX2_isCell_13 : decode cX2_isCell 13 = .ok (.goto 4, 3) := dk_167 0 4 (dk_at dksX2_isCell_0 13 rfl rfl)
theorem dX2_isCell_16 : decode cX2_isCell 16 = .ok (.iconst 0, 1) := dk_3 (dk_at dksX2_isCell_0 16 rfl rfl)
theorem dX2_isCell_17 : decode cX2_isCell 17 = .ok (.ireturn, 1) := dk_172 (dk_at dksX2_isCell_0 17 rfl rfl)
abbrev cX2_isHot : ByteArray := prog_26_method_4_code
def yX2_isHot : MethodName := ⟨RX2, "isHot", "(I)Z"⟩
def dkwX2_isHot_1 : List UInt8 := [3, 172]
abbrev dktX2_isHot_1 : List UInt8 := dkwX2_isHot_1 ++ []
def dkwX2_isHot_0 : List UInt8 := [42, 27, 182, 0, 79, 153, 0, 19, 42, 180, 0, 34, 27, 122, 4, 126, 4, 160, 0, 7, 4, 167, 0, 4]
abbrev dktX2_isHot_0 : List UInt8 := dkwX2_isHot_0 ++ dktX2_isHot_1
theorem dksX2_isHot_0 : cX2_isHot.data.toList.drop 0 = dktX2_isHot_0 := by decide +kernel
theorem dksX2_isHot_1 : cX2_isHot.data.toList.drop 24 = dktX2_isHot_1 := dk_seg dksX2_isHot_0 24 rfl rfl
theorem dX2_isHot_0 : decode cX2_isHot 0 = .ok (.aload_n 0, 1) := dk_42 (dk_at dksX2_isHot_0 0 rfl rfl)
theorem dX2_isHot_1 : decode cX2_isHot 1 = .ok (.iload_n 1, 1) := dk_27 (dk_at dksX2_isHot_0 1 rfl rfl)
theorem dX2_isHot_2 : decode cX2_isHot 2 = .ok (.invokevirtual 79, 3) := dk_182 0 79 (dk_at dksX2_isHot_0 2 rfl rfl)
theorem dX2_isHot_5 : decode cX2_isHot 5 = .ok (.ifCond .eq 19, 3) := dk_153 0 19 (dk_at dksX2_isHot_0 5 rfl rfl)
theorem dX2_isHot_8 : decode cX2_isHot 8 = .ok (.aload_n 0, 1) := dk_42 (dk_at dksX2_isHot_0 8 rfl rfl)
theorem dX2_isHot_9 : decode cX2_isHot 9 = .ok (.getfield 34, 3) := dk_180 0 34 (dk_at dksX2_isHot_0 9 rfl rfl)
theorem dX2_isHot_12 : decode cX2_isHot 12 = .ok (.iload_n 1, 1) := dk_27 (dk_at dksX2_isHot_0 12 rfl rfl)
theorem dX2_isHot_13 : decode cX2_isHot 13 = .ok (.ishr, 1) := dk_122 (dk_at dksX2_isHot_0 13 rfl rfl)
theorem dX2_isHot_14 : decode cX2_isHot 14 = .ok (.iconst 1, 1) := dk_4 (dk_at dksX2_isHot_0 14 rfl rfl)
theorem dX2_isHot_15 : decode cX2_isHot 15 = .ok (.iand, 1) := dk_126 (dk_at dksX2_isHot_0 15 rfl rfl)
theorem dX2_isHot_16 : decode cX2_isHot 16 = .ok (.iconst 1, 1) := dk_4 (dk_at dksX2_isHot_0 16 rfl rfl)
theorem dX2_isHot_17 : decode cX2_isHot 17 = .ok (.if_icmp .ne 7, 3) := dk_160 0 7 (dk_at dksX2_isHot_0 17 rfl rfl)
theorem dX2_isHot_20 : decode cX2_isHot 20 = .ok (.iconst 1, 1) := dk_4 (dk_at dksX2_isHot_0 20 rfl rfl)
theorem dX2_isHot_21 : decode cX2_isHot 21 = .ok (.goto 4, 3) := dk_167 0 4 (dk_at dksX2_isHot_0 21 rfl rfl)
theorem dX2_isHot_24 : decode cX2_isHot 24 = .ok (.iconst 0, 1) := dk_3 (dk_at dksX2_isHot_1 0 rfl rfl)
theorem dX2_isHot_25 : decode cX2_isHot 25 = .ok (.ireturn, 1) := dk_172 (dk_at dksX2_isHot_1 1 rfl rfl)
abbrev cX2_fires : ByteArray := prog_26_method_7_code
def yX2_fires : MethodName := ⟨RX2, "fires", "(I)Z"⟩
def dkwX2_fires_5 : List UInt8 := [89, 180, 0, 40, 4, 96, 181, 0, 40, 42, 27, 182, 0, 83, 4, 172]
abbrev dktX2_fires_5 : List UInt8 := dkwX2_fires_5 ++ []
def dkwX2_fires_4 : List UInt8 := [154, 0, 5, 3, 172, 42, 28, 181, 0, 34, 42, 27, 181, 0, 73, 42, 42, 180, 0, 28, 181, 0, 37, 42]
abbrev dktX2_fires_4 : List UInt8 := dkwX2_fires_4 ++ dktX2_fires_5
def dkwX2_fires_3 : List UInt8 := [21, 4, 46, 122, 4, 126, 4, 160, 0, 7, 4, 167, 0, 4, 3, 62, 132, 4, 1, 167, 255, 207, 29]
abbrev dktX2_fires_3 : List UInt8 := dkwX2_fires_3 ++ dktX2_fires_4
def dkwX2_fires_2 : List UInt8 := [162, 0, 46, 29, 154, 0, 30, 28, 21, 4, 122, 4, 126, 154, 0, 25, 42, 180, 0, 25, 42, 180, 0, 9]
abbrev dktX2_fires_2 : List UInt8 := dkwX2_fires_2 ++ dktX2_fires_3
def dkwX2_fires_1 : List UInt8 := [4, 122, 4, 42, 180, 0, 21, 120, 4, 100, 126, 61, 3, 62, 3, 54, 4, 21, 4, 42, 180, 0, 21]
abbrev dktX2_fires_1 : List UInt8 := dkwX2_fires_1 ++ dktX2_fires_2
def dkwX2_fires_0 : List UInt8 := [42, 27, 182, 0, 79, 154, 0, 15, 42, 89, 180, 0, 49, 4, 96, 181, 0, 49, 4, 172, 16, 7, 27, 120]
abbrev dktX2_fires_0 : List UInt8 := dkwX2_fires_0 ++ dktX2_fires_1
theorem dksX2_fires_0 : cX2_fires.data.toList.drop 0 = dktX2_fires_0 := by decide +kernel
theorem dksX2_fires_1 : cX2_fires.data.toList.drop 24 = dktX2_fires_1 := dk_seg dksX2_fires_0 24 rfl rfl
theorem dksX2_fires_2 : cX2_fires.data.toList.drop 47 = dktX2_fires_2 := dk_seg dksX2_fires_1 23 rfl rfl
theorem dksX2_fires_3 : cX2_fires.data.toList.drop 71 = dktX2_fires_3 := dk_seg dksX2_fires_2 24 rfl rfl
theorem dksX2_fires_4 : cX2_fires.data.toList.drop 94 = dktX2_fires_4 := dk_seg dksX2_fires_3 23 rfl rfl
theorem dksX2_fires_5 : cX2_fires.data.toList.drop 118 = dktX2_fires_5 := dk_seg dksX2_fires_4 24 rfl rfl
theorem dX2_fires_0 : decode cX2_fires 0 = .ok (.aload_n 0, 1) := dk_42 (dk_at dksX2_fires_0 0 rfl rfl)
theorem dX2_fires_1 : decode cX2_fires 1 = .ok (.iload_n 1, 1) := dk_27 (dk_at dksX2_fires_0 1 rfl rfl)
theorem dX2_fires_2 : decode cX2_fires 2 = .ok (.invokevirtual 79, 3) := dk_182 0 79 (dk_at dksX2_fires_0 2 rfl rfl)
theorem dX2_fires_5 : decode cX2_fires 5 = .ok (.ifCond .ne 15, 3) := dk_154 0 15 (dk_at dksX2_fires_0 5 rfl rfl)
theorem dX2_fires_8 : decode cX2_fires 8 = .ok (.aload_n 0, 1) := dk_42 (dk_at dksX2_fires_0 8 rfl rfl)
theorem dX2_fires_9 : decode cX2_fires 9 = .ok (.dup, 1) := dk_89 (dk_at dksX2_fires_0 9 rfl rfl)
theorem dX2_fires_10 : decode cX2_fires 10 = .ok (.getfield 49, 3) := dk_180 0 49 (dk_at dksX2_fires_0 10 rfl rfl)
theorem dX2_fires_13 : decode cX2_fires 13 = .ok (.iconst 1, 1) := dk_4 (dk_at dksX2_fires_0 13 rfl rfl)
theorem dX2_fires_14 : decode cX2_fires 14 = .ok (.iadd, 1) := dk_96 (dk_at dksX2_fires_0 14 rfl rfl)
theorem dX2_fires_15 : decode cX2_fires 15 = .ok (.putfield 49, 3) := dk_181 0 49 (dk_at dksX2_fires_0 15 rfl rfl)
theorem dX2_fires_18 : decode cX2_fires 18 = .ok (.iconst 1, 1) := dk_4 (dk_at dksX2_fires_0 18 rfl rfl)
theorem dX2_fires_19 : decode cX2_fires 19 = .ok (.ireturn, 1) := dk_172 (dk_at dksX2_fires_0 19 rfl rfl)
theorem dX2_fires_20 : decode cX2_fires 20 = .ok (.bipush 7, 2) := dk_16 7 (dk_at dksX2_fires_0 20 rfl rfl)
theorem dX2_fires_22 : decode cX2_fires 22 = .ok (.iload_n 1, 1) := dk_27 (dk_at dksX2_fires_0 22 rfl rfl)
theorem dX2_fires_23 : decode cX2_fires 23 = .ok (.ishl, 1) := dk_120 (dk_at dksX2_fires_0 23 rfl rfl)
theorem dX2_fires_24 : decode cX2_fires 24 = .ok (.iconst 1, 1) := dk_4 (dk_at dksX2_fires_1 0 rfl rfl)
theorem dX2_fires_25 : decode cX2_fires 25 = .ok (.ishr, 1) := dk_122 (dk_at dksX2_fires_1 1 rfl rfl)
theorem dX2_fires_26 : decode cX2_fires 26 = .ok (.iconst 1, 1) := dk_4 (dk_at dksX2_fires_1 2 rfl rfl)
theorem dX2_fires_27 : decode cX2_fires 27 = .ok (.aload_n 0, 1) := dk_42 (dk_at dksX2_fires_1 3 rfl rfl)
theorem dX2_fires_28 : decode cX2_fires 28 = .ok (.getfield 21, 3) := dk_180 0 21 (dk_at dksX2_fires_1 4 rfl rfl)
theorem dX2_fires_31 : decode cX2_fires 31 = .ok (.ishl, 1) := dk_120 (dk_at dksX2_fires_1 7 rfl rfl)
theorem dX2_fires_32 : decode cX2_fires 32 = .ok (.iconst 1, 1) := dk_4 (dk_at dksX2_fires_1 8 rfl rfl)
theorem dX2_fires_33 : decode cX2_fires 33 = .ok (.isub, 1) := dk_100 (dk_at dksX2_fires_1 9 rfl rfl)
theorem dX2_fires_34 : decode cX2_fires 34 = .ok (.iand, 1) := dk_126 (dk_at dksX2_fires_1 10 rfl rfl)
theorem dX2_fires_35 : decode cX2_fires 35 = .ok (.istore_n 2, 1) := dk_61 (dk_at dksX2_fires_1 11 rfl rfl)
theorem dX2_fires_36 : decode cX2_fires 36 = .ok (.iconst 0, 1) := dk_3 (dk_at dksX2_fires_1 12 rfl rfl)
theorem dX2_fires_37 : decode cX2_fires 37 = .ok (.istore_n 3, 1) := dk_62 (dk_at dksX2_fires_1 13 rfl rfl)
theorem dX2_fires_38 : decode cX2_fires 38 = .ok (.iconst 0, 1) := dk_3 (dk_at dksX2_fires_1 14 rfl rfl)
theorem dX2_fires_39 : decode cX2_fires 39 = .ok (.istore 4, 2) := dk_54 4 (dk_at dksX2_fires_1 15 rfl rfl)
theorem dX2_fires_41 : decode cX2_fires 41 = .ok (.iload 4, 2) := dk_21 4 (dk_at dksX2_fires_1 17 rfl rfl)
theorem dX2_fires_43 : decode cX2_fires 43 = .ok (.aload_n 0, 1) := dk_42 (dk_at dksX2_fires_1 19 rfl rfl)
theorem dX2_fires_44 : decode cX2_fires 44 = .ok (.getfield 21, 3) := dk_180 0 21 (dk_at dksX2_fires_1 20 rfl rfl)
theorem dX2_fires_47 : decode cX2_fires 47 = .ok (.if_icmp .ge 46, 3) := dk_162 0 46 (dk_at dksX2_fires_2 0 rfl rfl)
theorem dX2_fires_50 : decode cX2_fires 50 = .ok (.iload_n 3, 1) := dk_29 (dk_at dksX2_fires_2 3 rfl rfl)
theorem dX2_fires_51 : decode cX2_fires 51 = .ok (.ifCond .ne 30, 3) := dk_154 0 30 (dk_at dksX2_fires_2 4 rfl rfl)
theorem dX2_fires_54 : decode cX2_fires 54 = .ok (.iload_n 2, 1) := dk_28 (dk_at dksX2_fires_2 7 rfl rfl)
theorem dX2_fires_55 : decode cX2_fires 55 = .ok (.iload 4, 2) := dk_21 4 (dk_at dksX2_fires_2 8 rfl rfl)
theorem dX2_fires_57 : decode cX2_fires 57 = .ok (.ishr, 1) := dk_122 (dk_at dksX2_fires_2 10 rfl rfl)
theorem dX2_fires_58 : decode cX2_fires 58 = .ok (.iconst 1, 1) := dk_4 (dk_at dksX2_fires_2 11 rfl rfl)
theorem dX2_fires_59 : decode cX2_fires 59 = .ok (.iand, 1) := dk_126 (dk_at dksX2_fires_2 12 rfl rfl)
theorem dX2_fires_60 : decode cX2_fires 60 = .ok (.ifCond .ne 25, 3) := dk_154 0 25 (dk_at dksX2_fires_2 13 rfl rfl)
theorem dX2_fires_63 : decode cX2_fires 63 = .ok (.aload_n 0, 1) := dk_42 (dk_at dksX2_fires_2 16 rfl rfl)
theorem dX2_fires_64 : decode cX2_fires 64 = .ok (.getfield 25, 3) := dk_180 0 25 (dk_at dksX2_fires_2 17 rfl rfl)
theorem dX2_fires_67 : decode cX2_fires 67 = .ok (.aload_n 0, 1) := dk_42 (dk_at dksX2_fires_2 20 rfl rfl)
theorem dX2_fires_68 : decode cX2_fires 68 = .ok (.getfield 9, 3) := dk_180 0 9 (dk_at dksX2_fires_2 21 rfl rfl)
theorem dX2_fires_71 : decode cX2_fires 71 = .ok (.iload 4, 2) := dk_21 4 (dk_at dksX2_fires_3 0 rfl rfl)
theorem dX2_fires_73 : decode cX2_fires 73 = .ok (.iaload, 1) := dk_46 (dk_at dksX2_fires_3 2 rfl rfl)
theorem dX2_fires_74 : decode cX2_fires 74 = .ok (.ishr, 1) := dk_122 (dk_at dksX2_fires_3 3 rfl rfl)
theorem dX2_fires_75 : decode cX2_fires 75 = .ok (.iconst 1, 1) := dk_4 (dk_at dksX2_fires_3 4 rfl rfl)
theorem dX2_fires_76 : decode cX2_fires 76 = .ok (.iand, 1) := dk_126 (dk_at dksX2_fires_3 5 rfl rfl)
theorem dX2_fires_77 : decode cX2_fires 77 = .ok (.iconst 1, 1) := dk_4 (dk_at dksX2_fires_3 6 rfl rfl)
theorem dX2_fires_78 : decode cX2_fires 78 = .ok (.if_icmp .ne 7, 3) := dk_160 0 7 (dk_at dksX2_fires_3 7 rfl rfl)
theorem dX2_fires_81 : decode cX2_fires 81 = .ok (.iconst 1, 1) := dk_4 (dk_at dksX2_fires_3 10 rfl rfl)
theorem dX2_fires_82 : decode cX2_fires 82 = .ok (.goto 4, 3) := dk_167 0 4 (dk_at dksX2_fires_3 11 rfl rfl)
theorem dX2_fires_85 : decode cX2_fires 85 = .ok (.iconst 0, 1) := dk_3 (dk_at dksX2_fires_3 14 rfl rfl)
theorem dX2_fires_86 : decode cX2_fires 86 = .ok (.istore_n 3, 1) := dk_62 (dk_at dksX2_fires_3 15 rfl rfl)
theorem dX2_fires_87 : decode cX2_fires 87 = .ok (.iinc 4 1, 3) := dk_132 4 1 (dk_at dksX2_fires_3 16 rfl rfl)
theorem dX2_fires_90 : decode cX2_fires 90 = .ok (.goto (-49), 3) := dk_167 255 207 (dk_at dksX2_fires_3 19 rfl rfl)
theorem dX2_fires_93 : decode cX2_fires 93 = .ok (.iload_n 3, 1) := dk_29 (dk_at dksX2_fires_3 22 rfl rfl)
theorem dX2_fires_94 : decode cX2_fires 94 = .ok (.ifCond .ne 5, 3) := dk_154 0 5 (dk_at dksX2_fires_4 0 rfl rfl)
theorem dX2_fires_97 : decode cX2_fires 97 = .ok (.iconst 0, 1) := dk_3 (dk_at dksX2_fires_4 3 rfl rfl)
theorem dX2_fires_98 : decode cX2_fires 98 = .ok (.ireturn, 1) := dk_172 (dk_at dksX2_fires_4 4 rfl rfl)
theorem dX2_fires_99 : decode cX2_fires 99 = .ok (.aload_n 0, 1) := dk_42 (dk_at dksX2_fires_4 5 rfl rfl)
theorem dX2_fires_100 : decode cX2_fires 100 = .ok (.iload_n 2, 1) := dk_28 (dk_at dksX2_fires_4 6 rfl rfl)
theorem dX2_fires_101 : decode cX2_fires 101 = .ok (.putfield 34, 3) := dk_181 0 34 (dk_at dksX2_fires_4 7 rfl rfl)
theorem dX2_fires_104 : decode cX2_fires 104 = .ok (.aload_n 0, 1) := dk_42 (dk_at dksX2_fires_4 10 rfl rfl)
theorem dX2_fires_105 : decode cX2_fires 105 = .ok (.iload_n 1, 1) := dk_27 (dk_at dksX2_fires_4 11 rfl rfl)
theorem dX2_fires_106 : decode cX2_fires 106 = .ok (.putfield 73, 3) := dk_181 0 73 (dk_at dksX2_fires_4 12 rfl rfl)
theorem dX2_fires_109 : decode cX2_fires 109 = .ok (.aload_n 0, 1) := dk_42 (dk_at dksX2_fires_4 15 rfl rfl)
theorem dX2_fires_110 : decode cX2_fires 110 = .ok (.aload_n 0, 1) := dk_42 (dk_at dksX2_fires_4 16 rfl rfl)
theorem dX2_fires_111 : decode cX2_fires 111 = .ok (.getfield 28, 3) := dk_180 0 28 (dk_at dksX2_fires_4 17 rfl rfl)
theorem dX2_fires_114 : decode cX2_fires 114 = .ok (.putfield 37, 3) := dk_181 0 37 (dk_at dksX2_fires_4 20 rfl rfl)
theorem dX2_fires_117 : decode cX2_fires 117 = .ok (.aload_n 0, 1) := dk_42 (dk_at dksX2_fires_4 23 rfl rfl)
theorem dX2_fires_118 : decode cX2_fires 118 = .ok (.dup, 1) := dk_89 (dk_at dksX2_fires_5 0 rfl rfl)
theorem dX2_fires_119 : decode cX2_fires 119 = .ok (.getfield 40, 3) := dk_180 0 40 (dk_at dksX2_fires_5 1 rfl rfl)
theorem dX2_fires_122 : decode cX2_fires 122 = .ok (.iconst 1, 1) := dk_4 (dk_at dksX2_fires_5 4 rfl rfl)
theorem dX2_fires_123 : decode cX2_fires 123 = .ok (.iadd, 1) := dk_96 (dk_at dksX2_fires_5 5 rfl rfl)
theorem dX2_fires_124 : decode cX2_fires 124 = .ok (.putfield 40, 3) := dk_181 0 40 (dk_at dksX2_fires_5 6 rfl rfl)
theorem dX2_fires_127 : decode cX2_fires 127 = .ok (.aload_n 0, 1) := dk_42 (dk_at dksX2_fires_5 9 rfl rfl)
theorem dX2_fires_128 : decode cX2_fires 128 = .ok (.iload_n 1, 1) := dk_27 (dk_at dksX2_fires_5 10 rfl rfl)
theorem dX2_fires_129 : decode cX2_fires 129 = .ok (.invokevirtual 83, 3) := dk_182 0 83 (dk_at dksX2_fires_5 11 rfl rfl)
theorem dX2_fires_132 : decode cX2_fires 132 = .ok (.iconst 1, 1) := dk_4 (dk_at dksX2_fires_5 14 rfl rfl)
theorem dX2_fires_133 : decode cX2_fires 133 = .ok (.ireturn, 1) := dk_172 (dk_at dksX2_fires_5 15 rfl rfl)
abbrev cX2_scales : ByteArray := prog_26_method_6_code
def yX2_scales : MethodName := ⟨RX2, "scales", "(I)V"⟩
def dkwX2_scales_1 : List UInt8 := [180, 0, 55, 4, 96, 181, 0, 55, 177]
abbrev dktX2_scales_1 : List UInt8 := dkwX2_scales_1 ++ []
def dkwX2_scales_0 : List UInt8 := [42, 180, 0, 9, 27, 46, 4, 160, 0, 4, 177, 42, 180, 0, 9, 27, 92, 46, 4, 100, 79, 42, 89]
abbrev dktX2_scales_0 : List UInt8 := dkwX2_scales_0 ++ dktX2_scales_1
theorem dksX2_scales_0 : cX2_scales.data.toList.drop 0 = dktX2_scales_0 := by decide +kernel
theorem dksX2_scales_1 : cX2_scales.data.toList.drop 23 = dktX2_scales_1 := dk_seg dksX2_scales_0 23 rfl rfl
theorem dX2_scales_0 : decode cX2_scales 0 = .ok (.aload_n 0, 1) := dk_42 (dk_at dksX2_scales_0 0 rfl rfl)
theorem dX2_scales_1 : decode cX2_scales 1 = .ok (.getfield 9, 3) := dk_180 0 9 (dk_at dksX2_scales_0 1 rfl rfl)
theorem dX2_scales_4 : decode cX2_scales 4 = .ok (.iload_n 1, 1) := dk_27 (dk_at dksX2_scales_0 4 rfl rfl)
theorem dX2_scales_5 : decode cX2_scales 5 = .ok (.iaload, 1) := dk_46 (dk_at dksX2_scales_0 5 rfl rfl)
theorem dX2_scales_6 : decode cX2_scales 6 = .ok (.iconst 1, 1) := dk_4 (dk_at dksX2_scales_0 6 rfl rfl)
theorem dX2_scales_7 : decode cX2_scales 7 = .ok (.if_icmp .ne 4, 3) := dk_160 0 4 (dk_at dksX2_scales_0 7 rfl rfl)
theorem dX2_scales_10 : decode cX2_scales 10 = .ok (.return_, 1) := dk_177 (dk_at dksX2_scales_0 10 rfl rfl)
theorem dX2_scales_11 : decode cX2_scales 11 = .ok (.aload_n 0, 1) := dk_42 (dk_at dksX2_scales_0 11 rfl rfl)
theorem dX2_scales_12 : decode cX2_scales 12 = .ok (.getfield 9, 3) := dk_180 0 9 (dk_at dksX2_scales_0 12 rfl rfl)
theorem dX2_scales_15 : decode cX2_scales 15 = .ok (.iload_n 1, 1) := dk_27 (dk_at dksX2_scales_0 15 rfl rfl)
theorem dX2_scales_16 : decode cX2_scales 16 = .ok (.dup2, 1) := dk_92 (dk_at dksX2_scales_0 16 rfl rfl)
theorem dX2_scales_17 : decode cX2_scales 17 = .ok (.iaload, 1) := dk_46 (dk_at dksX2_scales_0 17 rfl rfl)
theorem dX2_scales_18 : decode cX2_scales 18 = .ok (.iconst 1, 1) := dk_4 (dk_at dksX2_scales_0 18 rfl rfl)
theorem dX2_scales_19 : decode cX2_scales 19 = .ok (.isub, 1) := dk_100 (dk_at dksX2_scales_0 19 rfl rfl)
theorem dX2_scales_20 : decode cX2_scales 20 = .ok (.iastore, 1) := dk_79 (dk_at dksX2_scales_0 20 rfl rfl)
theorem dX2_scales_21 : decode cX2_scales 21 = .ok (.aload_n 0, 1) := dk_42 (dk_at dksX2_scales_0 21 rfl rfl)
theorem dX2_scales_22 : decode cX2_scales 22 = .ok (.dup, 1) := dk_89 (dk_at dksX2_scales_0 22 rfl rfl)
theorem dX2_scales_23 : decode cX2_scales 23 = .ok (.getfield 55, 3) := dk_180 0 55 (dk_at dksX2_scales_1 0 rfl rfl)
theorem dX2_scales_26 : decode cX2_scales 26 = .ok (.iconst 1, 1) := dk_4 (dk_at dksX2_scales_1 3 rfl rfl)
theorem dX2_scales_27 : decode cX2_scales 27 = .ok (.iadd, 1) := dk_96 (dk_at dksX2_scales_1 4 rfl rfl)
theorem dX2_scales_28 : decode cX2_scales 28 = .ok (.putfield 55, 3) := dk_181 0 55 (dk_at dksX2_scales_1 5 rfl rfl)
theorem dX2_scales_31 : decode cX2_scales 31 = .ok (.return_, 1) := dk_177 (dk_at dksX2_scales_1 8 rfl rfl)
abbrev cX2_punches : ByteArray := prog_26_method_12_code
def yX2_punches : MethodName := ⟨RX2, "punches", "(I)V"⟩
def dkwX2_punches_3 : List UInt8 := [177]
abbrev dktX2_punches_3 : List UInt8 := dkwX2_punches_3 ++ []
def dkwX2_punches_2 : List UInt8 := [27, 46, 5, 159, 0, 4, 177, 42, 89, 180, 0, 61, 4, 27, 120, 128, 181, 0, 61, 42, 27, 182, 0, 83]
abbrev dktX2_punches_2 : List UInt8 := dkwX2_punches_2 ++ dktX2_punches_3
def dkwX2_punches_1 : List UInt8 := [182, 0, 96, 182, 0, 99, 154, 0, 4, 177, 42, 180, 0, 15, 27, 92, 46, 4, 96, 79, 42, 180, 0, 15]
abbrev dktX2_punches_1 : List UInt8 := dkwX2_punches_1 ++ dktX2_punches_2
def dkwX2_punches_0 : List UInt8 := [42, 27, 182, 0, 79, 154, 0, 14, 42, 89, 180, 0, 49, 4, 96, 181, 0, 49, 177, 42, 27, 42, 27]
abbrev dktX2_punches_0 : List UInt8 := dkwX2_punches_0 ++ dktX2_punches_1
theorem dksX2_punches_0 : cX2_punches.data.toList.drop 0 = dktX2_punches_0 := by decide +kernel
theorem dksX2_punches_1 : cX2_punches.data.toList.drop 23 = dktX2_punches_1 := dk_seg dksX2_punches_0 23 rfl rfl
theorem dksX2_punches_2 : cX2_punches.data.toList.drop 47 = dktX2_punches_2 := dk_seg dksX2_punches_1 24 rfl rfl
theorem dksX2_punches_3 : cX2_punches.data.toList.drop 71 = dktX2_punches_3 := dk_seg dksX2_punches_2 24 rfl rfl
theorem dX2_punches_0 : decode cX2_punches 0 = .ok (.aload_n 0, 1) := dk_42 (dk_at dksX2_punches_0 0 rfl rfl)
theorem dX2_punches_1 : decode cX2_punches 1 = .ok (.iload_n 1, 1) := dk_27 (dk_at dksX2_punches_0 1 rfl rfl)
theorem dX2_punches_2 : decode cX2_punches 2 = .ok (.invokevirtual 79, 3) := dk_182 0 79 (dk_at dksX2_punches_0 2 rfl rfl)
theorem dX2_punches_5 : decode cX2_punches 5 = .ok (.ifCond .ne 14, 3) := dk_154 0 14 (dk_at dksX2_punches_0 5 rfl rfl)
theorem dX2_punches_8 : decode cX2_punches 8 = .ok (.aload_n 0, 1) := dk_42 (dk_at dksX2_punches_0 8 rfl rfl)
theorem dX2_punches_9 : decode cX2_punches 9 = .ok (.dup, 1) := dk_89 (dk_at dksX2_punches_0 9 rfl rfl)
theorem dX2_punches_10 : decode cX2_punches 10 = .ok (.getfield 49, 3) := dk_180 0 49 (dk_at dksX2_punches_0 10 rfl rfl)
theorem dX2_punches_13 : decode cX2_punches 13 = .ok (.iconst 1, 1) := dk_4 (dk_at dksX2_punches_0 13 rfl rfl)
theorem dX2_punches_14 : decode cX2_punches 14 = .ok (.iadd, 1) := dk_96 (dk_at dksX2_punches_0 14 rfl rfl)
theorem dX2_punches_15 : decode cX2_punches 15 = .ok (.putfield 49, 3) := dk_181 0 49 (dk_at dksX2_punches_0 15 rfl rfl)
theorem dX2_punches_18 : decode cX2_punches 18 = .ok (.return_, 1) := dk_177 (dk_at dksX2_punches_0 18 rfl rfl)
theorem dX2_punches_19 : decode cX2_punches 19 = .ok (.aload_n 0, 1) := dk_42 (dk_at dksX2_punches_0 19 rfl rfl)
theorem dX2_punches_20 : decode cX2_punches 20 = .ok (.iload_n 1, 1) := dk_27 (dk_at dksX2_punches_0 20 rfl rfl)
theorem dX2_punches_21 : decode cX2_punches 21 = .ok (.aload_n 0, 1) := dk_42 (dk_at dksX2_punches_0 21 rfl rfl)
theorem dX2_punches_22 : decode cX2_punches 22 = .ok (.iload_n 1, 1) := dk_27 (dk_at dksX2_punches_0 22 rfl rfl)
theorem dX2_punches_23 : decode cX2_punches 23 = .ok (.invokevirtual 96, 3) := dk_182 0 96 (dk_at dksX2_punches_1 0 rfl rfl)
theorem dX2_punches_26 : decode cX2_punches 26 = .ok (.invokevirtual 99, 3) := dk_182 0 99 (dk_at dksX2_punches_1 3 rfl rfl)
theorem dX2_punches_29 : decode cX2_punches 29 = .ok (.ifCond .ne 4, 3) := dk_154 0 4 (dk_at dksX2_punches_1 6 rfl rfl)
theorem dX2_punches_32 : decode cX2_punches 32 = .ok (.return_, 1) := dk_177 (dk_at dksX2_punches_1 9 rfl rfl)
theorem dX2_punches_33 : decode cX2_punches 33 = .ok (.aload_n 0, 1) := dk_42 (dk_at dksX2_punches_1 10 rfl rfl)
theorem dX2_punches_34 : decode cX2_punches 34 = .ok (.getfield 15, 3) := dk_180 0 15 (dk_at dksX2_punches_1 11 rfl rfl)
theorem dX2_punches_37 : decode cX2_punches 37 = .ok (.iload_n 1, 1) := dk_27 (dk_at dksX2_punches_1 14 rfl rfl)
theorem dX2_punches_38 : decode cX2_punches 38 = .ok (.dup2, 1) := dk_92 (dk_at dksX2_punches_1 15 rfl rfl)
theorem dX2_punches_39 : decode cX2_punches 39 = .ok (.iaload, 1) := dk_46 (dk_at dksX2_punches_1 16 rfl rfl)
theorem dX2_punches_40 : decode cX2_punches 40 = .ok (.iconst 1, 1) := dk_4 (dk_at dksX2_punches_1 17 rfl rfl)
theorem dX2_punches_41 : decode cX2_punches 41 = .ok (.iadd, 1) := dk_96 (dk_at dksX2_punches_1 18 rfl rfl)
theorem dX2_punches_42 : decode cX2_punches 42 = .ok (.iastore, 1) := dk_79 (dk_at dksX2_punches_1 19 rfl rfl)
theorem dX2_punches_43 : decode cX2_punches 43 = .ok (.aload_n 0, 1) := dk_42 (dk_at dksX2_punches_1 20 rfl rfl)
theorem dX2_punches_44 : decode cX2_punches 44 = .ok (.getfield 15, 3) := dk_180 0 15 (dk_at dksX2_punches_1 21 rfl rfl)
theorem dX2_punches_47 : decode cX2_punches 47 = .ok (.iload_n 1, 1) := dk_27 (dk_at dksX2_punches_2 0 rfl rfl)
theorem dX2_punches_48 : decode cX2_punches 48 = .ok (.iaload, 1) := dk_46 (dk_at dksX2_punches_2 1 rfl rfl)
theorem dX2_punches_49 : decode cX2_punches 49 = .ok (.iconst 2, 1) := dk_5 (dk_at dksX2_punches_2 2 rfl rfl)
theorem dX2_punches_50 : decode cX2_punches 50 = .ok (.if_icmp .eq 4, 3) := dk_159 0 4 (dk_at dksX2_punches_2 3 rfl rfl)
theorem dX2_punches_53 : decode cX2_punches 53 = .ok (.return_, 1) := dk_177 (dk_at dksX2_punches_2 6 rfl rfl)
theorem dX2_punches_54 : decode cX2_punches 54 = .ok (.aload_n 0, 1) := dk_42 (dk_at dksX2_punches_2 7 rfl rfl)
theorem dX2_punches_55 : decode cX2_punches 55 = .ok (.dup, 1) := dk_89 (dk_at dksX2_punches_2 8 rfl rfl)
theorem dX2_punches_56 : decode cX2_punches 56 = .ok (.getfield 61, 3) := dk_180 0 61 (dk_at dksX2_punches_2 9 rfl rfl)
theorem dX2_punches_59 : decode cX2_punches 59 = .ok (.iconst 1, 1) := dk_4 (dk_at dksX2_punches_2 12 rfl rfl)
theorem dX2_punches_60 : decode cX2_punches 60 = .ok (.iload_n 1, 1) := dk_27 (dk_at dksX2_punches_2 13 rfl rfl)
theorem dX2_punches_61 : decode cX2_punches 61 = .ok (.ishl, 1) := dk_120 (dk_at dksX2_punches_2 14 rfl rfl)
theorem dX2_punches_62 : decode cX2_punches 62 = .ok (.ior, 1) := dk_128 (dk_at dksX2_punches_2 15 rfl rfl)
theorem dX2_punches_63 : decode cX2_punches 63 = .ok (.putfield 61, 3) := dk_181 0 61 (dk_at dksX2_punches_2 16 rfl rfl)
theorem dX2_punches_66 : decode cX2_punches 66 = .ok (.aload_n 0, 1) := dk_42 (dk_at dksX2_punches_2 19 rfl rfl)
theorem dX2_punches_67 : decode cX2_punches 67 = .ok (.iload_n 1, 1) := dk_27 (dk_at dksX2_punches_2 20 rfl rfl)
theorem dX2_punches_68 : decode cX2_punches 68 = .ok (.invokevirtual 83, 3) := dk_182 0 83 (dk_at dksX2_punches_2 21 rfl rfl)
theorem dX2_punches_71 : decode cX2_punches 71 = .ok (.return_, 1) := dk_177 (dk_at dksX2_punches_3 0 rfl rfl)
abbrev cX2_uses : ByteArray := prog_26_method_9_code
def yX2_uses : MethodName := ⟨RX2, "uses", "(IZ)Z"⟩
def dkwX2_uses_1 : List UInt8 := [100, 181, 0, 37, 42, 89, 180, 0, 43, 4, 96, 181, 0, 43, 4, 172]
abbrev dktX2_uses_1 : List UInt8 := dkwX2_uses_1 ++ []
def dkwX2_uses_0 : List UInt8 := [42, 180, 0, 37, 153, 0, 7, 28, 154, 0, 10, 42, 27, 182, 0, 87, 3, 172, 42, 89, 180, 0, 37, 4]
abbrev dktX2_uses_0 : List UInt8 := dkwX2_uses_0 ++ dktX2_uses_1
theorem dksX2_uses_0 : cX2_uses.data.toList.drop 0 = dktX2_uses_0 := by decide +kernel
theorem dksX2_uses_1 : cX2_uses.data.toList.drop 24 = dktX2_uses_1 := dk_seg dksX2_uses_0 24 rfl rfl
theorem dX2_uses_0 : decode cX2_uses 0 = .ok (.aload_n 0, 1) := dk_42 (dk_at dksX2_uses_0 0 rfl rfl)
theorem dX2_uses_1 : decode cX2_uses 1 = .ok (.getfield 37, 3) := dk_180 0 37 (dk_at dksX2_uses_0 1 rfl rfl)
theorem dX2_uses_4 : decode cX2_uses 4 = .ok (.ifCond .eq 7, 3) := dk_153 0 7 (dk_at dksX2_uses_0 4 rfl rfl)
theorem dX2_uses_7 : decode cX2_uses 7 = .ok (.iload_n 2, 1) := dk_28 (dk_at dksX2_uses_0 7 rfl rfl)
theorem dX2_uses_8 : decode cX2_uses 8 = .ok (.ifCond .ne 10, 3) := dk_154 0 10 (dk_at dksX2_uses_0 8 rfl rfl)
theorem dX2_uses_11 : decode cX2_uses 11 = .ok (.aload_n 0, 1) := dk_42 (dk_at dksX2_uses_0 11 rfl rfl)
theorem dX2_uses_12 : decode cX2_uses 12 = .ok (.iload_n 1, 1) := dk_27 (dk_at dksX2_uses_0 12 rfl rfl)
theorem dX2_uses_13 : decode cX2_uses 13 = .ok (.invokevirtual 87, 3) := dk_182 0 87 (dk_at dksX2_uses_0 13 rfl rfl)
theorem dX2_uses_16 : decode cX2_uses 16 = .ok (.iconst 0, 1) := dk_3 (dk_at dksX2_uses_0 16 rfl rfl)
theorem dX2_uses_17 : decode cX2_uses 17 = .ok (.ireturn, 1) := dk_172 (dk_at dksX2_uses_0 17 rfl rfl)
theorem dX2_uses_18 : decode cX2_uses 18 = .ok (.aload_n 0, 1) := dk_42 (dk_at dksX2_uses_0 18 rfl rfl)
theorem dX2_uses_19 : decode cX2_uses 19 = .ok (.dup, 1) := dk_89 (dk_at dksX2_uses_0 19 rfl rfl)
theorem dX2_uses_20 : decode cX2_uses 20 = .ok (.getfield 37, 3) := dk_180 0 37 (dk_at dksX2_uses_0 20 rfl rfl)
theorem dX2_uses_23 : decode cX2_uses 23 = .ok (.iconst 1, 1) := dk_4 (dk_at dksX2_uses_0 23 rfl rfl)
theorem dX2_uses_24 : decode cX2_uses 24 = .ok (.isub, 1) := dk_100 (dk_at dksX2_uses_1 0 rfl rfl)
theorem dX2_uses_25 : decode cX2_uses 25 = .ok (.putfield 37, 3) := dk_181 0 37 (dk_at dksX2_uses_1 1 rfl rfl)
theorem dX2_uses_28 : decode cX2_uses 28 = .ok (.aload_n 0, 1) := dk_42 (dk_at dksX2_uses_1 4 rfl rfl)
theorem dX2_uses_29 : decode cX2_uses 29 = .ok (.dup, 1) := dk_89 (dk_at dksX2_uses_1 5 rfl rfl)
theorem dX2_uses_30 : decode cX2_uses 30 = .ok (.getfield 43, 3) := dk_180 0 43 (dk_at dksX2_uses_1 6 rfl rfl)
theorem dX2_uses_33 : decode cX2_uses 33 = .ok (.iconst 1, 1) := dk_4 (dk_at dksX2_uses_1 9 rfl rfl)
theorem dX2_uses_34 : decode cX2_uses 34 = .ok (.iadd, 1) := dk_96 (dk_at dksX2_uses_1 10 rfl rfl)
theorem dX2_uses_35 : decode cX2_uses 35 = .ok (.putfield 43, 3) := dk_181 0 43 (dk_at dksX2_uses_1 11 rfl rfl)
theorem dX2_uses_38 : decode cX2_uses 38 = .ok (.iconst 1, 1) := dk_4 (dk_at dksX2_uses_1 14 rfl rfl)
theorem dX2_uses_39 : decode cX2_uses 39 = .ok (.ireturn, 1) := dk_172 (dk_at dksX2_uses_1 15 rfl rfl)
abbrev cX2_cools : ByteArray := prog_26_method_8_code
def yX2_cools : MethodName := ⟨RX2, "cools", "(I)V"⟩
def dkwX2_cools_0 : List UInt8 := [42, 89, 180, 0, 52, 4, 96, 181, 0, 52, 42, 89, 180, 0, 70, 4, 27, 120, 128, 181, 0, 70, 177]
abbrev dktX2_cools_0 : List UInt8 := dkwX2_cools_0 ++ []
theorem dksX2_cools_0 : cX2_cools.data.toList.drop 0 = dktX2_cools_0 := by decide +kernel
theorem dX2_cools_0 : decode cX2_cools 0 = .ok (.aload_n 0, 1) := dk_42 (dk_at dksX2_cools_0 0 rfl rfl)
theorem dX2_cools_1 : decode cX2_cools 1 = .ok (.dup, 1) := dk_89 (dk_at dksX2_cools_0 1 rfl rfl)
theorem dX2_cools_2 : decode cX2_cools 2 = .ok (.getfield 52, 3) := dk_180 0 52 (dk_at dksX2_cools_0 2 rfl rfl)
theorem dX2_cools_5 : decode cX2_cools 5 = .ok (.iconst 1, 1) := dk_4 (dk_at dksX2_cools_0 5 rfl rfl)
theorem dX2_cools_6 : decode cX2_cools 6 = .ok (.iadd, 1) := dk_96 (dk_at dksX2_cools_0 6 rfl rfl)
theorem dX2_cools_7 : decode cX2_cools 7 = .ok (.putfield 52, 3) := dk_181 0 52 (dk_at dksX2_cools_0 7 rfl rfl)
theorem dX2_cools_10 : decode cX2_cools 10 = .ok (.aload_n 0, 1) := dk_42 (dk_at dksX2_cools_0 10 rfl rfl)
theorem dX2_cools_11 : decode cX2_cools 11 = .ok (.dup, 1) := dk_89 (dk_at dksX2_cools_0 11 rfl rfl)
theorem dX2_cools_12 : decode cX2_cools 12 = .ok (.getfield 70, 3) := dk_180 0 70 (dk_at dksX2_cools_0 12 rfl rfl)
theorem dX2_cools_15 : decode cX2_cools 15 = .ok (.iconst 1, 1) := dk_4 (dk_at dksX2_cools_0 15 rfl rfl)
theorem dX2_cools_16 : decode cX2_cools 16 = .ok (.iload_n 1, 1) := dk_27 (dk_at dksX2_cools_0 16 rfl rfl)
theorem dX2_cools_17 : decode cX2_cools 17 = .ok (.ishl, 1) := dk_120 (dk_at dksX2_cools_0 17 rfl rfl)
theorem dX2_cools_18 : decode cX2_cools 18 = .ok (.ior, 1) := dk_128 (dk_at dksX2_cools_0 18 rfl rfl)
theorem dX2_cools_19 : decode cX2_cools 19 = .ok (.putfield 70, 3) := dk_181 0 70 (dk_at dksX2_cools_0 19 rfl rfl)
theorem dX2_cools_22 : decode cX2_cools 22 = .ok (.return_, 1) := dk_177 (dk_at dksX2_cools_0 22 rfl rfl)
abbrev cX2_shoulders : ByteArray := prog_26_method_11_code
def yX2_shoulders : MethodName := ⟨RX2, "shoulders", "(I)V"⟩
def dkwX2_shoulders_2 : List UInt8 := [180, 0, 58, 4, 27, 120, 128, 181, 0, 58, 177]
abbrev dktX2_shoulders_2 : List UInt8 := dkwX2_shoulders_2 ++ []
def dkwX2_shoulders_1 : List UInt8 := [96, 181, 0, 49, 167, 0, 28, 42, 27, 42, 27, 182, 0, 96, 182, 0, 99, 153, 0, 15, 42, 89]
abbrev dktX2_shoulders_1 : List UInt8 := dkwX2_shoulders_1 ++ dktX2_shoulders_2
def dkwX2_shoulders_0 : List UInt8 := [42, 27, 182, 0, 79, 153, 0, 13, 42, 27, 4, 96, 182, 0, 79, 154, 0, 16, 42, 89, 180, 0, 49, 4]
abbrev dktX2_shoulders_0 : List UInt8 := dkwX2_shoulders_0 ++ dktX2_shoulders_1
theorem dksX2_shoulders_0 : cX2_shoulders.data.toList.drop 0 = dktX2_shoulders_0 := by decide +kernel
theorem dksX2_shoulders_1 : cX2_shoulders.data.toList.drop 24 = dktX2_shoulders_1 := dk_seg dksX2_shoulders_0 24 rfl rfl
theorem dksX2_shoulders_2 : cX2_shoulders.data.toList.drop 46 = dktX2_shoulders_2 := dk_seg dksX2_shoulders_1 22 rfl rfl
theorem dX2_shoulders_0 : decode cX2_shoulders 0 = .ok (.aload_n 0, 1) := dk_42 (dk_at dksX2_shoulders_0 0 rfl rfl)
theorem dX2_shoulders_1 : decode cX2_shoulders 1 = .ok (.iload_n 1, 1) := dk_27 (dk_at dksX2_shoulders_0 1 rfl rfl)
theorem dX2_shoulders_2 : decode cX2_shoulders 2 = .ok (.invokevirtual 79, 3) := dk_182 0 79 (dk_at dksX2_shoulders_0 2 rfl rfl)
theorem dX2_shoulders_5 : decode cX2_shoulders 5 = .ok (.ifCond .eq 13, 3) := dk_153 0 13 (dk_at dksX2_shoulders_0 5 rfl rfl)
theorem dX2_shoulders_8 : decode cX2_shoulders 8 = .ok (.aload_n 0, 1) := dk_42 (dk_at dksX2_shoulders_0 8 rfl rfl)
theorem dX2_shoulders_9 : decode cX2_shoulders 9 = .ok (.iload_n 1, 1) := dk_27 (dk_at dksX2_shoulders_0 9 rfl rfl)
theorem dX2_shoulders_10 : decode cX2_shoulders 10 = .ok (.iconst 1, 1) := dk_4 (dk_at dksX2_shoulders_0 10 rfl rfl)
theorem dX2_shoulders_11 : decode cX2_shoulders 11 = .ok (.iadd, 1) := dk_96 (dk_at dksX2_shoulders_0 11 rfl rfl)
theorem dX2_shoulders_12 : decode cX2_shoulders 12 = .ok (.invokevirtual 79, 3) := dk_182 0 79 (dk_at dksX2_shoulders_0 12 rfl rfl)
theorem dX2_shoulders_15 : decode cX2_shoulders 15 = .ok (.ifCond .ne 16, 3) := dk_154 0 16 (dk_at dksX2_shoulders_0 15 rfl rfl)
theorem dX2_shoulders_18 : decode cX2_shoulders 18 = .ok (.aload_n 0, 1) := dk_42 (dk_at dksX2_shoulders_0 18 rfl rfl)
theorem dX2_shoulders_19 : decode cX2_shoulders 19 = .ok (.dup, 1) := dk_89 (dk_at dksX2_shoulders_0 19 rfl rfl)
theorem dX2_shoulders_20 : decode cX2_shoulders 20 = .ok (.getfield 49, 3) := dk_180 0 49 (dk_at dksX2_shoulders_0 20 rfl rfl)
theorem dX2_shoulders_23 : decode cX2_shoulders 23 = .ok (.iconst 1, 1) := dk_4 (dk_at dksX2_shoulders_0 23 rfl rfl)
theorem dX2_shoulders_24 : decode cX2_shoulders 24 = .ok (.iadd, 1) := dk_96 (dk_at dksX2_shoulders_1 0 rfl rfl)
theorem dX2_shoulders_25 : decode cX2_shoulders 25 = .ok (.putfield 49, 3) := dk_181 0 49 (dk_at dksX2_shoulders_1 1 rfl rfl)
theorem dX2_shoulders_28 : decode cX2_shoulders 28 = .ok (.goto 28, 3) := dk_167 0 28 (dk_at dksX2_shoulders_1 4 rfl rfl)
theorem dX2_shoulders_31 : decode cX2_shoulders 31 = .ok (.aload_n 0, 1) := dk_42 (dk_at dksX2_shoulders_1 7 rfl rfl)
theorem dX2_shoulders_32 : decode cX2_shoulders 32 = .ok (.iload_n 1, 1) := dk_27 (dk_at dksX2_shoulders_1 8 rfl rfl)
theorem dX2_shoulders_33 : decode cX2_shoulders 33 = .ok (.aload_n 0, 1) := dk_42 (dk_at dksX2_shoulders_1 9 rfl rfl)
theorem dX2_shoulders_34 : decode cX2_shoulders 34 = .ok (.iload_n 1, 1) := dk_27 (dk_at dksX2_shoulders_1 10 rfl rfl)
theorem dX2_shoulders_35 : decode cX2_shoulders 35 = .ok (.invokevirtual 96, 3) := dk_182 0 96 (dk_at dksX2_shoulders_1 11 rfl rfl)
theorem dX2_shoulders_38 : decode cX2_shoulders 38 = .ok (.invokevirtual 99, 3) := dk_182 0 99 (dk_at dksX2_shoulders_1 14 rfl rfl)
theorem dX2_shoulders_41 : decode cX2_shoulders 41 = .ok (.ifCond .eq 15, 3) := dk_153 0 15 (dk_at dksX2_shoulders_1 17 rfl rfl)
theorem dX2_shoulders_44 : decode cX2_shoulders 44 = .ok (.aload_n 0, 1) := dk_42 (dk_at dksX2_shoulders_1 20 rfl rfl)
theorem dX2_shoulders_45 : decode cX2_shoulders 45 = .ok (.dup, 1) := dk_89 (dk_at dksX2_shoulders_1 21 rfl rfl)
theorem dX2_shoulders_46 : decode cX2_shoulders 46 = .ok (.getfield 58, 3) := dk_180 0 58 (dk_at dksX2_shoulders_2 0 rfl rfl)
theorem dX2_shoulders_49 : decode cX2_shoulders 49 = .ok (.iconst 1, 1) := dk_4 (dk_at dksX2_shoulders_2 3 rfl rfl)
theorem dX2_shoulders_50 : decode cX2_shoulders 50 = .ok (.iload_n 1, 1) := dk_27 (dk_at dksX2_shoulders_2 4 rfl rfl)
theorem dX2_shoulders_51 : decode cX2_shoulders 51 = .ok (.ishl, 1) := dk_120 (dk_at dksX2_shoulders_2 5 rfl rfl)
theorem dX2_shoulders_52 : decode cX2_shoulders 52 = .ok (.ior, 1) := dk_128 (dk_at dksX2_shoulders_2 6 rfl rfl)
theorem dX2_shoulders_53 : decode cX2_shoulders 53 = .ok (.putfield 58, 3) := dk_181 0 58 (dk_at dksX2_shoulders_2 7 rfl rfl)
theorem dX2_shoulders_56 : decode cX2_shoulders 56 = .ok (.return_, 1) := dk_177 (dk_at dksX2_shoulders_2 10 rfl rfl)
abbrev cX2_strikes : ByteArray := prog_26_method_10_code
def yX2_strikes : MethodName := ⟨RX2, "strikes", "(II)V"⟩
def dkwX2_strikes_8 : List UInt8 := [89, 180, 0, 67, 4, 28, 120, 128, 181, 0, 67, 177]
abbrev dktX2_strikes_8 : List UInt8 := dkwX2_strikes_8 ++ []
def dkwX2_strikes_7 : List UInt8 := [28, 92, 46, 4, 96, 79, 42, 180, 0, 9, 28, 46, 5, 42, 180, 0, 9, 27, 46, 104, 164, 0, 15, 42]
abbrev dktX2_strikes_7 : List UInt8 := dkwX2_strikes_7 ++ dktX2_strikes_8
def dkwX2_strikes_6 : List UInt8 := [42, 89, 180, 0, 46, 4, 96, 181, 0, 46, 42, 180, 0, 9, 27, 92, 46, 4, 100, 79, 42, 180, 0, 9]
abbrev dktX2_strikes_6 : List UInt8 := dkwX2_strikes_6 ++ dktX2_strikes_7
def dkwX2_strikes_5 : List UInt8 := [198, 0, 24, 42, 180, 0, 107, 182, 0, 111, 153, 0, 14, 42, 89, 180, 0, 49, 4, 96, 181, 0, 49, 177]
abbrev dktX2_strikes_5 : List UInt8 := dkwX2_strikes_5 ++ dktX2_strikes_6
def dkwX2_strikes_4 : List UInt8 := [184, 0, 103, 122, 4, 126, 154, 0, 7, 4, 167, 0, 4, 3, 62, 29, 153, 0, 20, 42, 180, 0, 107]
abbrev dktX2_strikes_4 : List UInt8 := dkwX2_strikes_4 ++ dktX2_strikes_5
def dkwX2_strikes_3 : List UInt8 := [27, 46, 4, 164, 0, 33, 42, 180, 0, 9, 28, 46, 16, 9, 162, 0, 22, 42, 180, 0, 58, 27, 28]
abbrev dktX2_strikes_3 : List UInt8 := dkwX2_strikes_3 ++ dktX2_strikes_4
def dkwX2_strikes_2 : List UInt8 := [42, 28, 182, 0, 96, 153, 0, 7, 4, 167, 0, 4, 3, 182, 0, 99, 154, 0, 4, 177, 42, 180, 0, 9]
abbrev dktX2_strikes_2 : List UInt8 := dkwX2_strikes_2 ++ dktX2_strikes_3
def dkwX2_strikes_1 : List UInt8 := [159, 0, 14, 42, 89, 180, 0, 49, 4, 96, 181, 0, 49, 177, 42, 27, 42, 27, 182, 0, 96, 154, 0, 11]
abbrev dktX2_strikes_1 : List UInt8 := dkwX2_strikes_1 ++ dktX2_strikes_2
def dkwX2_strikes_0 : List UInt8 := [42, 27, 182, 0, 79, 153, 0, 21, 42, 28, 182, 0, 79, 153, 0, 13, 27, 28, 100, 184, 0, 90, 4]
abbrev dktX2_strikes_0 : List UInt8 := dkwX2_strikes_0 ++ dktX2_strikes_1
theorem dksX2_strikes_0 : cX2_strikes.data.toList.drop 0 = dktX2_strikes_0 := by decide +kernel
theorem dksX2_strikes_1 : cX2_strikes.data.toList.drop 23 = dktX2_strikes_1 := dk_seg dksX2_strikes_0 23 rfl rfl
theorem dksX2_strikes_2 : cX2_strikes.data.toList.drop 47 = dktX2_strikes_2 := dk_seg dksX2_strikes_1 24 rfl rfl
theorem dksX2_strikes_3 : cX2_strikes.data.toList.drop 71 = dktX2_strikes_3 := dk_seg dksX2_strikes_2 24 rfl rfl
theorem dksX2_strikes_4 : cX2_strikes.data.toList.drop 94 = dktX2_strikes_4 := dk_seg dksX2_strikes_3 23 rfl rfl
theorem dksX2_strikes_5 : cX2_strikes.data.toList.drop 117 = dktX2_strikes_5 := dk_seg dksX2_strikes_4 23 rfl rfl
theorem dksX2_strikes_6 : cX2_strikes.data.toList.drop 141 = dktX2_strikes_6 := dk_seg dksX2_strikes_5 24 rfl rfl
theorem dksX2_strikes_7 : cX2_strikes.data.toList.drop 165 = dktX2_strikes_7 := dk_seg dksX2_strikes_6 24 rfl rfl
theorem dksX2_strikes_8 : cX2_strikes.data.toList.drop 189 = dktX2_strikes_8 := dk_seg dksX2_strikes_7 24 rfl rfl
theorem dX2_strikes_0 : decode cX2_strikes 0 = .ok (.aload_n 0, 1) := dk_42 (dk_at dksX2_strikes_0 0 rfl rfl)
theorem dX2_strikes_1 : decode cX2_strikes 1 = .ok (.iload_n 1, 1) := dk_27 (dk_at dksX2_strikes_0 1 rfl rfl)
theorem dX2_strikes_2 : decode cX2_strikes 2 = .ok (.invokevirtual 79, 3) := dk_182 0 79 (dk_at dksX2_strikes_0 2 rfl rfl)
theorem dX2_strikes_5 : decode cX2_strikes 5 = .ok (.ifCond .eq 21, 3) := dk_153 0 21 (dk_at dksX2_strikes_0 5 rfl rfl)
theorem dX2_strikes_8 : decode cX2_strikes 8 = .ok (.aload_n 0, 1) := dk_42 (dk_at dksX2_strikes_0 8 rfl rfl)
theorem dX2_strikes_9 : decode cX2_strikes 9 = .ok (.iload_n 2, 1) := dk_28 (dk_at dksX2_strikes_0 9 rfl rfl)
theorem dX2_strikes_10 : decode cX2_strikes 10 = .ok (.invokevirtual 79, 3) := dk_182 0 79 (dk_at dksX2_strikes_0 10 rfl rfl)
theorem dX2_strikes_13 : decode cX2_strikes 13 = .ok (.ifCond .eq 13, 3) := dk_153 0 13 (dk_at dksX2_strikes_0 13 rfl rfl)
theorem dX2_strikes_16 : decode cX2_strikes 16 = .ok (.iload_n 1, 1) := dk_27 (dk_at dksX2_strikes_0 16 rfl rfl)
theorem dX2_strikes_17 : decode cX2_strikes 17 = .ok (.iload_n 2, 1) := dk_28 (dk_at dksX2_strikes_0 17 rfl rfl)
theorem dX2_strikes_18 : decode cX2_strikes 18 = .ok (.isub, 1) := dk_100 (dk_at dksX2_strikes_0 18 rfl rfl)
theorem dX2_strikes_19 : decode cX2_strikes 19 = .ok (.invokestatic 90, 3) := dk_184 0 90 (dk_at dksX2_strikes_0 19 rfl rfl)
theorem dX2_strikes_22 : decode cX2_strikes 22 = .ok (.iconst 1, 1) := dk_4 (dk_at dksX2_strikes_0 22 rfl rfl)
theorem dX2_strikes_23 : decode cX2_strikes 23 = .ok (.if_icmp .eq 14, 3) := dk_159 0 14 (dk_at dksX2_strikes_1 0 rfl rfl)
theorem dX2_strikes_26 : decode cX2_strikes 26 = .ok (.aload_n 0, 1) := dk_42 (dk_at dksX2_strikes_1 3 rfl rfl)
theorem dX2_strikes_27 : decode cX2_strikes 27 = .ok (.dup, 1) := dk_89 (dk_at dksX2_strikes_1 4 rfl rfl)
theorem dX2_strikes_28 : decode cX2_strikes 28 = .ok (.getfield 49, 3) := dk_180 0 49 (dk_at dksX2_strikes_1 5 rfl rfl)
theorem dX2_strikes_31 : decode cX2_strikes 31 = .ok (.iconst 1, 1) := dk_4 (dk_at dksX2_strikes_1 8 rfl rfl)
theorem dX2_strikes_32 : decode cX2_strikes 32 = .ok (.iadd, 1) := dk_96 (dk_at dksX2_strikes_1 9 rfl rfl)
theorem dX2_strikes_33 : decode cX2_strikes 33 = .ok (.putfield 49, 3) := dk_181 0 49 (dk_at dksX2_strikes_1 10 rfl rfl)
theorem dX2_strikes_36 : decode cX2_strikes 36 = .ok (.return_, 1) := dk_177 (dk_at dksX2_strikes_1 13 rfl rfl)
theorem dX2_strikes_37 : decode cX2_strikes 37 = .ok (.aload_n 0, 1) := dk_42 (dk_at dksX2_strikes_1 14 rfl rfl)
theorem dX2_strikes_38 : decode cX2_strikes 38 = .ok (.iload_n 1, 1) := dk_27 (dk_at dksX2_strikes_1 15 rfl rfl)
theorem dX2_strikes_39 : decode cX2_strikes 39 = .ok (.aload_n 0, 1) := dk_42 (dk_at dksX2_strikes_1 16 rfl rfl)
theorem dX2_strikes_40 : decode cX2_strikes 40 = .ok (.iload_n 1, 1) := dk_27 (dk_at dksX2_strikes_1 17 rfl rfl)
theorem dX2_strikes_41 : decode cX2_strikes 41 = .ok (.invokevirtual 96, 3) := dk_182 0 96 (dk_at dksX2_strikes_1 18 rfl rfl)
theorem dX2_strikes_44 : decode cX2_strikes 44 = .ok (.ifCond .ne 11, 3) := dk_154 0 11 (dk_at dksX2_strikes_1 21 rfl rfl)
theorem dX2_strikes_47 : decode cX2_strikes 47 = .ok (.aload_n 0, 1) := dk_42 (dk_at dksX2_strikes_2 0 rfl rfl)
theorem dX2_strikes_48 : decode cX2_strikes 48 = .ok (.iload_n 2, 1) := dk_28 (dk_at dksX2_strikes_2 1 rfl rfl)
theorem dX2_strikes_49 : decode cX2_strikes 49 = .ok (.invokevirtual 96, 3) := dk_182 0 96 (dk_at dksX2_strikes_2 2 rfl rfl)
theorem dX2_strikes_52 : decode cX2_strikes 52 = .ok (.ifCond .eq 7, 3) := dk_153 0 7 (dk_at dksX2_strikes_2 5 rfl rfl)
theorem dX2_strikes_55 : decode cX2_strikes 55 = .ok (.iconst 1, 1) := dk_4 (dk_at dksX2_strikes_2 8 rfl rfl)
theorem dX2_strikes_56 : decode cX2_strikes 56 = .ok (.goto 4, 3) := dk_167 0 4 (dk_at dksX2_strikes_2 9 rfl rfl)
theorem dX2_strikes_59 : decode cX2_strikes 59 = .ok (.iconst 0, 1) := dk_3 (dk_at dksX2_strikes_2 12 rfl rfl)
theorem dX2_strikes_60 : decode cX2_strikes 60 = .ok (.invokevirtual 99, 3) := dk_182 0 99 (dk_at dksX2_strikes_2 13 rfl rfl)
theorem dX2_strikes_63 : decode cX2_strikes 63 = .ok (.ifCond .ne 4, 3) := dk_154 0 4 (dk_at dksX2_strikes_2 16 rfl rfl)
theorem dX2_strikes_66 : decode cX2_strikes 66 = .ok (.return_, 1) := dk_177 (dk_at dksX2_strikes_2 19 rfl rfl)
theorem dX2_strikes_67 : decode cX2_strikes 67 = .ok (.aload_n 0, 1) := dk_42 (dk_at dksX2_strikes_2 20 rfl rfl)
theorem dX2_strikes_68 : decode cX2_strikes 68 = .ok (.getfield 9, 3) := dk_180 0 9 (dk_at dksX2_strikes_2 21 rfl rfl)
theorem dX2_strikes_71 : decode cX2_strikes 71 = .ok (.iload_n 1, 1) := dk_27 (dk_at dksX2_strikes_3 0 rfl rfl)
theorem dX2_strikes_72 : decode cX2_strikes 72 = .ok (.iaload, 1) := dk_46 (dk_at dksX2_strikes_3 1 rfl rfl)
theorem dX2_strikes_73 : decode cX2_strikes 73 = .ok (.iconst 1, 1) := dk_4 (dk_at dksX2_strikes_3 2 rfl rfl)
theorem dX2_strikes_74 : decode cX2_strikes 74 = .ok (.if_icmp .le 33, 3) := dk_164 0 33 (dk_at dksX2_strikes_3 3 rfl rfl)
theorem dX2_strikes_77 : decode cX2_strikes 77 = .ok (.aload_n 0, 1) := dk_42 (dk_at dksX2_strikes_3 6 rfl rfl)
theorem dX2_strikes_78 : decode cX2_strikes 78 = .ok (.getfield 9, 3) := dk_180 0 9 (dk_at dksX2_strikes_3 7 rfl rfl)
theorem dX2_strikes_81 : decode cX2_strikes 81 = .ok (.iload_n 2, 1) := dk_28 (dk_at dksX2_strikes_3 10 rfl rfl)
theorem dX2_strikes_82 : decode cX2_strikes 82 = .ok (.iaload, 1) := dk_46 (dk_at dksX2_strikes_3 11 rfl rfl)
theorem dX2_strikes_83 : decode cX2_strikes 83 = .ok (.bipush 9, 2) := dk_16 9 (dk_at dksX2_strikes_3 12 rfl rfl)
theorem dX2_strikes_85 : decode cX2_strikes 85 = .ok (.if_icmp .ge 22, 3) := dk_162 0 22 (dk_at dksX2_strikes_3 14 rfl rfl)
theorem dX2_strikes_88 : decode cX2_strikes 88 = .ok (.aload_n 0, 1) := dk_42 (dk_at dksX2_strikes_3 17 rfl rfl)
theorem dX2_strikes_89 : decode cX2_strikes 89 = .ok (.getfield 58, 3) := dk_180 0 58 (dk_at dksX2_strikes_3 18 rfl rfl)
theorem dX2_strikes_92 : decode cX2_strikes 92 = .ok (.iload_n 1, 1) := dk_27 (dk_at dksX2_strikes_3 21 rfl rfl)
theorem dX2_strikes_93 : decode cX2_strikes 93 = .ok (.iload_n 2, 1) := dk_28 (dk_at dksX2_strikes_3 22 rfl rfl)
theorem dX2_strikes_94 : decode cX2_strikes 94 = .ok (.invokestatic 103, 3) := dk_184 0 103 (dk_at dksX2_strikes_4 0 rfl rfl)
theorem dX2_strikes_97 : decode cX2_strikes 97 = .ok (.ishr, 1) := dk_122 (dk_at dksX2_strikes_4 3 rfl rfl)
theorem dX2_strikes_98 : decode cX2_strikes 98 = .ok (.iconst 1, 1) := dk_4 (dk_at dksX2_strikes_4 4 rfl rfl)
theorem dX2_strikes_99 : decode cX2_strikes 99 = .ok (.iand, 1) := dk_126 (dk_at dksX2_strikes_4 5 rfl rfl)
theorem dX2_strikes_100 : decode cX2_strikes 100 = .ok (.ifCond .ne 7, 3) := dk_154 0 7 (dk_at dksX2_strikes_4 6 rfl rfl)
theorem dX2_strikes_103 : decode cX2_strikes 103 = .ok (.iconst 1, 1) := dk_4 (dk_at dksX2_strikes_4 9 rfl rfl)
theorem dX2_strikes_104 : decode cX2_strikes 104 = .ok (.goto 4, 3) := dk_167 0 4 (dk_at dksX2_strikes_4 10 rfl rfl)
theorem dX2_strikes_107 : decode cX2_strikes 107 = .ok (.iconst 0, 1) := dk_3 (dk_at dksX2_strikes_4 13 rfl rfl)
theorem dX2_strikes_108 : decode cX2_strikes 108 = .ok (.istore_n 3, 1) := dk_62 (dk_at dksX2_strikes_4 14 rfl rfl)
theorem dX2_strikes_109 : decode cX2_strikes 109 = .ok (.iload_n 3, 1) := dk_29 (dk_at dksX2_strikes_4 15 rfl rfl)
theorem dX2_strikes_110 : decode cX2_strikes 110 = .ok (.ifCond .eq 20, 3) := dk_153 0 20 (dk_at dksX2_strikes_4 16 rfl rfl)
theorem dX2_strikes_113 : decode cX2_strikes 113 = .ok (.aload_n 0, 1) := dk_42 (dk_at dksX2_strikes_4 19 rfl rfl)
theorem dX2_strikes_114 : decode cX2_strikes 114 = .ok (.getfield 107, 3) := dk_180 0 107 (dk_at dksX2_strikes_4 20 rfl rfl)
theorem dX2_strikes_117 : decode cX2_strikes 117 = .ok (.ifnull 24, 3) := dk_198 0 24 (dk_at dksX2_strikes_5 0 rfl rfl)
theorem dX2_strikes_120 : decode cX2_strikes 120 = .ok (.aload_n 0, 1) := dk_42 (dk_at dksX2_strikes_5 3 rfl rfl)
theorem dX2_strikes_121 : decode cX2_strikes 121 = .ok (.getfield 107, 3) := dk_180 0 107 (dk_at dksX2_strikes_5 4 rfl rfl)
theorem dX2_strikes_124 : decode cX2_strikes 124 = .ok (.invokevirtual 111, 3) := dk_182 0 111 (dk_at dksX2_strikes_5 7 rfl rfl)
theorem dX2_strikes_127 : decode cX2_strikes 127 = .ok (.ifCond .eq 14, 3) := dk_153 0 14 (dk_at dksX2_strikes_5 10 rfl rfl)
theorem dX2_strikes_130 : decode cX2_strikes 130 = .ok (.aload_n 0, 1) := dk_42 (dk_at dksX2_strikes_5 13 rfl rfl)
theorem dX2_strikes_131 : decode cX2_strikes 131 = .ok (.dup, 1) := dk_89 (dk_at dksX2_strikes_5 14 rfl rfl)
theorem dX2_strikes_132 : decode cX2_strikes 132 = .ok (.getfield 49, 3) := dk_180 0 49 (dk_at dksX2_strikes_5 15 rfl rfl)
theorem dX2_strikes_135 : decode cX2_strikes 135 = .ok (.iconst 1, 1) := dk_4 (dk_at dksX2_strikes_5 18 rfl rfl)
theorem dX2_strikes_136 : decode cX2_strikes 136 = .ok (.iadd, 1) := dk_96 (dk_at dksX2_strikes_5 19 rfl rfl)
theorem dX2_strikes_137 : decode cX2_strikes 137 = .ok (.putfield 49, 3) := dk_181 0 49 (dk_at dksX2_strikes_5 20 rfl rfl)
theorem dX2_strikes_140 : decode cX2_strikes 140 = .ok (.return_, 1) := dk_177 (dk_at dksX2_strikes_5 23 rfl rfl)
theorem dX2_strikes_141 : decode cX2_strikes 141 = .ok (.aload_n 0, 1) := dk_42 (dk_at dksX2_strikes_6 0 rfl rfl)
theorem dX2_strikes_142 : decode cX2_strikes 142 = .ok (.dup, 1) := dk_89 (dk_at dksX2_strikes_6 1 rfl rfl)
theorem dX2_strikes_143 : decode cX2_strikes 143 = .ok (.getfield 46, 3) := dk_180 0 46 (dk_at dksX2_strikes_6 2 rfl rfl)
theorem dX2_strikes_146 : decode cX2_strikes 146 = .ok (.iconst 1, 1) := dk_4 (dk_at dksX2_strikes_6 5 rfl rfl)
theorem dX2_strikes_147 : decode cX2_strikes 147 = .ok (.iadd, 1) := dk_96 (dk_at dksX2_strikes_6 6 rfl rfl)
theorem dX2_strikes_148 : decode cX2_strikes 148 = .ok (.putfield 46, 3) := dk_181 0 46 (dk_at dksX2_strikes_6 7 rfl rfl)
theorem dX2_strikes_151 : decode cX2_strikes 151 = .ok (.aload_n 0, 1) := dk_42 (dk_at dksX2_strikes_6 10 rfl rfl)
theorem dX2_strikes_152 : decode cX2_strikes 152 = .ok (.getfield 9, 3) := dk_180 0 9 (dk_at dksX2_strikes_6 11 rfl rfl)
theorem dX2_strikes_155 : decode cX2_strikes 155 = .ok (.iload_n 1, 1) := dk_27 (dk_at dksX2_strikes_6 14 rfl rfl)
theorem dX2_strikes_156 : decode cX2_strikes 156 = .ok (.dup2, 1) := dk_92 (dk_at dksX2_strikes_6 15 rfl rfl)
theorem dX2_strikes_157 : decode cX2_strikes 157 = .ok (.iaload, 1) := dk_46 (dk_at dksX2_strikes_6 16 rfl rfl)
theorem dX2_strikes_158 : decode cX2_strikes 158 = .ok (.iconst 1, 1) := dk_4 (dk_at dksX2_strikes_6 17 rfl rfl)
theorem dX2_strikes_159 : decode cX2_strikes 159 = .ok (.isub, 1) := dk_100 (dk_at dksX2_strikes_6 18 rfl rfl)
theorem dX2_strikes_160 : decode cX2_strikes 160 = .ok (.iastore, 1) := dk_79 (dk_at dksX2_strikes_6 19 rfl rfl)
theorem dX2_strikes_161 : decode cX2_strikes 161 = .ok (.aload_n 0, 1) := dk_42 (dk_at dksX2_strikes_6 20 rfl rfl)
theorem dX2_strikes_162 : decode cX2_strikes 162 = .ok (.getfield 9, 3) := dk_180 0 9 (dk_at dksX2_strikes_6 21 rfl rfl)
theorem dX2_strikes_165 : decode cX2_strikes 165 = .ok (.iload_n 2, 1) := dk_28 (dk_at dksX2_strikes_7 0 rfl rfl)
theorem dX2_strikes_166 : decode cX2_strikes 166 = .ok (.dup2, 1) := dk_92 (dk_at dksX2_strikes_7 1 rfl rfl)
theorem dX2_strikes_167 : decode cX2_strikes 167 = .ok (.iaload, 1) := dk_46 (dk_at dksX2_strikes_7 2 rfl rfl)
theorem dX2_strikes_168 : decode cX2_strikes 168 = .ok (.iconst 1, 1) := dk_4 (dk_at dksX2_strikes_7 3 rfl rfl)
theorem dX2_strikes_169 : decode cX2_strikes 169 = .ok (.iadd, 1) := dk_96 (dk_at dksX2_strikes_7 4 rfl rfl)
theorem dX2_strikes_170 : decode cX2_strikes 170 = .ok (.iastore, 1) := dk_79 (dk_at dksX2_strikes_7 5 rfl rfl)
theorem dX2_strikes_171 : decode cX2_strikes 171 = .ok (.aload_n 0, 1) := dk_42 (dk_at dksX2_strikes_7 6 rfl rfl)
theorem dX2_strikes_172 : decode cX2_strikes 172 = .ok (.getfield 9, 3) := dk_180 0 9 (dk_at dksX2_strikes_7 7 rfl rfl)
theorem dX2_strikes_175 : decode cX2_strikes 175 = .ok (.iload_n 2, 1) := dk_28 (dk_at dksX2_strikes_7 10 rfl rfl)
theorem dX2_strikes_176 : decode cX2_strikes 176 = .ok (.iaload, 1) := dk_46 (dk_at dksX2_strikes_7 11 rfl rfl)
theorem dX2_strikes_177 : decode cX2_strikes 177 = .ok (.iconst 2, 1) := dk_5 (dk_at dksX2_strikes_7 12 rfl rfl)
theorem dX2_strikes_178 : decode cX2_strikes 178 = .ok (.aload_n 0, 1) := dk_42 (dk_at dksX2_strikes_7 13 rfl rfl)
theorem dX2_strikes_179 : decode cX2_strikes 179 = .ok (.getfield 9, 3) := dk_180 0 9 (dk_at dksX2_strikes_7 14 rfl rfl)
theorem dX2_strikes_182 : decode cX2_strikes 182 = .ok (.iload_n 1, 1) := dk_27 (dk_at dksX2_strikes_7 17 rfl rfl)
theorem dX2_strikes_183 : decode cX2_strikes 183 = .ok (.iaload, 1) := dk_46 (dk_at dksX2_strikes_7 18 rfl rfl)
theorem dX2_strikes_184 : decode cX2_strikes 184 = .ok (.imul, 1) := dk_104 (dk_at dksX2_strikes_7 19 rfl rfl)
theorem dX2_strikes_185 : decode cX2_strikes 185 = .ok (.if_icmp .le 15, 3) := dk_164 0 15 (dk_at dksX2_strikes_7 20 rfl rfl)
theorem dX2_strikes_188 : decode cX2_strikes 188 = .ok (.aload_n 0, 1) := dk_42 (dk_at dksX2_strikes_7 23 rfl rfl)
theorem dX2_strikes_189 : decode cX2_strikes 189 = .ok (.dup, 1) := dk_89 (dk_at dksX2_strikes_8 0 rfl rfl)
theorem dX2_strikes_190 : decode cX2_strikes 190 = .ok (.getfield 67, 3) := dk_180 0 67 (dk_at dksX2_strikes_8 1 rfl rfl)
theorem dX2_strikes_193 : decode cX2_strikes 193 = .ok (.iconst 1, 1) := dk_4 (dk_at dksX2_strikes_8 4 rfl rfl)
theorem dX2_strikes_194 : decode cX2_strikes 194 = .ok (.iload_n 2, 1) := dk_28 (dk_at dksX2_strikes_8 5 rfl rfl)
theorem dX2_strikes_195 : decode cX2_strikes 195 = .ok (.ishl, 1) := dk_120 (dk_at dksX2_strikes_8 6 rfl rfl)
theorem dX2_strikes_196 : decode cX2_strikes 196 = .ok (.ior, 1) := dk_128 (dk_at dksX2_strikes_8 7 rfl rfl)
theorem dX2_strikes_197 : decode cX2_strikes 197 = .ok (.putfield 67, 3) := dk_181 0 67 (dk_at dksX2_strikes_8 8 rfl rfl)
theorem dX2_strikes_200 : decode cX2_strikes 200 = .ok (.return_, 1) := dk_177 (dk_at dksX2_strikes_8 11 rfl rfl)
abbrev cX2_welds : ByteArray := prog_26_method_13_code
def yX2_welds : MethodName := ⟨RX2, "welds", "(I)V"⟩
def dkwX2_welds_5 : List UInt8 := [79, 177]
abbrev dktX2_welds_5 : List UInt8 := dkwX2_welds_5 ++ []
def dkwX2_welds_4 : List UInt8 := [180, 0, 18, 27, 16, 100, 16, 30, 16, 10, 42, 180, 0, 37, 104, 96, 42, 180, 0, 31, 96, 184, 0, 103]
abbrev dktX2_welds_4 : List UInt8 := dkwX2_welds_4 ++ dktX2_welds_5
def dkwX2_welds_3 : List UInt8 := [167, 0, 4, 3, 182, 0, 99, 154, 0, 4, 177, 42, 89, 180, 0, 64, 4, 27, 120, 128, 181, 0, 64, 42]
abbrev dktX2_welds_3 : List UInt8 := dkwX2_welds_3 ++ dktX2_welds_4
def dkwX2_welds_2 : List UInt8 := [153, 0, 25, 42, 180, 0, 73, 27, 159, 0, 13, 42, 180, 0, 73, 27, 4, 96, 160, 0, 7, 4]
abbrev dktX2_welds_2 : List UInt8 := dkwX2_welds_2 ++ dktX2_welds_3
def dkwX2_welds_1 : List UInt8 := [96, 181, 0, 49, 177, 42, 27, 42, 27, 182, 0, 96, 153, 0, 35, 42, 27, 4, 96, 182, 0, 96]
abbrev dktX2_welds_1 : List UInt8 := dkwX2_welds_1 ++ dktX2_welds_2
def dkwX2_welds_0 : List UInt8 := [42, 27, 182, 0, 79, 153, 0, 13, 42, 27, 4, 96, 182, 0, 79, 154, 0, 14, 42, 89, 180, 0, 49, 4]
abbrev dktX2_welds_0 : List UInt8 := dkwX2_welds_0 ++ dktX2_welds_1
theorem dksX2_welds_0 : cX2_welds.data.toList.drop 0 = dktX2_welds_0 := by decide +kernel
theorem dksX2_welds_1 : cX2_welds.data.toList.drop 24 = dktX2_welds_1 := dk_seg dksX2_welds_0 24 rfl rfl
theorem dksX2_welds_2 : cX2_welds.data.toList.drop 46 = dktX2_welds_2 := dk_seg dksX2_welds_1 22 rfl rfl
theorem dksX2_welds_3 : cX2_welds.data.toList.drop 68 = dktX2_welds_3 := dk_seg dksX2_welds_2 22 rfl rfl
theorem dksX2_welds_4 : cX2_welds.data.toList.drop 92 = dktX2_welds_4 := dk_seg dksX2_welds_3 24 rfl rfl
theorem dksX2_welds_5 : cX2_welds.data.toList.drop 116 = dktX2_welds_5 := dk_seg dksX2_welds_4 24 rfl rfl
theorem dX2_welds_0 : decode cX2_welds 0 = .ok (.aload_n 0, 1) := dk_42 (dk_at dksX2_welds_0 0 rfl rfl)
theorem dX2_welds_1 : decode cX2_welds 1 = .ok (.iload_n 1, 1) := dk_27 (dk_at dksX2_welds_0 1 rfl rfl)
theorem dX2_welds_2 : decode cX2_welds 2 = .ok (.invokevirtual 79, 3) := dk_182 0 79 (dk_at dksX2_welds_0 2 rfl rfl)
theorem dX2_welds_5 : decode cX2_welds 5 = .ok (.ifCond .eq 13, 3) := dk_153 0 13 (dk_at dksX2_welds_0 5 rfl rfl)
theorem dX2_welds_8 : decode cX2_welds 8 = .ok (.aload_n 0, 1) := dk_42 (dk_at dksX2_welds_0 8 rfl rfl)
theorem dX2_welds_9 : decode cX2_welds 9 = .ok (.iload_n 1, 1) := dk_27 (dk_at dksX2_welds_0 9 rfl rfl)
theorem dX2_welds_10 : decode cX2_welds 10 = .ok (.iconst 1, 1) := dk_4 (dk_at dksX2_welds_0 10 rfl rfl)
theorem dX2_welds_11 : decode cX2_welds 11 = .ok (.iadd, 1) := dk_96 (dk_at dksX2_welds_0 11 rfl rfl)
theorem dX2_welds_12 : decode cX2_welds 12 = .ok (.invokevirtual 79, 3) := dk_182 0 79 (dk_at dksX2_welds_0 12 rfl rfl)
theorem dX2_welds_15 : decode cX2_welds 15 = .ok (.ifCond .ne 14, 3) := dk_154 0 14 (dk_at dksX2_welds_0 15 rfl rfl)
theorem dX2_welds_18 : decode cX2_welds 18 = .ok (.aload_n 0, 1) := dk_42 (dk_at dksX2_welds_0 18 rfl rfl)
theorem dX2_welds_19 : decode cX2_welds 19 = .ok (.dup, 1) := dk_89 (dk_at dksX2_welds_0 19 rfl rfl)
theorem dX2_welds_20 : decode cX2_welds 20 = .ok (.getfield 49, 3) := dk_180 0 49 (dk_at dksX2_welds_0 20 rfl rfl)
theorem dX2_welds_23 : decode cX2_welds 23 = .ok (.iconst 1, 1) := dk_4 (dk_at dksX2_welds_0 23 rfl rfl)
theorem dX2_welds_24 : decode cX2_welds 24 = .ok (.iadd, 1) := dk_96 (dk_at dksX2_welds_1 0 rfl rfl)
theorem dX2_welds_25 : decode cX2_welds 25 = .ok (.putfield 49, 3) := dk_181 0 49 (dk_at dksX2_welds_1 1 rfl rfl)
theorem dX2_welds_28 : decode cX2_welds 28 = .ok (.return_, 1) := dk_177 (dk_at dksX2_welds_1 4 rfl rfl)
theorem dX2_welds_29 : decode cX2_welds 29 = .ok (.aload_n 0, 1) := dk_42 (dk_at dksX2_welds_1 5 rfl rfl)
theorem dX2_welds_30 : decode cX2_welds 30 = .ok (.iload_n 1, 1) := dk_27 (dk_at dksX2_welds_1 6 rfl rfl)
theorem dX2_welds_31 : decode cX2_welds 31 = .ok (.aload_n 0, 1) := dk_42 (dk_at dksX2_welds_1 7 rfl rfl)
theorem dX2_welds_32 : decode cX2_welds 32 = .ok (.iload_n 1, 1) := dk_27 (dk_at dksX2_welds_1 8 rfl rfl)
theorem dX2_welds_33 : decode cX2_welds 33 = .ok (.invokevirtual 96, 3) := dk_182 0 96 (dk_at dksX2_welds_1 9 rfl rfl)
theorem dX2_welds_36 : decode cX2_welds 36 = .ok (.ifCond .eq 35, 3) := dk_153 0 35 (dk_at dksX2_welds_1 12 rfl rfl)
theorem dX2_welds_39 : decode cX2_welds 39 = .ok (.aload_n 0, 1) := dk_42 (dk_at dksX2_welds_1 15 rfl rfl)
theorem dX2_welds_40 : decode cX2_welds 40 = .ok (.iload_n 1, 1) := dk_27 (dk_at dksX2_welds_1 16 rfl rfl)
theorem dX2_welds_41 : decode cX2_welds 41 = .ok (.iconst 1, 1) := dk_4 (dk_at dksX2_welds_1 17 rfl rfl)
theorem dX2_welds_42 : decode cX2_welds 42 = .ok (.iadd, 1) := dk_96 (dk_at dksX2_welds_1 18 rfl rfl)
theorem dX2_welds_43 : decode cX2_welds 43 = .ok (.invokevirtual 96, 3) := dk_182 0 96 (dk_at dksX2_welds_1 19 rfl rfl)
theorem dX2_welds_46 : decode cX2_welds 46 = .ok (.ifCond .eq 25, 3) := dk_153 0 25 (dk_at dksX2_welds_2 0 rfl rfl)
theorem dX2_welds_49 : decode cX2_welds 49 = .ok (.aload_n 0, 1) := dk_42 (dk_at dksX2_welds_2 3 rfl rfl)
theorem dX2_welds_50 : decode cX2_welds 50 = .ok (.getfield 73, 3) := dk_180 0 73 (dk_at dksX2_welds_2 4 rfl rfl)
theorem dX2_welds_53 : decode cX2_welds 53 = .ok (.iload_n 1, 1) := dk_27 (dk_at dksX2_welds_2 7 rfl rfl)
theorem dX2_welds_54 : decode cX2_welds 54 = .ok (.if_icmp .eq 13, 3) := dk_159 0 13 (dk_at dksX2_welds_2 8 rfl rfl)
theorem dX2_welds_57 : decode cX2_welds 57 = .ok (.aload_n 0, 1) := dk_42 (dk_at dksX2_welds_2 11 rfl rfl)
theorem dX2_welds_58 : decode cX2_welds 58 = .ok (.getfield 73, 3) := dk_180 0 73 (dk_at dksX2_welds_2 12 rfl rfl)
theorem dX2_welds_61 : decode cX2_welds 61 = .ok (.iload_n 1, 1) := dk_27 (dk_at dksX2_welds_2 15 rfl rfl)
theorem dX2_welds_62 : decode cX2_welds 62 = .ok (.iconst 1, 1) := dk_4 (dk_at dksX2_welds_2 16 rfl rfl)
theorem dX2_welds_63 : decode cX2_welds 63 = .ok (.iadd, 1) := dk_96 (dk_at dksX2_welds_2 17 rfl rfl)
theorem dX2_welds_64 : decode cX2_welds 64 = .ok (.if_icmp .ne 7, 3) := dk_160 0 7 (dk_at dksX2_welds_2 18 rfl rfl)
theorem dX2_welds_67 : decode cX2_welds 67 = .ok (.iconst 1, 1) := dk_4 (dk_at dksX2_welds_2 21 rfl rfl)
theorem dX2_welds_68 : decode cX2_welds 68 = .ok (.goto 4, 3) := dk_167 0 4 (dk_at dksX2_welds_3 0 rfl rfl)
theorem dX2_welds_71 : decode cX2_welds 71 = .ok (.iconst 0, 1) := dk_3 (dk_at dksX2_welds_3 3 rfl rfl)
theorem dX2_welds_72 : decode cX2_welds 72 = .ok (.invokevirtual 99, 3) := dk_182 0 99 (dk_at dksX2_welds_3 4 rfl rfl)
theorem dX2_welds_75 : decode cX2_welds 75 = .ok (.ifCond .ne 4, 3) := dk_154 0 4 (dk_at dksX2_welds_3 7 rfl rfl)
theorem dX2_welds_78 : decode cX2_welds 78 = .ok (.return_, 1) := dk_177 (dk_at dksX2_welds_3 10 rfl rfl)
theorem dX2_welds_79 : decode cX2_welds 79 = .ok (.aload_n 0, 1) := dk_42 (dk_at dksX2_welds_3 11 rfl rfl)
theorem dX2_welds_80 : decode cX2_welds 80 = .ok (.dup, 1) := dk_89 (dk_at dksX2_welds_3 12 rfl rfl)
theorem dX2_welds_81 : decode cX2_welds 81 = .ok (.getfield 64, 3) := dk_180 0 64 (dk_at dksX2_welds_3 13 rfl rfl)
theorem dX2_welds_84 : decode cX2_welds 84 = .ok (.iconst 1, 1) := dk_4 (dk_at dksX2_welds_3 16 rfl rfl)
theorem dX2_welds_85 : decode cX2_welds 85 = .ok (.iload_n 1, 1) := dk_27 (dk_at dksX2_welds_3 17 rfl rfl)
theorem dX2_welds_86 : decode cX2_welds 86 = .ok (.ishl, 1) := dk_120 (dk_at dksX2_welds_3 18 rfl rfl)
theorem dX2_welds_87 : decode cX2_welds 87 = .ok (.ior, 1) := dk_128 (dk_at dksX2_welds_3 19 rfl rfl)
theorem dX2_welds_88 : decode cX2_welds 88 = .ok (.putfield 64, 3) := dk_181 0 64 (dk_at dksX2_welds_3 20 rfl rfl)
theorem dX2_welds_91 : decode cX2_welds 91 = .ok (.aload_n 0, 1) := dk_42 (dk_at dksX2_welds_3 23 rfl rfl)
theorem dX2_welds_92 : decode cX2_welds 92 = .ok (.getfield 18, 3) := dk_180 0 18 (dk_at dksX2_welds_4 0 rfl rfl)
theorem dX2_welds_95 : decode cX2_welds 95 = .ok (.iload_n 1, 1) := dk_27 (dk_at dksX2_welds_4 3 rfl rfl)
theorem dX2_welds_96 : decode cX2_welds 96 = .ok (.bipush 100, 2) := dk_16 100 (dk_at dksX2_welds_4 4 rfl rfl)
theorem dX2_welds_98 : decode cX2_welds 98 = .ok (.bipush 30, 2) := dk_16 30 (dk_at dksX2_welds_4 6 rfl rfl)
theorem dX2_welds_100 : decode cX2_welds 100 = .ok (.bipush 10, 2) := dk_16 10 (dk_at dksX2_welds_4 8 rfl rfl)
theorem dX2_welds_102 : decode cX2_welds 102 = .ok (.aload_n 0, 1) := dk_42 (dk_at dksX2_welds_4 10 rfl rfl)
theorem dX2_welds_103 : decode cX2_welds 103 = .ok (.getfield 37, 3) := dk_180 0 37 (dk_at dksX2_welds_4 11 rfl rfl)
theorem dX2_welds_106 : decode cX2_welds 106 = .ok (.imul, 1) := dk_104 (dk_at dksX2_welds_4 14 rfl rfl)
theorem dX2_welds_107 : decode cX2_welds 107 = .ok (.iadd, 1) := dk_96 (dk_at dksX2_welds_4 15 rfl rfl)
theorem dX2_welds_108 : decode cX2_welds 108 = .ok (.aload_n 0, 1) := dk_42 (dk_at dksX2_welds_4 16 rfl rfl)
theorem dX2_welds_109 : decode cX2_welds 109 = .ok (.getfield 31, 3) := dk_180 0 31 (dk_at dksX2_welds_4 17 rfl rfl)
theorem dX2_welds_112 : decode cX2_welds 112 = .ok (.iadd, 1) := dk_96 (dk_at dksX2_welds_4 20 rfl rfl)
theorem dX2_welds_113 : decode cX2_welds 113 = .ok (.invokestatic 103, 3) := dk_184 0 103 (dk_at dksX2_welds_4 21 rfl rfl)
theorem dX2_welds_116 : decode cX2_welds 116 = .ok (.iastore, 1) := dk_79 (dk_at dksX2_welds_5 0 rfl rfl)
theorem dX2_welds_117 : decode cX2_welds 117 = .ok (.return_, 1) := dk_177 (dk_at dksX2_welds_5 1 rfl rfl)
abbrev cX2_isAs : ByteArray := prog_26_method_15_code
def yX2_isAs : MethodName := ⟨RX2, "isAs", "(LHotIron$Work;)Z"⟩
def dkwX2_isAs_3 : List UInt8 := [167, 0, 4, 3, 172]
abbrev dktX2_isAs_3 : List UInt8 := dkwX2_isAs_3 ++ []
def dkwX2_isAs_2 : List UInt8 := [180, 0, 67, 43, 180, 0, 67, 160, 0, 18, 42, 180, 0, 70, 43, 180, 0, 70, 160, 0, 7, 4]
abbrev dktX2_isAs_2 : List UInt8 := dkwX2_isAs_2 ++ dktX2_isAs_3
def dkwX2_isAs_1 : List UInt8 := [180, 0, 61, 43, 180, 0, 61, 160, 0, 40, 42, 180, 0, 64, 43, 180, 0, 64, 160, 0, 29, 42]
abbrev dktX2_isAs_1 : List UInt8 := dkwX2_isAs_1 ++ dktX2_isAs_2
def dkwX2_isAs_0 : List UInt8 := [42, 182, 0, 117, 43, 182, 0, 117, 160, 0, 62, 42, 180, 0, 58, 43, 180, 0, 58, 160, 0, 51, 42]
abbrev dktX2_isAs_0 : List UInt8 := dkwX2_isAs_0 ++ dktX2_isAs_1
theorem dksX2_isAs_0 : cX2_isAs.data.toList.drop 0 = dktX2_isAs_0 := by decide +kernel
theorem dksX2_isAs_1 : cX2_isAs.data.toList.drop 23 = dktX2_isAs_1 := dk_seg dksX2_isAs_0 23 rfl rfl
theorem dksX2_isAs_2 : cX2_isAs.data.toList.drop 45 = dktX2_isAs_2 := dk_seg dksX2_isAs_1 22 rfl rfl
theorem dksX2_isAs_3 : cX2_isAs.data.toList.drop 67 = dktX2_isAs_3 := dk_seg dksX2_isAs_2 22 rfl rfl
theorem dX2_isAs_0 : decode cX2_isAs 0 = .ok (.aload_n 0, 1) := dk_42 (dk_at dksX2_isAs_0 0 rfl rfl)
theorem dX2_isAs_1 : decode cX2_isAs 1 = .ok (.invokevirtual 117, 3) := dk_182 0 117 (dk_at dksX2_isAs_0 1 rfl rfl)
theorem dX2_isAs_4 : decode cX2_isAs 4 = .ok (.aload_n 1, 1) := dk_43 (dk_at dksX2_isAs_0 4 rfl rfl)
theorem dX2_isAs_5 : decode cX2_isAs 5 = .ok (.invokevirtual 117, 3) := dk_182 0 117 (dk_at dksX2_isAs_0 5 rfl rfl)
theorem dX2_isAs_8 : decode cX2_isAs 8 = .ok (.if_icmp .ne 62, 3) := dk_160 0 62 (dk_at dksX2_isAs_0 8 rfl rfl)
theorem dX2_isAs_11 : decode cX2_isAs 11 = .ok (.aload_n 0, 1) := dk_42 (dk_at dksX2_isAs_0 11 rfl rfl)
theorem dX2_isAs_12 : decode cX2_isAs 12 = .ok (.getfield 58, 3) := dk_180 0 58 (dk_at dksX2_isAs_0 12 rfl rfl)
theorem dX2_isAs_15 : decode cX2_isAs 15 = .ok (.aload_n 1, 1) := dk_43 (dk_at dksX2_isAs_0 15 rfl rfl)
theorem dX2_isAs_16 : decode cX2_isAs 16 = .ok (.getfield 58, 3) := dk_180 0 58 (dk_at dksX2_isAs_0 16 rfl rfl)
theorem dX2_isAs_19 : decode cX2_isAs 19 = .ok (.if_icmp .ne 51, 3) := dk_160 0 51 (dk_at dksX2_isAs_0 19 rfl rfl)
theorem dX2_isAs_22 : decode cX2_isAs 22 = .ok (.aload_n 0, 1) := dk_42 (dk_at dksX2_isAs_0 22 rfl rfl)
theorem dX2_isAs_23 : decode cX2_isAs 23 = .ok (.getfield 61, 3) := dk_180 0 61 (dk_at dksX2_isAs_1 0 rfl rfl)
theorem dX2_isAs_26 : decode cX2_isAs 26 = .ok (.aload_n 1, 1) := dk_43 (dk_at dksX2_isAs_1 3 rfl rfl)
theorem dX2_isAs_27 : decode cX2_isAs 27 = .ok (.getfield 61, 3) := dk_180 0 61 (dk_at dksX2_isAs_1 4 rfl rfl)
theorem dX2_isAs_30 : decode cX2_isAs 30 = .ok (.if_icmp .ne 40, 3) := dk_160 0 40 (dk_at dksX2_isAs_1 7 rfl rfl)
theorem dX2_isAs_33 : decode cX2_isAs 33 = .ok (.aload_n 0, 1) := dk_42 (dk_at dksX2_isAs_1 10 rfl rfl)
theorem dX2_isAs_34 : decode cX2_isAs 34 = .ok (.getfield 64, 3) := dk_180 0 64 (dk_at dksX2_isAs_1 11 rfl rfl)
theorem dX2_isAs_37 : decode cX2_isAs 37 = .ok (.aload_n 1, 1) := dk_43 (dk_at dksX2_isAs_1 14 rfl rfl)
theorem dX2_isAs_38 : decode cX2_isAs 38 = .ok (.getfield 64, 3) := dk_180 0 64 (dk_at dksX2_isAs_1 15 rfl rfl)
theorem dX2_isAs_41 : decode cX2_isAs 41 = .ok (.if_icmp .ne 29, 3) := dk_160 0 29 (dk_at dksX2_isAs_1 18 rfl rfl)
theorem dX2_isAs_44 : decode cX2_isAs 44 = .ok (.aload_n 0, 1) := dk_42 (dk_at dksX2_isAs_1 21 rfl rfl)
theorem dX2_isAs_45 : decode cX2_isAs 45 = .ok (.getfield 67, 3) := dk_180 0 67 (dk_at dksX2_isAs_2 0 rfl rfl)
theorem dX2_isAs_48 : decode cX2_isAs 48 = .ok (.aload_n 1, 1) := dk_43 (dk_at dksX2_isAs_2 3 rfl rfl)
theorem dX2_isAs_49 : decode cX2_isAs 49 = .ok (.getfield 67, 3) := dk_180 0 67 (dk_at dksX2_isAs_2 4 rfl rfl)
theorem dX2_isAs_52 : decode cX2_isAs 52 = .ok (.if_icmp .ne 18, 3) := dk_160 0 18 (dk_at dksX2_isAs_2 7 rfl rfl)
theorem dX2_isAs_55 : decode cX2_isAs 55 = .ok (.aload_n 0, 1) := dk_42 (dk_at dksX2_isAs_2 10 rfl rfl)
theorem dX2_isAs_56 : decode cX2_isAs 56 = .ok (.getfield 70, 3) := dk_180 0 70 (dk_at dksX2_isAs_2 11 rfl rfl)
theorem dX2_isAs_59 : decode cX2_isAs 59 = .ok (.aload_n 1, 1) := dk_43 (dk_at dksX2_isAs_2 14 rfl rfl)
theorem dX2_isAs_60 : decode cX2_isAs 60 = .ok (.getfield 70, 3) := dk_180 0 70 (dk_at dksX2_isAs_2 15 rfl rfl)
theorem dX2_isAs_63 : decode cX2_isAs 63 = .ok (.if_icmp .ne 7, 3) := dk_160 0 7 (dk_at dksX2_isAs_2 18 rfl rfl)
theorem dX2_isAs_66 : decode cX2_isAs 66 = .ok (.iconst 1, 1) := dk_4 (dk_at dksX2_isAs_2 21 rfl rfl)
theorem dX2_isAs_67 : decode cX2_isAs 67 = .ok (.goto 4, 3) := dk_167 0 4 (dk_at dksX2_isAs_3 0 rfl rfl)
theorem dX2_isAs_70 : decode cX2_isAs 70 = .ok (.iconst 0, 1) := dk_3 (dk_at dksX2_isAs_3 3 rfl rfl)
theorem dX2_isAs_71 : decode cX2_isAs 71 = .ok (.ireturn, 1) := dk_172 (dk_at dksX2_isAs_3 4 rfl rfl)
abbrev cX2_row : ByteArray := prog_26_method_14_code
def yX2_row : MethodName := ⟨RX2, "row", "()I"⟩
def dkwX2_row_1 : List UInt8 := [100, 60, 132, 2, 1, 167, 255, 231, 27, 172]
abbrev dktX2_row_1 : List UInt8 := dkwX2_row_1 ++ []
def dkwX2_row_0 : List UInt8 := [3, 60, 3, 61, 28, 42, 180, 0, 21, 162, 0, 23, 16, 9, 27, 104, 42, 180, 0, 9, 28, 46, 96, 4]
abbrev dktX2_row_0 : List UInt8 := dkwX2_row_0 ++ dktX2_row_1
theorem dksX2_row_0 : cX2_row.data.toList.drop 0 = dktX2_row_0 := by decide +kernel
theorem dksX2_row_1 : cX2_row.data.toList.drop 24 = dktX2_row_1 := dk_seg dksX2_row_0 24 rfl rfl
theorem dX2_row_0 : decode cX2_row 0 = .ok (.iconst 0, 1) := dk_3 (dk_at dksX2_row_0 0 rfl rfl)
theorem dX2_row_1 : decode cX2_row 1 = .ok (.istore_n 1, 1) := dk_60 (dk_at dksX2_row_0 1 rfl rfl)
theorem dX2_row_2 : decode cX2_row 2 = .ok (.iconst 0, 1) := dk_3 (dk_at dksX2_row_0 2 rfl rfl)
theorem dX2_row_3 : decode cX2_row 3 = .ok (.istore_n 2, 1) := dk_61 (dk_at dksX2_row_0 3 rfl rfl)
theorem dX2_row_4 : decode cX2_row 4 = .ok (.iload_n 2, 1) := dk_28 (dk_at dksX2_row_0 4 rfl rfl)
theorem dX2_row_5 : decode cX2_row 5 = .ok (.aload_n 0, 1) := dk_42 (dk_at dksX2_row_0 5 rfl rfl)
theorem dX2_row_6 : decode cX2_row 6 = .ok (.getfield 21, 3) := dk_180 0 21 (dk_at dksX2_row_0 6 rfl rfl)
theorem dX2_row_9 : decode cX2_row 9 = .ok (.if_icmp .ge 23, 3) := dk_162 0 23 (dk_at dksX2_row_0 9 rfl rfl)
theorem dX2_row_12 : decode cX2_row 12 = .ok (.bipush 9, 2) := dk_16 9 (dk_at dksX2_row_0 12 rfl rfl)
theorem dX2_row_14 : decode cX2_row 14 = .ok (.iload_n 1, 1) := dk_27 (dk_at dksX2_row_0 14 rfl rfl)
theorem dX2_row_15 : decode cX2_row 15 = .ok (.imul, 1) := dk_104 (dk_at dksX2_row_0 15 rfl rfl)
theorem dX2_row_16 : decode cX2_row 16 = .ok (.aload_n 0, 1) := dk_42 (dk_at dksX2_row_0 16 rfl rfl)
theorem dX2_row_17 : decode cX2_row 17 = .ok (.getfield 9, 3) := dk_180 0 9 (dk_at dksX2_row_0 17 rfl rfl)
theorem dX2_row_20 : decode cX2_row 20 = .ok (.iload_n 2, 1) := dk_28 (dk_at dksX2_row_0 20 rfl rfl)
theorem dX2_row_21 : decode cX2_row 21 = .ok (.iaload, 1) := dk_46 (dk_at dksX2_row_0 21 rfl rfl)
theorem dX2_row_22 : decode cX2_row 22 = .ok (.iadd, 1) := dk_96 (dk_at dksX2_row_0 22 rfl rfl)
theorem dX2_row_23 : decode cX2_row 23 = .ok (.iconst 1, 1) := dk_4 (dk_at dksX2_row_0 23 rfl rfl)
theorem dX2_row_24 : decode cX2_row 24 = .ok (.isub, 1) := dk_100 (dk_at dksX2_row_1 0 rfl rfl)
theorem dX2_row_25 : decode cX2_row 25 = .ok (.istore_n 1, 1) := dk_60 (dk_at dksX2_row_1 1 rfl rfl)
theorem dX2_row_26 : decode cX2_row 26 = .ok (.iinc 2 1, 3) := dk_132 2 1 (dk_at dksX2_row_1 2 rfl rfl)
theorem dX2_row_29 : decode cX2_row 29 = .ok (.goto (-25), 3) := dk_167 255 231 (dk_at dksX2_row_1 5 rfl rfl)
theorem dX2_row_32 : decode cX2_row 32 = .ok (.iload_n 1, 1) := dk_27 (dk_at dksX2_row_1 8 rfl rfl)
theorem dX2_row_33 : decode cX2_row 33 = .ok (.ireturn, 1) := dk_172 (dk_at dksX2_row_1 9 rfl rfl)
theorem q110 : (Jvm.Cond.initialized "HotIron$Work") ∈ lw_all := lw_g (lw_at lw_m1 6 rfl) rfl
theorem q229 : (Jvm.Cond.instantiable "HotIron$Work" (23 : Nat)) ∈ lw_all := lw_g (lw_at lw_m1 125 rfl) rfl
theorem q231 : (Jvm.Cond.instanceMethod ({ cls := "HotIron$Work", name := "<init>", desc := "()V" } : Jvm.MethodName)) ∈ lw_all := lw_g (lw_at lw_m1 127 rfl) rfl
theorem q232 : (Jvm.Cond.code ({ cls := "HotIron$Work", name := "<init>", desc := "()V" } : Jvm.MethodName) prog_26_method_1_code (1 : Nat) (Option.none : Option Jvm.ClassFile.FieldType)) ∈ lw_all := lw_g (lw_at lw_m1 128 rfl) rfl
theorem q233 : (Jvm.Cond.methodLink "HotIron$Work" (3 : Nat) ({ cls := "java/lang/Object", name := "<init>", desc := "()V" } : Jvm.MethodName)) ∈ lw_all := lw_g (lw_at lw_m1 129 rfl) rfl
theorem q234 : (Jvm.Cond.fieldLink "HotIron$Work" (9 : Nat) "HotIron$Work" "iron" "[I") ∈ lw_all := lw_g (lw_at lw_m1 130 rfl) rfl
theorem q236 : (Jvm.Cond.fieldLink "HotIron$Work" (15 : Nat) "HotIron$Work" "punched" "[I") ∈ lw_all := lw_g (lw_at lw_m1 132 rfl) rfl
theorem q237 : (Jvm.Cond.fieldLink "HotIron$Work" (18 : Nat) "HotIron$Work" "odds" "[I") ∈ lw_all := lw_g (lw_at lw_m1 133 rfl) rfl
theorem q239 : (Jvm.Cond.fieldLink "HotIron$Work" (21 : Nat) "HotIron$Work" "cells" "I") ∈ lw_all := lw_g (lw_at lw_m1 135 rfl) rfl
theorem q241 : (Jvm.Cond.fieldLink "HotIron$Work" (25 : Nat) "HotIron$Work" "tongs" "I") ∈ lw_all := lw_g (lw_at lw_m1 137 rfl) rfl
theorem q242 : (Jvm.Cond.fieldLink "HotIron$Work" (28 : Nat) "HotIron$Work" "blows" "I") ∈ lw_all := lw_g (lw_at lw_m1 138 rfl) rfl
theorem q243 : (Jvm.Cond.fieldLink "HotIron$Work" (31 : Nat) "HotIron$Work" "sand" "I") ∈ lw_all := lw_g (lw_at lw_m1 139 rfl) rfl
theorem q244 : (Jvm.Cond.fieldLink "HotIron$Work" (34 : Nat) "HotIron$Work" "hot" "I") ∈ lw_all := lw_g (lw_at lw_m1 140 rfl) rfl
theorem q246 : (Jvm.Cond.fieldLink "HotIron$Work" (37 : Nat) "HotIron$Work" "left" "I") ∈ lw_all := lw_g (lw_at lw_m1 142 rfl) rfl
theorem q248 : (Jvm.Cond.fieldLink "HotIron$Work" (40 : Nat) "HotIron$Work" "heats" "I") ∈ lw_all := lw_g (lw_at lw_m1 144 rfl) rfl
theorem q251 : (Jvm.Cond.fieldLink "HotIron$Work" (43 : Nat) "HotIron$Work" "struck" "I") ∈ lw_all := lw_g (lw_at lw_m1 147 rfl) rfl
theorem q253 : (Jvm.Cond.fieldLink "HotIron$Work" (46 : Nat) "HotIron$Work" "moves" "I") ∈ lw_all := lw_g (lw_at lw_m1 149 rfl) rfl
theorem q255 : (Jvm.Cond.fieldLink "HotIron$Work" (49 : Nat) "HotIron$Work" "duds" "I") ∈ lw_all := lw_g (lw_at lw_m1 151 rfl) rfl
theorem q257 : (Jvm.Cond.fieldLink "HotIron$Work" (52 : Nat) "HotIron$Work" "cold" "I") ∈ lw_all := lw_g (lw_at lw_m1 153 rfl) rfl
theorem q259 : (Jvm.Cond.fieldLink "HotIron$Work" (55 : Nat) "HotIron$Work" "scale" "I") ∈ lw_all := lw_g (lw_at lw_m1 155 rfl) rfl
theorem q261 : (Jvm.Cond.fieldLink "HotIron$Work" (58 : Nat) "HotIron$Work" "shoulders" "I") ∈ lw_all := lw_g (lw_at lw_m1 157 rfl) rfl
theorem q263 : (Jvm.Cond.fieldLink "HotIron$Work" (61 : Nat) "HotIron$Work" "holes" "I") ∈ lw_all := lw_g (lw_at lw_m1 159 rfl) rfl
theorem q265 : (Jvm.Cond.fieldLink "HotIron$Work" (64 : Nat) "HotIron$Work" "welds" "I") ∈ lw_all := lw_g (lw_at lw_m1 161 rfl) rfl
theorem q267 : (Jvm.Cond.fieldLink "HotIron$Work" (67 : Nat) "HotIron$Work" "folds" "I") ∈ lw_all := lw_g (lw_at lw_m1 163 rfl) rfl
theorem q269 : (Jvm.Cond.fieldLink "HotIron$Work" (70 : Nat) "HotIron$Work" "cracks" "I") ∈ lw_all := lw_g (lw_at lw_m1 165 rfl) rfl
theorem q271 : (Jvm.Cond.fieldLink "HotIron$Work" (73 : Nat) "HotIron$Work" "latest" "I") ∈ lw_all := lw_g (lw_at lw_m1 167 rfl) rfl
theorem q273 : (Jvm.Cond.fieldLink "HotIron$Work" (76 : Nat) "HotIron$Work" "dropped" "I") ∈ lw_all := lw_g (lw_at lw_m1 169 rfl) rfl
theorem q275 : (Jvm.Cond.fieldLink "HotIron$Work" (107 : Nat) "HotIron$Work" "hand" "LHotIron$Hand;") ∈ lw_all := lw_g (lw_at lw_m1 171 rfl) rfl
theorem q277 : (Jvm.Cond.laysFinal "HotIron$Work" "HotIron$Work" "iron" "[I") ∈ lw_all := lw_g (lw_at lw_m1 173 rfl) rfl
theorem q278 : (Jvm.Cond.soleField "HotIron$Work" "iron") ∈ lw_all := lw_g (lw_at lw_m1 174 rfl) rfl
theorem q279 : (Jvm.Cond.laysFinal "HotIron$Work" "HotIron$Work" "punched" "[I") ∈ lw_all := lw_g (lw_at lw_m1 175 rfl) rfl
theorem q280 : (Jvm.Cond.soleField "HotIron$Work" "punched") ∈ lw_all := lw_g (lw_at lw_m1 176 rfl) rfl
theorem q281 : (Jvm.Cond.laysFinal "HotIron$Work" "HotIron$Work" "odds" "[I") ∈ lw_all := lw_g (lw_at lw_m1 177 rfl) rfl
theorem q282 : (Jvm.Cond.soleField "HotIron$Work" "odds") ∈ lw_all := lw_g (lw_at lw_m1 178 rfl) rfl
theorem q283 : (Jvm.Cond.lays "HotIron$Work" "HotIron$Work" "cells" "I") ∈ lw_all := lw_g (lw_at lw_m1 179 rfl) rfl
theorem q284 : (Jvm.Cond.soleField "HotIron$Work" "cells") ∈ lw_all := lw_g (lw_at lw_m1 180 rfl) rfl
theorem q285 : (Jvm.Cond.lays "HotIron$Work" "HotIron$Work" "tongs" "I") ∈ lw_all := lw_g (lw_at lw_m1 181 rfl) rfl
theorem q286 : (Jvm.Cond.soleField "HotIron$Work" "tongs") ∈ lw_all := lw_g (lw_at lw_m1 182 rfl) rfl
theorem q287 : (Jvm.Cond.lays "HotIron$Work" "HotIron$Work" "blows" "I") ∈ lw_all := lw_g (lw_at lw_m1 183 rfl) rfl
theorem q288 : (Jvm.Cond.soleField "HotIron$Work" "blows") ∈ lw_all := lw_g (lw_at lw_m1 184 rfl) rfl
theorem q289 : (Jvm.Cond.lays "HotIron$Work" "HotIron$Work" "sand" "I") ∈ lw_all := lw_g (lw_at lw_m1 185 rfl) rfl
theorem q290 : (Jvm.Cond.soleField "HotIron$Work" "sand") ∈ lw_all := lw_g (lw_at lw_m1 186 rfl) rfl
theorem q291 : (Jvm.Cond.lays "HotIron$Work" "HotIron$Work" "hot" "I") ∈ lw_all := lw_g (lw_at lw_m1 187 rfl) rfl
theorem q292 : (Jvm.Cond.soleField "HotIron$Work" "hot") ∈ lw_all := lw_g (lw_at lw_m1 188 rfl) rfl
theorem q293 : (Jvm.Cond.lays "HotIron$Work" "HotIron$Work" "left" "I") ∈ lw_all := lw_g (lw_at lw_m1 189 rfl) rfl
theorem q294 : (Jvm.Cond.soleField "HotIron$Work" "left") ∈ lw_all := lw_g (lw_at lw_m1 190 rfl) rfl
theorem q295 : (Jvm.Cond.lays "HotIron$Work" "HotIron$Work" "heats" "I") ∈ lw_all := lw_g (lw_at lw_m1 191 rfl) rfl
theorem q296 : (Jvm.Cond.soleField "HotIron$Work" "heats") ∈ lw_all := lw_g (lw_at lw_m1 192 rfl) rfl
theorem q297 : (Jvm.Cond.lays "HotIron$Work" "HotIron$Work" "struck" "I") ∈ lw_all := lw_g (lw_at lw_m1 193 rfl) rfl
theorem q298 : (Jvm.Cond.soleField "HotIron$Work" "struck") ∈ lw_all := lw_g (lw_at lw_m1 194 rfl) rfl
theorem q299 : (Jvm.Cond.lays "HotIron$Work" "HotIron$Work" "moves" "I") ∈ lw_all := lw_g (lw_at lw_m1 195 rfl) rfl
theorem q300 : (Jvm.Cond.soleField "HotIron$Work" "moves") ∈ lw_all := lw_g (lw_at lw_m1 196 rfl) rfl
theorem q301 : (Jvm.Cond.lays "HotIron$Work" "HotIron$Work" "duds" "I") ∈ lw_all := lw_g (lw_at lw_m1 197 rfl) rfl
theorem q302 : (Jvm.Cond.soleField "HotIron$Work" "duds") ∈ lw_all := lw_g (lw_at lw_m1 198 rfl) rfl
theorem q303 : (Jvm.Cond.lays "HotIron$Work" "HotIron$Work" "cold" "I") ∈ lw_all := lw_g (lw_at lw_m1 199 rfl) rfl
theorem q304 : (Jvm.Cond.soleField "HotIron$Work" "cold") ∈ lw_all := lw_g (lw_at lw_m1 200 rfl) rfl
theorem q305 : (Jvm.Cond.lays "HotIron$Work" "HotIron$Work" "scale" "I") ∈ lw_all := lw_g (lw_at lw_m1 201 rfl) rfl
theorem q306 : (Jvm.Cond.soleField "HotIron$Work" "scale") ∈ lw_all := lw_g (lw_at lw_m1 202 rfl) rfl
theorem q307 : (Jvm.Cond.lays "HotIron$Work" "HotIron$Work" "shoulders" "I") ∈ lw_all := lw_g (lw_at lw_m1 203 rfl) rfl
theorem q308 : (Jvm.Cond.soleField "HotIron$Work" "shoulders") ∈ lw_all := lw_g (lw_at lw_m1 204 rfl) rfl
theorem q309 : (Jvm.Cond.lays "HotIron$Work" "HotIron$Work" "holes" "I") ∈ lw_all := lw_g (lw_at lw_m1 205 rfl) rfl
theorem q310 : (Jvm.Cond.soleField "HotIron$Work" "holes") ∈ lw_all := lw_g (lw_at lw_m1 206 rfl) rfl
theorem q311 : (Jvm.Cond.lays "HotIron$Work" "HotIron$Work" "welds" "I") ∈ lw_all := lw_g (lw_at lw_m1 207 rfl) rfl
theorem q312 : (Jvm.Cond.soleField "HotIron$Work" "welds") ∈ lw_all := lw_g (lw_at lw_m1 208 rfl) rfl
theorem q313 : (Jvm.Cond.lays "HotIron$Work" "HotIron$Work" "folds" "I") ∈ lw_all := lw_g (lw_at lw_m1 209 rfl) rfl
theorem q314 : (Jvm.Cond.soleField "HotIron$Work" "folds") ∈ lw_all := lw_g (lw_at lw_m1 210 rfl) rfl
theorem q315 : (Jvm.Cond.lays "HotIron$Work" "HotIron$Work" "cracks" "I") ∈ lw_all := lw_g (lw_at lw_m1 211 rfl) rfl
theorem q316 : (Jvm.Cond.soleField "HotIron$Work" "cracks") ∈ lw_all := lw_g (lw_at lw_m1 212 rfl) rfl
theorem q317 : (Jvm.Cond.lays "HotIron$Work" "HotIron$Work" "latest" "I") ∈ lw_all := lw_g (lw_at lw_m1 213 rfl) rfl
theorem q318 : (Jvm.Cond.soleField "HotIron$Work" "latest") ∈ lw_all := lw_g (lw_at lw_m1 214 rfl) rfl
theorem q319 : (Jvm.Cond.lays "HotIron$Work" "HotIron$Work" "dropped" "I") ∈ lw_all := lw_g (lw_at lw_m1 215 rfl) rfl
theorem q320 : (Jvm.Cond.soleField "HotIron$Work" "dropped") ∈ lw_all := lw_g (lw_at lw_m1 216 rfl) rfl
theorem q321 : (Jvm.Cond.lays "HotIron$Work" "HotIron$Work" "hand" "LHotIron$Hand;") ∈ lw_all := lw_g (lw_at lw_m1 217 rfl) rfl
theorem q322 : (Jvm.Cond.soleField "HotIron$Work" "hand") ∈ lw_all := lw_g (lw_at lw_m1 218 rfl) rfl
theorem q323 : (Jvm.Cond.superclass "HotIron$Work" "java/lang/Object") ∈ lw_all := lw_g (lw_at lw_m1 219 rfl) rfl
theorem q564 : (Jvm.Cond.selects "HotIron$Work" ({ cls := "java/lang/Object", name := "getClass", desc := "()Ljava/lang/Class;" } : Jvm.MethodName) ({ cls := "java/lang/Object", name := "getClass", desc := "()Ljava/lang/Class;" } : Jvm.MethodName)) ∈ lw_all := lw_g (lw_at lw_m2 220 rfl) rfl
theorem q1181 : (Jvm.Cond.instanceMethod ({ cls := "HotIron$Work", name := "begins", desc := "([III[I)V" } : Jvm.MethodName)) ∈ lw_all := lw_g (lw_at lw_m5 117 rfl) rfl
theorem q1182 : (Jvm.Cond.selects "HotIron$Work" ({ cls := "HotIron$Work", name := "begins", desc := "([III[I)V" } : Jvm.MethodName) ({ cls := "HotIron$Work", name := "begins", desc := "([III[I)V" } : Jvm.MethodName)) ∈ lw_all := lw_g (lw_at lw_m5 118 rfl) rfl
theorem q1183 : (Jvm.Cond.code ({ cls := "HotIron$Work", name := "begins", desc := "([III[I)V" } : Jvm.MethodName) prog_26_method_2_code (6 : Nat) (Option.none : Option Jvm.ClassFile.FieldType)) ∈ lw_all := lw_g (lw_at lw_m5 119 rfl) rfl
theorem q1219 : (Jvm.Cond.instanceMethod ({ cls := "HotIron$Work", name := "ironOf", desc := "(I)I" } : Jvm.MethodName)) ∈ lw_all := lw_g (lw_at lw_m5 155 rfl) rfl
theorem q1220 : (Jvm.Cond.selects "HotIron$Work" ({ cls := "HotIron$Work", name := "ironOf", desc := "(I)I" } : Jvm.MethodName) ({ cls := "HotIron$Work", name := "ironOf", desc := "(I)I" } : Jvm.MethodName)) ∈ lw_all := lw_g (lw_at lw_m5 156 rfl) rfl
theorem q1221 : (Jvm.Cond.code ({ cls := "HotIron$Work", name := "ironOf", desc := "(I)I" } : Jvm.MethodName) prog_26_method_5_code (2 : Nat) (Option.some Jvm.ClassFile.FieldType.int)) ∈ lw_all := lw_g (lw_at lw_m5 157 rfl) rfl
theorem q1222 : (Jvm.Cond.methodLink "HotIron$Work" (79 : Nat) ({ cls := "HotIron$Work", name := "isCell", desc := "(I)Z" } : Jvm.MethodName)) ∈ lw_all := lw_g (lw_at lw_m5 158 rfl) rfl
theorem q1223 : (Jvm.Cond.instanceMethod ({ cls := "HotIron$Work", name := "isCell", desc := "(I)Z" } : Jvm.MethodName)) ∈ lw_all := lw_g (lw_at lw_m5 159 rfl) rfl
theorem q1224 : (Jvm.Cond.selects "HotIron$Work" ({ cls := "HotIron$Work", name := "isCell", desc := "(I)Z" } : Jvm.MethodName) ({ cls := "HotIron$Work", name := "isCell", desc := "(I)Z" } : Jvm.MethodName)) ∈ lw_all := lw_g (lw_at lw_m5 160 rfl) rfl
theorem q1225 : (Jvm.Cond.code ({ cls := "HotIron$Work", name := "isCell", desc := "(I)Z" } : Jvm.MethodName) prog_26_method_3_code (2 : Nat) (Option.some Jvm.ClassFile.FieldType.boolean)) ∈ lw_all := lw_g (lw_at lw_m5 161 rfl) rfl
theorem q1228 : (Jvm.Cond.instanceMethod ({ cls := "HotIron$Work", name := "isHot", desc := "(I)Z" } : Jvm.MethodName)) ∈ lw_all := lw_g (lw_at lw_m5 164 rfl) rfl
theorem q1229 : (Jvm.Cond.selects "HotIron$Work" ({ cls := "HotIron$Work", name := "isHot", desc := "(I)Z" } : Jvm.MethodName) ({ cls := "HotIron$Work", name := "isHot", desc := "(I)Z" } : Jvm.MethodName)) ∈ lw_all := lw_g (lw_at lw_m5 165 rfl) rfl
theorem q1230 : (Jvm.Cond.code ({ cls := "HotIron$Work", name := "isHot", desc := "(I)Z" } : Jvm.MethodName) prog_26_method_4_code (2 : Nat) (Option.some Jvm.ClassFile.FieldType.boolean)) ∈ lw_all := lw_g (lw_at lw_m5 166 rfl) rfl
theorem q1254 : (Jvm.Cond.instanceMethod ({ cls := "HotIron$Work", name := "fires", desc := "(I)Z" } : Jvm.MethodName)) ∈ lw_all := lw_g (lw_at lw_m5 190 rfl) rfl
theorem q1255 : (Jvm.Cond.selects "HotIron$Work" ({ cls := "HotIron$Work", name := "fires", desc := "(I)Z" } : Jvm.MethodName) ({ cls := "HotIron$Work", name := "fires", desc := "(I)Z" } : Jvm.MethodName)) ∈ lw_all := lw_g (lw_at lw_m5 191 rfl) rfl
theorem q1256 : (Jvm.Cond.code ({ cls := "HotIron$Work", name := "fires", desc := "(I)Z" } : Jvm.MethodName) prog_26_method_7_code (5 : Nat) (Option.some Jvm.ClassFile.FieldType.boolean)) ∈ lw_all := lw_g (lw_at lw_m5 192 rfl) rfl
theorem q1257 : (Jvm.Cond.methodLink "HotIron$Work" (83 : Nat) ({ cls := "HotIron$Work", name := "scales", desc := "(I)V" } : Jvm.MethodName)) ∈ lw_all := lw_g (lw_at lw_m5 193 rfl) rfl
theorem q1258 : (Jvm.Cond.privateMethod ({ cls := "HotIron$Work", name := "scales", desc := "(I)V" } : Jvm.MethodName)) ∈ lw_tbl := lw_at lw_m5 194 rfl
theorem q1259 : (Jvm.Cond.instanceMethod ({ cls := "HotIron$Work", name := "scales", desc := "(I)V" } : Jvm.MethodName)) ∈ lw_all := lw_g (lw_at lw_m5 195 rfl) rfl
theorem q1260 : (Jvm.Cond.code ({ cls := "HotIron$Work", name := "scales", desc := "(I)V" } : Jvm.MethodName) prog_26_method_6_code (2 : Nat) (Option.none : Option Jvm.ClassFile.FieldType)) ∈ lw_all := lw_g (lw_at lw_m5 196 rfl) rfl
theorem q1270 : (Jvm.Cond.instanceMethod ({ cls := "HotIron$Work", name := "punches", desc := "(I)V" } : Jvm.MethodName)) ∈ lw_all := lw_g (lw_at lw_m5 206 rfl) rfl
theorem q1271 : (Jvm.Cond.selects "HotIron$Work" ({ cls := "HotIron$Work", name := "punches", desc := "(I)V" } : Jvm.MethodName) ({ cls := "HotIron$Work", name := "punches", desc := "(I)V" } : Jvm.MethodName)) ∈ lw_all := lw_g (lw_at lw_m5 207 rfl) rfl
theorem q1272 : (Jvm.Cond.code ({ cls := "HotIron$Work", name := "punches", desc := "(I)V" } : Jvm.MethodName) prog_26_method_12_code (2 : Nat) (Option.none : Option Jvm.ClassFile.FieldType)) ∈ lw_all := lw_g (lw_at lw_m5 208 rfl) rfl
theorem q1273 : (Jvm.Cond.methodLink "HotIron$Work" (96 : Nat) ({ cls := "HotIron$Work", name := "isHot", desc := "(I)Z" } : Jvm.MethodName)) ∈ lw_all := lw_g (lw_at lw_m5 209 rfl) rfl
theorem q1274 : (Jvm.Cond.methodLink "HotIron$Work" (99 : Nat) ({ cls := "HotIron$Work", name := "uses", desc := "(IZ)Z" } : Jvm.MethodName)) ∈ lw_all := lw_g (lw_at lw_m5 210 rfl) rfl
theorem q1275 : (Jvm.Cond.privateMethod ({ cls := "HotIron$Work", name := "uses", desc := "(IZ)Z" } : Jvm.MethodName)) ∈ lw_tbl := lw_at lw_m5 211 rfl
theorem q1276 : (Jvm.Cond.instanceMethod ({ cls := "HotIron$Work", name := "uses", desc := "(IZ)Z" } : Jvm.MethodName)) ∈ lw_all := lw_g (lw_at lw_m5 212 rfl) rfl
theorem q1277 : (Jvm.Cond.code ({ cls := "HotIron$Work", name := "uses", desc := "(IZ)Z" } : Jvm.MethodName) prog_26_method_9_code (3 : Nat) (Option.some Jvm.ClassFile.FieldType.boolean)) ∈ lw_all := lw_g (lw_at lw_m5 213 rfl) rfl
theorem q1278 : (Jvm.Cond.methodLink "HotIron$Work" (87 : Nat) ({ cls := "HotIron$Work", name := "cools", desc := "(I)V" } : Jvm.MethodName)) ∈ lw_all := lw_g (lw_at lw_m5 214 rfl) rfl
theorem q1279 : (Jvm.Cond.privateMethod ({ cls := "HotIron$Work", name := "cools", desc := "(I)V" } : Jvm.MethodName)) ∈ lw_tbl := lw_at lw_m5 215 rfl
theorem q1280 : (Jvm.Cond.instanceMethod ({ cls := "HotIron$Work", name := "cools", desc := "(I)V" } : Jvm.MethodName)) ∈ lw_all := lw_g (lw_at lw_m5 216 rfl) rfl
theorem q1281 : (Jvm.Cond.code ({ cls := "HotIron$Work", name := "cools", desc := "(I)V" } : Jvm.MethodName) prog_26_method_8_code (2 : Nat) (Option.none : Option Jvm.ClassFile.FieldType)) ∈ lw_all := lw_g (lw_at lw_m5 217 rfl) rfl
theorem q1287 : (Jvm.Cond.instanceMethod ({ cls := "HotIron$Work", name := "shoulders", desc := "(I)V" } : Jvm.MethodName)) ∈ lw_all := lw_g (lw_at lw_m5 223 rfl) rfl
theorem q1288 : (Jvm.Cond.selects "HotIron$Work" ({ cls := "HotIron$Work", name := "shoulders", desc := "(I)V" } : Jvm.MethodName) ({ cls := "HotIron$Work", name := "shoulders", desc := "(I)V" } : Jvm.MethodName)) ∈ lw_all := lw_g (lw_at lw_m5 224 rfl) rfl
theorem q1289 : (Jvm.Cond.code ({ cls := "HotIron$Work", name := "shoulders", desc := "(I)V" } : Jvm.MethodName) prog_26_method_11_code (2 : Nat) (Option.none : Option Jvm.ClassFile.FieldType)) ∈ lw_all := lw_g (lw_at lw_m5 225 rfl) rfl
theorem q1295 : (Jvm.Cond.instanceMethod ({ cls := "HotIron$Work", name := "strikes", desc := "(II)V" } : Jvm.MethodName)) ∈ lw_all := lw_g (lw_at lw_m5 231 rfl) rfl
theorem q1296 : (Jvm.Cond.selects "HotIron$Work" ({ cls := "HotIron$Work", name := "strikes", desc := "(II)V" } : Jvm.MethodName) ({ cls := "HotIron$Work", name := "strikes", desc := "(II)V" } : Jvm.MethodName)) ∈ lw_all := lw_g (lw_at lw_m5 232 rfl) rfl
theorem q1297 : (Jvm.Cond.code ({ cls := "HotIron$Work", name := "strikes", desc := "(II)V" } : Jvm.MethodName) prog_26_method_10_code (4 : Nat) (Option.none : Option Jvm.ClassFile.FieldType)) ∈ lw_all := lw_g (lw_at lw_m5 233 rfl) rfl
theorem q1298 : (Jvm.Cond.methodLink "HotIron$Work" (90 : Nat) ({ cls := "java/lang/Math", name := "abs", desc := "(I)I" } : Jvm.MethodName)) ∈ lw_all := lw_g (lw_at lw_m5 234 rfl) rfl
theorem q1301 : (Jvm.Cond.methodLink "HotIron$Work" (103 : Nat) ({ cls := "java/lang/Math", name := "min", desc := "(II)I" } : Jvm.MethodName)) ∈ lw_all := lw_g (lw_at lw_m5 237 rfl) rfl
theorem q1302 : (Jvm.Cond.methodLink "HotIron$Work" (111 : Nat) ({ cls := "HotIron$Hand", name := "slips", desc := "()Z" } : Jvm.MethodName)) ∈ lw_all := lw_g (lw_at lw_m5 238 rfl) rfl
theorem q1314 : (Jvm.Cond.instanceMethod ({ cls := "HotIron$Work", name := "welds", desc := "(I)V" } : Jvm.MethodName)) ∈ lw_all := lw_g (lw_at lw_m6 10 rfl) rfl
theorem q1315 : (Jvm.Cond.selects "HotIron$Work" ({ cls := "HotIron$Work", name := "welds", desc := "(I)V" } : Jvm.MethodName) ({ cls := "HotIron$Work", name := "welds", desc := "(I)V" } : Jvm.MethodName)) ∈ lw_all := lw_g (lw_at lw_m6 11 rfl) rfl
theorem q1316 : (Jvm.Cond.code ({ cls := "HotIron$Work", name := "welds", desc := "(I)V" } : Jvm.MethodName) prog_26_method_13_code (2 : Nat) (Option.none : Option Jvm.ClassFile.FieldType)) ∈ lw_all := lw_g (lw_at lw_m6 12 rfl) rfl
theorem q1439 : (Jvm.Cond.instanceMethod ({ cls := "HotIron$Work", name := "isAs", desc := "(LHotIron$Work;)Z" } : Jvm.MethodName)) ∈ lw_all := lw_g (lw_at lw_m6 135 rfl) rfl
theorem q1440 : (Jvm.Cond.selects "HotIron$Work" ({ cls := "HotIron$Work", name := "isAs", desc := "(LHotIron$Work;)Z" } : Jvm.MethodName) ({ cls := "HotIron$Work", name := "isAs", desc := "(LHotIron$Work;)Z" } : Jvm.MethodName)) ∈ lw_all := lw_g (lw_at lw_m6 136 rfl) rfl
theorem q1441 : (Jvm.Cond.code ({ cls := "HotIron$Work", name := "isAs", desc := "(LHotIron$Work;)Z" } : Jvm.MethodName) prog_26_method_15_code (2 : Nat) (Option.some Jvm.ClassFile.FieldType.boolean)) ∈ lw_all := lw_g (lw_at lw_m6 137 rfl) rfl
theorem q1442 : (Jvm.Cond.methodLink "HotIron$Work" (117 : Nat) ({ cls := "HotIron$Work", name := "row", desc := "()I" } : Jvm.MethodName)) ∈ lw_all := lw_g (lw_at lw_m6 138 rfl) rfl
theorem q1443 : (Jvm.Cond.instanceMethod ({ cls := "HotIron$Work", name := "row", desc := "()I" } : Jvm.MethodName)) ∈ lw_all := lw_g (lw_at lw_m6 139 rfl) rfl
theorem q1444 : (Jvm.Cond.selects "HotIron$Work" ({ cls := "HotIron$Work", name := "row", desc := "()I" } : Jvm.MethodName) ({ cls := "HotIron$Work", name := "row", desc := "()I" } : Jvm.MethodName)) ∈ lw_all := lw_g (lw_at lw_m6 140 rfl) rfl
theorem q1445 : (Jvm.Cond.code ({ cls := "HotIron$Work", name := "row", desc := "()I" } : Jvm.MethodName) prog_26_method_14_code (3 : Nat) (Option.some Jvm.ClassFile.FieldType.int)) ∈ lw_all := lw_g (lw_at lw_m6 141 rfl) rfl
theorem q2131 : (Jvm.Cond.castable "HotIron$Work" "java/lang/Object") ∈ lw_tbl := lw_at lw_m9 107 rfl
theorem in_X2 : ∀ w ∈ wsX20, w ∈ lw_all := lw_in wsX20 [277, 279, 281, 283, 285, 287, 289, 291, 293, 295, 297, 299, 301, 303, 305, 307, 309, 311, 313, 315, 317, 319, 321] (by decide +kernel) (by decide +kernel)
/-! HotIron$Plans -/
set_option maxRecDepth 100000
def RX3 : String := "HotIron$Plans"
def TX3 : u_T := fun k => match k with
  | 0 => ("HotIron$Plans", "layers", "[B", true)
  | 1 => ("HotIron$Plans", "good", "[B", true)
  | 2 => ("HotIron$Plans", "on", "[B", true)
  | 3 => ("HotIron$Plans", "seen", "[I", true)
  | 4 => ("HotIron$Plans", "found", "[I", true)
  | 5 => ("HotIron$Plans", "depth", "[I", true)
  | 6 => ("HotIron$Plans", "powers", "[I", true)
  | 7 => ("HotIron$Plans", "counts", "[I", true)
  | 8 => ("HotIron$Plans", "places", "[I", true)
  | 9 => ("HotIron$Plans", "rows", "[I", true)
  | 10 => ("HotIron$Plans", "cells", "I", false)
  | 11 => ("HotIron$Plans", "blows", "I", false)
  | 12 => ("HotIron$Plans", "many", "I", false)
  | 13 => ("HotIron$Plans", "mark", "I", false)
  | 14 => ("HotIron$Plans", "made", "I", false)
  | 15 => ("HotIron$Plans", "heats", "I", false)
  | 16 => ("HotIron$Plans", "laid", "I", false)
  | _ => ("HotIron$Plans", "this$0", "LHotIron;", true)
def tyX3 : Nat → FieldType := fun k => match k with
  | 0 => .array .byte
  | 1 => .array .byte
  | 2 => .array .byte
  | 3 => .array .int
  | 4 => .array .int
  | 5 => .array .int
  | 6 => .array .int
  | 7 => .array .int
  | 8 => .array .int
  | 9 => .array .int
  | 10 => .int
  | 11 => .int
  | 12 => .int
  | 13 => .int
  | 14 => .int
  | 15 => .int
  | 16 => .int
  | _ => .object "HotIron"
abbrev wsX30 : List Cond := u_ws RX3 TX3 18
set_option maxRecDepth 100000 in
theorem nmX3 : ∀ a, a < 18 → ∀ b, b < 18 → a ≠ b → (TX3 a).2.1 ≠ (TX3 b).2.1 := by decide +kernel
set_option maxRecDepth 100000 in
theorem tyX3_ok : ∀ k, k < 18 → parseFieldDescriptor (TX3 k).2.2.1 = some (tyX3 k) := by decide +kernel
abbrev cX3_init : ByteArray := prog_13_method_1_code
def yX3_init : MethodName := ⟨RX3, "<init>", "(LHotIron;)V"⟩
def dkwX3_init_4 : List UInt8 := [177]
abbrev dktX3_init_4 : List UInt8 := dkwX3_init_4 ++ []
def dkwX3_init_3 : List UInt8 := [181, 0, 39, 42, 16, 6, 188, 10, 181, 0, 42, 42, 16, 7, 188, 10, 181, 0, 45, 42, 2, 181, 0, 48]
abbrev dktX3_init_3 : List UInt8 := dkwX3_init_3 ++ dktX3_init_4
def dkwX3_init_2 : List UInt8 := [181, 0, 30, 42, 18, 15, 188, 10, 181, 0, 33, 42, 8, 188, 10, 181, 0, 36, 42, 16, 7, 188, 10]
abbrev dktX3_init_2 : List UInt8 := dkwX3_init_2 ++ dktX3_init_3
def dkwX3_init_1 : List UInt8 := [181, 0, 20, 42, 18, 15, 188, 8, 181, 0, 23, 42, 18, 15, 188, 10, 181, 0, 26, 42, 18, 15, 188, 10]
abbrev dktX3_init_1 : List UInt8 := dkwX3_init_1 ++ dktX3_init_2
def dkwX3_init_0 : List UInt8 := [42, 43, 181, 0, 3, 42, 183, 0, 9, 42, 18, 15, 188, 8, 181, 0, 16, 42, 18, 15, 188, 8]
abbrev dktX3_init_0 : List UInt8 := dkwX3_init_0 ++ dktX3_init_1
theorem dksX3_init_0 : cX3_init.data.toList.drop 0 = dktX3_init_0 := by decide +kernel
theorem dksX3_init_1 : cX3_init.data.toList.drop 22 = dktX3_init_1 := dk_seg dksX3_init_0 22 rfl rfl
theorem dksX3_init_2 : cX3_init.data.toList.drop 46 = dktX3_init_2 := dk_seg dksX3_init_1 24 rfl rfl
theorem dksX3_init_3 : cX3_init.data.toList.drop 69 = dktX3_init_3 := dk_seg dksX3_init_2 23 rfl rfl
theorem dksX3_init_4 : cX3_init.data.toList.drop 93 = dktX3_init_4 := dk_seg dksX3_init_3 24 rfl rfl
theorem dX3_init_0 : decode cX3_init 0 = .ok (.aload_n 0, 1) := dk_42 (dk_at dksX3_init_0 0 rfl rfl)
theorem dX3_init_1 : decode cX3_init 1 = .ok (.aload_n 1, 1) := dk_43 (dk_at dksX3_init_0 1 rfl rfl)
theorem dX3_init_2 : decode cX3_init 2 = .ok (.putfield 3, 3) := dk_181 0 3 (dk_at dksX3_init_0 2 rfl rfl)
theorem dX3_init_5 : decode cX3_init 5 = .ok (.aload_n 0, 1) := dk_42 (dk_at dksX3_init_0 5 rfl rfl)
theorem dX3_init_6 : decode cX3_init 6 = .ok (.invokespecial 9, 3) := dk_183 0 9 (dk_at dksX3_init_0 6 rfl rfl)
theorem dX3_init_9 : decode cX3_init 9 = .ok (.aload_n 0, 1) := dk_42 (dk_at dksX3_init_0 9 rfl rfl)
theorem dX3_init_10 : decode cX3_init 10 = .ok (.ldc 15, 2) := dk_18 15 (dk_at dksX3_init_0 10 rfl rfl)
theorem dX3_init_12 : decode cX3_init 12 = .ok (.newarray .byte, 2) := dk_188_8 (dk_at dksX3_init_0 12 rfl rfl)
theorem dX3_init_14 : decode cX3_init 14 = .ok (.putfield 16, 3) := dk_181 0 16 (dk_at dksX3_init_0 14 rfl rfl)
theorem dX3_init_17 : decode cX3_init 17 = .ok (.aload_n 0, 1) := dk_42 (dk_at dksX3_init_0 17 rfl rfl)
theorem dX3_init_18 : decode cX3_init 18 = .ok (.ldc 15, 2) := dk_18 15 (dk_at dksX3_init_0 18 rfl rfl)
theorem dX3_init_20 : decode cX3_init 20 = .ok (.newarray .byte, 2) := dk_188_8 (dk_at dksX3_init_0 20 rfl rfl)
theorem dX3_init_22 : decode cX3_init 22 = .ok (.putfield 20, 3) := dk_181 0 20 (dk_at dksX3_init_1 0 rfl rfl)
theorem dX3_init_25 : decode cX3_init 25 = .ok (.aload_n 0, 1) := dk_42 (dk_at dksX3_init_1 3 rfl rfl)
theorem dX3_init_26 : decode cX3_init 26 = .ok (.ldc 15, 2) := dk_18 15 (dk_at dksX3_init_1 4 rfl rfl)
theorem dX3_init_28 : decode cX3_init 28 = .ok (.newarray .byte, 2) := dk_188_8 (dk_at dksX3_init_1 6 rfl rfl)
theorem dX3_init_30 : decode cX3_init 30 = .ok (.putfield 23, 3) := dk_181 0 23 (dk_at dksX3_init_1 8 rfl rfl)
theorem dX3_init_33 : decode cX3_init 33 = .ok (.aload_n 0, 1) := dk_42 (dk_at dksX3_init_1 11 rfl rfl)
theorem dX3_init_34 : decode cX3_init 34 = .ok (.ldc 15, 2) := dk_18 15 (dk_at dksX3_init_1 12 rfl rfl)
theorem dX3_init_36 : decode cX3_init 36 = .ok (.newarray .int, 2) := dk_188_10 (dk_at dksX3_init_1 14 rfl rfl)
theorem dX3_init_38 : decode cX3_init 38 = .ok (.putfield 26, 3) := dk_181 0 26 (dk_at dksX3_init_1 16 rfl rfl)
theorem dX3_init_41 : decode cX3_init 41 = .ok (.aload_n 0, 1) := dk_42 (dk_at dksX3_init_1 19 rfl rfl)
theorem dX3_init_42 : decode cX3_init 42 = .ok (.ldc 15, 2) := dk_18 15 (dk_at dksX3_init_1 20 rfl rfl)
theorem dX3_init_44 : decode cX3_init 44 = .ok (.newarray .int, 2) := dk_188_10 (dk_at dksX3_init_1 22 rfl rfl)
theorem dX3_init_46 : decode cX3_init 46 = .ok (.putfield 30, 3) := dk_181 0 30 (dk_at dksX3_init_2 0 rfl rfl)
theorem dX3_init_49 : decode cX3_init 49 = .ok (.aload_n 0, 1) := dk_42 (dk_at dksX3_init_2 3 rfl rfl)
theorem dX3_init_50 : decode cX3_init 50 = .ok (.ldc 15, 2) := dk_18 15 (dk_at dksX3_init_2 4 rfl rfl)
theorem dX3_init_52 : decode cX3_init 52 = .ok (.newarray .int, 2) := dk_188_10 (dk_at dksX3_init_2 6 rfl rfl)
theorem dX3_init_54 : decode cX3_init 54 = .ok (.putfield 33, 3) := dk_181 0 33 (dk_at dksX3_init_2 8 rfl rfl)
theorem dX3_init_57 : decode cX3_init 57 = .ok (.aload_n 0, 1) := dk_42 (dk_at dksX3_init_2 11 rfl rfl)
theorem dX3_init_58 : decode cX3_init 58 = .ok (.iconst 5, 1) := dk_8 (dk_at dksX3_init_2 12 rfl rfl)
theorem dX3_init_59 : decode cX3_init 59 = .ok (.newarray .int, 2) := dk_188_10 (dk_at dksX3_init_2 13 rfl rfl)
theorem dX3_init_61 : decode cX3_init 61 = .ok (.putfield 36, 3) := dk_181 0 36 (dk_at dksX3_init_2 15 rfl rfl)
theorem dX3_init_64 : decode cX3_init 64 = .ok (.aload_n 0, 1) := dk_42 (dk_at dksX3_init_2 18 rfl rfl)
theorem dX3_init_65 : decode cX3_init 65 = .ok (.bipush 7, 2) := dk_16 7 (dk_at dksX3_init_2 19 rfl rfl)
theorem dX3_init_67 : decode cX3_init 67 = .ok (.newarray .int, 2) := dk_188_10 (dk_at dksX3_init_2 21 rfl rfl)
theorem dX3_init_69 : decode cX3_init 69 = .ok (.putfield 39, 3) := dk_181 0 39 (dk_at dksX3_init_3 0 rfl rfl)
theorem dX3_init_72 : decode cX3_init 72 = .ok (.aload_n 0, 1) := dk_42 (dk_at dksX3_init_3 3 rfl rfl)
theorem dX3_init_73 : decode cX3_init 73 = .ok (.bipush 6, 2) := dk_16 6 (dk_at dksX3_init_3 4 rfl rfl)
theorem dX3_init_75 : decode cX3_init 75 = .ok (.newarray .int, 2) := dk_188_10 (dk_at dksX3_init_3 6 rfl rfl)
theorem dX3_init_77 : decode cX3_init 77 = .ok (.putfield 42, 3) := dk_181 0 42 (dk_at dksX3_init_3 8 rfl rfl)
theorem dX3_init_80 : decode cX3_init 80 = .ok (.aload_n 0, 1) := dk_42 (dk_at dksX3_init_3 11 rfl rfl)
theorem dX3_init_81 : decode cX3_init 81 = .ok (.bipush 7, 2) := dk_16 7 (dk_at dksX3_init_3 12 rfl rfl)
theorem dX3_init_83 : decode cX3_init 83 = .ok (.newarray .int, 2) := dk_188_10 (dk_at dksX3_init_3 14 rfl rfl)
theorem dX3_init_85 : decode cX3_init 85 = .ok (.putfield 45, 3) := dk_181 0 45 (dk_at dksX3_init_3 16 rfl rfl)
theorem dX3_init_88 : decode cX3_init 88 = .ok (.aload_n 0, 1) := dk_42 (dk_at dksX3_init_3 19 rfl rfl)
theorem dX3_init_89 : decode cX3_init 89 = .ok (.iconst (-1), 1) := dk_2 (dk_at dksX3_init_3 20 rfl rfl)
theorem dX3_init_90 : decode cX3_init 90 = .ok (.putfield 48, 3) := dk_181 0 48 (dk_at dksX3_init_3 21 rfl rfl)
theorem dX3_init_93 : decode cX3_init 93 = .ok (.return_, 1) := dk_177 (dk_at dksX3_init_4 0 rfl rfl)
abbrev cX3_looks : ByteArray := prog_13_method_18_code
def yX3_looks : MethodName := ⟨RX3, "looks", "()V"⟩
def dkwX3_looks_4 : List UInt8 := [42, 27, 28, 182, 0, 164, 177]
abbrev dktX3_looks_4 : List UInt8 := dkwX3_looks_4 ++ []
def dkwX3_looks_3 : List UInt8 := [42, 180, 0, 3, 180, 0, 55, 180, 0, 134, 182, 0, 141, 61, 42, 28, 182, 0, 158, 42, 27, 182, 0, 161]
abbrev dktX3_looks_3 : List UInt8 := dkwX3_looks_3 ++ dktX3_looks_4
def dkwX3_looks_2 : List UInt8 := [180, 0, 114, 4, 162, 0, 4, 177, 42, 42, 180, 0, 3, 180, 0, 55, 180, 0, 151, 182, 0, 141, 60, 42]
abbrev dktX3_looks_2 : List UInt8 := dkwX3_looks_2 ++ dktX3_looks_3
def dkwX3_looks_1 : List UInt8 := [181, 0, 48, 42, 42, 42, 180, 0, 3, 180, 0, 55, 180, 0, 151, 3, 182, 0, 154, 181, 0, 114, 42]
abbrev dktX3_looks_1 : List UInt8 := dkwX3_looks_1 ++ dktX3_looks_2
def dkwX3_looks_0 : List UInt8 := [42, 180, 0, 48, 42, 180, 0, 3, 180, 0, 148, 160, 0, 4, 177, 42, 42, 180, 0, 3, 180, 0, 148]
abbrev dktX3_looks_0 : List UInt8 := dkwX3_looks_0 ++ dktX3_looks_1
theorem dksX3_looks_0 : cX3_looks.data.toList.drop 0 = dktX3_looks_0 := by decide +kernel
theorem dksX3_looks_1 : cX3_looks.data.toList.drop 23 = dktX3_looks_1 := dk_seg dksX3_looks_0 23 rfl rfl
theorem dksX3_looks_2 : cX3_looks.data.toList.drop 46 = dktX3_looks_2 := dk_seg dksX3_looks_1 23 rfl rfl
theorem dksX3_looks_3 : cX3_looks.data.toList.drop 70 = dktX3_looks_3 := dk_seg dksX3_looks_2 24 rfl rfl
theorem dksX3_looks_4 : cX3_looks.data.toList.drop 94 = dktX3_looks_4 := dk_seg dksX3_looks_3 24 rfl rfl
theorem dX3_looks_0 : decode cX3_looks 0 = .ok (.aload_n 0, 1) := dk_42 (dk_at dksX3_looks_0 0 rfl rfl)
theorem dX3_looks_1 : decode cX3_looks 1 = .ok (.getfield 48, 3) := dk_180 0 48 (dk_at dksX3_looks_0 1 rfl rfl)
theorem dX3_looks_4 : decode cX3_looks 4 = .ok (.aload_n 0, 1) := dk_42 (dk_at dksX3_looks_0 4 rfl rfl)
theorem dX3_looks_5 : decode cX3_looks 5 = .ok (.getfield 3, 3) := dk_180 0 3 (dk_at dksX3_looks_0 5 rfl rfl)
theorem dX3_looks_8 : decode cX3_looks 8 = .ok (.getfield 148, 3) := dk_180 0 148 (dk_at dksX3_looks_0 8 rfl rfl)
theorem dX3_looks_11 : decode cX3_looks 11 = .ok (.if_icmp .ne 4, 3) := dk_160 0 4 (dk_at dksX3_looks_0 11 rfl rfl)
theorem dX3_looks_14 : decode cX3_looks 14 = .ok (.return_, 1) := dk_177 (dk_at dksX3_looks_0 14 rfl rfl)
theorem dX3_looks_15 : decode cX3_looks 15 = .ok (.aload_n 0, 1) := dk_42 (dk_at dksX3_looks_0 15 rfl rfl)
theorem dX3_looks_16 : decode cX3_looks 16 = .ok (.aload_n 0, 1) := dk_42 (dk_at dksX3_looks_0 16 rfl rfl)
theorem dX3_looks_17 : decode cX3_looks 17 = .ok (.getfield 3, 3) := dk_180 0 3 (dk_at dksX3_looks_0 17 rfl rfl)
theorem dX3_looks_20 : decode cX3_looks 20 = .ok (.getfield 148, 3) := dk_180 0 148 (dk_at dksX3_looks_0 20 rfl rfl)
theorem dX3_looks_23 : decode cX3_looks 23 = .ok (.putfield 48, 3) := dk_181 0 48 (dk_at dksX3_looks_1 0 rfl rfl)
theorem dX3_looks_26 : decode cX3_looks 26 = .ok (.aload_n 0, 1) := dk_42 (dk_at dksX3_looks_1 3 rfl rfl)
theorem dX3_looks_27 : decode cX3_looks 27 = .ok (.aload_n 0, 1) := dk_42 (dk_at dksX3_looks_1 4 rfl rfl)
theorem dX3_looks_28 : decode cX3_looks 28 = .ok (.aload_n 0, 1) := dk_42 (dk_at dksX3_looks_1 5 rfl rfl)
theorem dX3_looks_29 : decode cX3_looks 29 = .ok (.getfield 3, 3) := dk_180 0 3 (dk_at dksX3_looks_1 6 rfl rfl)
theorem dX3_looks_32 : decode cX3_looks 32 = .ok (.getfield 55, 3) := dk_180 0 55 (dk_at dksX3_looks_1 9 rfl rfl)
theorem dX3_looks_35 : decode cX3_looks 35 = .ok (.getfield 151, 3) := dk_180 0 151 (dk_at dksX3_looks_1 12 rfl rfl)
theorem dX3_looks_38 : decode cX3_looks 38 = .ok (.iconst 0, 1) := dk_3 (dk_at dksX3_looks_1 15 rfl rfl)
theorem dX3_looks_39 : decode cX3_looks 39 = .ok (.invokevirtual 154, 3) := dk_182 0 154 (dk_at dksX3_looks_1 16 rfl rfl)
theorem dX3_looks_42 : decode cX3_looks 42 = .ok (.putfield 114, 3) := dk_181 0 114 (dk_at dksX3_looks_1 19 rfl rfl)
theorem dX3_looks_45 : decode cX3_looks 45 = .ok (.aload_n 0, 1) := dk_42 (dk_at dksX3_looks_1 22 rfl rfl)
theorem dX3_looks_46 : decode cX3_looks 46 = .ok (.getfield 114, 3) := dk_180 0 114 (dk_at dksX3_looks_2 0 rfl rfl)
theorem dX3_looks_49 : decode cX3_looks 49 = .ok (.iconst 1, 1) := dk_4 (dk_at dksX3_looks_2 3 rfl rfl)
theorem dX3_looks_50 : decode cX3_looks 50 = .ok (.if_icmp .ge 4, 3) := dk_162 0 4 (dk_at dksX3_looks_2 4 rfl rfl)
theorem dX3_looks_53 : decode cX3_looks 53 = .ok (.return_, 1) := dk_177 (dk_at dksX3_looks_2 7 rfl rfl)
theorem dX3_looks_54 : decode cX3_looks 54 = .ok (.aload_n 0, 1) := dk_42 (dk_at dksX3_looks_2 8 rfl rfl)
theorem dX3_looks_55 : decode cX3_looks 55 = .ok (.aload_n 0, 1) := dk_42 (dk_at dksX3_looks_2 9 rfl rfl)
theorem dX3_looks_56 : decode cX3_looks 56 = .ok (.getfield 3, 3) := dk_180 0 3 (dk_at dksX3_looks_2 10 rfl rfl)
theorem dX3_looks_59 : decode cX3_looks 59 = .ok (.getfield 55, 3) := dk_180 0 55 (dk_at dksX3_looks_2 13 rfl rfl)
theorem dX3_looks_62 : decode cX3_looks 62 = .ok (.getfield 151, 3) := dk_180 0 151 (dk_at dksX3_looks_2 16 rfl rfl)
theorem dX3_looks_65 : decode cX3_looks 65 = .ok (.invokevirtual 141, 3) := dk_182 0 141 (dk_at dksX3_looks_2 19 rfl rfl)
theorem dX3_looks_68 : decode cX3_looks 68 = .ok (.istore_n 1, 1) := dk_60 (dk_at dksX3_looks_2 22 rfl rfl)
theorem dX3_looks_69 : decode cX3_looks 69 = .ok (.aload_n 0, 1) := dk_42 (dk_at dksX3_looks_2 23 rfl rfl)
theorem dX3_looks_70 : decode cX3_looks 70 = .ok (.aload_n 0, 1) := dk_42 (dk_at dksX3_looks_3 0 rfl rfl)
theorem dX3_looks_71 : decode cX3_looks 71 = .ok (.getfield 3, 3) := dk_180 0 3 (dk_at dksX3_looks_3 1 rfl rfl)
theorem dX3_looks_74 : decode cX3_looks 74 = .ok (.getfield 55, 3) := dk_180 0 55 (dk_at dksX3_looks_3 4 rfl rfl)
theorem dX3_looks_77 : decode cX3_looks 77 = .ok (.getfield 134, 3) := dk_180 0 134 (dk_at dksX3_looks_3 7 rfl rfl)
theorem dX3_looks_80 : decode cX3_looks 80 = .ok (.invokevirtual 141, 3) := dk_182 0 141 (dk_at dksX3_looks_3 10 rfl rfl)
theorem dX3_looks_83 : decode cX3_looks 83 = .ok (.istore_n 2, 1) := dk_61 (dk_at dksX3_looks_3 13 rfl rfl)
theorem dX3_looks_84 : decode cX3_looks 84 = .ok (.aload_n 0, 1) := dk_42 (dk_at dksX3_looks_3 14 rfl rfl)
theorem dX3_looks_85 : decode cX3_looks 85 = .ok (.iload_n 2, 1) := dk_28 (dk_at dksX3_looks_3 15 rfl rfl)
theorem dX3_looks_86 : decode cX3_looks 86 = .ok (.invokevirtual 158, 3) := dk_182 0 158 (dk_at dksX3_looks_3 16 rfl rfl)
theorem dX3_looks_89 : decode cX3_looks 89 = .ok (.aload_n 0, 1) := dk_42 (dk_at dksX3_looks_3 19 rfl rfl)
theorem dX3_looks_90 : decode cX3_looks 90 = .ok (.iload_n 1, 1) := dk_27 (dk_at dksX3_looks_3 20 rfl rfl)
theorem dX3_looks_91 : decode cX3_looks 91 = .ok (.invokevirtual 161, 3) := dk_182 0 161 (dk_at dksX3_looks_3 21 rfl rfl)
theorem dX3_looks_94 : decode cX3_looks 94 = .ok (.aload_n 0, 1) := dk_42 (dk_at dksX3_looks_4 0 rfl rfl)
theorem dX3_looks_95 : decode cX3_looks 95 = .ok (.iload_n 1, 1) := dk_27 (dk_at dksX3_looks_4 1 rfl rfl)
theorem dX3_looks_96 : decode cX3_looks 96 = .ok (.iload_n 2, 1) := dk_28 (dk_at dksX3_looks_4 2 rfl rfl)
theorem dX3_looks_97 : decode cX3_looks 97 = .ok (.invokevirtual 164, 3) := dk_182 0 164 (dk_at dksX3_looks_4 3 rfl rfl)
theorem dX3_looks_100 : decode cX3_looks 100 = .ok (.return_, 1) := dk_177 (dk_at dksX3_looks_4 6 rfl rfl)
abbrev cX3_fewest : ByteArray := prog_13_method_17_code
def yX3_fewest : MethodName := ⟨RX3, "fewest", "([II)I"⟩
def dkwX3_fewest_2 : List UInt8 := [180, 0, 3, 180, 0, 55, 180, 0, 134, 182, 0, 141, 16, 6, 182, 0, 144, 172]
abbrev dktX3_fewest_2 : List UInt8 := dkwX3_fewest_2 ++ []
def dkwX3_fewest_1 : List UInt8 := [100, 62, 29, 3, 16, 6, 184, 0, 137, 154, 0, 5, 2, 172, 42, 42, 43, 182, 0, 141, 42, 42]
abbrev dktX3_fewest_1 : List UInt8 := dkwX3_fewest_1 ++ dktX3_fewest_2
def dkwX3_fewest_0 : List UInt8 := [42, 28, 182, 0, 126, 42, 43, 182, 0, 130, 42, 42, 180, 0, 3, 180, 0, 55, 180, 0, 134, 182, 0, 130]
abbrev dktX3_fewest_0 : List UInt8 := dkwX3_fewest_0 ++ dktX3_fewest_1
theorem dksX3_fewest_0 : cX3_fewest.data.toList.drop 0 = dktX3_fewest_0 := by decide +kernel
theorem dksX3_fewest_1 : cX3_fewest.data.toList.drop 24 = dktX3_fewest_1 := dk_seg dksX3_fewest_0 24 rfl rfl
theorem dksX3_fewest_2 : cX3_fewest.data.toList.drop 46 = dktX3_fewest_2 := dk_seg dksX3_fewest_1 22 rfl rfl
theorem dX3_fewest_0 : decode cX3_fewest 0 = .ok (.aload_n 0, 1) := dk_42 (dk_at dksX3_fewest_0 0 rfl rfl)
theorem dX3_fewest_1 : decode cX3_fewest 1 = .ok (.iload_n 2, 1) := dk_28 (dk_at dksX3_fewest_0 1 rfl rfl)
theorem dX3_fewest_2 : decode cX3_fewest 2 = .ok (.invokevirtual 126, 3) := dk_182 0 126 (dk_at dksX3_fewest_0 2 rfl rfl)
theorem dX3_fewest_5 : decode cX3_fewest 5 = .ok (.aload_n 0, 1) := dk_42 (dk_at dksX3_fewest_0 5 rfl rfl)
theorem dX3_fewest_6 : decode cX3_fewest 6 = .ok (.aload_n 1, 1) := dk_43 (dk_at dksX3_fewest_0 6 rfl rfl)
theorem dX3_fewest_7 : decode cX3_fewest 7 = .ok (.invokevirtual 130, 3) := dk_182 0 130 (dk_at dksX3_fewest_0 7 rfl rfl)
theorem dX3_fewest_10 : decode cX3_fewest 10 = .ok (.aload_n 0, 1) := dk_42 (dk_at dksX3_fewest_0 10 rfl rfl)
theorem dX3_fewest_11 : decode cX3_fewest 11 = .ok (.aload_n 0, 1) := dk_42 (dk_at dksX3_fewest_0 11 rfl rfl)
theorem dX3_fewest_12 : decode cX3_fewest 12 = .ok (.getfield 3, 3) := dk_180 0 3 (dk_at dksX3_fewest_0 12 rfl rfl)
theorem dX3_fewest_15 : decode cX3_fewest 15 = .ok (.getfield 55, 3) := dk_180 0 55 (dk_at dksX3_fewest_0 15 rfl rfl)
theorem dX3_fewest_18 : decode cX3_fewest 18 = .ok (.getfield 134, 3) := dk_180 0 134 (dk_at dksX3_fewest_0 18 rfl rfl)
theorem dX3_fewest_21 : decode cX3_fewest 21 = .ok (.invokevirtual 130, 3) := dk_182 0 130 (dk_at dksX3_fewest_0 21 rfl rfl)
theorem dX3_fewest_24 : decode cX3_fewest 24 = .ok (.isub, 1) := dk_100 (dk_at dksX3_fewest_1 0 rfl rfl)
theorem dX3_fewest_25 : decode cX3_fewest 25 = .ok (.istore_n 3, 1) := dk_62 (dk_at dksX3_fewest_1 1 rfl rfl)
theorem dX3_fewest_26 : decode cX3_fewest 26 = .ok (.iload_n 3, 1) := dk_29 (dk_at dksX3_fewest_1 2 rfl rfl)
theorem dX3_fewest_27 : decode cX3_fewest 27 = .ok (.iconst 0, 1) := dk_3 (dk_at dksX3_fewest_1 3 rfl rfl)
theorem dX3_fewest_28 : decode cX3_fewest 28 = .ok (.bipush 6, 2) := dk_16 6 (dk_at dksX3_fewest_1 4 rfl rfl)
theorem dX3_fewest_30 : decode cX3_fewest 30 = .ok (.invokestatic 137, 3) := dk_184 0 137 (dk_at dksX3_fewest_1 6 rfl rfl)
theorem dX3_fewest_33 : decode cX3_fewest 33 = .ok (.ifCond .ne 5, 3) := dk_154 0 5 (dk_at dksX3_fewest_1 9 rfl rfl)
theorem dX3_fewest_36 : decode cX3_fewest 36 = .ok (.iconst (-1), 1) := dk_2 (dk_at dksX3_fewest_1 12 rfl rfl)
theorem dX3_fewest_37 : decode cX3_fewest 37 = .ok (.ireturn, 1) := dk_172 (dk_at dksX3_fewest_1 13 rfl rfl)
theorem dX3_fewest_38 : decode cX3_fewest 38 = .ok (.aload_n 0, 1) := dk_42 (dk_at dksX3_fewest_1 14 rfl rfl)
theorem dX3_fewest_39 : decode cX3_fewest 39 = .ok (.aload_n 0, 1) := dk_42 (dk_at dksX3_fewest_1 15 rfl rfl)
theorem dX3_fewest_40 : decode cX3_fewest 40 = .ok (.aload_n 1, 1) := dk_43 (dk_at dksX3_fewest_1 16 rfl rfl)
theorem dX3_fewest_41 : decode cX3_fewest 41 = .ok (.invokevirtual 141, 3) := dk_182 0 141 (dk_at dksX3_fewest_1 17 rfl rfl)
theorem dX3_fewest_44 : decode cX3_fewest 44 = .ok (.aload_n 0, 1) := dk_42 (dk_at dksX3_fewest_1 20 rfl rfl)
theorem dX3_fewest_45 : decode cX3_fewest 45 = .ok (.aload_n 0, 1) := dk_42 (dk_at dksX3_fewest_1 21 rfl rfl)
theorem dX3_fewest_46 : decode cX3_fewest 46 = .ok (.getfield 3, 3) := dk_180 0 3 (dk_at dksX3_fewest_2 0 rfl rfl)
theorem dX3_fewest_49 : decode cX3_fewest 49 = .ok (.getfield 55, 3) := dk_180 0 55 (dk_at dksX3_fewest_2 3 rfl rfl)
theorem dX3_fewest_52 : decode cX3_fewest 52 = .ok (.getfield 134, 3) := dk_180 0 134 (dk_at dksX3_fewest_2 6 rfl rfl)
theorem dX3_fewest_55 : decode cX3_fewest 55 = .ok (.invokevirtual 141, 3) := dk_182 0 141 (dk_at dksX3_fewest_2 9 rfl rfl)
theorem dX3_fewest_58 : decode cX3_fewest 58 = .ok (.bipush 6, 2) := dk_16 6 (dk_at dksX3_fewest_2 12 rfl rfl)
theorem dX3_fewest_60 : decode cX3_fewest 60 = .ok (.invokevirtual 144, 3) := dk_182 0 144 (dk_at dksX3_fewest_2 14 rfl rfl)
theorem dX3_fewest_63 : decode cX3_fewest 63 = .ok (.ireturn, 1) := dk_172 (dk_at dksX3_fewest_2 17 rfl rfl)
abbrev cX3_begins : ByteArray := prog_13_method_4_code
def yX3_begins : MethodName := ⟨RX3, "begins", "(I)V"⟩
def dkwX3_begins_2 : List UInt8 := [180, 0, 36, 29, 28, 79, 28, 16, 9, 104, 61, 132, 3, 255, 167, 255, 237, 177]
abbrev dktX3_begins_2 : List UInt8 := dkwX3_begins_2 ++ []
def dkwX3_begins_1 : List UInt8 := [180, 0, 62, 3, 46, 27, 96, 181, 0, 65, 4, 61, 42, 180, 0, 52, 4, 100, 62, 29, 155, 0, 21, 42]
abbrev dktX3_begins_1 : List UInt8 := dkwX3_begins_1 ++ dktX3_begins_2
def dkwX3_begins_0 : List UInt8 := [42, 42, 180, 0, 3, 180, 0, 55, 180, 0, 59, 181, 0, 52, 42, 42, 180, 0, 3, 180, 0, 55]
abbrev dktX3_begins_0 : List UInt8 := dkwX3_begins_0 ++ dktX3_begins_1
theorem dksX3_begins_0 : cX3_begins.data.toList.drop 0 = dktX3_begins_0 := by decide +kernel
theorem dksX3_begins_1 : cX3_begins.data.toList.drop 22 = dktX3_begins_1 := dk_seg dksX3_begins_0 22 rfl rfl
theorem dksX3_begins_2 : cX3_begins.data.toList.drop 46 = dktX3_begins_2 := dk_seg dksX3_begins_1 24 rfl rfl
theorem dX3_begins_0 : decode cX3_begins 0 = .ok (.aload_n 0, 1) := dk_42 (dk_at dksX3_begins_0 0 rfl rfl)
theorem dX3_begins_1 : decode cX3_begins 1 = .ok (.aload_n 0, 1) := dk_42 (dk_at dksX3_begins_0 1 rfl rfl)
theorem dX3_begins_2 : decode cX3_begins 2 = .ok (.getfield 3, 3) := dk_180 0 3 (dk_at dksX3_begins_0 2 rfl rfl)
theorem dX3_begins_5 : decode cX3_begins 5 = .ok (.getfield 55, 3) := dk_180 0 55 (dk_at dksX3_begins_0 5 rfl rfl)
theorem dX3_begins_8 : decode cX3_begins 8 = .ok (.getfield 59, 3) := dk_180 0 59 (dk_at dksX3_begins_0 8 rfl rfl)
theorem dX3_begins_11 : decode cX3_begins 11 = .ok (.putfield 52, 3) := dk_181 0 52 (dk_at dksX3_begins_0 11 rfl rfl)
theorem dX3_begins_14 : decode cX3_begins 14 = .ok (.aload_n 0, 1) := dk_42 (dk_at dksX3_begins_0 14 rfl rfl)
theorem dX3_begins_15 : decode cX3_begins 15 = .ok (.aload_n 0, 1) := dk_42 (dk_at dksX3_begins_0 15 rfl rfl)
theorem dX3_begins_16 : decode cX3_begins 16 = .ok (.getfield 3, 3) := dk_180 0 3 (dk_at dksX3_begins_0 16 rfl rfl)
theorem dX3_begins_19 : decode cX3_begins 19 = .ok (.getfield 55, 3) := dk_180 0 55 (dk_at dksX3_begins_0 19 rfl rfl)
theorem dX3_begins_22 : decode cX3_begins 22 = .ok (.getfield 62, 3) := dk_180 0 62 (dk_at dksX3_begins_1 0 rfl rfl)
theorem dX3_begins_25 : decode cX3_begins 25 = .ok (.iconst 0, 1) := dk_3 (dk_at dksX3_begins_1 3 rfl rfl)
theorem dX3_begins_26 : decode cX3_begins 26 = .ok (.iaload, 1) := dk_46 (dk_at dksX3_begins_1 4 rfl rfl)
theorem dX3_begins_27 : decode cX3_begins 27 = .ok (.iload_n 1, 1) := dk_27 (dk_at dksX3_begins_1 5 rfl rfl)
theorem dX3_begins_28 : decode cX3_begins 28 = .ok (.iadd, 1) := dk_96 (dk_at dksX3_begins_1 6 rfl rfl)
theorem dX3_begins_29 : decode cX3_begins 29 = .ok (.putfield 65, 3) := dk_181 0 65 (dk_at dksX3_begins_1 7 rfl rfl)
theorem dX3_begins_32 : decode cX3_begins 32 = .ok (.iconst 1, 1) := dk_4 (dk_at dksX3_begins_1 10 rfl rfl)
theorem dX3_begins_33 : decode cX3_begins 33 = .ok (.istore_n 2, 1) := dk_61 (dk_at dksX3_begins_1 11 rfl rfl)
theorem dX3_begins_34 : decode cX3_begins 34 = .ok (.aload_n 0, 1) := dk_42 (dk_at dksX3_begins_1 12 rfl rfl)
theorem dX3_begins_35 : decode cX3_begins 35 = .ok (.getfield 52, 3) := dk_180 0 52 (dk_at dksX3_begins_1 13 rfl rfl)
theorem dX3_begins_38 : decode cX3_begins 38 = .ok (.iconst 1, 1) := dk_4 (dk_at dksX3_begins_1 16 rfl rfl)
theorem dX3_begins_39 : decode cX3_begins 39 = .ok (.isub, 1) := dk_100 (dk_at dksX3_begins_1 17 rfl rfl)
theorem dX3_begins_40 : decode cX3_begins 40 = .ok (.istore_n 3, 1) := dk_62 (dk_at dksX3_begins_1 18 rfl rfl)
theorem dX3_begins_41 : decode cX3_begins 41 = .ok (.iload_n 3, 1) := dk_29 (dk_at dksX3_begins_1 19 rfl rfl)
theorem dX3_begins_42 : decode cX3_begins 42 = .ok (.ifCond .lt 21, 3) := dk_155 0 21 (dk_at dksX3_begins_1 20 rfl rfl)
theorem dX3_begins_45 : decode cX3_begins 45 = .ok (.aload_n 0, 1) := dk_42 (dk_at dksX3_begins_1 23 rfl rfl)
theorem dX3_begins_46 : decode cX3_begins 46 = .ok (.getfield 36, 3) := dk_180 0 36 (dk_at dksX3_begins_2 0 rfl rfl)
theorem dX3_begins_49 : decode cX3_begins 49 = .ok (.iload_n 3, 1) := dk_29 (dk_at dksX3_begins_2 3 rfl rfl)
theorem dX3_begins_50 : decode cX3_begins 50 = .ok (.iload_n 2, 1) := dk_28 (dk_at dksX3_begins_2 4 rfl rfl)
theorem dX3_begins_51 : decode cX3_begins 51 = .ok (.iastore, 1) := dk_79 (dk_at dksX3_begins_2 5 rfl rfl)
theorem dX3_begins_52 : decode cX3_begins 52 = .ok (.iload_n 2, 1) := dk_28 (dk_at dksX3_begins_2 6 rfl rfl)
theorem dX3_begins_53 : decode cX3_begins 53 = .ok (.bipush 9, 2) := dk_16 9 (dk_at dksX3_begins_2 7 rfl rfl)
theorem dX3_begins_55 : decode cX3_begins 55 = .ok (.imul, 1) := dk_104 (dk_at dksX3_begins_2 9 rfl rfl)
theorem dX3_begins_56 : decode cX3_begins 56 = .ok (.istore_n 2, 1) := dk_61 (dk_at dksX3_begins_2 10 rfl rfl)
theorem dX3_begins_57 : decode cX3_begins 57 = .ok (.iinc 3 (-1), 3) := dk_132 3 255 (dk_at dksX3_begins_2 11 rfl rfl)
theorem dX3_begins_60 : decode cX3_begins 60 = .ok (.goto (-19), 3) := dk_167 255 237 (dk_at dksX3_begins_2 14 rfl rfl)
theorem dX3_begins_63 : decode cX3_begins 63 = .ok (.return_, 1) := dk_177 (dk_at dksX3_begins_2 17 rfl rfl)
abbrev cX3_totalOf : ByteArray := prog_13_method_16_code
def yX3_totalOf : MethodName := ⟨RX3, "totalOf", "([I)I"⟩
def dkwX3_totalOf_1 : List UInt8 := [28, 172]
abbrev dktX3_totalOf_1 : List UInt8 := dkwX3_totalOf_1 ++ []
def dkwX3_totalOf_0 : List UInt8 := [3, 61, 3, 62, 29, 42, 180, 0, 52, 162, 0, 15, 28, 43, 29, 46, 96, 61, 132, 3, 1, 167, 255, 239]
abbrev dktX3_totalOf_0 : List UInt8 := dkwX3_totalOf_0 ++ dktX3_totalOf_1
theorem dksX3_totalOf_0 : cX3_totalOf.data.toList.drop 0 = dktX3_totalOf_0 := by decide +kernel
theorem dksX3_totalOf_1 : cX3_totalOf.data.toList.drop 24 = dktX3_totalOf_1 := dk_seg dksX3_totalOf_0 24 rfl rfl
theorem dX3_totalOf_0 : decode cX3_totalOf 0 = .ok (.iconst 0, 1) := dk_3 (dk_at dksX3_totalOf_0 0 rfl rfl)
theorem dX3_totalOf_1 : decode cX3_totalOf 1 = .ok (.istore_n 2, 1) := dk_61 (dk_at dksX3_totalOf_0 1 rfl rfl)
theorem dX3_totalOf_2 : decode cX3_totalOf 2 = .ok (.iconst 0, 1) := dk_3 (dk_at dksX3_totalOf_0 2 rfl rfl)
theorem dX3_totalOf_3 : decode cX3_totalOf 3 = .ok (.istore_n 3, 1) := dk_62 (dk_at dksX3_totalOf_0 3 rfl rfl)
theorem dX3_totalOf_4 : decode cX3_totalOf 4 = .ok (.iload_n 3, 1) := dk_29 (dk_at dksX3_totalOf_0 4 rfl rfl)
theorem dX3_totalOf_5 : decode cX3_totalOf 5 = .ok (.aload_n 0, 1) := dk_42 (dk_at dksX3_totalOf_0 5 rfl rfl)
theorem dX3_totalOf_6 : decode cX3_totalOf 6 = .ok (.getfield 52, 3) := dk_180 0 52 (dk_at dksX3_totalOf_0 6 rfl rfl)
theorem dX3_totalOf_9 : decode cX3_totalOf 9 = .ok (.if_icmp .ge 15, 3) := dk_162 0 15 (dk_at dksX3_totalOf_0 9 rfl rfl)
theorem dX3_totalOf_12 : decode cX3_totalOf 12 = .ok (.iload_n 2, 1) := dk_28 (dk_at dksX3_totalOf_0 12 rfl rfl)
theorem dX3_totalOf_13 : decode cX3_totalOf 13 = .ok (.aload_n 1, 1) := dk_43 (dk_at dksX3_totalOf_0 13 rfl rfl)
theorem dX3_totalOf_14 : decode cX3_totalOf 14 = .ok (.iload_n 3, 1) := dk_29 (dk_at dksX3_totalOf_0 14 rfl rfl)
theorem dX3_totalOf_15 : decode cX3_totalOf 15 = .ok (.iaload, 1) := dk_46 (dk_at dksX3_totalOf_0 15 rfl rfl)
theorem dX3_totalOf_16 : decode cX3_totalOf 16 = .ok (.iadd, 1) := dk_96 (dk_at dksX3_totalOf_0 16 rfl rfl)
theorem dX3_totalOf_17 : decode cX3_totalOf 17 = .ok (.istore_n 2, 1) := dk_61 (dk_at dksX3_totalOf_0 17 rfl rfl)
theorem dX3_totalOf_18 : decode cX3_totalOf 18 = .ok (.iinc 3 1, 3) := dk_132 3 1 (dk_at dksX3_totalOf_0 18 rfl rfl)
theorem dX3_totalOf_21 : decode cX3_totalOf 21 = .ok (.goto (-17), 3) := dk_167 255 239 (dk_at dksX3_totalOf_0 21 rfl rfl)
theorem dX3_totalOf_24 : decode cX3_totalOf 24 = .ok (.iload_n 2, 1) := dk_28 (dk_at dksX3_totalOf_1 0 rfl rfl)
theorem dX3_totalOf_25 : decode cX3_totalOf 25 = .ok (.ireturn, 1) := dk_172 (dk_at dksX3_totalOf_1 1 rfl rfl)
abbrev cX3_rowOf : ByteArray := prog_13_method_3_code
def yX3_rowOf : MethodName := ⟨RX3, "rowOf", "([I)I"⟩
def dkwX3_rowOf_1 : List UInt8 := [132, 3, 1, 167, 255, 234, 28, 172]
abbrev dktX3_rowOf_1 : List UInt8 := dkwX3_rowOf_1 ++ []
def dkwX3_rowOf_0 : List UInt8 := [3, 61, 3, 62, 29, 42, 180, 0, 52, 162, 0, 20, 16, 9, 28, 104, 43, 29, 46, 96, 4, 100, 61]
abbrev dktX3_rowOf_0 : List UInt8 := dkwX3_rowOf_0 ++ dktX3_rowOf_1
theorem dksX3_rowOf_0 : cX3_rowOf.data.toList.drop 0 = dktX3_rowOf_0 := by decide +kernel
theorem dksX3_rowOf_1 : cX3_rowOf.data.toList.drop 23 = dktX3_rowOf_1 := dk_seg dksX3_rowOf_0 23 rfl rfl
theorem dX3_rowOf_0 : decode cX3_rowOf 0 = .ok (.iconst 0, 1) := dk_3 (dk_at dksX3_rowOf_0 0 rfl rfl)
theorem dX3_rowOf_1 : decode cX3_rowOf 1 = .ok (.istore_n 2, 1) := dk_61 (dk_at dksX3_rowOf_0 1 rfl rfl)
theorem dX3_rowOf_2 : decode cX3_rowOf 2 = .ok (.iconst 0, 1) := dk_3 (dk_at dksX3_rowOf_0 2 rfl rfl)
theorem dX3_rowOf_3 : decode cX3_rowOf 3 = .ok (.istore_n 3, 1) := dk_62 (dk_at dksX3_rowOf_0 3 rfl rfl)
theorem dX3_rowOf_4 : decode cX3_rowOf 4 = .ok (.iload_n 3, 1) := dk_29 (dk_at dksX3_rowOf_0 4 rfl rfl)
theorem dX3_rowOf_5 : decode cX3_rowOf 5 = .ok (.aload_n 0, 1) := dk_42 (dk_at dksX3_rowOf_0 5 rfl rfl)
theorem dX3_rowOf_6 : decode cX3_rowOf 6 = .ok (.getfield 52, 3) := dk_180 0 52 (dk_at dksX3_rowOf_0 6 rfl rfl)
theorem dX3_rowOf_9 : decode cX3_rowOf 9 = .ok (.if_icmp .ge 20, 3) := dk_162 0 20 (dk_at dksX3_rowOf_0 9 rfl rfl)
theorem dX3_rowOf_12 : decode cX3_rowOf 12 = .ok (.bipush 9, 2) := dk_16 9 (dk_at dksX3_rowOf_0 12 rfl rfl)
theorem dX3_rowOf_14 : decode cX3_rowOf 14 = .ok (.iload_n 2, 1) := dk_28 (dk_at dksX3_rowOf_0 14 rfl rfl)
theorem dX3_rowOf_15 : decode cX3_rowOf 15 = .ok (.imul, 1) := dk_104 (dk_at dksX3_rowOf_0 15 rfl rfl)
theorem dX3_rowOf_16 : decode cX3_rowOf 16 = .ok (.aload_n 1, 1) := dk_43 (dk_at dksX3_rowOf_0 16 rfl rfl)
theorem dX3_rowOf_17 : decode cX3_rowOf 17 = .ok (.iload_n 3, 1) := dk_29 (dk_at dksX3_rowOf_0 17 rfl rfl)
theorem dX3_rowOf_18 : decode cX3_rowOf 18 = .ok (.iaload, 1) := dk_46 (dk_at dksX3_rowOf_0 18 rfl rfl)
theorem dX3_rowOf_19 : decode cX3_rowOf 19 = .ok (.iadd, 1) := dk_96 (dk_at dksX3_rowOf_0 19 rfl rfl)
theorem dX3_rowOf_20 : decode cX3_rowOf 20 = .ok (.iconst 1, 1) := dk_4 (dk_at dksX3_rowOf_0 20 rfl rfl)
theorem dX3_rowOf_21 : decode cX3_rowOf 21 = .ok (.isub, 1) := dk_100 (dk_at dksX3_rowOf_0 21 rfl rfl)
theorem dX3_rowOf_22 : decode cX3_rowOf 22 = .ok (.istore_n 2, 1) := dk_61 (dk_at dksX3_rowOf_0 22 rfl rfl)
theorem dX3_rowOf_23 : decode cX3_rowOf 23 = .ok (.iinc 3 1, 3) := dk_132 3 1 (dk_at dksX3_rowOf_1 0 rfl rfl)
theorem dX3_rowOf_26 : decode cX3_rowOf 26 = .ok (.goto (-22), 3) := dk_167 255 234 (dk_at dksX3_rowOf_1 3 rfl rfl)
theorem dX3_rowOf_29 : decode cX3_rowOf 29 = .ok (.iload_n 2, 1) := dk_28 (dk_at dksX3_rowOf_1 6 rfl rfl)
theorem dX3_rowOf_30 : decode cX3_rowOf 30 = .ok (.ireturn, 1) := dk_172 (dk_at dksX3_rowOf_1 7 rfl rfl)
abbrev cX3_lays : ByteArray := prog_13_method_9_code
def yX3_lays : MethodName := ⟨RX3, "lays", "(III)I"⟩
def dkwX3_lays_9 : List UInt8 := [153, 0, 10, 42, 180, 0, 101, 167, 0, 4, 2, 172]
abbrev dktX3_lays_9 : List UInt8 := dkwX3_lays_9 ++ []
def dkwX3_lays_8 : List UInt8 := [181, 0, 101, 167, 255, 111, 28, 2, 159, 0, 26, 42, 42, 180, 0, 16, 28, 42, 180, 0, 101, 182, 0, 104]
abbrev dktX3_lays_8 : List UInt8 := dkwX3_lays_8 ++ dktX3_lays_9
def dkwX3_lays_7 : List UInt8 := [167, 255, 227, 132, 5, 1, 167, 255, 184, 132, 4, 1, 167, 255, 168, 42, 89, 180, 0, 101, 4, 96]
abbrev dktX3_lays_7 : List UInt8 := dkwX3_lays_7 ++ dktX3_lays_8
def dkwX3_lays_6 : List UInt8 := [162, 0, 26, 42, 42, 180, 0, 30, 21, 6, 46, 42, 180, 0, 101, 4, 96, 182, 0, 111, 132, 6, 1]
abbrev dktX3_lays_6 : List UInt8 := dkwX3_lays_6 ++ dktX3_lays_7
def dkwX3_lays_5 : List UInt8 := [182, 0, 104, 153, 0, 52, 42, 21, 4, 21, 5, 182, 0, 108, 3, 54, 6, 21, 6, 42, 180, 0, 68]
abbrev dktX3_lays_5 : List UInt8 := dkwX3_lays_5 ++ dktX3_lays_6
def dkwX3_lays_4 : List UInt8 := [54, 5, 21, 5, 42, 180, 0, 52, 162, 0, 69, 42, 42, 180, 0, 16, 21, 4, 42, 180, 0, 101]
abbrev dktX3_lays_4 : List UInt8 := dkwX3_lays_4 ++ dktX3_lays_5
def dkwX3_lays_3 : List UInt8 := [42, 180, 0, 39, 42, 180, 0, 101, 4, 96, 3, 79, 3, 54, 4, 21, 4, 18, 15, 162, 0, 87, 3]
abbrev dktX3_lays_3 : List UInt8 := dkwX3_lays_3 ++ dktX3_lays_4
def dkwX3_lays_2 : List UInt8 := [162, 0, 143, 28, 2, 159, 0, 19, 42, 42, 180, 0, 16, 28, 42, 180, 0, 101, 182, 0, 104, 154, 0, 122]
abbrev dktX3_lays_2 : List UInt8 := dkwX3_lays_2 ++ dktX3_lays_3
def dkwX3_lays_1 : List UInt8 := [42, 180, 0, 16, 27, 4, 84, 42, 180, 0, 39, 3, 4, 79, 42, 3, 181, 0, 101, 42, 180, 0, 101, 29]
abbrev dktX3_lays_1 : List UInt8 := dkwX3_lays_1 ++ dktX3_lays_2
def dkwX3_lays_0 : List UInt8 := [3, 54, 4, 21, 4, 18, 15, 162, 0, 17, 42, 180, 0, 16, 21, 4, 3, 84, 132, 4, 1, 167, 255, 238]
abbrev dktX3_lays_0 : List UInt8 := dkwX3_lays_0 ++ dktX3_lays_1
theorem dksX3_lays_0 : cX3_lays.data.toList.drop 0 = dktX3_lays_0 := by decide +kernel
theorem dksX3_lays_1 : cX3_lays.data.toList.drop 24 = dktX3_lays_1 := dk_seg dksX3_lays_0 24 rfl rfl
theorem dksX3_lays_2 : cX3_lays.data.toList.drop 48 = dktX3_lays_2 := dk_seg dksX3_lays_1 24 rfl rfl
theorem dksX3_lays_3 : cX3_lays.data.toList.drop 72 = dktX3_lays_3 := dk_seg dksX3_lays_2 24 rfl rfl
theorem dksX3_lays_4 : cX3_lays.data.toList.drop 95 = dktX3_lays_4 := dk_seg dksX3_lays_3 23 rfl rfl
theorem dksX3_lays_5 : cX3_lays.data.toList.drop 117 = dktX3_lays_5 := dk_seg dksX3_lays_4 22 rfl rfl
theorem dksX3_lays_6 : cX3_lays.data.toList.drop 140 = dktX3_lays_6 := dk_seg dksX3_lays_5 23 rfl rfl
theorem dksX3_lays_7 : cX3_lays.data.toList.drop 163 = dktX3_lays_7 := dk_seg dksX3_lays_6 23 rfl rfl
theorem dksX3_lays_8 : cX3_lays.data.toList.drop 185 = dktX3_lays_8 := dk_seg dksX3_lays_7 22 rfl rfl
theorem dksX3_lays_9 : cX3_lays.data.toList.drop 209 = dktX3_lays_9 := dk_seg dksX3_lays_8 24 rfl rfl
theorem dX3_lays_0 : decode cX3_lays 0 = .ok (.iconst 0, 1) := dk_3 (dk_at dksX3_lays_0 0 rfl rfl)
theorem dX3_lays_1 : decode cX3_lays 1 = .ok (.istore 4, 2) := dk_54 4 (dk_at dksX3_lays_0 1 rfl rfl)
theorem dX3_lays_3 : decode cX3_lays 3 = .ok (.iload 4, 2) := dk_21 4 (dk_at dksX3_lays_0 3 rfl rfl)
theorem dX3_lays_5 : decode cX3_lays 5 = .ok (.ldc 15, 2) := dk_18 15 (dk_at dksX3_lays_0 5 rfl rfl)
theorem dX3_lays_7 : decode cX3_lays 7 = .ok (.if_icmp .ge 17, 3) := dk_162 0 17 (dk_at dksX3_lays_0 7 rfl rfl)
theorem dX3_lays_10 : decode cX3_lays 10 = .ok (.aload_n 0, 1) := dk_42 (dk_at dksX3_lays_0 10 rfl rfl)
theorem dX3_lays_11 : decode cX3_lays 11 = .ok (.getfield 16, 3) := dk_180 0 16 (dk_at dksX3_lays_0 11 rfl rfl)
theorem dX3_lays_14 : decode cX3_lays 14 = .ok (.iload 4, 2) := dk_21 4 (dk_at dksX3_lays_0 14 rfl rfl)
theorem dX3_lays_16 : decode cX3_lays 16 = .ok (.iconst 0, 1) := dk_3 (dk_at dksX3_lays_0 16 rfl rfl)
theorem dX3_lays_17 : decode cX3_lays 17 = .ok (.bastore, 1) := dk_84 (dk_at dksX3_lays_0 17 rfl rfl)
theorem dX3_lays_18 : decode cX3_lays 18 = .ok (.iinc 4 1, 3) := dk_132 4 1 (dk_at dksX3_lays_0 18 rfl rfl)
theorem dX3_lays_21 : decode cX3_lays 21 = .ok (.goto (-18), 3) := dk_167 255 238 (dk_at dksX3_lays_0 21 rfl rfl)
theorem dX3_lays_24 : decode cX3_lays 24 = .ok (.aload_n 0, 1) := dk_42 (dk_at dksX3_lays_1 0 rfl rfl)
theorem dX3_lays_25 : decode cX3_lays 25 = .ok (.getfield 16, 3) := dk_180 0 16 (dk_at dksX3_lays_1 1 rfl rfl)
theorem dX3_lays_28 : decode cX3_lays 28 = .ok (.iload_n 1, 1) := dk_27 (dk_at dksX3_lays_1 4 rfl rfl)
theorem dX3_lays_29 : decode cX3_lays 29 = .ok (.iconst 1, 1) := dk_4 (dk_at dksX3_lays_1 5 rfl rfl)
theorem dX3_lays_30 : decode cX3_lays 30 = .ok (.bastore, 1) := dk_84 (dk_at dksX3_lays_1 6 rfl rfl)
theorem dX3_lays_31 : decode cX3_lays 31 = .ok (.aload_n 0, 1) := dk_42 (dk_at dksX3_lays_1 7 rfl rfl)
theorem dX3_lays_32 : decode cX3_lays 32 = .ok (.getfield 39, 3) := dk_180 0 39 (dk_at dksX3_lays_1 8 rfl rfl)
theorem dX3_lays_35 : decode cX3_lays 35 = .ok (.iconst 0, 1) := dk_3 (dk_at dksX3_lays_1 11 rfl rfl)
theorem dX3_lays_36 : decode cX3_lays 36 = .ok (.iconst 1, 1) := dk_4 (dk_at dksX3_lays_1 12 rfl rfl)
theorem dX3_lays_37 : decode cX3_lays 37 = .ok (.iastore, 1) := dk_79 (dk_at dksX3_lays_1 13 rfl rfl)
theorem dX3_lays_38 : decode cX3_lays 38 = .ok (.aload_n 0, 1) := dk_42 (dk_at dksX3_lays_1 14 rfl rfl)
theorem dX3_lays_39 : decode cX3_lays 39 = .ok (.iconst 0, 1) := dk_3 (dk_at dksX3_lays_1 15 rfl rfl)
theorem dX3_lays_40 : decode cX3_lays 40 = .ok (.putfield 101, 3) := dk_181 0 101 (dk_at dksX3_lays_1 16 rfl rfl)
theorem dX3_lays_43 : decode cX3_lays 43 = .ok (.aload_n 0, 1) := dk_42 (dk_at dksX3_lays_1 19 rfl rfl)
theorem dX3_lays_44 : decode cX3_lays 44 = .ok (.getfield 101, 3) := dk_180 0 101 (dk_at dksX3_lays_1 20 rfl rfl)
theorem dX3_lays_47 : decode cX3_lays 47 = .ok (.iload_n 3, 1) := dk_29 (dk_at dksX3_lays_1 23 rfl rfl)
theorem dX3_lays_48 : decode cX3_lays 48 = .ok (.if_icmp .ge 143, 3) := dk_162 0 143 (dk_at dksX3_lays_2 0 rfl rfl)
theorem dX3_lays_51 : decode cX3_lays 51 = .ok (.iload_n 2, 1) := dk_28 (dk_at dksX3_lays_2 3 rfl rfl)
theorem dX3_lays_52 : decode cX3_lays 52 = .ok (.iconst (-1), 1) := dk_2 (dk_at dksX3_lays_2 4 rfl rfl)
theorem dX3_lays_53 : decode cX3_lays 53 = .ok (.if_icmp .eq 19, 3) := dk_159 0 19 (dk_at dksX3_lays_2 5 rfl rfl)
theorem dX3_lays_56 : decode cX3_lays 56 = .ok (.aload_n 0, 1) := dk_42 (dk_at dksX3_lays_2 8 rfl rfl)
theorem dX3_lays_57 : decode cX3_lays 57 = .ok (.aload_n 0, 1) := dk_42 (dk_at dksX3_lays_2 9 rfl rfl)
theorem dX3_lays_58 : decode cX3_lays 58 = .ok (.getfield 16, 3) := dk_180 0 16 (dk_at dksX3_lays_2 10 rfl rfl)
theorem dX3_lays_61 : decode cX3_lays 61 = .ok (.iload_n 2, 1) := dk_28 (dk_at dksX3_lays_2 13 rfl rfl)
theorem dX3_lays_62 : decode cX3_lays 62 = .ok (.aload_n 0, 1) := dk_42 (dk_at dksX3_lays_2 14 rfl rfl)
theorem dX3_lays_63 : decode cX3_lays 63 = .ok (.getfield 101, 3) := dk_180 0 101 (dk_at dksX3_lays_2 15 rfl rfl)
theorem dX3_lays_66 : decode cX3_lays 66 = .ok (.invokevirtual 104, 3) := dk_182 0 104 (dk_at dksX3_lays_2 18 rfl rfl)
theorem dX3_lays_69 : decode cX3_lays 69 = .ok (.ifCond .ne 122, 3) := dk_154 0 122 (dk_at dksX3_lays_2 21 rfl rfl)
theorem dX3_lays_72 : decode cX3_lays 72 = .ok (.aload_n 0, 1) := dk_42 (dk_at dksX3_lays_3 0 rfl rfl)
theorem dX3_lays_73 : decode cX3_lays 73 = .ok (.getfield 39, 3) := dk_180 0 39 (dk_at dksX3_lays_3 1 rfl rfl)
theorem dX3_lays_76 : decode cX3_lays 76 = .ok (.aload_n 0, 1) := dk_42 (dk_at dksX3_lays_3 4 rfl rfl)
theorem dX3_lays_77 : decode cX3_lays 77 = .ok (.getfield 101, 3) := dk_180 0 101 (dk_at dksX3_lays_3 5 rfl rfl)
theorem dX3_lays_80 : decode cX3_lays 80 = .ok (.iconst 1, 1) := dk_4 (dk_at dksX3_lays_3 8 rfl rfl)
theorem dX3_lays_81 : decode cX3_lays 81 = .ok (.iadd, 1) := dk_96 (dk_at dksX3_lays_3 9 rfl rfl)
theorem dX3_lays_82 : decode cX3_lays 82 = .ok (.iconst 0, 1) := dk_3 (dk_at dksX3_lays_3 10 rfl rfl)
theorem dX3_lays_83 : decode cX3_lays 83 = .ok (.iastore, 1) := dk_79 (dk_at dksX3_lays_3 11 rfl rfl)
theorem dX3_lays_84 : decode cX3_lays 84 = .ok (.iconst 0, 1) := dk_3 (dk_at dksX3_lays_3 12 rfl rfl)
theorem dX3_lays_85 : decode cX3_lays 85 = .ok (.istore 4, 2) := dk_54 4 (dk_at dksX3_lays_3 13 rfl rfl)
theorem dX3_lays_87 : decode cX3_lays 87 = .ok (.iload 4, 2) := dk_21 4 (dk_at dksX3_lays_3 15 rfl rfl)
theorem dX3_lays_89 : decode cX3_lays 89 = .ok (.ldc 15, 2) := dk_18 15 (dk_at dksX3_lays_3 17 rfl rfl)
theorem dX3_lays_91 : decode cX3_lays 91 = .ok (.if_icmp .ge 87, 3) := dk_162 0 87 (dk_at dksX3_lays_3 19 rfl rfl)
theorem dX3_lays_94 : decode cX3_lays 94 = .ok (.iconst 0, 1) := dk_3 (dk_at dksX3_lays_3 22 rfl rfl)
theorem dX3_lays_95 : decode cX3_lays 95 = .ok (.istore 5, 2) := dk_54 5 (dk_at dksX3_lays_4 0 rfl rfl)
theorem dX3_lays_97 : decode cX3_lays 97 = .ok (.iload 5, 2) := dk_21 5 (dk_at dksX3_lays_4 2 rfl rfl)
theorem dX3_lays_99 : decode cX3_lays 99 = .ok (.aload_n 0, 1) := dk_42 (dk_at dksX3_lays_4 4 rfl rfl)
theorem dX3_lays_100 : decode cX3_lays 100 = .ok (.getfield 52, 3) := dk_180 0 52 (dk_at dksX3_lays_4 5 rfl rfl)
theorem dX3_lays_103 : decode cX3_lays 103 = .ok (.if_icmp .ge 69, 3) := dk_162 0 69 (dk_at dksX3_lays_4 8 rfl rfl)
theorem dX3_lays_106 : decode cX3_lays 106 = .ok (.aload_n 0, 1) := dk_42 (dk_at dksX3_lays_4 11 rfl rfl)
theorem dX3_lays_107 : decode cX3_lays 107 = .ok (.aload_n 0, 1) := dk_42 (dk_at dksX3_lays_4 12 rfl rfl)
theorem dX3_lays_108 : decode cX3_lays 108 = .ok (.getfield 16, 3) := dk_180 0 16 (dk_at dksX3_lays_4 13 rfl rfl)
theorem dX3_lays_111 : decode cX3_lays 111 = .ok (.iload 4, 2) := dk_21 4 (dk_at dksX3_lays_4 16 rfl rfl)
theorem dX3_lays_113 : decode cX3_lays 113 = .ok (.aload_n 0, 1) := dk_42 (dk_at dksX3_lays_4 18 rfl rfl)
theorem dX3_lays_114 : decode cX3_lays 114 = .ok (.getfield 101, 3) := dk_180 0 101 (dk_at dksX3_lays_4 19 rfl rfl)
theorem dX3_lays_117 : decode cX3_lays 117 = .ok (.invokevirtual 104, 3) := dk_182 0 104 (dk_at dksX3_lays_5 0 rfl rfl)
theorem dX3_lays_120 : decode cX3_lays 120 = .ok (.ifCond .eq 52, 3) := dk_153 0 52 (dk_at dksX3_lays_5 3 rfl rfl)
theorem dX3_lays_123 : decode cX3_lays 123 = .ok (.aload_n 0, 1) := dk_42 (dk_at dksX3_lays_5 6 rfl rfl)
theorem dX3_lays_124 : decode cX3_lays 124 = .ok (.iload 4, 2) := dk_21 4 (dk_at dksX3_lays_5 7 rfl rfl)
theorem dX3_lays_126 : decode cX3_lays 126 = .ok (.iload 5, 2) := dk_21 5 (dk_at dksX3_lays_5 9 rfl rfl)
theorem dX3_lays_128 : decode cX3_lays 128 = .ok (.invokevirtual 108, 3) := dk_182 0 108 (dk_at dksX3_lays_5 11 rfl rfl)
theorem dX3_lays_131 : decode cX3_lays 131 = .ok (.iconst 0, 1) := dk_3 (dk_at dksX3_lays_5 14 rfl rfl)
theorem dX3_lays_132 : decode cX3_lays 132 = .ok (.istore 6, 2) := dk_54 6 (dk_at dksX3_lays_5 15 rfl rfl)
theorem dX3_lays_134 : decode cX3_lays 134 = .ok (.iload 6, 2) := dk_21 6 (dk_at dksX3_lays_5 17 rfl rfl)
theorem dX3_lays_136 : decode cX3_lays 136 = .ok (.aload_n 0, 1) := dk_42 (dk_at dksX3_lays_5 19 rfl rfl)
theorem dX3_lays_137 : decode cX3_lays 137 = .ok (.getfield 68, 3) := dk_180 0 68 (dk_at dksX3_lays_5 20 rfl rfl)
theorem dX3_lays_140 : decode cX3_lays 140 = .ok (.if_icmp .ge 26, 3) := dk_162 0 26 (dk_at dksX3_lays_6 0 rfl rfl)
theorem dX3_lays_143 : decode cX3_lays 143 = .ok (.aload_n 0, 1) := dk_42 (dk_at dksX3_lays_6 3 rfl rfl)
theorem dX3_lays_144 : decode cX3_lays 144 = .ok (.aload_n 0, 1) := dk_42 (dk_at dksX3_lays_6 4 rfl rfl)
theorem dX3_lays_145 : decode cX3_lays 145 = .ok (.getfield 30, 3) := dk_180 0 30 (dk_at dksX3_lays_6 5 rfl rfl)
theorem dX3_lays_148 : decode cX3_lays 148 = .ok (.iload 6, 2) := dk_21 6 (dk_at dksX3_lays_6 8 rfl rfl)
theorem dX3_lays_150 : decode cX3_lays 150 = .ok (.iaload, 1) := dk_46 (dk_at dksX3_lays_6 10 rfl rfl)
theorem dX3_lays_151 : decode cX3_lays 151 = .ok (.aload_n 0, 1) := dk_42 (dk_at dksX3_lays_6 11 rfl rfl)
theorem dX3_lays_152 : decode cX3_lays 152 = .ok (.getfield 101, 3) := dk_180 0 101 (dk_at dksX3_lays_6 12 rfl rfl)
theorem dX3_lays_155 : decode cX3_lays 155 = .ok (.iconst 1, 1) := dk_4 (dk_at dksX3_lays_6 15 rfl rfl)
theorem dX3_lays_156 : decode cX3_lays 156 = .ok (.iadd, 1) := dk_96 (dk_at dksX3_lays_6 16 rfl rfl)
theorem dX3_lays_157 : decode cX3_lays 157 = .ok (.invokevirtual 111, 3) := dk_182 0 111 (dk_at dksX3_lays_6 17 rfl rfl)
theorem dX3_lays_160 : decode cX3_lays 160 = .ok (.iinc 6 1, 3) := dk_132 6 1 (dk_at dksX3_lays_6 20 rfl rfl)
theorem dX3_lays_163 : decode cX3_lays 163 = .ok (.goto (-29), 3) := dk_167 255 227 (dk_at dksX3_lays_7 0 rfl rfl)
theorem dX3_lays_166 : decode cX3_lays 166 = .ok (.iinc 5 1, 3) := dk_132 5 1 (dk_at dksX3_lays_7 3 rfl rfl)
theorem dX3_lays_169 : decode cX3_lays 169 = .ok (.goto (-72), 3) := dk_167 255 184 (dk_at dksX3_lays_7 6 rfl rfl)
theorem dX3_lays_172 : decode cX3_lays 172 = .ok (.iinc 4 1, 3) := dk_132 4 1 (dk_at dksX3_lays_7 9 rfl rfl)
theorem dX3_lays_175 : decode cX3_lays 175 = .ok (.goto (-88), 3) := dk_167 255 168 (dk_at dksX3_lays_7 12 rfl rfl)
theorem dX3_lays_178 : decode cX3_lays 178 = .ok (.aload_n 0, 1) := dk_42 (dk_at dksX3_lays_7 15 rfl rfl)
theorem dX3_lays_179 : decode cX3_lays 179 = .ok (.dup, 1) := dk_89 (dk_at dksX3_lays_7 16 rfl rfl)
theorem dX3_lays_180 : decode cX3_lays 180 = .ok (.getfield 101, 3) := dk_180 0 101 (dk_at dksX3_lays_7 17 rfl rfl)
theorem dX3_lays_183 : decode cX3_lays 183 = .ok (.iconst 1, 1) := dk_4 (dk_at dksX3_lays_7 20 rfl rfl)
theorem dX3_lays_184 : decode cX3_lays 184 = .ok (.iadd, 1) := dk_96 (dk_at dksX3_lays_7 21 rfl rfl)
theorem dX3_lays_185 : decode cX3_lays 185 = .ok (.putfield 101, 3) := dk_181 0 101 (dk_at dksX3_lays_8 0 rfl rfl)
theorem dX3_lays_188 : decode cX3_lays 188 = .ok (.goto (-145), 3) := dk_167 255 111 (dk_at dksX3_lays_8 3 rfl rfl)
theorem dX3_lays_191 : decode cX3_lays 191 = .ok (.iload_n 2, 1) := dk_28 (dk_at dksX3_lays_8 6 rfl rfl)
theorem dX3_lays_192 : decode cX3_lays 192 = .ok (.iconst (-1), 1) := dk_2 (dk_at dksX3_lays_8 7 rfl rfl)
theorem dX3_lays_193 : decode cX3_lays 193 = .ok (.if_icmp .eq 26, 3) := dk_159 0 26 (dk_at dksX3_lays_8 8 rfl rfl)
theorem dX3_lays_196 : decode cX3_lays 196 = .ok (.aload_n 0, 1) := dk_42 (dk_at dksX3_lays_8 11 rfl rfl)
theorem dX3_lays_197 : decode cX3_lays 197 = .ok (.aload_n 0, 1) := dk_42 (dk_at dksX3_lays_8 12 rfl rfl)
theorem dX3_lays_198 : decode cX3_lays 198 = .ok (.getfield 16, 3) := dk_180 0 16 (dk_at dksX3_lays_8 13 rfl rfl)
theorem dX3_lays_201 : decode cX3_lays 201 = .ok (.iload_n 2, 1) := dk_28 (dk_at dksX3_lays_8 16 rfl rfl)
theorem dX3_lays_202 : decode cX3_lays 202 = .ok (.aload_n 0, 1) := dk_42 (dk_at dksX3_lays_8 17 rfl rfl)
theorem dX3_lays_203 : decode cX3_lays 203 = .ok (.getfield 101, 3) := dk_180 0 101 (dk_at dksX3_lays_8 18 rfl rfl)
theorem dX3_lays_206 : decode cX3_lays 206 = .ok (.invokevirtual 104, 3) := dk_182 0 104 (dk_at dksX3_lays_8 21 rfl rfl)
theorem dX3_lays_209 : decode cX3_lays 209 = .ok (.ifCond .eq 10, 3) := dk_153 0 10 (dk_at dksX3_lays_9 0 rfl rfl)
theorem dX3_lays_212 : decode cX3_lays 212 = .ok (.aload_n 0, 1) := dk_42 (dk_at dksX3_lays_9 3 rfl rfl)
theorem dX3_lays_213 : decode cX3_lays 213 = .ok (.getfield 101, 3) := dk_180 0 101 (dk_at dksX3_lays_9 4 rfl rfl)
theorem dX3_lays_216 : decode cX3_lays 216 = .ok (.goto 4, 3) := dk_167 0 4 (dk_at dksX3_lays_9 7 rfl rfl)
theorem dX3_lays_219 : decode cX3_lays 219 = .ok (.iconst (-1), 1) := dk_2 (dk_at dksX3_lays_9 10 rfl rfl)
theorem dX3_lays_220 : decode cX3_lays 220 = .ok (.ireturn, 1) := dk_172 (dk_at dksX3_lays_9 11 rfl rfl)
abbrev cX3_is : ByteArray := prog_13_method_8_code
def yX3_is : MethodName := ⟨RX3, "is", "([BII)Z"⟩
def dkwX3_is_0 : List UInt8 := [43, 28, 51, 29, 122, 4, 126, 4, 160, 0, 7, 4, 167, 0, 4, 3, 172]
abbrev dktX3_is_0 : List UInt8 := dkwX3_is_0 ++ []
theorem dksX3_is_0 : cX3_is.data.toList.drop 0 = dktX3_is_0 := by decide +kernel
theorem dX3_is_0 : decode cX3_is 0 = .ok (.aload_n 1, 1) := dk_43 (dk_at dksX3_is_0 0 rfl rfl)
theorem dX3_is_1 : decode cX3_is 1 = .ok (.iload_n 2, 1) := dk_28 (dk_at dksX3_is_0 1 rfl rfl)
theorem dX3_is_2 : decode cX3_is 2 = .ok (.baload, 1) := dk_51 (dk_at dksX3_is_0 2 rfl rfl)
theorem dX3_is_3 : decode cX3_is 3 = .ok (.iload_n 3, 1) := dk_29 (dk_at dksX3_is_0 3 rfl rfl)
theorem dX3_is_4 : decode cX3_is 4 = .ok (.ishr, 1) := dk_122 (dk_at dksX3_is_0 4 rfl rfl)
theorem dX3_is_5 : decode cX3_is 5 = .ok (.iconst 1, 1) := dk_4 (dk_at dksX3_is_0 5 rfl rfl)
theorem dX3_is_6 : decode cX3_is 6 = .ok (.iand, 1) := dk_126 (dk_at dksX3_is_0 6 rfl rfl)
theorem dX3_is_7 : decode cX3_is 7 = .ok (.iconst 1, 1) := dk_4 (dk_at dksX3_is_0 7 rfl rfl)
theorem dX3_is_8 : decode cX3_is 8 = .ok (.if_icmp .ne 7, 3) := dk_160 0 7 (dk_at dksX3_is_0 8 rfl rfl)
theorem dX3_is_11 : decode cX3_is 11 = .ok (.iconst 1, 1) := dk_4 (dk_at dksX3_is_0 11 rfl rfl)
theorem dX3_is_12 : decode cX3_is 12 = .ok (.goto 4, 3) := dk_167 0 4 (dk_at dksX3_is_0 12 rfl rfl)
theorem dX3_is_15 : decode cX3_is 15 = .ok (.iconst 0, 1) := dk_3 (dk_at dksX3_is_0 15 rfl rfl)
theorem dX3_is_16 : decode cX3_is 16 = .ok (.ireturn, 1) := dk_172 (dk_at dksX3_is_0 16 rfl rfl)
abbrev cX3_leads : ByteArray := prog_13_method_5_code
def yX3_leads : MethodName := ⟨RX3, "leads", "(II)V"⟩
def dkwX3_leads_8 : List UInt8 := [96, 28, 182, 0, 97, 132, 5, 1, 167, 255, 210, 132, 4, 1, 167, 255, 169, 177]
abbrev dktX3_leads_8 : List UInt8 := dkwX3_leads_8 ++ []
def dkwX3_leads_7 : List UInt8 := [163, 0, 35, 42, 21, 4, 21, 5, 21, 5, 4, 100, 28, 182, 0, 97, 42, 21, 4, 21, 5, 21, 5, 4]
abbrev dktX3_leads_7 : List UInt8 := dkwX3_leads_7 ++ dktX3_leads_8
def dkwX3_leads_6 : List UInt8 := [3, 28, 5, 100, 184, 0, 91, 54, 5, 21, 5, 42, 180, 0, 52, 4, 100, 28, 5, 96, 184, 0, 94]
abbrev dktX3_leads_6 : List UInt8 := dkwX3_leads_6 ++ dktX3_leads_7
def dkwX3_leads_5 : List UInt8 := [42, 180, 0, 68, 162, 0, 84, 42, 180, 0, 33, 21, 4, 46, 42, 180, 0, 65, 160, 0, 6, 167, 0, 61]
abbrev dktX3_leads_5 : List UInt8 := dkwX3_leads_5 ++ dktX3_leads_6
def dkwX3_leads_4 : List UInt8 := [164, 0, 14, 27, 42, 180, 0, 36, 28, 46, 100, 167, 0, 4, 27, 3, 182, 0, 87, 3, 54, 4, 21, 4]
abbrev dktX3_leads_4 : List UInt8 := dkwX3_leads_4 ++ dktX3_leads_5
def dkwX3_leads_3 : List UInt8 := [29, 154, 0, 4, 177, 42, 89, 180, 0, 84, 4, 96, 181, 0, 84, 42, 42, 27, 28, 182, 0, 80, 4]
abbrev dktX3_leads_3 : List UInt8 := dkwX3_leads_3 ++ dktX3_leads_4
def dkwX3_leads_2 : List UInt8 := [21, 4, 182, 0, 80, 122, 4, 126, 4, 160, 0, 7, 4, 167, 0, 4, 3, 62, 132, 4, 1, 167, 255, 199]
abbrev dktX3_leads_2 : List UInt8 := dkwX3_leads_2 ++ dktX3_leads_3
def dkwX3_leads_1 : List UInt8 := [21, 4, 28, 100, 184, 0, 71, 4, 164, 0, 31, 42, 180, 0, 3, 180, 0, 55, 180, 0, 77, 42, 27]
abbrev dktX3_leads_1 : List UInt8 := dkwX3_leads_1 ++ dktX3_leads_2
def dkwX3_leads_0 : List UInt8 := [42, 3, 181, 0, 68, 3, 62, 3, 54, 4, 21, 4, 42, 180, 0, 52, 162, 0, 54, 29, 154, 0, 38]
abbrev dktX3_leads_0 : List UInt8 := dkwX3_leads_0 ++ dktX3_leads_1
theorem dksX3_leads_0 : cX3_leads.data.toList.drop 0 = dktX3_leads_0 := by decide +kernel
theorem dksX3_leads_1 : cX3_leads.data.toList.drop 23 = dktX3_leads_1 := dk_seg dksX3_leads_0 23 rfl rfl
theorem dksX3_leads_2 : cX3_leads.data.toList.drop 46 = dktX3_leads_2 := dk_seg dksX3_leads_1 23 rfl rfl
theorem dksX3_leads_3 : cX3_leads.data.toList.drop 70 = dktX3_leads_3 := dk_seg dksX3_leads_2 24 rfl rfl
theorem dksX3_leads_4 : cX3_leads.data.toList.drop 93 = dktX3_leads_4 := dk_seg dksX3_leads_3 23 rfl rfl
theorem dksX3_leads_5 : cX3_leads.data.toList.drop 117 = dktX3_leads_5 := dk_seg dksX3_leads_4 24 rfl rfl
theorem dksX3_leads_6 : cX3_leads.data.toList.drop 141 = dktX3_leads_6 := dk_seg dksX3_leads_5 24 rfl rfl
theorem dksX3_leads_7 : cX3_leads.data.toList.drop 164 = dktX3_leads_7 := dk_seg dksX3_leads_6 23 rfl rfl
theorem dksX3_leads_8 : cX3_leads.data.toList.drop 188 = dktX3_leads_8 := dk_seg dksX3_leads_7 24 rfl rfl
theorem dX3_leads_0 : decode cX3_leads 0 = .ok (.aload_n 0, 1) := dk_42 (dk_at dksX3_leads_0 0 rfl rfl)
theorem dX3_leads_1 : decode cX3_leads 1 = .ok (.iconst 0, 1) := dk_3 (dk_at dksX3_leads_0 1 rfl rfl)
theorem dX3_leads_2 : decode cX3_leads 2 = .ok (.putfield 68, 3) := dk_181 0 68 (dk_at dksX3_leads_0 2 rfl rfl)
theorem dX3_leads_5 : decode cX3_leads 5 = .ok (.iconst 0, 1) := dk_3 (dk_at dksX3_leads_0 5 rfl rfl)
theorem dX3_leads_6 : decode cX3_leads 6 = .ok (.istore_n 3, 1) := dk_62 (dk_at dksX3_leads_0 6 rfl rfl)
theorem dX3_leads_7 : decode cX3_leads 7 = .ok (.iconst 0, 1) := dk_3 (dk_at dksX3_leads_0 7 rfl rfl)
theorem dX3_leads_8 : decode cX3_leads 8 = .ok (.istore 4, 2) := dk_54 4 (dk_at dksX3_leads_0 8 rfl rfl)
theorem dX3_leads_10 : decode cX3_leads 10 = .ok (.iload 4, 2) := dk_21 4 (dk_at dksX3_leads_0 10 rfl rfl)
theorem dX3_leads_12 : decode cX3_leads 12 = .ok (.aload_n 0, 1) := dk_42 (dk_at dksX3_leads_0 12 rfl rfl)
theorem dX3_leads_13 : decode cX3_leads 13 = .ok (.getfield 52, 3) := dk_180 0 52 (dk_at dksX3_leads_0 13 rfl rfl)
theorem dX3_leads_16 : decode cX3_leads 16 = .ok (.if_icmp .ge 54, 3) := dk_162 0 54 (dk_at dksX3_leads_0 16 rfl rfl)
theorem dX3_leads_19 : decode cX3_leads 19 = .ok (.iload_n 3, 1) := dk_29 (dk_at dksX3_leads_0 19 rfl rfl)
theorem dX3_leads_20 : decode cX3_leads 20 = .ok (.ifCond .ne 38, 3) := dk_154 0 38 (dk_at dksX3_leads_0 20 rfl rfl)
theorem dX3_leads_23 : decode cX3_leads 23 = .ok (.iload 4, 2) := dk_21 4 (dk_at dksX3_leads_1 0 rfl rfl)
theorem dX3_leads_25 : decode cX3_leads 25 = .ok (.iload_n 2, 1) := dk_28 (dk_at dksX3_leads_1 2 rfl rfl)
theorem dX3_leads_26 : decode cX3_leads 26 = .ok (.isub, 1) := dk_100 (dk_at dksX3_leads_1 3 rfl rfl)
theorem dX3_leads_27 : decode cX3_leads 27 = .ok (.invokestatic 71, 3) := dk_184 0 71 (dk_at dksX3_leads_1 4 rfl rfl)
theorem dX3_leads_30 : decode cX3_leads 30 = .ok (.iconst 1, 1) := dk_4 (dk_at dksX3_leads_1 7 rfl rfl)
theorem dX3_leads_31 : decode cX3_leads 31 = .ok (.if_icmp .le 31, 3) := dk_164 0 31 (dk_at dksX3_leads_1 8 rfl rfl)
theorem dX3_leads_34 : decode cX3_leads 34 = .ok (.aload_n 0, 1) := dk_42 (dk_at dksX3_leads_1 11 rfl rfl)
theorem dX3_leads_35 : decode cX3_leads 35 = .ok (.getfield 3, 3) := dk_180 0 3 (dk_at dksX3_leads_1 12 rfl rfl)
theorem dX3_leads_38 : decode cX3_leads 38 = .ok (.getfield 55, 3) := dk_180 0 55 (dk_at dksX3_leads_1 15 rfl rfl)
theorem dX3_leads_41 : decode cX3_leads 41 = .ok (.getfield 77, 3) := dk_180 0 77 (dk_at dksX3_leads_1 18 rfl rfl)
theorem dX3_leads_44 : decode cX3_leads 44 = .ok (.aload_n 0, 1) := dk_42 (dk_at dksX3_leads_1 21 rfl rfl)
theorem dX3_leads_45 : decode cX3_leads 45 = .ok (.iload_n 1, 1) := dk_27 (dk_at dksX3_leads_1 22 rfl rfl)
theorem dX3_leads_46 : decode cX3_leads 46 = .ok (.iload 4, 2) := dk_21 4 (dk_at dksX3_leads_2 0 rfl rfl)
theorem dX3_leads_48 : decode cX3_leads 48 = .ok (.invokevirtual 80, 3) := dk_182 0 80 (dk_at dksX3_leads_2 2 rfl rfl)
theorem dX3_leads_51 : decode cX3_leads 51 = .ok (.ishr, 1) := dk_122 (dk_at dksX3_leads_2 5 rfl rfl)
theorem dX3_leads_52 : decode cX3_leads 52 = .ok (.iconst 1, 1) := dk_4 (dk_at dksX3_leads_2 6 rfl rfl)
theorem dX3_leads_53 : decode cX3_leads 53 = .ok (.iand, 1) := dk_126 (dk_at dksX3_leads_2 7 rfl rfl)
theorem dX3_leads_54 : decode cX3_leads 54 = .ok (.iconst 1, 1) := dk_4 (dk_at dksX3_leads_2 8 rfl rfl)
theorem dX3_leads_55 : decode cX3_leads 55 = .ok (.if_icmp .ne 7, 3) := dk_160 0 7 (dk_at dksX3_leads_2 9 rfl rfl)
theorem dX3_leads_58 : decode cX3_leads 58 = .ok (.iconst 1, 1) := dk_4 (dk_at dksX3_leads_2 12 rfl rfl)
theorem dX3_leads_59 : decode cX3_leads 59 = .ok (.goto 4, 3) := dk_167 0 4 (dk_at dksX3_leads_2 13 rfl rfl)
theorem dX3_leads_62 : decode cX3_leads 62 = .ok (.iconst 0, 1) := dk_3 (dk_at dksX3_leads_2 16 rfl rfl)
theorem dX3_leads_63 : decode cX3_leads 63 = .ok (.istore_n 3, 1) := dk_62 (dk_at dksX3_leads_2 17 rfl rfl)
theorem dX3_leads_64 : decode cX3_leads 64 = .ok (.iinc 4 1, 3) := dk_132 4 1 (dk_at dksX3_leads_2 18 rfl rfl)
theorem dX3_leads_67 : decode cX3_leads 67 = .ok (.goto (-57), 3) := dk_167 255 199 (dk_at dksX3_leads_2 21 rfl rfl)
theorem dX3_leads_70 : decode cX3_leads 70 = .ok (.iload_n 3, 1) := dk_29 (dk_at dksX3_leads_3 0 rfl rfl)
theorem dX3_leads_71 : decode cX3_leads 71 = .ok (.ifCond .ne 4, 3) := dk_154 0 4 (dk_at dksX3_leads_3 1 rfl rfl)
theorem dX3_leads_74 : decode cX3_leads 74 = .ok (.return_, 1) := dk_177 (dk_at dksX3_leads_3 4 rfl rfl)
theorem dX3_leads_75 : decode cX3_leads 75 = .ok (.aload_n 0, 1) := dk_42 (dk_at dksX3_leads_3 5 rfl rfl)
theorem dX3_leads_76 : decode cX3_leads 76 = .ok (.dup, 1) := dk_89 (dk_at dksX3_leads_3 6 rfl rfl)
theorem dX3_leads_77 : decode cX3_leads 77 = .ok (.getfield 84, 3) := dk_180 0 84 (dk_at dksX3_leads_3 7 rfl rfl)
theorem dX3_leads_80 : decode cX3_leads 80 = .ok (.iconst 1, 1) := dk_4 (dk_at dksX3_leads_3 10 rfl rfl)
theorem dX3_leads_81 : decode cX3_leads 81 = .ok (.iadd, 1) := dk_96 (dk_at dksX3_leads_3 11 rfl rfl)
theorem dX3_leads_82 : decode cX3_leads 82 = .ok (.putfield 84, 3) := dk_181 0 84 (dk_at dksX3_leads_3 12 rfl rfl)
theorem dX3_leads_85 : decode cX3_leads 85 = .ok (.aload_n 0, 1) := dk_42 (dk_at dksX3_leads_3 15 rfl rfl)
theorem dX3_leads_86 : decode cX3_leads 86 = .ok (.aload_n 0, 1) := dk_42 (dk_at dksX3_leads_3 16 rfl rfl)
theorem dX3_leads_87 : decode cX3_leads 87 = .ok (.iload_n 1, 1) := dk_27 (dk_at dksX3_leads_3 17 rfl rfl)
theorem dX3_leads_88 : decode cX3_leads 88 = .ok (.iload_n 2, 1) := dk_28 (dk_at dksX3_leads_3 18 rfl rfl)
theorem dX3_leads_89 : decode cX3_leads 89 = .ok (.invokevirtual 80, 3) := dk_182 0 80 (dk_at dksX3_leads_3 19 rfl rfl)
theorem dX3_leads_92 : decode cX3_leads 92 = .ok (.iconst 1, 1) := dk_4 (dk_at dksX3_leads_3 22 rfl rfl)
theorem dX3_leads_93 : decode cX3_leads 93 = .ok (.if_icmp .le 14, 3) := dk_164 0 14 (dk_at dksX3_leads_4 0 rfl rfl)
theorem dX3_leads_96 : decode cX3_leads 96 = .ok (.iload_n 1, 1) := dk_27 (dk_at dksX3_leads_4 3 rfl rfl)
theorem dX3_leads_97 : decode cX3_leads 97 = .ok (.aload_n 0, 1) := dk_42 (dk_at dksX3_leads_4 4 rfl rfl)
theorem dX3_leads_98 : decode cX3_leads 98 = .ok (.getfield 36, 3) := dk_180 0 36 (dk_at dksX3_leads_4 5 rfl rfl)
theorem dX3_leads_101 : decode cX3_leads 101 = .ok (.iload_n 2, 1) := dk_28 (dk_at dksX3_leads_4 8 rfl rfl)
theorem dX3_leads_102 : decode cX3_leads 102 = .ok (.iaload, 1) := dk_46 (dk_at dksX3_leads_4 9 rfl rfl)
theorem dX3_leads_103 : decode cX3_leads 103 = .ok (.isub, 1) := dk_100 (dk_at dksX3_leads_4 10 rfl rfl)
theorem dX3_leads_104 : decode cX3_leads 104 = .ok (.goto 4, 3) := dk_167 0 4 (dk_at dksX3_leads_4 11 rfl rfl)
theorem dX3_leads_107 : decode cX3_leads 107 = .ok (.iload_n 1, 1) := dk_27 (dk_at dksX3_leads_4 14 rfl rfl)
theorem dX3_leads_108 : decode cX3_leads 108 = .ok (.iconst 0, 1) := dk_3 (dk_at dksX3_leads_4 15 rfl rfl)
theorem dX3_leads_109 : decode cX3_leads 109 = .ok (.invokevirtual 87, 3) := dk_182 0 87 (dk_at dksX3_leads_4 16 rfl rfl)
theorem dX3_leads_112 : decode cX3_leads 112 = .ok (.iconst 0, 1) := dk_3 (dk_at dksX3_leads_4 19 rfl rfl)
theorem dX3_leads_113 : decode cX3_leads 113 = .ok (.istore 4, 2) := dk_54 4 (dk_at dksX3_leads_4 20 rfl rfl)
theorem dX3_leads_115 : decode cX3_leads 115 = .ok (.iload 4, 2) := dk_21 4 (dk_at dksX3_leads_4 22 rfl rfl)
theorem dX3_leads_117 : decode cX3_leads 117 = .ok (.aload_n 0, 1) := dk_42 (dk_at dksX3_leads_5 0 rfl rfl)
theorem dX3_leads_118 : decode cX3_leads 118 = .ok (.getfield 68, 3) := dk_180 0 68 (dk_at dksX3_leads_5 1 rfl rfl)
theorem dX3_leads_121 : decode cX3_leads 121 = .ok (.if_icmp .ge 84, 3) := dk_162 0 84 (dk_at dksX3_leads_5 4 rfl rfl)
theorem dX3_leads_124 : decode cX3_leads 124 = .ok (.aload_n 0, 1) := dk_42 (dk_at dksX3_leads_5 7 rfl rfl)
theorem dX3_leads_125 : decode cX3_leads 125 = .ok (.getfield 33, 3) := dk_180 0 33 (dk_at dksX3_leads_5 8 rfl rfl)
theorem dX3_leads_128 : decode cX3_leads 128 = .ok (.iload 4, 2) := dk_21 4 (dk_at dksX3_leads_5 11 rfl rfl)
theorem dX3_leads_130 : decode cX3_leads 130 = .ok (.iaload, 1) := dk_46 (dk_at dksX3_leads_5 13 rfl rfl)
theorem dX3_leads_131 : decode cX3_leads 131 = .ok (.aload_n 0, 1) := dk_42 (dk_at dksX3_leads_5 14 rfl rfl)
theorem dX3_leads_132 : decode cX3_leads 132 = .ok (.getfield 65, 3) := dk_180 0 65 (dk_at dksX3_leads_5 15 rfl rfl)
theorem dX3_leads_135 : decode cX3_leads 135 = .ok (.if_icmp .ne 6, 3) := dk_160 0 6 (dk_at dksX3_leads_5 18 rfl rfl)
theorem dX3_leads_138 : decode cX3_leads 138 = .ok (.goto 61, 3) := dk_167 0 61 (dk_at dksX3_leads_5 21 rfl rfl)
theorem dX3_leads_141 : decode cX3_leads 141 = .ok (.iconst 0, 1) := dk_3 (dk_at dksX3_leads_6 0 rfl rfl)
theorem dX3_leads_142 : decode cX3_leads 142 = .ok (.iload_n 2, 1) := dk_28 (dk_at dksX3_leads_6 1 rfl rfl)
theorem dX3_leads_143 : decode cX3_leads 143 = .ok (.iconst 2, 1) := dk_5 (dk_at dksX3_leads_6 2 rfl rfl)
theorem dX3_leads_144 : decode cX3_leads 144 = .ok (.isub, 1) := dk_100 (dk_at dksX3_leads_6 3 rfl rfl)
theorem dX3_leads_145 : decode cX3_leads 145 = .ok (.invokestatic 91, 3) := dk_184 0 91 (dk_at dksX3_leads_6 4 rfl rfl)
theorem dX3_leads_148 : decode cX3_leads 148 = .ok (.istore 5, 2) := dk_54 5 (dk_at dksX3_leads_6 7 rfl rfl)
theorem dX3_leads_150 : decode cX3_leads 150 = .ok (.iload 5, 2) := dk_21 5 (dk_at dksX3_leads_6 9 rfl rfl)
theorem dX3_leads_152 : decode cX3_leads 152 = .ok (.aload_n 0, 1) := dk_42 (dk_at dksX3_leads_6 11 rfl rfl)
theorem dX3_leads_153 : decode cX3_leads 153 = .ok (.getfield 52, 3) := dk_180 0 52 (dk_at dksX3_leads_6 12 rfl rfl)
theorem dX3_leads_156 : decode cX3_leads 156 = .ok (.iconst 1, 1) := dk_4 (dk_at dksX3_leads_6 15 rfl rfl)
theorem dX3_leads_157 : decode cX3_leads 157 = .ok (.isub, 1) := dk_100 (dk_at dksX3_leads_6 16 rfl rfl)
theorem dX3_leads_158 : decode cX3_leads 158 = .ok (.iload_n 2, 1) := dk_28 (dk_at dksX3_leads_6 17 rfl rfl)
theorem dX3_leads_159 : decode cX3_leads 159 = .ok (.iconst 2, 1) := dk_5 (dk_at dksX3_leads_6 18 rfl rfl)
theorem dX3_leads_160 : decode cX3_leads 160 = .ok (.iadd, 1) := dk_96 (dk_at dksX3_leads_6 19 rfl rfl)
theorem dX3_leads_161 : decode cX3_leads 161 = .ok (.invokestatic 94, 3) := dk_184 0 94 (dk_at dksX3_leads_6 20 rfl rfl)
theorem dX3_leads_164 : decode cX3_leads 164 = .ok (.if_icmp .gt 35, 3) := dk_163 0 35 (dk_at dksX3_leads_7 0 rfl rfl)
theorem dX3_leads_167 : decode cX3_leads 167 = .ok (.aload_n 0, 1) := dk_42 (dk_at dksX3_leads_7 3 rfl rfl)
theorem dX3_leads_168 : decode cX3_leads 168 = .ok (.iload 4, 2) := dk_21 4 (dk_at dksX3_leads_7 4 rfl rfl)
theorem dX3_leads_170 : decode cX3_leads 170 = .ok (.iload 5, 2) := dk_21 5 (dk_at dksX3_leads_7 6 rfl rfl)
theorem dX3_leads_172 : decode cX3_leads 172 = .ok (.iload 5, 2) := dk_21 5 (dk_at dksX3_leads_7 8 rfl rfl)
theorem dX3_leads_174 : decode cX3_leads 174 = .ok (.iconst 1, 1) := dk_4 (dk_at dksX3_leads_7 10 rfl rfl)
theorem dX3_leads_175 : decode cX3_leads 175 = .ok (.isub, 1) := dk_100 (dk_at dksX3_leads_7 11 rfl rfl)
theorem dX3_leads_176 : decode cX3_leads 176 = .ok (.iload_n 2, 1) := dk_28 (dk_at dksX3_leads_7 12 rfl rfl)
theorem dX3_leads_177 : decode cX3_leads 177 = .ok (.invokevirtual 97, 3) := dk_182 0 97 (dk_at dksX3_leads_7 13 rfl rfl)
theorem dX3_leads_180 : decode cX3_leads 180 = .ok (.aload_n 0, 1) := dk_42 (dk_at dksX3_leads_7 16 rfl rfl)
theorem dX3_leads_181 : decode cX3_leads 181 = .ok (.iload 4, 2) := dk_21 4 (dk_at dksX3_leads_7 17 rfl rfl)
theorem dX3_leads_183 : decode cX3_leads 183 = .ok (.iload 5, 2) := dk_21 5 (dk_at dksX3_leads_7 19 rfl rfl)
theorem dX3_leads_185 : decode cX3_leads 185 = .ok (.iload 5, 2) := dk_21 5 (dk_at dksX3_leads_7 21 rfl rfl)
theorem dX3_leads_187 : decode cX3_leads 187 = .ok (.iconst 1, 1) := dk_4 (dk_at dksX3_leads_7 23 rfl rfl)
theorem dX3_leads_188 : decode cX3_leads 188 = .ok (.iadd, 1) := dk_96 (dk_at dksX3_leads_8 0 rfl rfl)
theorem dX3_leads_189 : decode cX3_leads 189 = .ok (.iload_n 2, 1) := dk_28 (dk_at dksX3_leads_8 1 rfl rfl)
theorem dX3_leads_190 : decode cX3_leads 190 = .ok (.invokevirtual 97, 3) := dk_182 0 97 (dk_at dksX3_leads_8 2 rfl rfl)
theorem dX3_leads_193 : decode cX3_leads 193 = .ok (.iinc 5 1, 3) := dk_132 5 1 (dk_at dksX3_leads_8 5 rfl rfl)
theorem dX3_leads_196 : decode cX3_leads 196 = .ok (.goto (-46), 3) := dk_167 255 210 (dk_at dksX3_leads_8 8 rfl rfl)
theorem dX3_leads_199 : decode cX3_leads 199 = .ok (.iinc 4 1, 3) := dk_132 4 1 (dk_at dksX3_leads_8 11 rfl rfl)
theorem dX3_leads_202 : decode cX3_leads 202 = .ok (.goto (-87), 3) := dk_167 255 169 (dk_at dksX3_leads_8 14 rfl rfl)
theorem dX3_leads_205 : decode cX3_leads 205 = .ok (.return_, 1) := dk_177 (dk_at dksX3_leads_8 17 rfl rfl)
abbrev cX3_ironAt : ByteArray := prog_13_method_2_code
def yX3_ironAt : MethodName := ⟨RX3, "ironAt", "(II)I"⟩
def dkwX3_ironAt_0 : List UInt8 := [27, 42, 180, 0, 36, 28, 46, 108, 16, 9, 112, 4, 96, 172]
abbrev dktX3_ironAt_0 : List UInt8 := dkwX3_ironAt_0 ++ []
theorem dksX3_ironAt_0 : cX3_ironAt.data.toList.drop 0 = dktX3_ironAt_0 := by decide +kernel
theorem dX3_ironAt_0 : decode cX3_ironAt 0 = .ok (.iload_n 1, 1) := dk_27 (dk_at dksX3_ironAt_0 0 rfl rfl)
theorem dX3_ironAt_1 : decode cX3_ironAt 1 = .ok (.aload_n 0, 1) := dk_42 (dk_at dksX3_ironAt_0 1 rfl rfl)
theorem dX3_ironAt_2 : decode cX3_ironAt 2 = .ok (.getfield 36, 3) := dk_180 0 36 (dk_at dksX3_ironAt_0 2 rfl rfl)
theorem dX3_ironAt_5 : decode cX3_ironAt 5 = .ok (.iload_n 2, 1) := dk_28 (dk_at dksX3_ironAt_0 5 rfl rfl)
theorem dX3_ironAt_6 : decode cX3_ironAt 6 = .ok (.iaload, 1) := dk_46 (dk_at dksX3_ironAt_0 6 rfl rfl)
theorem dX3_ironAt_7 : decode cX3_ironAt 7 = .ok (.idiv, 1) := dk_108 (dk_at dksX3_ironAt_0 7 rfl rfl)
theorem dX3_ironAt_8 : decode cX3_ironAt 8 = .ok (.bipush 9, 2) := dk_16 9 (dk_at dksX3_ironAt_0 8 rfl rfl)
theorem dX3_ironAt_10 : decode cX3_ironAt 10 = .ok (.irem, 1) := dk_112 (dk_at dksX3_ironAt_0 10 rfl rfl)
theorem dX3_ironAt_11 : decode cX3_ironAt 11 = .ok (.iconst 1, 1) := dk_4 (dk_at dksX3_ironAt_0 11 rfl rfl)
theorem dX3_ironAt_12 : decode cX3_ironAt 12 = .ok (.iadd, 1) := dk_96 (dk_at dksX3_ironAt_0 12 rfl rfl)
theorem dX3_ironAt_13 : decode cX3_ironAt 13 = .ok (.ireturn, 1) := dk_172 (dk_at dksX3_ironAt_0 13 rfl rfl)
abbrev cX3_adds : ByteArray := prog_13_method_7_code
def yX3_adds : MethodName := ⟨RX3, "adds", "(II)V"⟩
def dkwX3_adds_2 : List UInt8 := [180, 0, 68, 4, 96, 181, 0, 68, 177]
abbrev dktX3_adds_2 : List UInt8 := dkwX3_adds_2 ++ []
def dkwX3_adds_1 : List UInt8 := [42, 180, 0, 30, 42, 180, 0, 68, 27, 79, 42, 180, 0, 33, 42, 180, 0, 68, 28, 79, 42, 89]
abbrev dktX3_adds_1 : List UInt8 := dkwX3_adds_1 ++ dktX3_adds_2
def dkwX3_adds_0 : List UInt8 := [42, 180, 0, 26, 27, 46, 42, 180, 0, 84, 160, 0, 4, 177, 42, 180, 0, 26, 27, 42, 180, 0, 84, 79]
abbrev dktX3_adds_0 : List UInt8 := dkwX3_adds_0 ++ dktX3_adds_1
theorem dksX3_adds_0 : cX3_adds.data.toList.drop 0 = dktX3_adds_0 := by decide +kernel
theorem dksX3_adds_1 : cX3_adds.data.toList.drop 24 = dktX3_adds_1 := dk_seg dksX3_adds_0 24 rfl rfl
theorem dksX3_adds_2 : cX3_adds.data.toList.drop 46 = dktX3_adds_2 := dk_seg dksX3_adds_1 22 rfl rfl
theorem dX3_adds_0 : decode cX3_adds 0 = .ok (.aload_n 0, 1) := dk_42 (dk_at dksX3_adds_0 0 rfl rfl)
theorem dX3_adds_1 : decode cX3_adds 1 = .ok (.getfield 26, 3) := dk_180 0 26 (dk_at dksX3_adds_0 1 rfl rfl)
theorem dX3_adds_4 : decode cX3_adds 4 = .ok (.iload_n 1, 1) := dk_27 (dk_at dksX3_adds_0 4 rfl rfl)
theorem dX3_adds_5 : decode cX3_adds 5 = .ok (.iaload, 1) := dk_46 (dk_at dksX3_adds_0 5 rfl rfl)
theorem dX3_adds_6 : decode cX3_adds 6 = .ok (.aload_n 0, 1) := dk_42 (dk_at dksX3_adds_0 6 rfl rfl)
theorem dX3_adds_7 : decode cX3_adds 7 = .ok (.getfield 84, 3) := dk_180 0 84 (dk_at dksX3_adds_0 7 rfl rfl)
theorem dX3_adds_10 : decode cX3_adds 10 = .ok (.if_icmp .ne 4, 3) := dk_160 0 4 (dk_at dksX3_adds_0 10 rfl rfl)
theorem dX3_adds_13 : decode cX3_adds 13 = .ok (.return_, 1) := dk_177 (dk_at dksX3_adds_0 13 rfl rfl)
theorem dX3_adds_14 : decode cX3_adds 14 = .ok (.aload_n 0, 1) := dk_42 (dk_at dksX3_adds_0 14 rfl rfl)
theorem dX3_adds_15 : decode cX3_adds 15 = .ok (.getfield 26, 3) := dk_180 0 26 (dk_at dksX3_adds_0 15 rfl rfl)
theorem dX3_adds_18 : decode cX3_adds 18 = .ok (.iload_n 1, 1) := dk_27 (dk_at dksX3_adds_0 18 rfl rfl)
theorem dX3_adds_19 : decode cX3_adds 19 = .ok (.aload_n 0, 1) := dk_42 (dk_at dksX3_adds_0 19 rfl rfl)
theorem dX3_adds_20 : decode cX3_adds 20 = .ok (.getfield 84, 3) := dk_180 0 84 (dk_at dksX3_adds_0 20 rfl rfl)
theorem dX3_adds_23 : decode cX3_adds 23 = .ok (.iastore, 1) := dk_79 (dk_at dksX3_adds_0 23 rfl rfl)
theorem dX3_adds_24 : decode cX3_adds 24 = .ok (.aload_n 0, 1) := dk_42 (dk_at dksX3_adds_1 0 rfl rfl)
theorem dX3_adds_25 : decode cX3_adds 25 = .ok (.getfield 30, 3) := dk_180 0 30 (dk_at dksX3_adds_1 1 rfl rfl)
theorem dX3_adds_28 : decode cX3_adds 28 = .ok (.aload_n 0, 1) := dk_42 (dk_at dksX3_adds_1 4 rfl rfl)
theorem dX3_adds_29 : decode cX3_adds 29 = .ok (.getfield 68, 3) := dk_180 0 68 (dk_at dksX3_adds_1 5 rfl rfl)
theorem dX3_adds_32 : decode cX3_adds 32 = .ok (.iload_n 1, 1) := dk_27 (dk_at dksX3_adds_1 8 rfl rfl)
theorem dX3_adds_33 : decode cX3_adds 33 = .ok (.iastore, 1) := dk_79 (dk_at dksX3_adds_1 9 rfl rfl)
theorem dX3_adds_34 : decode cX3_adds 34 = .ok (.aload_n 0, 1) := dk_42 (dk_at dksX3_adds_1 10 rfl rfl)
theorem dX3_adds_35 : decode cX3_adds 35 = .ok (.getfield 33, 3) := dk_180 0 33 (dk_at dksX3_adds_1 11 rfl rfl)
theorem dX3_adds_38 : decode cX3_adds 38 = .ok (.aload_n 0, 1) := dk_42 (dk_at dksX3_adds_1 14 rfl rfl)
theorem dX3_adds_39 : decode cX3_adds 39 = .ok (.getfield 68, 3) := dk_180 0 68 (dk_at dksX3_adds_1 15 rfl rfl)
theorem dX3_adds_42 : decode cX3_adds 42 = .ok (.iload_n 2, 1) := dk_28 (dk_at dksX3_adds_1 18 rfl rfl)
theorem dX3_adds_43 : decode cX3_adds 43 = .ok (.iastore, 1) := dk_79 (dk_at dksX3_adds_1 19 rfl rfl)
theorem dX3_adds_44 : decode cX3_adds 44 = .ok (.aload_n 0, 1) := dk_42 (dk_at dksX3_adds_1 20 rfl rfl)
theorem dX3_adds_45 : decode cX3_adds 45 = .ok (.dup, 1) := dk_89 (dk_at dksX3_adds_1 21 rfl rfl)
theorem dX3_adds_46 : decode cX3_adds 46 = .ok (.getfield 68, 3) := dk_180 0 68 (dk_at dksX3_adds_2 0 rfl rfl)
theorem dX3_adds_49 : decode cX3_adds 49 = .ok (.iconst 1, 1) := dk_4 (dk_at dksX3_adds_2 3 rfl rfl)
theorem dX3_adds_50 : decode cX3_adds 50 = .ok (.iadd, 1) := dk_96 (dk_at dksX3_adds_2 4 rfl rfl)
theorem dX3_adds_51 : decode cX3_adds 51 = .ok (.putfield 68, 3) := dk_181 0 68 (dk_at dksX3_adds_2 5 rfl rfl)
theorem dX3_adds_54 : decode cX3_adds 54 = .ok (.return_, 1) := dk_177 (dk_at dksX3_adds_2 8 rfl rfl)
abbrev cX3_strikes : ByteArray := prog_13_method_6_code
def yX3_strikes : MethodName := ⟨RX3, "strikes", "(IIII)V"⟩
def dkwX3_strikes_4 : List UInt8 := [177]
abbrev dktX3_strikes_4 : List UInt8 := dkwX3_strikes_4 ++ []
def dkwX3_strikes_3 : List UInt8 := [180, 0, 36, 28, 46, 100, 42, 180, 0, 36, 29, 46, 96, 42, 180, 0, 33, 27, 46, 4, 96, 182, 0, 87]
abbrev dktX3_strikes_3 : List UInt8 := dkwX3_strikes_3 ++ dktX3_strikes_4
def dkwX3_strikes_2 : List UInt8 := [182, 0, 80, 4, 164, 0, 43, 42, 21, 5, 29, 182, 0, 80, 16, 9, 162, 0, 31, 42, 21, 5, 42]
abbrev dktX3_strikes_2 : List UInt8 := dkwX3_strikes_2 ++ dktX3_strikes_3
def dkwX3_strikes_1 : List UInt8 := [21, 4, 100, 184, 0, 71, 4, 164, 0, 4, 177, 42, 180, 0, 30, 27, 46, 54, 5, 42, 21, 5, 28]
abbrev dktX3_strikes_1 : List UInt8 := dkwX3_strikes_1 ++ dktX3_strikes_2
def dkwX3_strikes_0 : List UInt8 := [29, 155, 0, 33, 29, 42, 180, 0, 52, 162, 0, 25, 28, 21, 4, 100, 184, 0, 71, 4, 164, 0, 15, 29]
abbrev dktX3_strikes_0 : List UInt8 := dkwX3_strikes_0 ++ dktX3_strikes_1
theorem dksX3_strikes_0 : cX3_strikes.data.toList.drop 0 = dktX3_strikes_0 := by decide +kernel
theorem dksX3_strikes_1 : cX3_strikes.data.toList.drop 24 = dktX3_strikes_1 := dk_seg dksX3_strikes_0 24 rfl rfl
theorem dksX3_strikes_2 : cX3_strikes.data.toList.drop 47 = dktX3_strikes_2 := dk_seg dksX3_strikes_1 23 rfl rfl
theorem dksX3_strikes_3 : cX3_strikes.data.toList.drop 70 = dktX3_strikes_3 := dk_seg dksX3_strikes_2 23 rfl rfl
theorem dksX3_strikes_4 : cX3_strikes.data.toList.drop 94 = dktX3_strikes_4 := dk_seg dksX3_strikes_3 24 rfl rfl
theorem dX3_strikes_0 : decode cX3_strikes 0 = .ok (.iload_n 3, 1) := dk_29 (dk_at dksX3_strikes_0 0 rfl rfl)
theorem dX3_strikes_1 : decode cX3_strikes 1 = .ok (.ifCond .lt 33, 3) := dk_155 0 33 (dk_at dksX3_strikes_0 1 rfl rfl)
theorem dX3_strikes_4 : decode cX3_strikes 4 = .ok (.iload_n 3, 1) := dk_29 (dk_at dksX3_strikes_0 4 rfl rfl)
theorem dX3_strikes_5 : decode cX3_strikes 5 = .ok (.aload_n 0, 1) := dk_42 (dk_at dksX3_strikes_0 5 rfl rfl)
theorem dX3_strikes_6 : decode cX3_strikes 6 = .ok (.getfield 52, 3) := dk_180 0 52 (dk_at dksX3_strikes_0 6 rfl rfl)
theorem dX3_strikes_9 : decode cX3_strikes 9 = .ok (.if_icmp .ge 25, 3) := dk_162 0 25 (dk_at dksX3_strikes_0 9 rfl rfl)
theorem dX3_strikes_12 : decode cX3_strikes 12 = .ok (.iload_n 2, 1) := dk_28 (dk_at dksX3_strikes_0 12 rfl rfl)
theorem dX3_strikes_13 : decode cX3_strikes 13 = .ok (.iload 4, 2) := dk_21 4 (dk_at dksX3_strikes_0 13 rfl rfl)
theorem dX3_strikes_15 : decode cX3_strikes 15 = .ok (.isub, 1) := dk_100 (dk_at dksX3_strikes_0 15 rfl rfl)
theorem dX3_strikes_16 : decode cX3_strikes 16 = .ok (.invokestatic 71, 3) := dk_184 0 71 (dk_at dksX3_strikes_0 16 rfl rfl)
theorem dX3_strikes_19 : decode cX3_strikes 19 = .ok (.iconst 1, 1) := dk_4 (dk_at dksX3_strikes_0 19 rfl rfl)
theorem dX3_strikes_20 : decode cX3_strikes 20 = .ok (.if_icmp .le 15, 3) := dk_164 0 15 (dk_at dksX3_strikes_0 20 rfl rfl)
theorem dX3_strikes_23 : decode cX3_strikes 23 = .ok (.iload_n 3, 1) := dk_29 (dk_at dksX3_strikes_0 23 rfl rfl)
theorem dX3_strikes_24 : decode cX3_strikes 24 = .ok (.iload 4, 2) := dk_21 4 (dk_at dksX3_strikes_1 0 rfl rfl)
theorem dX3_strikes_26 : decode cX3_strikes 26 = .ok (.isub, 1) := dk_100 (dk_at dksX3_strikes_1 2 rfl rfl)
theorem dX3_strikes_27 : decode cX3_strikes 27 = .ok (.invokestatic 71, 3) := dk_184 0 71 (dk_at dksX3_strikes_1 3 rfl rfl)
theorem dX3_strikes_30 : decode cX3_strikes 30 = .ok (.iconst 1, 1) := dk_4 (dk_at dksX3_strikes_1 6 rfl rfl)
theorem dX3_strikes_31 : decode cX3_strikes 31 = .ok (.if_icmp .le 4, 3) := dk_164 0 4 (dk_at dksX3_strikes_1 7 rfl rfl)
theorem dX3_strikes_34 : decode cX3_strikes 34 = .ok (.return_, 1) := dk_177 (dk_at dksX3_strikes_1 10 rfl rfl)
theorem dX3_strikes_35 : decode cX3_strikes 35 = .ok (.aload_n 0, 1) := dk_42 (dk_at dksX3_strikes_1 11 rfl rfl)
theorem dX3_strikes_36 : decode cX3_strikes 36 = .ok (.getfield 30, 3) := dk_180 0 30 (dk_at dksX3_strikes_1 12 rfl rfl)
theorem dX3_strikes_39 : decode cX3_strikes 39 = .ok (.iload_n 1, 1) := dk_27 (dk_at dksX3_strikes_1 15 rfl rfl)
theorem dX3_strikes_40 : decode cX3_strikes 40 = .ok (.iaload, 1) := dk_46 (dk_at dksX3_strikes_1 16 rfl rfl)
theorem dX3_strikes_41 : decode cX3_strikes 41 = .ok (.istore 5, 2) := dk_54 5 (dk_at dksX3_strikes_1 17 rfl rfl)
theorem dX3_strikes_43 : decode cX3_strikes 43 = .ok (.aload_n 0, 1) := dk_42 (dk_at dksX3_strikes_1 19 rfl rfl)
theorem dX3_strikes_44 : decode cX3_strikes 44 = .ok (.iload 5, 2) := dk_21 5 (dk_at dksX3_strikes_1 20 rfl rfl)
theorem dX3_strikes_46 : decode cX3_strikes 46 = .ok (.iload_n 2, 1) := dk_28 (dk_at dksX3_strikes_1 22 rfl rfl)
theorem dX3_strikes_47 : decode cX3_strikes 47 = .ok (.invokevirtual 80, 3) := dk_182 0 80 (dk_at dksX3_strikes_2 0 rfl rfl)
theorem dX3_strikes_50 : decode cX3_strikes 50 = .ok (.iconst 1, 1) := dk_4 (dk_at dksX3_strikes_2 3 rfl rfl)
theorem dX3_strikes_51 : decode cX3_strikes 51 = .ok (.if_icmp .le 43, 3) := dk_164 0 43 (dk_at dksX3_strikes_2 4 rfl rfl)
theorem dX3_strikes_54 : decode cX3_strikes 54 = .ok (.aload_n 0, 1) := dk_42 (dk_at dksX3_strikes_2 7 rfl rfl)
theorem dX3_strikes_55 : decode cX3_strikes 55 = .ok (.iload 5, 2) := dk_21 5 (dk_at dksX3_strikes_2 8 rfl rfl)
theorem dX3_strikes_57 : decode cX3_strikes 57 = .ok (.iload_n 3, 1) := dk_29 (dk_at dksX3_strikes_2 10 rfl rfl)
theorem dX3_strikes_58 : decode cX3_strikes 58 = .ok (.invokevirtual 80, 3) := dk_182 0 80 (dk_at dksX3_strikes_2 11 rfl rfl)
theorem dX3_strikes_61 : decode cX3_strikes 61 = .ok (.bipush 9, 2) := dk_16 9 (dk_at dksX3_strikes_2 14 rfl rfl)
theorem dX3_strikes_63 : decode cX3_strikes 63 = .ok (.if_icmp .ge 31, 3) := dk_162 0 31 (dk_at dksX3_strikes_2 16 rfl rfl)
theorem dX3_strikes_66 : decode cX3_strikes 66 = .ok (.aload_n 0, 1) := dk_42 (dk_at dksX3_strikes_2 19 rfl rfl)
theorem dX3_strikes_67 : decode cX3_strikes 67 = .ok (.iload 5, 2) := dk_21 5 (dk_at dksX3_strikes_2 20 rfl rfl)
theorem dX3_strikes_69 : decode cX3_strikes 69 = .ok (.aload_n 0, 1) := dk_42 (dk_at dksX3_strikes_2 22 rfl rfl)
theorem dX3_strikes_70 : decode cX3_strikes 70 = .ok (.getfield 36, 3) := dk_180 0 36 (dk_at dksX3_strikes_3 0 rfl rfl)
theorem dX3_strikes_73 : decode cX3_strikes 73 = .ok (.iload_n 2, 1) := dk_28 (dk_at dksX3_strikes_3 3 rfl rfl)
theorem dX3_strikes_74 : decode cX3_strikes 74 = .ok (.iaload, 1) := dk_46 (dk_at dksX3_strikes_3 4 rfl rfl)
theorem dX3_strikes_75 : decode cX3_strikes 75 = .ok (.isub, 1) := dk_100 (dk_at dksX3_strikes_3 5 rfl rfl)
theorem dX3_strikes_76 : decode cX3_strikes 76 = .ok (.aload_n 0, 1) := dk_42 (dk_at dksX3_strikes_3 6 rfl rfl)
theorem dX3_strikes_77 : decode cX3_strikes 77 = .ok (.getfield 36, 3) := dk_180 0 36 (dk_at dksX3_strikes_3 7 rfl rfl)
theorem dX3_strikes_80 : decode cX3_strikes 80 = .ok (.iload_n 3, 1) := dk_29 (dk_at dksX3_strikes_3 10 rfl rfl)
theorem dX3_strikes_81 : decode cX3_strikes 81 = .ok (.iaload, 1) := dk_46 (dk_at dksX3_strikes_3 11 rfl rfl)
theorem dX3_strikes_82 : decode cX3_strikes 82 = .ok (.iadd, 1) := dk_96 (dk_at dksX3_strikes_3 12 rfl rfl)
theorem dX3_strikes_83 : decode cX3_strikes 83 = .ok (.aload_n 0, 1) := dk_42 (dk_at dksX3_strikes_3 13 rfl rfl)
theorem dX3_strikes_84 : decode cX3_strikes 84 = .ok (.getfield 33, 3) := dk_180 0 33 (dk_at dksX3_strikes_3 14 rfl rfl)
theorem dX3_strikes_87 : decode cX3_strikes 87 = .ok (.iload_n 1, 1) := dk_27 (dk_at dksX3_strikes_3 17 rfl rfl)
theorem dX3_strikes_88 : decode cX3_strikes 88 = .ok (.iaload, 1) := dk_46 (dk_at dksX3_strikes_3 18 rfl rfl)
theorem dX3_strikes_89 : decode cX3_strikes 89 = .ok (.iconst 1, 1) := dk_4 (dk_at dksX3_strikes_3 19 rfl rfl)
theorem dX3_strikes_90 : decode cX3_strikes 90 = .ok (.iadd, 1) := dk_96 (dk_at dksX3_strikes_3 20 rfl rfl)
theorem dX3_strikes_91 : decode cX3_strikes 91 = .ok (.invokevirtual 87, 3) := dk_182 0 87 (dk_at dksX3_strikes_3 21 rfl rfl)
theorem dX3_strikes_94 : decode cX3_strikes 94 = .ok (.return_, 1) := dk_177 (dk_at dksX3_strikes_4 0 rfl rfl)
abbrev cX3_enters : ByteArray := prog_13_method_10_code
def yX3_enters : MethodName := ⟨RX3, "enters", "(II)V"⟩
def dkwX3_enters_1 : List UInt8 := [145, 128, 145, 84, 42, 180, 0, 39, 28, 92, 46, 4, 96, 79, 177]
abbrev dktX3_enters_1 : List UInt8 := dkwX3_enters_1 ++ []
def dkwX3_enters_0 : List UInt8 := [42, 42, 180, 0, 16, 27, 28, 182, 0, 104, 153, 0, 4, 177, 42, 180, 0, 16, 27, 92, 51, 4, 28, 120]
abbrev dktX3_enters_0 : List UInt8 := dkwX3_enters_0 ++ dktX3_enters_1
theorem dksX3_enters_0 : cX3_enters.data.toList.drop 0 = dktX3_enters_0 := by decide +kernel
theorem dksX3_enters_1 : cX3_enters.data.toList.drop 24 = dktX3_enters_1 := dk_seg dksX3_enters_0 24 rfl rfl
theorem dX3_enters_0 : decode cX3_enters 0 = .ok (.aload_n 0, 1) := dk_42 (dk_at dksX3_enters_0 0 rfl rfl)
theorem dX3_enters_1 : decode cX3_enters 1 = .ok (.aload_n 0, 1) := dk_42 (dk_at dksX3_enters_0 1 rfl rfl)
theorem dX3_enters_2 : decode cX3_enters 2 = .ok (.getfield 16, 3) := dk_180 0 16 (dk_at dksX3_enters_0 2 rfl rfl)
theorem dX3_enters_5 : decode cX3_enters 5 = .ok (.iload_n 1, 1) := dk_27 (dk_at dksX3_enters_0 5 rfl rfl)
theorem dX3_enters_6 : decode cX3_enters 6 = .ok (.iload_n 2, 1) := dk_28 (dk_at dksX3_enters_0 6 rfl rfl)
theorem dX3_enters_7 : decode cX3_enters 7 = .ok (.invokevirtual 104, 3) := dk_182 0 104 (dk_at dksX3_enters_0 7 rfl rfl)
theorem dX3_enters_10 : decode cX3_enters 10 = .ok (.ifCond .eq 4, 3) := dk_153 0 4 (dk_at dksX3_enters_0 10 rfl rfl)
theorem dX3_enters_13 : decode cX3_enters 13 = .ok (.return_, 1) := dk_177 (dk_at dksX3_enters_0 13 rfl rfl)
theorem dX3_enters_14 : decode cX3_enters 14 = .ok (.aload_n 0, 1) := dk_42 (dk_at dksX3_enters_0 14 rfl rfl)
theorem dX3_enters_15 : decode cX3_enters 15 = .ok (.getfield 16, 3) := dk_180 0 16 (dk_at dksX3_enters_0 15 rfl rfl)
theorem dX3_enters_18 : decode cX3_enters 18 = .ok (.iload_n 1, 1) := dk_27 (dk_at dksX3_enters_0 18 rfl rfl)
theorem dX3_enters_19 : decode cX3_enters 19 = .ok (.dup2, 1) := dk_92 (dk_at dksX3_enters_0 19 rfl rfl)
theorem dX3_enters_20 : decode cX3_enters 20 = .ok (.baload, 1) := dk_51 (dk_at dksX3_enters_0 20 rfl rfl)
theorem dX3_enters_21 : decode cX3_enters 21 = .ok (.iconst 1, 1) := dk_4 (dk_at dksX3_enters_0 21 rfl rfl)
theorem dX3_enters_22 : decode cX3_enters 22 = .ok (.iload_n 2, 1) := dk_28 (dk_at dksX3_enters_0 22 rfl rfl)
theorem dX3_enters_23 : decode cX3_enters 23 = .ok (.ishl, 1) := dk_120 (dk_at dksX3_enters_0 23 rfl rfl)
theorem dX3_enters_24 : decode cX3_enters 24 = .ok (.i2b, 1) := dk_145 (dk_at dksX3_enters_1 0 rfl rfl)
theorem dX3_enters_25 : decode cX3_enters 25 = .ok (.ior, 1) := dk_128 (dk_at dksX3_enters_1 1 rfl rfl)
theorem dX3_enters_26 : decode cX3_enters 26 = .ok (.i2b, 1) := dk_145 (dk_at dksX3_enters_1 2 rfl rfl)
theorem dX3_enters_27 : decode cX3_enters 27 = .ok (.bastore, 1) := dk_84 (dk_at dksX3_enters_1 3 rfl rfl)
theorem dX3_enters_28 : decode cX3_enters 28 = .ok (.aload_n 0, 1) := dk_42 (dk_at dksX3_enters_1 4 rfl rfl)
theorem dX3_enters_29 : decode cX3_enters 29 = .ok (.getfield 39, 3) := dk_180 0 39 (dk_at dksX3_enters_1 5 rfl rfl)
theorem dX3_enters_32 : decode cX3_enters 32 = .ok (.iload_n 2, 1) := dk_28 (dk_at dksX3_enters_1 8 rfl rfl)
theorem dX3_enters_33 : decode cX3_enters 33 = .ok (.dup2, 1) := dk_92 (dk_at dksX3_enters_1 9 rfl rfl)
theorem dX3_enters_34 : decode cX3_enters 34 = .ok (.iaload, 1) := dk_46 (dk_at dksX3_enters_1 10 rfl rfl)
theorem dX3_enters_35 : decode cX3_enters 35 = .ok (.iconst 1, 1) := dk_4 (dk_at dksX3_enters_1 11 rfl rfl)
theorem dX3_enters_36 : decode cX3_enters 36 = .ok (.iadd, 1) := dk_96 (dk_at dksX3_enters_1 12 rfl rfl)
theorem dX3_enters_37 : decode cX3_enters 37 = .ok (.iastore, 1) := dk_79 (dk_at dksX3_enters_1 13 rfl rfl)
theorem dX3_enters_38 : decode cX3_enters 38 = .ok (.return_, 1) := dk_177 (dk_at dksX3_enters_1 14 rfl rfl)
abbrev cX3_marks : ByteArray := prog_13_method_12_code
def yX3_marks : MethodName := ⟨RX3, "marks", "(I)V"⟩
def dkwX3_marks_6 : List UInt8 := [132, 2, 255, 167, 255, 161, 177]
abbrev dktX3_marks_6 : List UInt8 := dkwX3_marks_6 ++ []
def dkwX3_marks_5 : List UInt8 := [153, 0, 17, 42, 180, 0, 20, 29, 92, 51, 4, 28, 120, 145, 128, 145, 84, 132, 3, 1, 167, 255, 173]
abbrev dktX3_marks_5 : List UInt8 := dkwX3_marks_5 ++ dktX3_marks_6
def dkwX3_marks_4 : List UInt8 := [21, 5, 42, 180, 0, 20, 28, 4, 96, 182, 0, 117, 54, 4, 132, 5, 1, 167, 255, 210, 21, 4]
abbrev dktX3_marks_4 : List UInt8 := dkwX3_marks_4 ++ dktX3_marks_5
def dkwX3_marks_3 : List UInt8 := [162, 0, 43, 21, 4, 154, 0, 38, 42, 42, 180, 0, 16, 29, 28, 182, 0, 104, 153, 0, 25, 42, 29]
abbrev dktX3_marks_3 : List UInt8 := dkwX3_marks_3 ++ dktX3_marks_4
def dkwX3_marks_2 : List UInt8 := [155, 0, 97, 3, 62, 29, 18, 15, 162, 0, 83, 3, 54, 4, 3, 54, 5, 21, 5, 42, 180, 0, 52]
abbrev dktX3_marks_2 : List UInt8 := dkwX3_marks_2 ++ dktX3_marks_3
def dkwX3_marks_1 : List UInt8 := [180, 0, 20, 27, 92, 51, 4, 42, 180, 0, 114, 120, 145, 128, 145, 84, 42, 180, 0, 114, 4, 100, 61, 28]
abbrev dktX3_marks_1 : List UInt8 := dkwX3_marks_1 ++ dktX3_marks_2
def dkwX3_marks_0 : List UInt8 := [3, 61, 28, 18, 15, 162, 0, 16, 42, 180, 0, 20, 28, 3, 84, 132, 2, 1, 167, 255, 240, 42]
abbrev dktX3_marks_0 : List UInt8 := dkwX3_marks_0 ++ dktX3_marks_1
theorem dksX3_marks_0 : cX3_marks.data.toList.drop 0 = dktX3_marks_0 := by decide +kernel
theorem dksX3_marks_1 : cX3_marks.data.toList.drop 22 = dktX3_marks_1 := dk_seg dksX3_marks_0 22 rfl rfl
theorem dksX3_marks_2 : cX3_marks.data.toList.drop 46 = dktX3_marks_2 := dk_seg dksX3_marks_1 24 rfl rfl
theorem dksX3_marks_3 : cX3_marks.data.toList.drop 69 = dktX3_marks_3 := dk_seg dksX3_marks_2 23 rfl rfl
theorem dksX3_marks_4 : cX3_marks.data.toList.drop 92 = dktX3_marks_4 := dk_seg dksX3_marks_3 23 rfl rfl
theorem dksX3_marks_5 : cX3_marks.data.toList.drop 114 = dktX3_marks_5 := dk_seg dksX3_marks_4 22 rfl rfl
theorem dksX3_marks_6 : cX3_marks.data.toList.drop 137 = dktX3_marks_6 := dk_seg dksX3_marks_5 23 rfl rfl
theorem dX3_marks_0 : decode cX3_marks 0 = .ok (.iconst 0, 1) := dk_3 (dk_at dksX3_marks_0 0 rfl rfl)
theorem dX3_marks_1 : decode cX3_marks 1 = .ok (.istore_n 2, 1) := dk_61 (dk_at dksX3_marks_0 1 rfl rfl)
theorem dX3_marks_2 : decode cX3_marks 2 = .ok (.iload_n 2, 1) := dk_28 (dk_at dksX3_marks_0 2 rfl rfl)
theorem dX3_marks_3 : decode cX3_marks 3 = .ok (.ldc 15, 2) := dk_18 15 (dk_at dksX3_marks_0 3 rfl rfl)
theorem dX3_marks_5 : decode cX3_marks 5 = .ok (.if_icmp .ge 16, 3) := dk_162 0 16 (dk_at dksX3_marks_0 5 rfl rfl)
theorem dX3_marks_8 : decode cX3_marks 8 = .ok (.aload_n 0, 1) := dk_42 (dk_at dksX3_marks_0 8 rfl rfl)
theorem dX3_marks_9 : decode cX3_marks 9 = .ok (.getfield 20, 3) := dk_180 0 20 (dk_at dksX3_marks_0 9 rfl rfl)
theorem dX3_marks_12 : decode cX3_marks 12 = .ok (.iload_n 2, 1) := dk_28 (dk_at dksX3_marks_0 12 rfl rfl)
theorem dX3_marks_13 : decode cX3_marks 13 = .ok (.iconst 0, 1) := dk_3 (dk_at dksX3_marks_0 13 rfl rfl)
theorem dX3_marks_14 : decode cX3_marks 14 = .ok (.bastore, 1) := dk_84 (dk_at dksX3_marks_0 14 rfl rfl)
theorem dX3_marks_15 : decode cX3_marks 15 = .ok (.iinc 2 1, 3) := dk_132 2 1 (dk_at dksX3_marks_0 15 rfl rfl)
theorem dX3_marks_18 : decode cX3_marks 18 = .ok (.goto (-16), 3) := dk_167 255 240 (dk_at dksX3_marks_0 18 rfl rfl)
theorem dX3_marks_21 : decode cX3_marks 21 = .ok (.aload_n 0, 1) := dk_42 (dk_at dksX3_marks_0 21 rfl rfl)
theorem dX3_marks_22 : decode cX3_marks 22 = .ok (.getfield 20, 3) := dk_180 0 20 (dk_at dksX3_marks_1 0 rfl rfl)
theorem dX3_marks_25 : decode cX3_marks 25 = .ok (.iload_n 1, 1) := dk_27 (dk_at dksX3_marks_1 3 rfl rfl)
theorem dX3_marks_26 : decode cX3_marks 26 = .ok (.dup2, 1) := dk_92 (dk_at dksX3_marks_1 4 rfl rfl)
theorem dX3_marks_27 : decode cX3_marks 27 = .ok (.baload, 1) := dk_51 (dk_at dksX3_marks_1 5 rfl rfl)
theorem dX3_marks_28 : decode cX3_marks 28 = .ok (.iconst 1, 1) := dk_4 (dk_at dksX3_marks_1 6 rfl rfl)
theorem dX3_marks_29 : decode cX3_marks 29 = .ok (.aload_n 0, 1) := dk_42 (dk_at dksX3_marks_1 7 rfl rfl)
theorem dX3_marks_30 : decode cX3_marks 30 = .ok (.getfield 114, 3) := dk_180 0 114 (dk_at dksX3_marks_1 8 rfl rfl)
theorem dX3_marks_33 : decode cX3_marks 33 = .ok (.ishl, 1) := dk_120 (dk_at dksX3_marks_1 11 rfl rfl)
theorem dX3_marks_34 : decode cX3_marks 34 = .ok (.i2b, 1) := dk_145 (dk_at dksX3_marks_1 12 rfl rfl)
theorem dX3_marks_35 : decode cX3_marks 35 = .ok (.ior, 1) := dk_128 (dk_at dksX3_marks_1 13 rfl rfl)
theorem dX3_marks_36 : decode cX3_marks 36 = .ok (.i2b, 1) := dk_145 (dk_at dksX3_marks_1 14 rfl rfl)
theorem dX3_marks_37 : decode cX3_marks 37 = .ok (.bastore, 1) := dk_84 (dk_at dksX3_marks_1 15 rfl rfl)
theorem dX3_marks_38 : decode cX3_marks 38 = .ok (.aload_n 0, 1) := dk_42 (dk_at dksX3_marks_1 16 rfl rfl)
theorem dX3_marks_39 : decode cX3_marks 39 = .ok (.getfield 114, 3) := dk_180 0 114 (dk_at dksX3_marks_1 17 rfl rfl)
theorem dX3_marks_42 : decode cX3_marks 42 = .ok (.iconst 1, 1) := dk_4 (dk_at dksX3_marks_1 20 rfl rfl)
theorem dX3_marks_43 : decode cX3_marks 43 = .ok (.isub, 1) := dk_100 (dk_at dksX3_marks_1 21 rfl rfl)
theorem dX3_marks_44 : decode cX3_marks 44 = .ok (.istore_n 2, 1) := dk_61 (dk_at dksX3_marks_1 22 rfl rfl)
theorem dX3_marks_45 : decode cX3_marks 45 = .ok (.iload_n 2, 1) := dk_28 (dk_at dksX3_marks_1 23 rfl rfl)
theorem dX3_marks_46 : decode cX3_marks 46 = .ok (.ifCond .lt 97, 3) := dk_155 0 97 (dk_at dksX3_marks_2 0 rfl rfl)
theorem dX3_marks_49 : decode cX3_marks 49 = .ok (.iconst 0, 1) := dk_3 (dk_at dksX3_marks_2 3 rfl rfl)
theorem dX3_marks_50 : decode cX3_marks 50 = .ok (.istore_n 3, 1) := dk_62 (dk_at dksX3_marks_2 4 rfl rfl)
theorem dX3_marks_51 : decode cX3_marks 51 = .ok (.iload_n 3, 1) := dk_29 (dk_at dksX3_marks_2 5 rfl rfl)
theorem dX3_marks_52 : decode cX3_marks 52 = .ok (.ldc 15, 2) := dk_18 15 (dk_at dksX3_marks_2 6 rfl rfl)
theorem dX3_marks_54 : decode cX3_marks 54 = .ok (.if_icmp .ge 83, 3) := dk_162 0 83 (dk_at dksX3_marks_2 8 rfl rfl)
theorem dX3_marks_57 : decode cX3_marks 57 = .ok (.iconst 0, 1) := dk_3 (dk_at dksX3_marks_2 11 rfl rfl)
theorem dX3_marks_58 : decode cX3_marks 58 = .ok (.istore 4, 2) := dk_54 4 (dk_at dksX3_marks_2 12 rfl rfl)
theorem dX3_marks_60 : decode cX3_marks 60 = .ok (.iconst 0, 1) := dk_3 (dk_at dksX3_marks_2 14 rfl rfl)
theorem dX3_marks_61 : decode cX3_marks 61 = .ok (.istore 5, 2) := dk_54 5 (dk_at dksX3_marks_2 15 rfl rfl)
theorem dX3_marks_63 : decode cX3_marks 63 = .ok (.iload 5, 2) := dk_21 5 (dk_at dksX3_marks_2 17 rfl rfl)
theorem dX3_marks_65 : decode cX3_marks 65 = .ok (.aload_n 0, 1) := dk_42 (dk_at dksX3_marks_2 19 rfl rfl)
theorem dX3_marks_66 : decode cX3_marks 66 = .ok (.getfield 52, 3) := dk_180 0 52 (dk_at dksX3_marks_2 20 rfl rfl)
theorem dX3_marks_69 : decode cX3_marks 69 = .ok (.if_icmp .ge 43, 3) := dk_162 0 43 (dk_at dksX3_marks_3 0 rfl rfl)
theorem dX3_marks_72 : decode cX3_marks 72 = .ok (.iload 4, 2) := dk_21 4 (dk_at dksX3_marks_3 3 rfl rfl)
theorem dX3_marks_74 : decode cX3_marks 74 = .ok (.ifCond .ne 38, 3) := dk_154 0 38 (dk_at dksX3_marks_3 5 rfl rfl)
theorem dX3_marks_77 : decode cX3_marks 77 = .ok (.aload_n 0, 1) := dk_42 (dk_at dksX3_marks_3 8 rfl rfl)
theorem dX3_marks_78 : decode cX3_marks 78 = .ok (.aload_n 0, 1) := dk_42 (dk_at dksX3_marks_3 9 rfl rfl)
theorem dX3_marks_79 : decode cX3_marks 79 = .ok (.getfield 16, 3) := dk_180 0 16 (dk_at dksX3_marks_3 10 rfl rfl)
theorem dX3_marks_82 : decode cX3_marks 82 = .ok (.iload_n 3, 1) := dk_29 (dk_at dksX3_marks_3 13 rfl rfl)
theorem dX3_marks_83 : decode cX3_marks 83 = .ok (.iload_n 2, 1) := dk_28 (dk_at dksX3_marks_3 14 rfl rfl)
theorem dX3_marks_84 : decode cX3_marks 84 = .ok (.invokevirtual 104, 3) := dk_182 0 104 (dk_at dksX3_marks_3 15 rfl rfl)
theorem dX3_marks_87 : decode cX3_marks 87 = .ok (.ifCond .eq 25, 3) := dk_153 0 25 (dk_at dksX3_marks_3 18 rfl rfl)
theorem dX3_marks_90 : decode cX3_marks 90 = .ok (.aload_n 0, 1) := dk_42 (dk_at dksX3_marks_3 21 rfl rfl)
theorem dX3_marks_91 : decode cX3_marks 91 = .ok (.iload_n 3, 1) := dk_29 (dk_at dksX3_marks_3 22 rfl rfl)
theorem dX3_marks_92 : decode cX3_marks 92 = .ok (.iload 5, 2) := dk_21 5 (dk_at dksX3_marks_4 0 rfl rfl)
theorem dX3_marks_94 : decode cX3_marks 94 = .ok (.aload_n 0, 1) := dk_42 (dk_at dksX3_marks_4 2 rfl rfl)
theorem dX3_marks_95 : decode cX3_marks 95 = .ok (.getfield 20, 3) := dk_180 0 20 (dk_at dksX3_marks_4 3 rfl rfl)
theorem dX3_marks_98 : decode cX3_marks 98 = .ok (.iload_n 2, 1) := dk_28 (dk_at dksX3_marks_4 6 rfl rfl)
theorem dX3_marks_99 : decode cX3_marks 99 = .ok (.iconst 1, 1) := dk_4 (dk_at dksX3_marks_4 7 rfl rfl)
theorem dX3_marks_100 : decode cX3_marks 100 = .ok (.iadd, 1) := dk_96 (dk_at dksX3_marks_4 8 rfl rfl)
theorem dX3_marks_101 : decode cX3_marks 101 = .ok (.invokevirtual 117, 3) := dk_182 0 117 (dk_at dksX3_marks_4 9 rfl rfl)
theorem dX3_marks_104 : decode cX3_marks 104 = .ok (.istore 4, 2) := dk_54 4 (dk_at dksX3_marks_4 12 rfl rfl)
theorem dX3_marks_106 : decode cX3_marks 106 = .ok (.iinc 5 1, 3) := dk_132 5 1 (dk_at dksX3_marks_4 14 rfl rfl)
theorem dX3_marks_109 : decode cX3_marks 109 = .ok (.goto (-46), 3) := dk_167 255 210 (dk_at dksX3_marks_4 17 rfl rfl)
theorem dX3_marks_112 : decode cX3_marks 112 = .ok (.iload 4, 2) := dk_21 4 (dk_at dksX3_marks_4 20 rfl rfl)
theorem dX3_marks_114 : decode cX3_marks 114 = .ok (.ifCond .eq 17, 3) := dk_153 0 17 (dk_at dksX3_marks_5 0 rfl rfl)
theorem dX3_marks_117 : decode cX3_marks 117 = .ok (.aload_n 0, 1) := dk_42 (dk_at dksX3_marks_5 3 rfl rfl)
theorem dX3_marks_118 : decode cX3_marks 118 = .ok (.getfield 20, 3) := dk_180 0 20 (dk_at dksX3_marks_5 4 rfl rfl)
theorem dX3_marks_121 : decode cX3_marks 121 = .ok (.iload_n 3, 1) := dk_29 (dk_at dksX3_marks_5 7 rfl rfl)
theorem dX3_marks_122 : decode cX3_marks 122 = .ok (.dup2, 1) := dk_92 (dk_at dksX3_marks_5 8 rfl rfl)
theorem dX3_marks_123 : decode cX3_marks 123 = .ok (.baload, 1) := dk_51 (dk_at dksX3_marks_5 9 rfl rfl)
theorem dX3_marks_124 : decode cX3_marks 124 = .ok (.iconst 1, 1) := dk_4 (dk_at dksX3_marks_5 10 rfl rfl)
theorem dX3_marks_125 : decode cX3_marks 125 = .ok (.iload_n 2, 1) := dk_28 (dk_at dksX3_marks_5 11 rfl rfl)
theorem dX3_marks_126 : decode cX3_marks 126 = .ok (.ishl, 1) := dk_120 (dk_at dksX3_marks_5 12 rfl rfl)
theorem dX3_marks_127 : decode cX3_marks 127 = .ok (.i2b, 1) := dk_145 (dk_at dksX3_marks_5 13 rfl rfl)
theorem dX3_marks_128 : decode cX3_marks 128 = .ok (.ior, 1) := dk_128 (dk_at dksX3_marks_5 14 rfl rfl)
theorem dX3_marks_129 : decode cX3_marks 129 = .ok (.i2b, 1) := dk_145 (dk_at dksX3_marks_5 15 rfl rfl)
theorem dX3_marks_130 : decode cX3_marks 130 = .ok (.bastore, 1) := dk_84 (dk_at dksX3_marks_5 16 rfl rfl)
theorem dX3_marks_131 : decode cX3_marks 131 = .ok (.iinc 3 1, 3) := dk_132 3 1 (dk_at dksX3_marks_5 17 rfl rfl)
theorem dX3_marks_134 : decode cX3_marks 134 = .ok (.goto (-83), 3) := dk_167 255 173 (dk_at dksX3_marks_5 20 rfl rfl)
theorem dX3_marks_137 : decode cX3_marks 137 = .ok (.iinc 2 (-1), 3) := dk_132 2 255 (dk_at dksX3_marks_6 0 rfl rfl)
theorem dX3_marks_140 : decode cX3_marks 140 = .ok (.goto (-95), 3) := dk_167 255 161 (dk_at dksX3_marks_6 3 rfl rfl)
theorem dX3_marks_143 : decode cX3_marks 143 = .ok (.return_, 1) := dk_177 (dk_at dksX3_marks_6 6 rfl rfl)
abbrev cX3_leadsTo : ByteArray := prog_13_method_11_code
def yX3_leadsTo : MethodName := ⟨RX3, "leadsTo", "(II[BI)Z"⟩
def dkwX3_leadsTo_1 : List UInt8 := [21, 5, 46, 21, 4, 182, 0, 104, 153, 0, 5, 4, 172, 132, 5, 1, 167, 255, 225, 3, 172]
abbrev dktX3_leadsTo_1 : List UInt8 := dkwX3_leadsTo_1 ++ []
def dkwX3_leadsTo_0 : List UInt8 := [42, 27, 28, 182, 0, 108, 3, 54, 5, 21, 5, 42, 180, 0, 68, 162, 0, 28, 42, 45, 42, 180, 0, 30]
abbrev dktX3_leadsTo_0 : List UInt8 := dkwX3_leadsTo_0 ++ dktX3_leadsTo_1
theorem dksX3_leadsTo_0 : cX3_leadsTo.data.toList.drop 0 = dktX3_leadsTo_0 := by decide +kernel
theorem dksX3_leadsTo_1 : cX3_leadsTo.data.toList.drop 24 = dktX3_leadsTo_1 := dk_seg dksX3_leadsTo_0 24 rfl rfl
theorem dX3_leadsTo_0 : decode cX3_leadsTo 0 = .ok (.aload_n 0, 1) := dk_42 (dk_at dksX3_leadsTo_0 0 rfl rfl)
theorem dX3_leadsTo_1 : decode cX3_leadsTo 1 = .ok (.iload_n 1, 1) := dk_27 (dk_at dksX3_leadsTo_0 1 rfl rfl)
theorem dX3_leadsTo_2 : decode cX3_leadsTo 2 = .ok (.iload_n 2, 1) := dk_28 (dk_at dksX3_leadsTo_0 2 rfl rfl)
theorem dX3_leadsTo_3 : decode cX3_leadsTo 3 = .ok (.invokevirtual 108, 3) := dk_182 0 108 (dk_at dksX3_leadsTo_0 3 rfl rfl)
theorem dX3_leadsTo_6 : decode cX3_leadsTo 6 = .ok (.iconst 0, 1) := dk_3 (dk_at dksX3_leadsTo_0 6 rfl rfl)
theorem dX3_leadsTo_7 : decode cX3_leadsTo 7 = .ok (.istore 5, 2) := dk_54 5 (dk_at dksX3_leadsTo_0 7 rfl rfl)
theorem dX3_leadsTo_9 : decode cX3_leadsTo 9 = .ok (.iload 5, 2) := dk_21 5 (dk_at dksX3_leadsTo_0 9 rfl rfl)
theorem dX3_leadsTo_11 : decode cX3_leadsTo 11 = .ok (.aload_n 0, 1) := dk_42 (dk_at dksX3_leadsTo_0 11 rfl rfl)
theorem dX3_leadsTo_12 : decode cX3_leadsTo 12 = .ok (.getfield 68, 3) := dk_180 0 68 (dk_at dksX3_leadsTo_0 12 rfl rfl)
theorem dX3_leadsTo_15 : decode cX3_leadsTo 15 = .ok (.if_icmp .ge 28, 3) := dk_162 0 28 (dk_at dksX3_leadsTo_0 15 rfl rfl)
theorem dX3_leadsTo_18 : decode cX3_leadsTo 18 = .ok (.aload_n 0, 1) := dk_42 (dk_at dksX3_leadsTo_0 18 rfl rfl)
theorem dX3_leadsTo_19 : decode cX3_leadsTo 19 = .ok (.aload_n 3, 1) := dk_45 (dk_at dksX3_leadsTo_0 19 rfl rfl)
theorem dX3_leadsTo_20 : decode cX3_leadsTo 20 = .ok (.aload_n 0, 1) := dk_42 (dk_at dksX3_leadsTo_0 20 rfl rfl)
theorem dX3_leadsTo_21 : decode cX3_leadsTo 21 = .ok (.getfield 30, 3) := dk_180 0 30 (dk_at dksX3_leadsTo_0 21 rfl rfl)
theorem dX3_leadsTo_24 : decode cX3_leadsTo 24 = .ok (.iload 5, 2) := dk_21 5 (dk_at dksX3_leadsTo_1 0 rfl rfl)
theorem dX3_leadsTo_26 : decode cX3_leadsTo 26 = .ok (.iaload, 1) := dk_46 (dk_at dksX3_leadsTo_1 2 rfl rfl)
theorem dX3_leadsTo_27 : decode cX3_leadsTo 27 = .ok (.iload 4, 2) := dk_21 4 (dk_at dksX3_leadsTo_1 3 rfl rfl)
theorem dX3_leadsTo_29 : decode cX3_leadsTo 29 = .ok (.invokevirtual 104, 3) := dk_182 0 104 (dk_at dksX3_leadsTo_1 5 rfl rfl)
theorem dX3_leadsTo_32 : decode cX3_leadsTo 32 = .ok (.ifCond .eq 5, 3) := dk_153 0 5 (dk_at dksX3_leadsTo_1 8 rfl rfl)
theorem dX3_leadsTo_35 : decode cX3_leadsTo 35 = .ok (.iconst 1, 1) := dk_4 (dk_at dksX3_leadsTo_1 11 rfl rfl)
theorem dX3_leadsTo_36 : decode cX3_leadsTo 36 = .ok (.ireturn, 1) := dk_172 (dk_at dksX3_leadsTo_1 12 rfl rfl)
theorem dX3_leadsTo_37 : decode cX3_leadsTo 37 = .ok (.iinc 5 1, 3) := dk_132 5 1 (dk_at dksX3_leadsTo_1 13 rfl rfl)
theorem dX3_leadsTo_40 : decode cX3_leadsTo 40 = .ok (.goto (-31), 3) := dk_167 255 225 (dk_at dksX3_leadsTo_1 16 rfl rfl)
theorem dX3_leadsTo_43 : decode cX3_leadsTo 43 = .ok (.iconst 0, 1) := dk_3 (dk_at dksX3_leadsTo_1 19 rfl rfl)
theorem dX3_leadsTo_44 : decode cX3_leadsTo 44 = .ok (.ireturn, 1) := dk_172 (dk_at dksX3_leadsTo_1 20 rfl rfl)
abbrev cX3_chooses : ByteArray := prog_13_method_13_code
def yX3_chooses : MethodName := ⟨RX3, "chooses", "(I)V"⟩
def dkwX3_chooses_3 : List UInt8 := [21, 4, 79, 132, 4, 1, 167, 255, 224, 132, 2, 1, 167, 255, 205, 177]
abbrev dktX3_chooses_3 : List UInt8 := dkwX3_chooses_3 ++ []
def dkwX3_chooses_2 : List UInt8 := [180, 0, 52, 162, 0, 29, 29, 154, 0, 25, 42, 28, 21, 4, 182, 0, 121, 62, 42, 180, 0, 42, 28]
abbrev dktX3_chooses_2 : List UInt8 := dkwX3_chooses_2 ++ dktX3_chooses_3
def dkwX3_chooses_1 : List UInt8 := [180, 0, 23, 27, 4, 84, 3, 61, 28, 42, 180, 0, 114, 162, 0, 49, 3, 62, 3, 54, 4, 21, 4, 42]
abbrev dktX3_chooses_1 : List UInt8 := dkwX3_chooses_1 ++ dktX3_chooses_2
def dkwX3_chooses_0 : List UInt8 := [3, 61, 28, 18, 15, 162, 0, 16, 42, 180, 0, 23, 28, 3, 84, 132, 2, 1, 167, 255, 240, 42]
abbrev dktX3_chooses_0 : List UInt8 := dkwX3_chooses_0 ++ dktX3_chooses_1
theorem dksX3_chooses_0 : cX3_chooses.data.toList.drop 0 = dktX3_chooses_0 := by decide +kernel
theorem dksX3_chooses_1 : cX3_chooses.data.toList.drop 22 = dktX3_chooses_1 := dk_seg dksX3_chooses_0 22 rfl rfl
theorem dksX3_chooses_2 : cX3_chooses.data.toList.drop 46 = dktX3_chooses_2 := dk_seg dksX3_chooses_1 24 rfl rfl
theorem dksX3_chooses_3 : cX3_chooses.data.toList.drop 69 = dktX3_chooses_3 := dk_seg dksX3_chooses_2 23 rfl rfl
theorem dX3_chooses_0 : decode cX3_chooses 0 = .ok (.iconst 0, 1) := dk_3 (dk_at dksX3_chooses_0 0 rfl rfl)
theorem dX3_chooses_1 : decode cX3_chooses 1 = .ok (.istore_n 2, 1) := dk_61 (dk_at dksX3_chooses_0 1 rfl rfl)
theorem dX3_chooses_2 : decode cX3_chooses 2 = .ok (.iload_n 2, 1) := dk_28 (dk_at dksX3_chooses_0 2 rfl rfl)
theorem dX3_chooses_3 : decode cX3_chooses 3 = .ok (.ldc 15, 2) := dk_18 15 (dk_at dksX3_chooses_0 3 rfl rfl)
theorem dX3_chooses_5 : decode cX3_chooses 5 = .ok (.if_icmp .ge 16, 3) := dk_162 0 16 (dk_at dksX3_chooses_0 5 rfl rfl)
theorem dX3_chooses_8 : decode cX3_chooses 8 = .ok (.aload_n 0, 1) := dk_42 (dk_at dksX3_chooses_0 8 rfl rfl)
theorem dX3_chooses_9 : decode cX3_chooses 9 = .ok (.getfield 23, 3) := dk_180 0 23 (dk_at dksX3_chooses_0 9 rfl rfl)
theorem dX3_chooses_12 : decode cX3_chooses 12 = .ok (.iload_n 2, 1) := dk_28 (dk_at dksX3_chooses_0 12 rfl rfl)
theorem dX3_chooses_13 : decode cX3_chooses 13 = .ok (.iconst 0, 1) := dk_3 (dk_at dksX3_chooses_0 13 rfl rfl)
theorem dX3_chooses_14 : decode cX3_chooses 14 = .ok (.bastore, 1) := dk_84 (dk_at dksX3_chooses_0 14 rfl rfl)
theorem dX3_chooses_15 : decode cX3_chooses 15 = .ok (.iinc 2 1, 3) := dk_132 2 1 (dk_at dksX3_chooses_0 15 rfl rfl)
theorem dX3_chooses_18 : decode cX3_chooses 18 = .ok (.goto (-16), 3) := dk_167 255 240 (dk_at dksX3_chooses_0 18 rfl rfl)
theorem dX3_chooses_21 : decode cX3_chooses 21 = .ok (.aload_n 0, 1) := dk_42 (dk_at dksX3_chooses_0 21 rfl rfl)
theorem dX3_chooses_22 : decode cX3_chooses 22 = .ok (.getfield 23, 3) := dk_180 0 23 (dk_at dksX3_chooses_1 0 rfl rfl)
theorem dX3_chooses_25 : decode cX3_chooses 25 = .ok (.iload_n 1, 1) := dk_27 (dk_at dksX3_chooses_1 3 rfl rfl)
theorem dX3_chooses_26 : decode cX3_chooses 26 = .ok (.iconst 1, 1) := dk_4 (dk_at dksX3_chooses_1 4 rfl rfl)
theorem dX3_chooses_27 : decode cX3_chooses 27 = .ok (.bastore, 1) := dk_84 (dk_at dksX3_chooses_1 5 rfl rfl)
theorem dX3_chooses_28 : decode cX3_chooses 28 = .ok (.iconst 0, 1) := dk_3 (dk_at dksX3_chooses_1 6 rfl rfl)
theorem dX3_chooses_29 : decode cX3_chooses 29 = .ok (.istore_n 2, 1) := dk_61 (dk_at dksX3_chooses_1 7 rfl rfl)
theorem dX3_chooses_30 : decode cX3_chooses 30 = .ok (.iload_n 2, 1) := dk_28 (dk_at dksX3_chooses_1 8 rfl rfl)
theorem dX3_chooses_31 : decode cX3_chooses 31 = .ok (.aload_n 0, 1) := dk_42 (dk_at dksX3_chooses_1 9 rfl rfl)
theorem dX3_chooses_32 : decode cX3_chooses 32 = .ok (.getfield 114, 3) := dk_180 0 114 (dk_at dksX3_chooses_1 10 rfl rfl)
theorem dX3_chooses_35 : decode cX3_chooses 35 = .ok (.if_icmp .ge 49, 3) := dk_162 0 49 (dk_at dksX3_chooses_1 13 rfl rfl)
theorem dX3_chooses_38 : decode cX3_chooses 38 = .ok (.iconst 0, 1) := dk_3 (dk_at dksX3_chooses_1 16 rfl rfl)
theorem dX3_chooses_39 : decode cX3_chooses 39 = .ok (.istore_n 3, 1) := dk_62 (dk_at dksX3_chooses_1 17 rfl rfl)
theorem dX3_chooses_40 : decode cX3_chooses 40 = .ok (.iconst 0, 1) := dk_3 (dk_at dksX3_chooses_1 18 rfl rfl)
theorem dX3_chooses_41 : decode cX3_chooses 41 = .ok (.istore 4, 2) := dk_54 4 (dk_at dksX3_chooses_1 19 rfl rfl)
theorem dX3_chooses_43 : decode cX3_chooses 43 = .ok (.iload 4, 2) := dk_21 4 (dk_at dksX3_chooses_1 21 rfl rfl)
theorem dX3_chooses_45 : decode cX3_chooses 45 = .ok (.aload_n 0, 1) := dk_42 (dk_at dksX3_chooses_1 23 rfl rfl)
theorem dX3_chooses_46 : decode cX3_chooses 46 = .ok (.getfield 52, 3) := dk_180 0 52 (dk_at dksX3_chooses_2 0 rfl rfl)
theorem dX3_chooses_49 : decode cX3_chooses 49 = .ok (.if_icmp .ge 29, 3) := dk_162 0 29 (dk_at dksX3_chooses_2 3 rfl rfl)
theorem dX3_chooses_52 : decode cX3_chooses 52 = .ok (.iload_n 3, 1) := dk_29 (dk_at dksX3_chooses_2 6 rfl rfl)
theorem dX3_chooses_53 : decode cX3_chooses 53 = .ok (.ifCond .ne 25, 3) := dk_154 0 25 (dk_at dksX3_chooses_2 7 rfl rfl)
theorem dX3_chooses_56 : decode cX3_chooses 56 = .ok (.aload_n 0, 1) := dk_42 (dk_at dksX3_chooses_2 10 rfl rfl)
theorem dX3_chooses_57 : decode cX3_chooses 57 = .ok (.iload_n 2, 1) := dk_28 (dk_at dksX3_chooses_2 11 rfl rfl)
theorem dX3_chooses_58 : decode cX3_chooses 58 = .ok (.iload 4, 2) := dk_21 4 (dk_at dksX3_chooses_2 12 rfl rfl)
theorem dX3_chooses_60 : decode cX3_chooses 60 = .ok (.invokevirtual 121, 3) := dk_182 0 121 (dk_at dksX3_chooses_2 14 rfl rfl)
theorem dX3_chooses_63 : decode cX3_chooses 63 = .ok (.istore_n 3, 1) := dk_62 (dk_at dksX3_chooses_2 17 rfl rfl)
theorem dX3_chooses_64 : decode cX3_chooses 64 = .ok (.aload_n 0, 1) := dk_42 (dk_at dksX3_chooses_2 18 rfl rfl)
theorem dX3_chooses_65 : decode cX3_chooses 65 = .ok (.getfield 42, 3) := dk_180 0 42 (dk_at dksX3_chooses_2 19 rfl rfl)
theorem dX3_chooses_68 : decode cX3_chooses 68 = .ok (.iload_n 2, 1) := dk_28 (dk_at dksX3_chooses_2 22 rfl rfl)
theorem dX3_chooses_69 : decode cX3_chooses 69 = .ok (.iload 4, 2) := dk_21 4 (dk_at dksX3_chooses_3 0 rfl rfl)
theorem dX3_chooses_71 : decode cX3_chooses 71 = .ok (.iastore, 1) := dk_79 (dk_at dksX3_chooses_3 2 rfl rfl)
theorem dX3_chooses_72 : decode cX3_chooses 72 = .ok (.iinc 4 1, 3) := dk_132 4 1 (dk_at dksX3_chooses_3 3 rfl rfl)
theorem dX3_chooses_75 : decode cX3_chooses 75 = .ok (.goto (-32), 3) := dk_167 255 224 (dk_at dksX3_chooses_3 6 rfl rfl)
theorem dX3_chooses_78 : decode cX3_chooses 78 = .ok (.iinc 2 1, 3) := dk_132 2 1 (dk_at dksX3_chooses_3 9 rfl rfl)
theorem dX3_chooses_81 : decode cX3_chooses 81 = .ok (.goto (-51), 3) := dk_167 255 205 (dk_at dksX3_chooses_3 12 rfl rfl)
theorem dX3_chooses_84 : decode cX3_chooses 84 = .ok (.return_, 1) := dk_177 (dk_at dksX3_chooses_3 15 rfl rfl)
abbrev cX3_leadsOn : ByteArray := prog_13_method_14_code
def yX3_leadsOn : MethodName := ⟨RX3, "leadsOn", "(II)Z"⟩
def dkwX3_leadsOn_4 : List UInt8 := [84, 4, 62, 132, 5, 1, 167, 255, 196, 132, 4, 1, 167, 255, 156, 29, 172]
abbrev dktX3_leadsOn_4 : List UInt8 := dkwX3_leadsOn_4 ++ []
def dkwX3_leadsOn_3 : List UInt8 := [167, 0, 27, 42, 180, 0, 23, 42, 180, 0, 30, 21, 5, 46, 92, 51, 4, 27, 4, 96, 120, 145, 128, 145]
abbrev dktX3_leadsOn_3 : List UInt8 := dkwX3_leadsOn_3 ++ dktX3_leadsOn_4
def dkwX3_leadsOn_2 : List UInt8 := [162, 0, 57, 42, 42, 180, 0, 20, 42, 180, 0, 30, 21, 5, 46, 27, 4, 96, 182, 0, 104, 154, 0, 6]
abbrev dktX3_leadsOn_2 : List UInt8 := dkwX3_leadsOn_2 ++ dktX3_leadsOn_3
def dkwX3_leadsOn_1 : List UInt8 := [154, 0, 6, 167, 0, 76, 42, 21, 4, 28, 182, 0, 108, 3, 54, 5, 21, 5, 42, 180, 0, 68]
abbrev dktX3_leadsOn_1 : List UInt8 := dkwX3_leadsOn_1 ++ dktX3_leadsOn_2
def dkwX3_leadsOn_0 : List UInt8 := [3, 62, 3, 54, 4, 21, 4, 18, 15, 162, 0, 99, 42, 42, 180, 0, 23, 21, 4, 27, 182, 0, 104]
abbrev dktX3_leadsOn_0 : List UInt8 := dkwX3_leadsOn_0 ++ dktX3_leadsOn_1
theorem dksX3_leadsOn_0 : cX3_leadsOn.data.toList.drop 0 = dktX3_leadsOn_0 := by decide +kernel
theorem dksX3_leadsOn_1 : cX3_leadsOn.data.toList.drop 23 = dktX3_leadsOn_1 := dk_seg dksX3_leadsOn_0 23 rfl rfl
theorem dksX3_leadsOn_2 : cX3_leadsOn.data.toList.drop 45 = dktX3_leadsOn_2 := dk_seg dksX3_leadsOn_1 22 rfl rfl
theorem dksX3_leadsOn_3 : cX3_leadsOn.data.toList.drop 69 = dktX3_leadsOn_3 := dk_seg dksX3_leadsOn_2 24 rfl rfl
theorem dksX3_leadsOn_4 : cX3_leadsOn.data.toList.drop 93 = dktX3_leadsOn_4 := dk_seg dksX3_leadsOn_3 24 rfl rfl
theorem dX3_leadsOn_0 : decode cX3_leadsOn 0 = .ok (.iconst 0, 1) := dk_3 (dk_at dksX3_leadsOn_0 0 rfl rfl)
theorem dX3_leadsOn_1 : decode cX3_leadsOn 1 = .ok (.istore_n 3, 1) := dk_62 (dk_at dksX3_leadsOn_0 1 rfl rfl)
theorem dX3_leadsOn_2 : decode cX3_leadsOn 2 = .ok (.iconst 0, 1) := dk_3 (dk_at dksX3_leadsOn_0 2 rfl rfl)
theorem dX3_leadsOn_3 : decode cX3_leadsOn 3 = .ok (.istore 4, 2) := dk_54 4 (dk_at dksX3_leadsOn_0 3 rfl rfl)
theorem dX3_leadsOn_5 : decode cX3_leadsOn 5 = .ok (.iload 4, 2) := dk_21 4 (dk_at dksX3_leadsOn_0 5 rfl rfl)
theorem dX3_leadsOn_7 : decode cX3_leadsOn 7 = .ok (.ldc 15, 2) := dk_18 15 (dk_at dksX3_leadsOn_0 7 rfl rfl)
theorem dX3_leadsOn_9 : decode cX3_leadsOn 9 = .ok (.if_icmp .ge 99, 3) := dk_162 0 99 (dk_at dksX3_leadsOn_0 9 rfl rfl)
theorem dX3_leadsOn_12 : decode cX3_leadsOn 12 = .ok (.aload_n 0, 1) := dk_42 (dk_at dksX3_leadsOn_0 12 rfl rfl)
theorem dX3_leadsOn_13 : decode cX3_leadsOn 13 = .ok (.aload_n 0, 1) := dk_42 (dk_at dksX3_leadsOn_0 13 rfl rfl)
theorem dX3_leadsOn_14 : decode cX3_leadsOn 14 = .ok (.getfield 23, 3) := dk_180 0 23 (dk_at dksX3_leadsOn_0 14 rfl rfl)
theorem dX3_leadsOn_17 : decode cX3_leadsOn 17 = .ok (.iload 4, 2) := dk_21 4 (dk_at dksX3_leadsOn_0 17 rfl rfl)
theorem dX3_leadsOn_19 : decode cX3_leadsOn 19 = .ok (.iload_n 1, 1) := dk_27 (dk_at dksX3_leadsOn_0 19 rfl rfl)
theorem dX3_leadsOn_20 : decode cX3_leadsOn 20 = .ok (.invokevirtual 104, 3) := dk_182 0 104 (dk_at dksX3_leadsOn_0 20 rfl rfl)
theorem dX3_leadsOn_23 : decode cX3_leadsOn 23 = .ok (.ifCond .ne 6, 3) := dk_154 0 6 (dk_at dksX3_leadsOn_1 0 rfl rfl)
theorem dX3_leadsOn_26 : decode cX3_leadsOn 26 = .ok (.goto 76, 3) := dk_167 0 76 (dk_at dksX3_leadsOn_1 3 rfl rfl)
theorem dX3_leadsOn_29 : decode cX3_leadsOn 29 = .ok (.aload_n 0, 1) := dk_42 (dk_at dksX3_leadsOn_1 6 rfl rfl)
theorem dX3_leadsOn_30 : decode cX3_leadsOn 30 = .ok (.iload 4, 2) := dk_21 4 (dk_at dksX3_leadsOn_1 7 rfl rfl)
theorem dX3_leadsOn_32 : decode cX3_leadsOn 32 = .ok (.iload_n 2, 1) := dk_28 (dk_at dksX3_leadsOn_1 9 rfl rfl)
theorem dX3_leadsOn_33 : decode cX3_leadsOn 33 = .ok (.invokevirtual 108, 3) := dk_182 0 108 (dk_at dksX3_leadsOn_1 10 rfl rfl)
theorem dX3_leadsOn_36 : decode cX3_leadsOn 36 = .ok (.iconst 0, 1) := dk_3 (dk_at dksX3_leadsOn_1 13 rfl rfl)
theorem dX3_leadsOn_37 : decode cX3_leadsOn 37 = .ok (.istore 5, 2) := dk_54 5 (dk_at dksX3_leadsOn_1 14 rfl rfl)
theorem dX3_leadsOn_39 : decode cX3_leadsOn 39 = .ok (.iload 5, 2) := dk_21 5 (dk_at dksX3_leadsOn_1 16 rfl rfl)
theorem dX3_leadsOn_41 : decode cX3_leadsOn 41 = .ok (.aload_n 0, 1) := dk_42 (dk_at dksX3_leadsOn_1 18 rfl rfl)
theorem dX3_leadsOn_42 : decode cX3_leadsOn 42 = .ok (.getfield 68, 3) := dk_180 0 68 (dk_at dksX3_leadsOn_1 19 rfl rfl)
theorem dX3_leadsOn_45 : decode cX3_leadsOn 45 = .ok (.if_icmp .ge 57, 3) := dk_162 0 57 (dk_at dksX3_leadsOn_2 0 rfl rfl)
theorem dX3_leadsOn_48 : decode cX3_leadsOn 48 = .ok (.aload_n 0, 1) := dk_42 (dk_at dksX3_leadsOn_2 3 rfl rfl)
theorem dX3_leadsOn_49 : decode cX3_leadsOn 49 = .ok (.aload_n 0, 1) := dk_42 (dk_at dksX3_leadsOn_2 4 rfl rfl)
theorem dX3_leadsOn_50 : decode cX3_leadsOn 50 = .ok (.getfield 20, 3) := dk_180 0 20 (dk_at dksX3_leadsOn_2 5 rfl rfl)
theorem dX3_leadsOn_53 : decode cX3_leadsOn 53 = .ok (.aload_n 0, 1) := dk_42 (dk_at dksX3_leadsOn_2 8 rfl rfl)
theorem dX3_leadsOn_54 : decode cX3_leadsOn 54 = .ok (.getfield 30, 3) := dk_180 0 30 (dk_at dksX3_leadsOn_2 9 rfl rfl)
theorem dX3_leadsOn_57 : decode cX3_leadsOn 57 = .ok (.iload 5, 2) := dk_21 5 (dk_at dksX3_leadsOn_2 12 rfl rfl)
theorem dX3_leadsOn_59 : decode cX3_leadsOn 59 = .ok (.iaload, 1) := dk_46 (dk_at dksX3_leadsOn_2 14 rfl rfl)
theorem dX3_leadsOn_60 : decode cX3_leadsOn 60 = .ok (.iload_n 1, 1) := dk_27 (dk_at dksX3_leadsOn_2 15 rfl rfl)
theorem dX3_leadsOn_61 : decode cX3_leadsOn 61 = .ok (.iconst 1, 1) := dk_4 (dk_at dksX3_leadsOn_2 16 rfl rfl)
theorem dX3_leadsOn_62 : decode cX3_leadsOn 62 = .ok (.iadd, 1) := dk_96 (dk_at dksX3_leadsOn_2 17 rfl rfl)
theorem dX3_leadsOn_63 : decode cX3_leadsOn 63 = .ok (.invokevirtual 104, 3) := dk_182 0 104 (dk_at dksX3_leadsOn_2 18 rfl rfl)
theorem dX3_leadsOn_66 : decode cX3_leadsOn 66 = .ok (.ifCond .ne 6, 3) := dk_154 0 6 (dk_at dksX3_leadsOn_2 21 rfl rfl)
theorem dX3_leadsOn_69 : decode cX3_leadsOn 69 = .ok (.goto 27, 3) := dk_167 0 27 (dk_at dksX3_leadsOn_3 0 rfl rfl)
theorem dX3_leadsOn_72 : decode cX3_leadsOn 72 = .ok (.aload_n 0, 1) := dk_42 (dk_at dksX3_leadsOn_3 3 rfl rfl)
theorem dX3_leadsOn_73 : decode cX3_leadsOn 73 = .ok (.getfield 23, 3) := dk_180 0 23 (dk_at dksX3_leadsOn_3 4 rfl rfl)
theorem dX3_leadsOn_76 : decode cX3_leadsOn 76 = .ok (.aload_n 0, 1) := dk_42 (dk_at dksX3_leadsOn_3 7 rfl rfl)
theorem dX3_leadsOn_77 : decode cX3_leadsOn 77 = .ok (.getfield 30, 3) := dk_180 0 30 (dk_at dksX3_leadsOn_3 8 rfl rfl)
theorem dX3_leadsOn_80 : decode cX3_leadsOn 80 = .ok (.iload 5, 2) := dk_21 5 (dk_at dksX3_leadsOn_3 11 rfl rfl)
theorem dX3_leadsOn_82 : decode cX3_leadsOn 82 = .ok (.iaload, 1) := dk_46 (dk_at dksX3_leadsOn_3 13 rfl rfl)
theorem dX3_leadsOn_83 : decode cX3_leadsOn 83 = .ok (.dup2, 1) := dk_92 (dk_at dksX3_leadsOn_3 14 rfl rfl)
theorem dX3_leadsOn_84 : decode cX3_leadsOn 84 = .ok (.baload, 1) := dk_51 (dk_at dksX3_leadsOn_3 15 rfl rfl)
theorem dX3_leadsOn_85 : decode cX3_leadsOn 85 = .ok (.iconst 1, 1) := dk_4 (dk_at dksX3_leadsOn_3 16 rfl rfl)
theorem dX3_leadsOn_86 : decode cX3_leadsOn 86 = .ok (.iload_n 1, 1) := dk_27 (dk_at dksX3_leadsOn_3 17 rfl rfl)
theorem dX3_leadsOn_87 : decode cX3_leadsOn 87 = .ok (.iconst 1, 1) := dk_4 (dk_at dksX3_leadsOn_3 18 rfl rfl)
theorem dX3_leadsOn_88 : decode cX3_leadsOn 88 = .ok (.iadd, 1) := dk_96 (dk_at dksX3_leadsOn_3 19 rfl rfl)
theorem dX3_leadsOn_89 : decode cX3_leadsOn 89 = .ok (.ishl, 1) := dk_120 (dk_at dksX3_leadsOn_3 20 rfl rfl)
theorem dX3_leadsOn_90 : decode cX3_leadsOn 90 = .ok (.i2b, 1) := dk_145 (dk_at dksX3_leadsOn_3 21 rfl rfl)
theorem dX3_leadsOn_91 : decode cX3_leadsOn 91 = .ok (.ior, 1) := dk_128 (dk_at dksX3_leadsOn_3 22 rfl rfl)
theorem dX3_leadsOn_92 : decode cX3_leadsOn 92 = .ok (.i2b, 1) := dk_145 (dk_at dksX3_leadsOn_3 23 rfl rfl)
theorem dX3_leadsOn_93 : decode cX3_leadsOn 93 = .ok (.bastore, 1) := dk_84 (dk_at dksX3_leadsOn_4 0 rfl rfl)
theorem dX3_leadsOn_94 : decode cX3_leadsOn 94 = .ok (.iconst 1, 1) := dk_4 (dk_at dksX3_leadsOn_4 1 rfl rfl)
theorem dX3_leadsOn_95 : decode cX3_leadsOn 95 = .ok (.istore_n 3, 1) := dk_62 (dk_at dksX3_leadsOn_4 2 rfl rfl)
theorem dX3_leadsOn_96 : decode cX3_leadsOn 96 = .ok (.iinc 5 1, 3) := dk_132 5 1 (dk_at dksX3_leadsOn_4 3 rfl rfl)
theorem dX3_leadsOn_99 : decode cX3_leadsOn 99 = .ok (.goto (-60), 3) := dk_167 255 196 (dk_at dksX3_leadsOn_4 6 rfl rfl)
theorem dX3_leadsOn_102 : decode cX3_leadsOn 102 = .ok (.iinc 4 1, 3) := dk_132 4 1 (dk_at dksX3_leadsOn_4 9 rfl rfl)
theorem dX3_leadsOn_105 : decode cX3_leadsOn 105 = .ok (.goto (-100), 3) := dk_167 255 156 (dk_at dksX3_leadsOn_4 12 rfl rfl)
theorem dX3_leadsOn_108 : decode cX3_leadsOn 108 = .ok (.iload_n 3, 1) := dk_29 (dk_at dksX3_leadsOn_4 15 rfl rfl)
theorem dX3_leadsOn_109 : decode cX3_leadsOn 109 = .ok (.ireturn, 1) := dk_172 (dk_at dksX3_leadsOn_4 16 rfl rfl)
abbrev cX3_walks : ByteArray := prog_13_method_15_code
def yX3_walks : MethodName := ⟨RX3, "walks", "(II)V"⟩
def dkwX3_walks_9 : List UInt8 := [167, 255, 209, 42, 180, 0, 45, 29, 4, 96, 21, 4, 79, 132, 3, 1, 167, 255, 162, 177]
abbrev dktX3_walks_9 : List UInt8 := dkwX3_walks_9 ++ []
def dkwX3_walks_8 : List UInt8 := [182, 0, 104, 153, 0, 17, 21, 4, 42, 180, 0, 30, 21, 5, 46, 184, 0, 94, 54, 4, 132, 5, 1]
abbrev dktX3_walks_8 : List UInt8 := dkwX3_walks_8 ++ dktX3_walks_9
def dkwX3_walks_7 : List UInt8 := [42, 180, 0, 68, 162, 0, 44, 42, 42, 180, 0, 20, 42, 180, 0, 30, 21, 5, 46, 29, 4, 96]
abbrev dktX3_walks_7 : List UInt8 := dkwX3_walks_7 ++ dktX3_walks_8
def dkwX3_walks_6 : List UInt8 := [42, 180, 0, 45, 29, 46, 42, 180, 0, 42, 29, 46, 182, 0, 108, 18, 125, 54, 4, 3, 54, 5, 21, 5]
abbrev dktX3_walks_6 : List UInt8 := dkwX3_walks_6 ++ dktX3_walks_7
def dkwX3_walks_5 : List UInt8 := [132, 3, 255, 167, 255, 182, 42, 180, 0, 45, 3, 27, 79, 3, 62, 29, 42, 180, 0, 114, 162, 0, 92, 42]
abbrev dktX3_walks_5 : List UInt8 := dkwX3_walks_5 ++ dktX3_walks_6
def dkwX3_walks_4 : List UInt8 := [153, 0, 18, 42, 180, 0, 20, 21, 4, 92, 51, 4, 29, 120, 145, 128, 145, 84, 132, 4, 1, 167, 255, 195]
abbrev dktX3_walks_4 : List UInt8 := dkwX3_walks_4 ++ dktX3_walks_5
def dkwX3_walks_3 : List UInt8 := [153, 0, 40, 42, 21, 4, 42, 180, 0, 42, 29, 46, 42, 180, 0, 20, 29, 4, 96, 182, 0, 117]
abbrev dktX3_walks_3 : List UInt8 := dkwX3_walks_3 ++ dktX3_walks_4
def dkwX3_walks_2 : List UInt8 := [155, 0, 76, 3, 54, 4, 21, 4, 18, 15, 162, 0, 60, 42, 42, 180, 0, 23, 21, 4, 29, 182, 0, 104]
abbrev dktX3_walks_2 : List UInt8 := dkwX3_walks_2 ++ dktX3_walks_3
def dkwX3_walks_1 : List UInt8 := [180, 0, 20, 28, 92, 51, 4, 42, 180, 0, 114, 120, 145, 128, 145, 84, 42, 180, 0, 114, 4, 100, 62, 29]
abbrev dktX3_walks_1 : List UInt8 := dkwX3_walks_1 ++ dktX3_walks_2
def dkwX3_walks_0 : List UInt8 := [3, 62, 29, 18, 15, 162, 0, 16, 42, 180, 0, 20, 29, 3, 84, 132, 3, 1, 167, 255, 240, 42]
abbrev dktX3_walks_0 : List UInt8 := dkwX3_walks_0 ++ dktX3_walks_1
theorem dksX3_walks_0 : cX3_walks.data.toList.drop 0 = dktX3_walks_0 := by decide +kernel
theorem dksX3_walks_1 : cX3_walks.data.toList.drop 22 = dktX3_walks_1 := dk_seg dksX3_walks_0 22 rfl rfl
theorem dksX3_walks_2 : cX3_walks.data.toList.drop 46 = dktX3_walks_2 := dk_seg dksX3_walks_1 24 rfl rfl
theorem dksX3_walks_3 : cX3_walks.data.toList.drop 70 = dktX3_walks_3 := dk_seg dksX3_walks_2 24 rfl rfl
theorem dksX3_walks_4 : cX3_walks.data.toList.drop 92 = dktX3_walks_4 := dk_seg dksX3_walks_3 22 rfl rfl
theorem dksX3_walks_5 : cX3_walks.data.toList.drop 116 = dktX3_walks_5 := dk_seg dksX3_walks_4 24 rfl rfl
theorem dksX3_walks_6 : cX3_walks.data.toList.drop 140 = dktX3_walks_6 := dk_seg dksX3_walks_5 24 rfl rfl
theorem dksX3_walks_7 : cX3_walks.data.toList.drop 164 = dktX3_walks_7 := dk_seg dksX3_walks_6 24 rfl rfl
theorem dksX3_walks_8 : cX3_walks.data.toList.drop 186 = dktX3_walks_8 := dk_seg dksX3_walks_7 22 rfl rfl
theorem dksX3_walks_9 : cX3_walks.data.toList.drop 209 = dktX3_walks_9 := dk_seg dksX3_walks_8 23 rfl rfl
theorem dX3_walks_0 : decode cX3_walks 0 = .ok (.iconst 0, 1) := dk_3 (dk_at dksX3_walks_0 0 rfl rfl)
theorem dX3_walks_1 : decode cX3_walks 1 = .ok (.istore_n 3, 1) := dk_62 (dk_at dksX3_walks_0 1 rfl rfl)
theorem dX3_walks_2 : decode cX3_walks 2 = .ok (.iload_n 3, 1) := dk_29 (dk_at dksX3_walks_0 2 rfl rfl)
theorem dX3_walks_3 : decode cX3_walks 3 = .ok (.ldc 15, 2) := dk_18 15 (dk_at dksX3_walks_0 3 rfl rfl)
theorem dX3_walks_5 : decode cX3_walks 5 = .ok (.if_icmp .ge 16, 3) := dk_162 0 16 (dk_at dksX3_walks_0 5 rfl rfl)
theorem dX3_walks_8 : decode cX3_walks 8 = .ok (.aload_n 0, 1) := dk_42 (dk_at dksX3_walks_0 8 rfl rfl)
theorem dX3_walks_9 : decode cX3_walks 9 = .ok (.getfield 20, 3) := dk_180 0 20 (dk_at dksX3_walks_0 9 rfl rfl)
theorem dX3_walks_12 : decode cX3_walks 12 = .ok (.iload_n 3, 1) := dk_29 (dk_at dksX3_walks_0 12 rfl rfl)
theorem dX3_walks_13 : decode cX3_walks 13 = .ok (.iconst 0, 1) := dk_3 (dk_at dksX3_walks_0 13 rfl rfl)
theorem dX3_walks_14 : decode cX3_walks 14 = .ok (.bastore, 1) := dk_84 (dk_at dksX3_walks_0 14 rfl rfl)
theorem dX3_walks_15 : decode cX3_walks 15 = .ok (.iinc 3 1, 3) := dk_132 3 1 (dk_at dksX3_walks_0 15 rfl rfl)
theorem dX3_walks_18 : decode cX3_walks 18 = .ok (.goto (-16), 3) := dk_167 255 240 (dk_at dksX3_walks_0 18 rfl rfl)
theorem dX3_walks_21 : decode cX3_walks 21 = .ok (.aload_n 0, 1) := dk_42 (dk_at dksX3_walks_0 21 rfl rfl)
theorem dX3_walks_22 : decode cX3_walks 22 = .ok (.getfield 20, 3) := dk_180 0 20 (dk_at dksX3_walks_1 0 rfl rfl)
theorem dX3_walks_25 : decode cX3_walks 25 = .ok (.iload_n 2, 1) := dk_28 (dk_at dksX3_walks_1 3 rfl rfl)
theorem dX3_walks_26 : decode cX3_walks 26 = .ok (.dup2, 1) := dk_92 (dk_at dksX3_walks_1 4 rfl rfl)
theorem dX3_walks_27 : decode cX3_walks 27 = .ok (.baload, 1) := dk_51 (dk_at dksX3_walks_1 5 rfl rfl)
theorem dX3_walks_28 : decode cX3_walks 28 = .ok (.iconst 1, 1) := dk_4 (dk_at dksX3_walks_1 6 rfl rfl)
theorem dX3_walks_29 : decode cX3_walks 29 = .ok (.aload_n 0, 1) := dk_42 (dk_at dksX3_walks_1 7 rfl rfl)
theorem dX3_walks_30 : decode cX3_walks 30 = .ok (.getfield 114, 3) := dk_180 0 114 (dk_at dksX3_walks_1 8 rfl rfl)
theorem dX3_walks_33 : decode cX3_walks 33 = .ok (.ishl, 1) := dk_120 (dk_at dksX3_walks_1 11 rfl rfl)
theorem dX3_walks_34 : decode cX3_walks 34 = .ok (.i2b, 1) := dk_145 (dk_at dksX3_walks_1 12 rfl rfl)
theorem dX3_walks_35 : decode cX3_walks 35 = .ok (.ior, 1) := dk_128 (dk_at dksX3_walks_1 13 rfl rfl)
theorem dX3_walks_36 : decode cX3_walks 36 = .ok (.i2b, 1) := dk_145 (dk_at dksX3_walks_1 14 rfl rfl)
theorem dX3_walks_37 : decode cX3_walks 37 = .ok (.bastore, 1) := dk_84 (dk_at dksX3_walks_1 15 rfl rfl)
theorem dX3_walks_38 : decode cX3_walks 38 = .ok (.aload_n 0, 1) := dk_42 (dk_at dksX3_walks_1 16 rfl rfl)
theorem dX3_walks_39 : decode cX3_walks 39 = .ok (.getfield 114, 3) := dk_180 0 114 (dk_at dksX3_walks_1 17 rfl rfl)
theorem dX3_walks_42 : decode cX3_walks 42 = .ok (.iconst 1, 1) := dk_4 (dk_at dksX3_walks_1 20 rfl rfl)
theorem dX3_walks_43 : decode cX3_walks 43 = .ok (.isub, 1) := dk_100 (dk_at dksX3_walks_1 21 rfl rfl)
theorem dX3_walks_44 : decode cX3_walks 44 = .ok (.istore_n 3, 1) := dk_62 (dk_at dksX3_walks_1 22 rfl rfl)
theorem dX3_walks_45 : decode cX3_walks 45 = .ok (.iload_n 3, 1) := dk_29 (dk_at dksX3_walks_1 23 rfl rfl)
theorem dX3_walks_46 : decode cX3_walks 46 = .ok (.ifCond .lt 76, 3) := dk_155 0 76 (dk_at dksX3_walks_2 0 rfl rfl)
theorem dX3_walks_49 : decode cX3_walks 49 = .ok (.iconst 0, 1) := dk_3 (dk_at dksX3_walks_2 3 rfl rfl)
theorem dX3_walks_50 : decode cX3_walks 50 = .ok (.istore 4, 2) := dk_54 4 (dk_at dksX3_walks_2 4 rfl rfl)
theorem dX3_walks_52 : decode cX3_walks 52 = .ok (.iload 4, 2) := dk_21 4 (dk_at dksX3_walks_2 6 rfl rfl)
theorem dX3_walks_54 : decode cX3_walks 54 = .ok (.ldc 15, 2) := dk_18 15 (dk_at dksX3_walks_2 8 rfl rfl)
theorem dX3_walks_56 : decode cX3_walks 56 = .ok (.if_icmp .ge 60, 3) := dk_162 0 60 (dk_at dksX3_walks_2 10 rfl rfl)
theorem dX3_walks_59 : decode cX3_walks 59 = .ok (.aload_n 0, 1) := dk_42 (dk_at dksX3_walks_2 13 rfl rfl)
theorem dX3_walks_60 : decode cX3_walks 60 = .ok (.aload_n 0, 1) := dk_42 (dk_at dksX3_walks_2 14 rfl rfl)
theorem dX3_walks_61 : decode cX3_walks 61 = .ok (.getfield 23, 3) := dk_180 0 23 (dk_at dksX3_walks_2 15 rfl rfl)
theorem dX3_walks_64 : decode cX3_walks 64 = .ok (.iload 4, 2) := dk_21 4 (dk_at dksX3_walks_2 18 rfl rfl)
theorem dX3_walks_66 : decode cX3_walks 66 = .ok (.iload_n 3, 1) := dk_29 (dk_at dksX3_walks_2 20 rfl rfl)
theorem dX3_walks_67 : decode cX3_walks 67 = .ok (.invokevirtual 104, 3) := dk_182 0 104 (dk_at dksX3_walks_2 21 rfl rfl)
theorem dX3_walks_70 : decode cX3_walks 70 = .ok (.ifCond .eq 40, 3) := dk_153 0 40 (dk_at dksX3_walks_3 0 rfl rfl)
theorem dX3_walks_73 : decode cX3_walks 73 = .ok (.aload_n 0, 1) := dk_42 (dk_at dksX3_walks_3 3 rfl rfl)
theorem dX3_walks_74 : decode cX3_walks 74 = .ok (.iload 4, 2) := dk_21 4 (dk_at dksX3_walks_3 4 rfl rfl)
theorem dX3_walks_76 : decode cX3_walks 76 = .ok (.aload_n 0, 1) := dk_42 (dk_at dksX3_walks_3 6 rfl rfl)
theorem dX3_walks_77 : decode cX3_walks 77 = .ok (.getfield 42, 3) := dk_180 0 42 (dk_at dksX3_walks_3 7 rfl rfl)
theorem dX3_walks_80 : decode cX3_walks 80 = .ok (.iload_n 3, 1) := dk_29 (dk_at dksX3_walks_3 10 rfl rfl)
theorem dX3_walks_81 : decode cX3_walks 81 = .ok (.iaload, 1) := dk_46 (dk_at dksX3_walks_3 11 rfl rfl)
theorem dX3_walks_82 : decode cX3_walks 82 = .ok (.aload_n 0, 1) := dk_42 (dk_at dksX3_walks_3 12 rfl rfl)
theorem dX3_walks_83 : decode cX3_walks 83 = .ok (.getfield 20, 3) := dk_180 0 20 (dk_at dksX3_walks_3 13 rfl rfl)
theorem dX3_walks_86 : decode cX3_walks 86 = .ok (.iload_n 3, 1) := dk_29 (dk_at dksX3_walks_3 16 rfl rfl)
theorem dX3_walks_87 : decode cX3_walks 87 = .ok (.iconst 1, 1) := dk_4 (dk_at dksX3_walks_3 17 rfl rfl)
theorem dX3_walks_88 : decode cX3_walks 88 = .ok (.iadd, 1) := dk_96 (dk_at dksX3_walks_3 18 rfl rfl)
theorem dX3_walks_89 : decode cX3_walks 89 = .ok (.invokevirtual 117, 3) := dk_182 0 117 (dk_at dksX3_walks_3 19 rfl rfl)
theorem dX3_walks_92 : decode cX3_walks 92 = .ok (.ifCond .eq 18, 3) := dk_153 0 18 (dk_at dksX3_walks_4 0 rfl rfl)
theorem dX3_walks_95 : decode cX3_walks 95 = .ok (.aload_n 0, 1) := dk_42 (dk_at dksX3_walks_4 3 rfl rfl)
theorem dX3_walks_96 : decode cX3_walks 96 = .ok (.getfield 20, 3) := dk_180 0 20 (dk_at dksX3_walks_4 4 rfl rfl)
theorem dX3_walks_99 : decode cX3_walks 99 = .ok (.iload 4, 2) := dk_21 4 (dk_at dksX3_walks_4 7 rfl rfl)
theorem dX3_walks_101 : decode cX3_walks 101 = .ok (.dup2, 1) := dk_92 (dk_at dksX3_walks_4 9 rfl rfl)
theorem dX3_walks_102 : decode cX3_walks 102 = .ok (.baload, 1) := dk_51 (dk_at dksX3_walks_4 10 rfl rfl)
theorem dX3_walks_103 : decode cX3_walks 103 = .ok (.iconst 1, 1) := dk_4 (dk_at dksX3_walks_4 11 rfl rfl)
theorem dX3_walks_104 : decode cX3_walks 104 = .ok (.iload_n 3, 1) := dk_29 (dk_at dksX3_walks_4 12 rfl rfl)
theorem dX3_walks_105 : decode cX3_walks 105 = .ok (.ishl, 1) := dk_120 (dk_at dksX3_walks_4 13 rfl rfl)
theorem dX3_walks_106 : decode cX3_walks 106 = .ok (.i2b, 1) := dk_145 (dk_at dksX3_walks_4 14 rfl rfl)
theorem dX3_walks_107 : decode cX3_walks 107 = .ok (.ior, 1) := dk_128 (dk_at dksX3_walks_4 15 rfl rfl)
theorem dX3_walks_108 : decode cX3_walks 108 = .ok (.i2b, 1) := dk_145 (dk_at dksX3_walks_4 16 rfl rfl)
theorem dX3_walks_109 : decode cX3_walks 109 = .ok (.bastore, 1) := dk_84 (dk_at dksX3_walks_4 17 rfl rfl)
theorem dX3_walks_110 : decode cX3_walks 110 = .ok (.iinc 4 1, 3) := dk_132 4 1 (dk_at dksX3_walks_4 18 rfl rfl)
theorem dX3_walks_113 : decode cX3_walks 113 = .ok (.goto (-61), 3) := dk_167 255 195 (dk_at dksX3_walks_4 21 rfl rfl)
theorem dX3_walks_116 : decode cX3_walks 116 = .ok (.iinc 3 (-1), 3) := dk_132 3 255 (dk_at dksX3_walks_5 0 rfl rfl)
theorem dX3_walks_119 : decode cX3_walks 119 = .ok (.goto (-74), 3) := dk_167 255 182 (dk_at dksX3_walks_5 3 rfl rfl)
theorem dX3_walks_122 : decode cX3_walks 122 = .ok (.aload_n 0, 1) := dk_42 (dk_at dksX3_walks_5 6 rfl rfl)
theorem dX3_walks_123 : decode cX3_walks 123 = .ok (.getfield 45, 3) := dk_180 0 45 (dk_at dksX3_walks_5 7 rfl rfl)
theorem dX3_walks_126 : decode cX3_walks 126 = .ok (.iconst 0, 1) := dk_3 (dk_at dksX3_walks_5 10 rfl rfl)
theorem dX3_walks_127 : decode cX3_walks 127 = .ok (.iload_n 1, 1) := dk_27 (dk_at dksX3_walks_5 11 rfl rfl)
theorem dX3_walks_128 : decode cX3_walks 128 = .ok (.iastore, 1) := dk_79 (dk_at dksX3_walks_5 12 rfl rfl)
theorem dX3_walks_129 : decode cX3_walks 129 = .ok (.iconst 0, 1) := dk_3 (dk_at dksX3_walks_5 13 rfl rfl)
theorem dX3_walks_130 : decode cX3_walks 130 = .ok (.istore_n 3, 1) := dk_62 (dk_at dksX3_walks_5 14 rfl rfl)
theorem dX3_walks_131 : decode cX3_walks 131 = .ok (.iload_n 3, 1) := dk_29 (dk_at dksX3_walks_5 15 rfl rfl)
theorem dX3_walks_132 : decode cX3_walks 132 = .ok (.aload_n 0, 1) := dk_42 (dk_at dksX3_walks_5 16 rfl rfl)
theorem dX3_walks_133 : decode cX3_walks 133 = .ok (.getfield 114, 3) := dk_180 0 114 (dk_at dksX3_walks_5 17 rfl rfl)
theorem dX3_walks_136 : decode cX3_walks 136 = .ok (.if_icmp .ge 92, 3) := dk_162 0 92 (dk_at dksX3_walks_5 20 rfl rfl)
theorem dX3_walks_139 : decode cX3_walks 139 = .ok (.aload_n 0, 1) := dk_42 (dk_at dksX3_walks_5 23 rfl rfl)
theorem dX3_walks_140 : decode cX3_walks 140 = .ok (.aload_n 0, 1) := dk_42 (dk_at dksX3_walks_6 0 rfl rfl)
theorem dX3_walks_141 : decode cX3_walks 141 = .ok (.getfield 45, 3) := dk_180 0 45 (dk_at dksX3_walks_6 1 rfl rfl)
theorem dX3_walks_144 : decode cX3_walks 144 = .ok (.iload_n 3, 1) := dk_29 (dk_at dksX3_walks_6 4 rfl rfl)
theorem dX3_walks_145 : decode cX3_walks 145 = .ok (.iaload, 1) := dk_46 (dk_at dksX3_walks_6 5 rfl rfl)
theorem dX3_walks_146 : decode cX3_walks 146 = .ok (.aload_n 0, 1) := dk_42 (dk_at dksX3_walks_6 6 rfl rfl)
theorem dX3_walks_147 : decode cX3_walks 147 = .ok (.getfield 42, 3) := dk_180 0 42 (dk_at dksX3_walks_6 7 rfl rfl)
theorem dX3_walks_150 : decode cX3_walks 150 = .ok (.iload_n 3, 1) := dk_29 (dk_at dksX3_walks_6 10 rfl rfl)
theorem dX3_walks_151 : decode cX3_walks 151 = .ok (.iaload, 1) := dk_46 (dk_at dksX3_walks_6 11 rfl rfl)
theorem dX3_walks_152 : decode cX3_walks 152 = .ok (.invokevirtual 108, 3) := dk_182 0 108 (dk_at dksX3_walks_6 12 rfl rfl)
theorem dX3_walks_155 : decode cX3_walks 155 = .ok (.ldc 125, 2) := dk_18 125 (dk_at dksX3_walks_6 15 rfl rfl)
theorem dX3_walks_157 : decode cX3_walks 157 = .ok (.istore 4, 2) := dk_54 4 (dk_at dksX3_walks_6 17 rfl rfl)
theorem dX3_walks_159 : decode cX3_walks 159 = .ok (.iconst 0, 1) := dk_3 (dk_at dksX3_walks_6 19 rfl rfl)
theorem dX3_walks_160 : decode cX3_walks 160 = .ok (.istore 5, 2) := dk_54 5 (dk_at dksX3_walks_6 20 rfl rfl)
theorem dX3_walks_162 : decode cX3_walks 162 = .ok (.iload 5, 2) := dk_21 5 (dk_at dksX3_walks_6 22 rfl rfl)
theorem dX3_walks_164 : decode cX3_walks 164 = .ok (.aload_n 0, 1) := dk_42 (dk_at dksX3_walks_7 0 rfl rfl)
theorem dX3_walks_165 : decode cX3_walks 165 = .ok (.getfield 68, 3) := dk_180 0 68 (dk_at dksX3_walks_7 1 rfl rfl)
theorem dX3_walks_168 : decode cX3_walks 168 = .ok (.if_icmp .ge 44, 3) := dk_162 0 44 (dk_at dksX3_walks_7 4 rfl rfl)
theorem dX3_walks_171 : decode cX3_walks 171 = .ok (.aload_n 0, 1) := dk_42 (dk_at dksX3_walks_7 7 rfl rfl)
theorem dX3_walks_172 : decode cX3_walks 172 = .ok (.aload_n 0, 1) := dk_42 (dk_at dksX3_walks_7 8 rfl rfl)
theorem dX3_walks_173 : decode cX3_walks 173 = .ok (.getfield 20, 3) := dk_180 0 20 (dk_at dksX3_walks_7 9 rfl rfl)
theorem dX3_walks_176 : decode cX3_walks 176 = .ok (.aload_n 0, 1) := dk_42 (dk_at dksX3_walks_7 12 rfl rfl)
theorem dX3_walks_177 : decode cX3_walks 177 = .ok (.getfield 30, 3) := dk_180 0 30 (dk_at dksX3_walks_7 13 rfl rfl)
theorem dX3_walks_180 : decode cX3_walks 180 = .ok (.iload 5, 2) := dk_21 5 (dk_at dksX3_walks_7 16 rfl rfl)
theorem dX3_walks_182 : decode cX3_walks 182 = .ok (.iaload, 1) := dk_46 (dk_at dksX3_walks_7 18 rfl rfl)
theorem dX3_walks_183 : decode cX3_walks 183 = .ok (.iload_n 3, 1) := dk_29 (dk_at dksX3_walks_7 19 rfl rfl)
theorem dX3_walks_184 : decode cX3_walks 184 = .ok (.iconst 1, 1) := dk_4 (dk_at dksX3_walks_7 20 rfl rfl)
theorem dX3_walks_185 : decode cX3_walks 185 = .ok (.iadd, 1) := dk_96 (dk_at dksX3_walks_7 21 rfl rfl)
theorem dX3_walks_186 : decode cX3_walks 186 = .ok (.invokevirtual 104, 3) := dk_182 0 104 (dk_at dksX3_walks_8 0 rfl rfl)
theorem dX3_walks_189 : decode cX3_walks 189 = .ok (.ifCond .eq 17, 3) := dk_153 0 17 (dk_at dksX3_walks_8 3 rfl rfl)
theorem dX3_walks_192 : decode cX3_walks 192 = .ok (.iload 4, 2) := dk_21 4 (dk_at dksX3_walks_8 6 rfl rfl)
theorem dX3_walks_194 : decode cX3_walks 194 = .ok (.aload_n 0, 1) := dk_42 (dk_at dksX3_walks_8 8 rfl rfl)
theorem dX3_walks_195 : decode cX3_walks 195 = .ok (.getfield 30, 3) := dk_180 0 30 (dk_at dksX3_walks_8 9 rfl rfl)
theorem dX3_walks_198 : decode cX3_walks 198 = .ok (.iload 5, 2) := dk_21 5 (dk_at dksX3_walks_8 12 rfl rfl)
theorem dX3_walks_200 : decode cX3_walks 200 = .ok (.iaload, 1) := dk_46 (dk_at dksX3_walks_8 14 rfl rfl)
theorem dX3_walks_201 : decode cX3_walks 201 = .ok (.invokestatic 94, 3) := dk_184 0 94 (dk_at dksX3_walks_8 15 rfl rfl)
theorem dX3_walks_204 : decode cX3_walks 204 = .ok (.istore 4, 2) := dk_54 4 (dk_at dksX3_walks_8 18 rfl rfl)
theorem dX3_walks_206 : decode cX3_walks 206 = .ok (.iinc 5 1, 3) := dk_132 5 1 (dk_at dksX3_walks_8 20 rfl rfl)
theorem dX3_walks_209 : decode cX3_walks 209 = .ok (.goto (-47), 3) := dk_167 255 209 (dk_at dksX3_walks_9 0 rfl rfl)
theorem dX3_walks_212 : decode cX3_walks 212 = .ok (.aload_n 0, 1) := dk_42 (dk_at dksX3_walks_9 3 rfl rfl)
theorem dX3_walks_213 : decode cX3_walks 213 = .ok (.getfield 45, 3) := dk_180 0 45 (dk_at dksX3_walks_9 4 rfl rfl)
theorem dX3_walks_216 : decode cX3_walks 216 = .ok (.iload_n 3, 1) := dk_29 (dk_at dksX3_walks_9 7 rfl rfl)
theorem dX3_walks_217 : decode cX3_walks 217 = .ok (.iconst 1, 1) := dk_4 (dk_at dksX3_walks_9 8 rfl rfl)
theorem dX3_walks_218 : decode cX3_walks 218 = .ok (.iadd, 1) := dk_96 (dk_at dksX3_walks_9 9 rfl rfl)
theorem dX3_walks_219 : decode cX3_walks 219 = .ok (.iload 4, 2) := dk_21 4 (dk_at dksX3_walks_9 10 rfl rfl)
theorem dX3_walks_221 : decode cX3_walks 221 = .ok (.iastore, 1) := dk_79 (dk_at dksX3_walks_9 12 rfl rfl)
theorem dX3_walks_222 : decode cX3_walks 222 = .ok (.iinc 3 1, 3) := dk_132 3 1 (dk_at dksX3_walks_9 13 rfl rfl)
theorem dX3_walks_225 : decode cX3_walks 225 = .ok (.goto (-94), 3) := dk_167 255 162 (dk_at dksX3_walks_9 16 rfl rfl)
theorem dX3_walks_228 : decode cX3_walks 228 = .ok (.return_, 1) := dk_177 (dk_at dksX3_walks_9 19 rfl rfl)
theorem q111 : (Jvm.Cond.initialized "HotIron$Plans") ∈ lw_all := lw_g (lw_at lw_m1 7 rfl) rfl
theorem q194 : (Jvm.Cond.fieldLinkNest "HotIron$Plans" (151 : Nat) "HotIron$State" "bar" "[I" "HotIron") ∈ lw_tbl := lw_at lw_m1 90 rfl
theorem q197 : (Jvm.Cond.fieldLinkNest "HotIron$Plans" (134 : Nat) "HotIron$State" "shape" "[I" "HotIron") ∈ lw_tbl := lw_at lw_m1 93 rfl
theorem q199 : (Jvm.Cond.fieldLinkNest "HotIron$Plans" (62 : Nat) "HotIron$State" "terms" "[I" "HotIron") ∈ lw_tbl := lw_at lw_m1 95 rfl
theorem q207 : (Jvm.Cond.fieldLinkNest "HotIron$Plans" (59 : Nat) "HotIron$State" "cells" "I" "HotIron") ∈ lw_tbl := lw_at lw_m1 103 rfl
theorem q210 : (Jvm.Cond.fieldLinkNest "HotIron$Plans" (77 : Nat) "HotIron$State" "tongs" "I" "HotIron") ∈ lw_tbl := lw_at lw_m1 106 rfl
theorem q326 : (Jvm.Cond.instantiable "HotIron$Plans" (18 : Nat)) ∈ lw_all := lw_g (lw_at lw_m1 222 rfl) rfl
theorem q328 : (Jvm.Cond.instanceMethod ({ cls := "HotIron$Plans", name := "<init>", desc := "(LHotIron;)V" } : Jvm.MethodName)) ∈ lw_all := lw_g (lw_at lw_m1 224 rfl) rfl
theorem q329 : (Jvm.Cond.code ({ cls := "HotIron$Plans", name := "<init>", desc := "(LHotIron;)V" } : Jvm.MethodName) prog_13_method_1_code (2 : Nat) (Option.none : Option Jvm.ClassFile.FieldType)) ∈ lw_all := lw_g (lw_at lw_m1 225 rfl) rfl
theorem q330 : (Jvm.Cond.methodLink "HotIron$Plans" (9 : Nat) ({ cls := "java/lang/Object", name := "<init>", desc := "()V" } : Jvm.MethodName)) ∈ lw_all := lw_g (lw_at lw_m1 226 rfl) rfl
theorem q331 : (Jvm.Cond.constant "HotIron$Plans" (15 : Nat) (59049 : Int32)) ∈ lw_all := lw_g (lw_at lw_m1 227 rfl) rfl
theorem q332 : (Jvm.Cond.fieldLink "HotIron$Plans" (16 : Nat) "HotIron$Plans" "layers" "[B") ∈ lw_all := lw_g (lw_at lw_m1 228 rfl) rfl
theorem q333 : (Jvm.Cond.fieldLink "HotIron$Plans" (20 : Nat) "HotIron$Plans" "good" "[B") ∈ lw_all := lw_g (lw_at lw_m1 229 rfl) rfl
theorem q334 : (Jvm.Cond.fieldLink "HotIron$Plans" (23 : Nat) "HotIron$Plans" "on" "[B") ∈ lw_all := lw_g (lw_at lw_m1 230 rfl) rfl
theorem q335 : (Jvm.Cond.fieldLink "HotIron$Plans" (26 : Nat) "HotIron$Plans" "seen" "[I") ∈ lw_all := lw_g (lw_at lw_m1 231 rfl) rfl
theorem q336 : (Jvm.Cond.fieldLink "HotIron$Plans" (30 : Nat) "HotIron$Plans" "found" "[I") ∈ lw_all := lw_g (lw_at lw_m1 232 rfl) rfl
theorem q337 : (Jvm.Cond.fieldLink "HotIron$Plans" (33 : Nat) "HotIron$Plans" "depth" "[I") ∈ lw_all := lw_g (lw_at lw_m1 233 rfl) rfl
theorem q338 : (Jvm.Cond.fieldLink "HotIron$Plans" (36 : Nat) "HotIron$Plans" "powers" "[I") ∈ lw_all := lw_g (lw_at lw_m1 234 rfl) rfl
theorem q339 : (Jvm.Cond.fieldLink "HotIron$Plans" (39 : Nat) "HotIron$Plans" "counts" "[I") ∈ lw_all := lw_g (lw_at lw_m1 235 rfl) rfl
theorem q341 : (Jvm.Cond.fieldLink "HotIron$Plans" (42 : Nat) "HotIron$Plans" "places" "[I") ∈ lw_all := lw_g (lw_at lw_m1 237 rfl) rfl
theorem q343 : (Jvm.Cond.fieldLink "HotIron$Plans" (45 : Nat) "HotIron$Plans" "rows" "[I") ∈ lw_all := lw_g (lw_at lw_m1 239 rfl) rfl
theorem q345 : (Jvm.Cond.fieldLink "HotIron$Plans" (52 : Nat) "HotIron$Plans" "cells" "I") ∈ lw_all := lw_g (lw_at lw_m2 1 rfl) rfl
theorem q346 : (Jvm.Cond.fieldLink "HotIron$Plans" (65 : Nat) "HotIron$Plans" "blows" "I") ∈ lw_all := lw_g (lw_at lw_m2 2 rfl) rfl
theorem q347 : (Jvm.Cond.fieldLink "HotIron$Plans" (68 : Nat) "HotIron$Plans" "many" "I") ∈ lw_all := lw_g (lw_at lw_m2 3 rfl) rfl
theorem q348 : (Jvm.Cond.fieldLink "HotIron$Plans" (84 : Nat) "HotIron$Plans" "mark" "I") ∈ lw_all := lw_g (lw_at lw_m2 4 rfl) rfl
theorem q349 : (Jvm.Cond.fieldLink "HotIron$Plans" (48 : Nat) "HotIron$Plans" "made" "I") ∈ lw_all := lw_g (lw_at lw_m2 5 rfl) rfl
theorem q350 : (Jvm.Cond.fieldLink "HotIron$Plans" (114 : Nat) "HotIron$Plans" "heats" "I") ∈ lw_all := lw_g (lw_at lw_m2 6 rfl) rfl
theorem q352 : (Jvm.Cond.fieldLink "HotIron$Plans" (101 : Nat) "HotIron$Plans" "laid" "I") ∈ lw_all := lw_g (lw_at lw_m2 8 rfl) rfl
theorem q353 : (Jvm.Cond.fieldLink "HotIron$Plans" (3 : Nat) "HotIron$Plans" "this$0" "LHotIron;") ∈ lw_all := lw_g (lw_at lw_m2 9 rfl) rfl
theorem q354 : (Jvm.Cond.laysFinal "HotIron$Plans" "HotIron$Plans" "layers" "[B") ∈ lw_all := lw_g (lw_at lw_m2 10 rfl) rfl
theorem q355 : (Jvm.Cond.soleField "HotIron$Plans" "layers") ∈ lw_all := lw_g (lw_at lw_m2 11 rfl) rfl
theorem q356 : (Jvm.Cond.laysFinal "HotIron$Plans" "HotIron$Plans" "good" "[B") ∈ lw_all := lw_g (lw_at lw_m2 12 rfl) rfl
theorem q357 : (Jvm.Cond.soleField "HotIron$Plans" "good") ∈ lw_all := lw_g (lw_at lw_m2 13 rfl) rfl
theorem q358 : (Jvm.Cond.laysFinal "HotIron$Plans" "HotIron$Plans" "on" "[B") ∈ lw_all := lw_g (lw_at lw_m2 14 rfl) rfl
theorem q359 : (Jvm.Cond.soleField "HotIron$Plans" "on") ∈ lw_all := lw_g (lw_at lw_m2 15 rfl) rfl
theorem q360 : (Jvm.Cond.laysFinal "HotIron$Plans" "HotIron$Plans" "seen" "[I") ∈ lw_all := lw_g (lw_at lw_m2 16 rfl) rfl
theorem q361 : (Jvm.Cond.soleField "HotIron$Plans" "seen") ∈ lw_all := lw_g (lw_at lw_m2 17 rfl) rfl
theorem q362 : (Jvm.Cond.laysFinal "HotIron$Plans" "HotIron$Plans" "found" "[I") ∈ lw_all := lw_g (lw_at lw_m2 18 rfl) rfl
theorem q363 : (Jvm.Cond.soleField "HotIron$Plans" "found") ∈ lw_all := lw_g (lw_at lw_m2 19 rfl) rfl
theorem q364 : (Jvm.Cond.laysFinal "HotIron$Plans" "HotIron$Plans" "depth" "[I") ∈ lw_all := lw_g (lw_at lw_m2 20 rfl) rfl
theorem q365 : (Jvm.Cond.soleField "HotIron$Plans" "depth") ∈ lw_all := lw_g (lw_at lw_m2 21 rfl) rfl
theorem q366 : (Jvm.Cond.laysFinal "HotIron$Plans" "HotIron$Plans" "powers" "[I") ∈ lw_all := lw_g (lw_at lw_m2 22 rfl) rfl
theorem q367 : (Jvm.Cond.soleField "HotIron$Plans" "powers") ∈ lw_all := lw_g (lw_at lw_m2 23 rfl) rfl
theorem q368 : (Jvm.Cond.laysFinal "HotIron$Plans" "HotIron$Plans" "counts" "[I") ∈ lw_all := lw_g (lw_at lw_m2 24 rfl) rfl
theorem q369 : (Jvm.Cond.soleField "HotIron$Plans" "counts") ∈ lw_all := lw_g (lw_at lw_m2 25 rfl) rfl
theorem q370 : (Jvm.Cond.laysFinal "HotIron$Plans" "HotIron$Plans" "places" "[I") ∈ lw_all := lw_g (lw_at lw_m2 26 rfl) rfl
theorem q371 : (Jvm.Cond.soleField "HotIron$Plans" "places") ∈ lw_all := lw_g (lw_at lw_m2 27 rfl) rfl
theorem q372 : (Jvm.Cond.laysFinal "HotIron$Plans" "HotIron$Plans" "rows" "[I") ∈ lw_all := lw_g (lw_at lw_m2 28 rfl) rfl
theorem q373 : (Jvm.Cond.soleField "HotIron$Plans" "rows") ∈ lw_all := lw_g (lw_at lw_m2 29 rfl) rfl
theorem q374 : (Jvm.Cond.lays "HotIron$Plans" "HotIron$Plans" "cells" "I") ∈ lw_all := lw_g (lw_at lw_m2 30 rfl) rfl
theorem q375 : (Jvm.Cond.soleField "HotIron$Plans" "cells") ∈ lw_all := lw_g (lw_at lw_m2 31 rfl) rfl
theorem q376 : (Jvm.Cond.lays "HotIron$Plans" "HotIron$Plans" "blows" "I") ∈ lw_all := lw_g (lw_at lw_m2 32 rfl) rfl
theorem q377 : (Jvm.Cond.soleField "HotIron$Plans" "blows") ∈ lw_all := lw_g (lw_at lw_m2 33 rfl) rfl
theorem q378 : (Jvm.Cond.lays "HotIron$Plans" "HotIron$Plans" "many" "I") ∈ lw_all := lw_g (lw_at lw_m2 34 rfl) rfl
theorem q379 : (Jvm.Cond.soleField "HotIron$Plans" "many") ∈ lw_all := lw_g (lw_at lw_m2 35 rfl) rfl
theorem q380 : (Jvm.Cond.lays "HotIron$Plans" "HotIron$Plans" "mark" "I") ∈ lw_all := lw_g (lw_at lw_m2 36 rfl) rfl
theorem q381 : (Jvm.Cond.soleField "HotIron$Plans" "mark") ∈ lw_all := lw_g (lw_at lw_m2 37 rfl) rfl
theorem q382 : (Jvm.Cond.lays "HotIron$Plans" "HotIron$Plans" "made" "I") ∈ lw_all := lw_g (lw_at lw_m2 38 rfl) rfl
theorem q383 : (Jvm.Cond.soleField "HotIron$Plans" "made") ∈ lw_all := lw_g (lw_at lw_m2 39 rfl) rfl
theorem q384 : (Jvm.Cond.lays "HotIron$Plans" "HotIron$Plans" "heats" "I") ∈ lw_all := lw_g (lw_at lw_m2 40 rfl) rfl
theorem q385 : (Jvm.Cond.soleField "HotIron$Plans" "heats") ∈ lw_all := lw_g (lw_at lw_m2 41 rfl) rfl
theorem q386 : (Jvm.Cond.lays "HotIron$Plans" "HotIron$Plans" "laid" "I") ∈ lw_all := lw_g (lw_at lw_m2 42 rfl) rfl
theorem q387 : (Jvm.Cond.soleField "HotIron$Plans" "laid") ∈ lw_all := lw_g (lw_at lw_m2 43 rfl) rfl
theorem q388 : (Jvm.Cond.laysFinal "HotIron$Plans" "HotIron$Plans" "this$0" "LHotIron;") ∈ lw_all := lw_g (lw_at lw_m2 44 rfl) rfl
theorem q389 : (Jvm.Cond.soleField "HotIron$Plans" "this$0") ∈ lw_all := lw_g (lw_at lw_m2 45 rfl) rfl
theorem q390 : (Jvm.Cond.superclass "HotIron$Plans" "java/lang/Object") ∈ lw_all := lw_g (lw_at lw_m2 46 rfl) rfl
theorem q440 : (Jvm.Cond.fieldLinkNest "HotIron$Plans" (55 : Nat) "HotIron" "state" "LHotIron$State;" "HotIron") ∈ lw_tbl := lw_at lw_m2 96 rfl
theorem q446 : (Jvm.Cond.fieldLinkNest "HotIron$Plans" (148 : Nat) "HotIron" "version" "I" "HotIron") ∈ lw_tbl := lw_at lw_m2 102 rfl
theorem q554 : (Jvm.Cond.selects "HotIron$Plans" ({ cls := "java/lang/Object", name := "getClass", desc := "()Ljava/lang/Class;" } : Jvm.MethodName) ({ cls := "java/lang/Object", name := "getClass", desc := "()Ljava/lang/Class;" } : Jvm.MethodName)) ∈ lw_all := lw_g (lw_at lw_m2 210 rfl) rfl
theorem q1340 : (Jvm.Cond.instanceMethod ({ cls := "HotIron$Plans", name := "looks", desc := "()V" } : Jvm.MethodName)) ∈ lw_all := lw_g (lw_at lw_m6 36 rfl) rfl
theorem q1341 : (Jvm.Cond.selects "HotIron$Plans" ({ cls := "HotIron$Plans", name := "looks", desc := "()V" } : Jvm.MethodName) ({ cls := "HotIron$Plans", name := "looks", desc := "()V" } : Jvm.MethodName)) ∈ lw_all := lw_g (lw_at lw_m6 37 rfl) rfl
theorem q1342 : (Jvm.Cond.code ({ cls := "HotIron$Plans", name := "looks", desc := "()V" } : Jvm.MethodName) prog_13_method_18_code (3 : Nat) (Option.none : Option Jvm.ClassFile.FieldType)) ∈ lw_all := lw_g (lw_at lw_m6 38 rfl) rfl
theorem q1343 : (Jvm.Cond.methodLink "HotIron$Plans" (154 : Nat) ({ cls := "HotIron$Plans", name := "fewest", desc := "([II)I" } : Jvm.MethodName)) ∈ lw_all := lw_g (lw_at lw_m6 39 rfl) rfl
theorem q1344 : (Jvm.Cond.instanceMethod ({ cls := "HotIron$Plans", name := "fewest", desc := "([II)I" } : Jvm.MethodName)) ∈ lw_all := lw_g (lw_at lw_m6 40 rfl) rfl
theorem q1345 : (Jvm.Cond.selects "HotIron$Plans" ({ cls := "HotIron$Plans", name := "fewest", desc := "([II)I" } : Jvm.MethodName) ({ cls := "HotIron$Plans", name := "fewest", desc := "([II)I" } : Jvm.MethodName)) ∈ lw_all := lw_g (lw_at lw_m6 41 rfl) rfl
theorem q1346 : (Jvm.Cond.code ({ cls := "HotIron$Plans", name := "fewest", desc := "([II)I" } : Jvm.MethodName) prog_13_method_17_code (4 : Nat) (Option.some Jvm.ClassFile.FieldType.int)) ∈ lw_all := lw_g (lw_at lw_m6 42 rfl) rfl
theorem q1347 : (Jvm.Cond.methodLink "HotIron$Plans" (126 : Nat) ({ cls := "HotIron$Plans", name := "begins", desc := "(I)V" } : Jvm.MethodName)) ∈ lw_all := lw_g (lw_at lw_m6 43 rfl) rfl
theorem q1348 : (Jvm.Cond.instanceMethod ({ cls := "HotIron$Plans", name := "begins", desc := "(I)V" } : Jvm.MethodName)) ∈ lw_all := lw_g (lw_at lw_m6 44 rfl) rfl
theorem q1349 : (Jvm.Cond.selects "HotIron$Plans" ({ cls := "HotIron$Plans", name := "begins", desc := "(I)V" } : Jvm.MethodName) ({ cls := "HotIron$Plans", name := "begins", desc := "(I)V" } : Jvm.MethodName)) ∈ lw_all := lw_g (lw_at lw_m6 45 rfl) rfl
theorem q1350 : (Jvm.Cond.code ({ cls := "HotIron$Plans", name := "begins", desc := "(I)V" } : Jvm.MethodName) prog_13_method_4_code (4 : Nat) (Option.none : Option Jvm.ClassFile.FieldType)) ∈ lw_all := lw_g (lw_at lw_m6 46 rfl) rfl
theorem q1351 : (Jvm.Cond.methodLink "HotIron$Plans" (130 : Nat) ({ cls := "HotIron$Plans", name := "totalOf", desc := "([I)I" } : Jvm.MethodName)) ∈ lw_all := lw_g (lw_at lw_m6 47 rfl) rfl
theorem q1352 : (Jvm.Cond.privateMethod ({ cls := "HotIron$Plans", name := "totalOf", desc := "([I)I" } : Jvm.MethodName)) ∈ lw_tbl := lw_at lw_m6 48 rfl
theorem q1353 : (Jvm.Cond.instanceMethod ({ cls := "HotIron$Plans", name := "totalOf", desc := "([I)I" } : Jvm.MethodName)) ∈ lw_all := lw_g (lw_at lw_m6 49 rfl) rfl
theorem q1354 : (Jvm.Cond.code ({ cls := "HotIron$Plans", name := "totalOf", desc := "([I)I" } : Jvm.MethodName) prog_13_method_16_code (4 : Nat) (Option.some Jvm.ClassFile.FieldType.int)) ∈ lw_all := lw_g (lw_at lw_m6 50 rfl) rfl
theorem q1355 : (Jvm.Cond.methodLinkNest "HotIron$Plans" (137 : Nat) ({ cls := "HotIron", name := "in", desc := "(III)Z" } : Jvm.MethodName) "HotIron") ∈ lw_tbl := lw_at lw_m6 51 rfl
theorem q1356 : (Jvm.Cond.methodLink "HotIron$Plans" (141 : Nat) ({ cls := "HotIron$Plans", name := "rowOf", desc := "([I)I" } : Jvm.MethodName)) ∈ lw_all := lw_g (lw_at lw_m6 52 rfl) rfl
theorem q1357 : (Jvm.Cond.instanceMethod ({ cls := "HotIron$Plans", name := "rowOf", desc := "([I)I" } : Jvm.MethodName)) ∈ lw_all := lw_g (lw_at lw_m6 53 rfl) rfl
theorem q1358 : (Jvm.Cond.selects "HotIron$Plans" ({ cls := "HotIron$Plans", name := "rowOf", desc := "([I)I" } : Jvm.MethodName) ({ cls := "HotIron$Plans", name := "rowOf", desc := "([I)I" } : Jvm.MethodName)) ∈ lw_all := lw_g (lw_at lw_m6 54 rfl) rfl
theorem q1359 : (Jvm.Cond.code ({ cls := "HotIron$Plans", name := "rowOf", desc := "([I)I" } : Jvm.MethodName) prog_13_method_3_code (4 : Nat) (Option.some Jvm.ClassFile.FieldType.int)) ∈ lw_all := lw_g (lw_at lw_m6 55 rfl) rfl
theorem q1360 : (Jvm.Cond.methodLink "HotIron$Plans" (144 : Nat) ({ cls := "HotIron$Plans", name := "lays", desc := "(III)I" } : Jvm.MethodName)) ∈ lw_all := lw_g (lw_at lw_m6 56 rfl) rfl
theorem q1361 : (Jvm.Cond.privateMethod ({ cls := "HotIron$Plans", name := "lays", desc := "(III)I" } : Jvm.MethodName)) ∈ lw_tbl := lw_at lw_m6 57 rfl
theorem q1362 : (Jvm.Cond.instanceMethod ({ cls := "HotIron$Plans", name := "lays", desc := "(III)I" } : Jvm.MethodName)) ∈ lw_all := lw_g (lw_at lw_m6 58 rfl) rfl
theorem q1363 : (Jvm.Cond.code ({ cls := "HotIron$Plans", name := "lays", desc := "(III)I" } : Jvm.MethodName) prog_13_method_9_code (7 : Nat) (Option.some Jvm.ClassFile.FieldType.int)) ∈ lw_all := lw_g (lw_at lw_m6 59 rfl) rfl
theorem q1364 : (Jvm.Cond.methodLink "HotIron$Plans" (104 : Nat) ({ cls := "HotIron$Plans", name := "is", desc := "([BII)Z" } : Jvm.MethodName)) ∈ lw_all := lw_g (lw_at lw_m6 60 rfl) rfl
theorem q1365 : (Jvm.Cond.privateMethod ({ cls := "HotIron$Plans", name := "is", desc := "([BII)Z" } : Jvm.MethodName)) ∈ lw_tbl := lw_at lw_m6 61 rfl
theorem q1366 : (Jvm.Cond.instanceMethod ({ cls := "HotIron$Plans", name := "is", desc := "([BII)Z" } : Jvm.MethodName)) ∈ lw_all := lw_g (lw_at lw_m6 62 rfl) rfl
theorem q1367 : (Jvm.Cond.code ({ cls := "HotIron$Plans", name := "is", desc := "([BII)Z" } : Jvm.MethodName) prog_13_method_8_code (4 : Nat) (Option.some Jvm.ClassFile.FieldType.boolean)) ∈ lw_all := lw_g (lw_at lw_m6 63 rfl) rfl
theorem q1368 : (Jvm.Cond.methodLink "HotIron$Plans" (108 : Nat) ({ cls := "HotIron$Plans", name := "leads", desc := "(II)V" } : Jvm.MethodName)) ∈ lw_all := lw_g (lw_at lw_m6 64 rfl) rfl
theorem q1369 : (Jvm.Cond.privateMethod ({ cls := "HotIron$Plans", name := "leads", desc := "(II)V" } : Jvm.MethodName)) ∈ lw_tbl := lw_at lw_m6 65 rfl
theorem q1370 : (Jvm.Cond.instanceMethod ({ cls := "HotIron$Plans", name := "leads", desc := "(II)V" } : Jvm.MethodName)) ∈ lw_all := lw_g (lw_at lw_m6 66 rfl) rfl
theorem q1371 : (Jvm.Cond.code ({ cls := "HotIron$Plans", name := "leads", desc := "(II)V" } : Jvm.MethodName) prog_13_method_5_code (6 : Nat) (Option.none : Option Jvm.ClassFile.FieldType)) ∈ lw_all := lw_g (lw_at lw_m6 67 rfl) rfl
theorem q1372 : (Jvm.Cond.methodLink "HotIron$Plans" (71 : Nat) ({ cls := "java/lang/Math", name := "abs", desc := "(I)I" } : Jvm.MethodName)) ∈ lw_all := lw_g (lw_at lw_m6 68 rfl) rfl
theorem q1373 : (Jvm.Cond.methodLink "HotIron$Plans" (80 : Nat) ({ cls := "HotIron$Plans", name := "ironAt", desc := "(II)I" } : Jvm.MethodName)) ∈ lw_all := lw_g (lw_at lw_m6 69 rfl) rfl
theorem q1374 : (Jvm.Cond.privateMethod ({ cls := "HotIron$Plans", name := "ironAt", desc := "(II)I" } : Jvm.MethodName)) ∈ lw_tbl := lw_at lw_m6 70 rfl
theorem q1375 : (Jvm.Cond.instanceMethod ({ cls := "HotIron$Plans", name := "ironAt", desc := "(II)I" } : Jvm.MethodName)) ∈ lw_all := lw_g (lw_at lw_m6 71 rfl) rfl
theorem q1376 : (Jvm.Cond.code ({ cls := "HotIron$Plans", name := "ironAt", desc := "(II)I" } : Jvm.MethodName) prog_13_method_2_code (3 : Nat) (Option.some Jvm.ClassFile.FieldType.int)) ∈ lw_all := lw_g (lw_at lw_m6 72 rfl) rfl
theorem q1377 : (Jvm.Cond.methodLink "HotIron$Plans" (87 : Nat) ({ cls := "HotIron$Plans", name := "adds", desc := "(II)V" } : Jvm.MethodName)) ∈ lw_all := lw_g (lw_at lw_m6 73 rfl) rfl
theorem q1378 : (Jvm.Cond.privateMethod ({ cls := "HotIron$Plans", name := "adds", desc := "(II)V" } : Jvm.MethodName)) ∈ lw_tbl := lw_at lw_m6 74 rfl
theorem q1379 : (Jvm.Cond.instanceMethod ({ cls := "HotIron$Plans", name := "adds", desc := "(II)V" } : Jvm.MethodName)) ∈ lw_all := lw_g (lw_at lw_m6 75 rfl) rfl
theorem q1380 : (Jvm.Cond.code ({ cls := "HotIron$Plans", name := "adds", desc := "(II)V" } : Jvm.MethodName) prog_13_method_7_code (3 : Nat) (Option.none : Option Jvm.ClassFile.FieldType)) ∈ lw_all := lw_g (lw_at lw_m6 76 rfl) rfl
theorem q1381 : (Jvm.Cond.methodLink "HotIron$Plans" (91 : Nat) ({ cls := "java/lang/Math", name := "max", desc := "(II)I" } : Jvm.MethodName)) ∈ lw_all := lw_g (lw_at lw_m6 77 rfl) rfl
theorem q1382 : (Jvm.Cond.methodLink "HotIron$Plans" (94 : Nat) ({ cls := "java/lang/Math", name := "min", desc := "(II)I" } : Jvm.MethodName)) ∈ lw_all := lw_g (lw_at lw_m6 78 rfl) rfl
theorem q1383 : (Jvm.Cond.methodLink "HotIron$Plans" (97 : Nat) ({ cls := "HotIron$Plans", name := "strikes", desc := "(IIII)V" } : Jvm.MethodName)) ∈ lw_all := lw_g (lw_at lw_m6 79 rfl) rfl
theorem q1384 : (Jvm.Cond.privateMethod ({ cls := "HotIron$Plans", name := "strikes", desc := "(IIII)V" } : Jvm.MethodName)) ∈ lw_tbl := lw_at lw_m6 80 rfl
theorem q1385 : (Jvm.Cond.instanceMethod ({ cls := "HotIron$Plans", name := "strikes", desc := "(IIII)V" } : Jvm.MethodName)) ∈ lw_all := lw_g (lw_at lw_m6 81 rfl) rfl
theorem q1386 : (Jvm.Cond.code ({ cls := "HotIron$Plans", name := "strikes", desc := "(IIII)V" } : Jvm.MethodName) prog_13_method_6_code (6 : Nat) (Option.none : Option Jvm.ClassFile.FieldType)) ∈ lw_all := lw_g (lw_at lw_m6 82 rfl) rfl
theorem q1387 : (Jvm.Cond.methodLink "HotIron$Plans" (111 : Nat) ({ cls := "HotIron$Plans", name := "enters", desc := "(II)V" } : Jvm.MethodName)) ∈ lw_all := lw_g (lw_at lw_m6 83 rfl) rfl
theorem q1388 : (Jvm.Cond.privateMethod ({ cls := "HotIron$Plans", name := "enters", desc := "(II)V" } : Jvm.MethodName)) ∈ lw_tbl := lw_at lw_m6 84 rfl
theorem q1389 : (Jvm.Cond.instanceMethod ({ cls := "HotIron$Plans", name := "enters", desc := "(II)V" } : Jvm.MethodName)) ∈ lw_all := lw_g (lw_at lw_m6 85 rfl) rfl
theorem q1390 : (Jvm.Cond.code ({ cls := "HotIron$Plans", name := "enters", desc := "(II)V" } : Jvm.MethodName) prog_13_method_10_code (3 : Nat) (Option.none : Option Jvm.ClassFile.FieldType)) ∈ lw_all := lw_g (lw_at lw_m6 86 rfl) rfl
theorem q1391 : (Jvm.Cond.methodLink "HotIron$Plans" (158 : Nat) ({ cls := "HotIron$Plans", name := "marks", desc := "(I)V" } : Jvm.MethodName)) ∈ lw_all := lw_g (lw_at lw_m6 87 rfl) rfl
theorem q1392 : (Jvm.Cond.privateMethod ({ cls := "HotIron$Plans", name := "marks", desc := "(I)V" } : Jvm.MethodName)) ∈ lw_tbl := lw_at lw_m6 88 rfl
theorem q1393 : (Jvm.Cond.instanceMethod ({ cls := "HotIron$Plans", name := "marks", desc := "(I)V" } : Jvm.MethodName)) ∈ lw_all := lw_g (lw_at lw_m6 89 rfl) rfl
theorem q1394 : (Jvm.Cond.code ({ cls := "HotIron$Plans", name := "marks", desc := "(I)V" } : Jvm.MethodName) prog_13_method_12_code (6 : Nat) (Option.none : Option Jvm.ClassFile.FieldType)) ∈ lw_all := lw_g (lw_at lw_m6 90 rfl) rfl
theorem q1395 : (Jvm.Cond.methodLink "HotIron$Plans" (117 : Nat) ({ cls := "HotIron$Plans", name := "leadsTo", desc := "(II[BI)Z" } : Jvm.MethodName)) ∈ lw_all := lw_g (lw_at lw_m6 91 rfl) rfl
theorem q1396 : (Jvm.Cond.privateMethod ({ cls := "HotIron$Plans", name := "leadsTo", desc := "(II[BI)Z" } : Jvm.MethodName)) ∈ lw_tbl := lw_at lw_m6 92 rfl
theorem q1397 : (Jvm.Cond.instanceMethod ({ cls := "HotIron$Plans", name := "leadsTo", desc := "(II[BI)Z" } : Jvm.MethodName)) ∈ lw_all := lw_g (lw_at lw_m6 93 rfl) rfl
theorem q1398 : (Jvm.Cond.code ({ cls := "HotIron$Plans", name := "leadsTo", desc := "(II[BI)Z" } : Jvm.MethodName) prog_13_method_11_code (6 : Nat) (Option.some Jvm.ClassFile.FieldType.boolean)) ∈ lw_all := lw_g (lw_at lw_m6 94 rfl) rfl
theorem q1399 : (Jvm.Cond.methodLink "HotIron$Plans" (161 : Nat) ({ cls := "HotIron$Plans", name := "chooses", desc := "(I)V" } : Jvm.MethodName)) ∈ lw_all := lw_g (lw_at lw_m6 95 rfl) rfl
theorem q1400 : (Jvm.Cond.privateMethod ({ cls := "HotIron$Plans", name := "chooses", desc := "(I)V" } : Jvm.MethodName)) ∈ lw_tbl := lw_at lw_m6 96 rfl
theorem q1401 : (Jvm.Cond.instanceMethod ({ cls := "HotIron$Plans", name := "chooses", desc := "(I)V" } : Jvm.MethodName)) ∈ lw_all := lw_g (lw_at lw_m6 97 rfl) rfl
theorem q1402 : (Jvm.Cond.code ({ cls := "HotIron$Plans", name := "chooses", desc := "(I)V" } : Jvm.MethodName) prog_13_method_13_code (5 : Nat) (Option.none : Option Jvm.ClassFile.FieldType)) ∈ lw_all := lw_g (lw_at lw_m6 98 rfl) rfl
theorem q1403 : (Jvm.Cond.methodLink "HotIron$Plans" (121 : Nat) ({ cls := "HotIron$Plans", name := "leadsOn", desc := "(II)Z" } : Jvm.MethodName)) ∈ lw_all := lw_g (lw_at lw_m6 99 rfl) rfl
theorem q1404 : (Jvm.Cond.privateMethod ({ cls := "HotIron$Plans", name := "leadsOn", desc := "(II)Z" } : Jvm.MethodName)) ∈ lw_tbl := lw_at lw_m6 100 rfl
theorem q1405 : (Jvm.Cond.instanceMethod ({ cls := "HotIron$Plans", name := "leadsOn", desc := "(II)Z" } : Jvm.MethodName)) ∈ lw_all := lw_g (lw_at lw_m6 101 rfl) rfl
theorem q1406 : (Jvm.Cond.code ({ cls := "HotIron$Plans", name := "leadsOn", desc := "(II)Z" } : Jvm.MethodName) prog_13_method_14_code (6 : Nat) (Option.some Jvm.ClassFile.FieldType.boolean)) ∈ lw_all := lw_g (lw_at lw_m6 102 rfl) rfl
theorem q1407 : (Jvm.Cond.methodLink "HotIron$Plans" (164 : Nat) ({ cls := "HotIron$Plans", name := "walks", desc := "(II)V" } : Jvm.MethodName)) ∈ lw_all := lw_g (lw_at lw_m6 103 rfl) rfl
theorem q1408 : (Jvm.Cond.privateMethod ({ cls := "HotIron$Plans", name := "walks", desc := "(II)V" } : Jvm.MethodName)) ∈ lw_tbl := lw_at lw_m6 104 rfl
theorem q1409 : (Jvm.Cond.instanceMethod ({ cls := "HotIron$Plans", name := "walks", desc := "(II)V" } : Jvm.MethodName)) ∈ lw_all := lw_g (lw_at lw_m6 105 rfl) rfl
theorem q1410 : (Jvm.Cond.code ({ cls := "HotIron$Plans", name := "walks", desc := "(II)V" } : Jvm.MethodName) prog_13_method_15_code (6 : Nat) (Option.none : Option Jvm.ClassFile.FieldType)) ∈ lw_all := lw_g (lw_at lw_m6 106 rfl) rfl
theorem q1411 : (Jvm.Cond.constant "HotIron$Plans" (125 : Nat) (1000000 : Int32)) ∈ lw_all := lw_g (lw_at lw_m6 107 rfl) rfl
theorem q2132 : (Jvm.Cond.castable "HotIron$Plans" "java/lang/Object") ∈ lw_tbl := lw_at lw_m9 108 rfl
theorem in_X3 : ∀ w ∈ wsX30, w ∈ lw_all := lw_in wsX30 [354, 356, 358, 360, 362, 364, 366, 368, 370, 372, 374, 376, 378, 380, 382, 384, 386, 388] (by decide +kernel) (by decide +kernel)
/-! HotIron$Hand -/
set_option maxRecDepth 100000
def RX4 : String := "HotIron$Hand"
def TX4 : u_T := fun k => match k with
  | 0 => ("HotIron$Hand", "slip", "I", false)
  | _ => ("HotIron$Hand", "drawn", "I", false)
def tyX4 : Nat → FieldType := fun k => match k with
  | 0 => .int
  | _ => .int
abbrev wsX40 : List Cond := u_ws RX4 TX4 2
theorem nmX4 : ∀ a, a < 2 → ∀ b, b < 2 → a ≠ b → (TX4 a).2.1 ≠ (TX4 b).2.1 := by decide +kernel
theorem tyX4_ok : ∀ k, k < 2 → parseFieldDescriptor (TX4 k).2.2.1 = some (tyX4 k) := by decide +kernel
abbrev cX4_init : ByteArray := prog_7_method_1_code
def yX4_init : MethodName := ⟨RX4, "<init>", "()V"⟩
theorem dX4_init_0 : decode cX4_init 0 = .ok (.aload_n 0, 1) := by decide +kernel
theorem dX4_init_1 : decode cX4_init 1 = .ok (.invokespecial 3, 3) := by decide +kernel
theorem dX4_init_4 : decode cX4_init 4 = .ok (.return_, 1) := by decide +kernel
abbrev cX4_slips : ByteArray := prog_7_method_2_code
def yX4_slips : MethodName := ⟨RX4, "slips", "()Z"⟩
def dkwX4_slips_1 : List UInt8 := [180, 0, 9, 16, 100, 112, 42, 180, 0, 21, 162, 0, 7, 4, 167, 0, 4, 3, 172]
abbrev dktX4_slips_1 : List UInt8 := dkwX4_slips_1 ++ []
def dkwX4_slips_0 : List UInt8 := [42, 42, 180, 0, 9, 133, 20, 0, 15, 105, 20, 0, 17, 97, 20, 0, 19, 113, 136, 181, 0, 9, 42]
abbrev dktX4_slips_0 : List UInt8 := dkwX4_slips_0 ++ dktX4_slips_1
theorem dksX4_slips_0 : cX4_slips.data.toList.drop 0 = dktX4_slips_0 := by decide +kernel
theorem dksX4_slips_1 : cX4_slips.data.toList.drop 23 = dktX4_slips_1 := dk_seg dksX4_slips_0 23 rfl rfl
theorem dX4_slips_0 : decode cX4_slips 0 = .ok (.aload_n 0, 1) := dk_42 (dk_at dksX4_slips_0 0 rfl rfl)
theorem dX4_slips_1 : decode cX4_slips 1 = .ok (.aload_n 0, 1) := dk_42 (dk_at dksX4_slips_0 1 rfl rfl)
theorem dX4_slips_2 : decode cX4_slips 2 = .ok (.getfield 9, 3) := dk_180 0 9 (dk_at dksX4_slips_0 2 rfl rfl)
theorem dX4_slips_5 : decode cX4_slips 5 = .ok (.i2l, 1) := dk_133 (dk_at dksX4_slips_0 5 rfl rfl)
theorem dX4_slips_6 : decode cX4_slips 6 = .ok (.ldc2_w 15, 3) := dk_20 0 15 (dk_at dksX4_slips_0 6 rfl rfl)
theorem dX4_slips_9 : decode cX4_slips 9 = .ok (.lmul, 1) := dk_105 (dk_at dksX4_slips_0 9 rfl rfl)
theorem dX4_slips_10 : decode cX4_slips 10 = .ok (.ldc2_w 17, 3) := dk_20 0 17 (dk_at dksX4_slips_0 10 rfl rfl)
theorem dX4_slips_13 : decode cX4_slips 13 = .ok (.ladd, 1) := dk_97 (dk_at dksX4_slips_0 13 rfl rfl)
theorem dX4_slips_14 : decode cX4_slips 14 = .ok (.ldc2_w 19, 3) := dk_20 0 19 (dk_at dksX4_slips_0 14 rfl rfl)
theorem dX4_slips_17 : decode cX4_slips 17 = .ok (.lrem, 1) := dk_113 (dk_at dksX4_slips_0 17 rfl rfl)
theorem dX4_slips_18 : decode cX4_slips 18 = .ok (.l2i, 1) := dk_136 (dk_at dksX4_slips_0 18 rfl rfl)
theorem dX4_slips_19 : decode cX4_slips 19 = .ok (.putfield 9, 3) := dk_181 0 9 (dk_at dksX4_slips_0 19 rfl rfl)
theorem dX4_slips_22 : decode cX4_slips 22 = .ok (.aload_n 0, 1) := dk_42 (dk_at dksX4_slips_0 22 rfl rfl)
theorem dX4_slips_23 : decode cX4_slips 23 = .ok (.getfield 9, 3) := dk_180 0 9 (dk_at dksX4_slips_1 0 rfl rfl)
theorem dX4_slips_26 : decode cX4_slips 26 = .ok (.bipush 100, 2) := dk_16 100 (dk_at dksX4_slips_1 3 rfl rfl)
theorem dX4_slips_28 : decode cX4_slips 28 = .ok (.irem, 1) := dk_112 (dk_at dksX4_slips_1 5 rfl rfl)
theorem dX4_slips_29 : decode cX4_slips 29 = .ok (.aload_n 0, 1) := dk_42 (dk_at dksX4_slips_1 6 rfl rfl)
theorem dX4_slips_30 : decode cX4_slips 30 = .ok (.getfield 21, 3) := dk_180 0 21 (dk_at dksX4_slips_1 7 rfl rfl)
theorem dX4_slips_33 : decode cX4_slips 33 = .ok (.if_icmp .ge 7, 3) := dk_162 0 7 (dk_at dksX4_slips_1 10 rfl rfl)
theorem dX4_slips_36 : decode cX4_slips 36 = .ok (.iconst 1, 1) := dk_4 (dk_at dksX4_slips_1 13 rfl rfl)
theorem dX4_slips_37 : decode cX4_slips 37 = .ok (.goto 4, 3) := dk_167 0 4 (dk_at dksX4_slips_1 14 rfl rfl)
theorem dX4_slips_40 : decode cX4_slips 40 = .ok (.iconst 0, 1) := dk_3 (dk_at dksX4_slips_1 17 rfl rfl)
theorem dX4_slips_41 : decode cX4_slips 41 = .ok (.ireturn, 1) := dk_172 (dk_at dksX4_slips_1 18 rfl rfl)
theorem q112 : (Jvm.Cond.initialized "HotIron$Hand") ∈ lw_all := lw_g (lw_at lw_m1 8 rfl) rfl
theorem q392 : (Jvm.Cond.instantiable "HotIron$Hand" (2 : Nat)) ∈ lw_all := lw_g (lw_at lw_m2 48 rfl) rfl
theorem q394 : (Jvm.Cond.instanceMethod ({ cls := "HotIron$Hand", name := "<init>", desc := "()V" } : Jvm.MethodName)) ∈ lw_all := lw_g (lw_at lw_m2 50 rfl) rfl
theorem q395 : (Jvm.Cond.code ({ cls := "HotIron$Hand", name := "<init>", desc := "()V" } : Jvm.MethodName) prog_7_method_1_code (1 : Nat) (Option.none : Option Jvm.ClassFile.FieldType)) ∈ lw_all := lw_g (lw_at lw_m2 51 rfl) rfl
theorem q396 : (Jvm.Cond.methodLink "HotIron$Hand" (3 : Nat) ({ cls := "java/lang/Object", name := "<init>", desc := "()V" } : Jvm.MethodName)) ∈ lw_all := lw_g (lw_at lw_m2 52 rfl) rfl
theorem q397 : (Jvm.Cond.fieldLink "HotIron$Hand" (21 : Nat) "HotIron$Hand" "slip" "I") ∈ lw_all := lw_g (lw_at lw_m2 53 rfl) rfl
theorem q399 : (Jvm.Cond.fieldLink "HotIron$Hand" (9 : Nat) "HotIron$Hand" "drawn" "I") ∈ lw_all := lw_g (lw_at lw_m2 55 rfl) rfl
theorem q401 : (Jvm.Cond.lays "HotIron$Hand" "HotIron$Hand" "slip" "I") ∈ lw_all := lw_g (lw_at lw_m2 57 rfl) rfl
theorem q402 : (Jvm.Cond.soleField "HotIron$Hand" "slip") ∈ lw_all := lw_g (lw_at lw_m2 58 rfl) rfl
theorem q403 : (Jvm.Cond.lays "HotIron$Hand" "HotIron$Hand" "drawn" "I") ∈ lw_all := lw_g (lw_at lw_m2 59 rfl) rfl
theorem q404 : (Jvm.Cond.soleField "HotIron$Hand" "drawn") ∈ lw_all := lw_g (lw_at lw_m2 60 rfl) rfl
theorem q405 : (Jvm.Cond.superclass "HotIron$Hand" "java/lang/Object") ∈ lw_all := lw_g (lw_at lw_m2 61 rfl) rfl
theorem q548 : (Jvm.Cond.selects "HotIron$Hand" ({ cls := "java/lang/Object", name := "getClass", desc := "()Ljava/lang/Class;" } : Jvm.MethodName) ({ cls := "java/lang/Object", name := "getClass", desc := "()Ljava/lang/Class;" } : Jvm.MethodName)) ∈ lw_all := lw_g (lw_at lw_m2 204 rfl) rfl
theorem q1303 : (Jvm.Cond.instanceMethod ({ cls := "HotIron$Hand", name := "slips", desc := "()Z" } : Jvm.MethodName)) ∈ lw_all := lw_g (lw_at lw_m5 239 rfl) rfl
theorem q1304 : (Jvm.Cond.selects "HotIron$Hand" ({ cls := "HotIron$Hand", name := "slips", desc := "()Z" } : Jvm.MethodName) ({ cls := "HotIron$Hand", name := "slips", desc := "()Z" } : Jvm.MethodName)) ∈ lw_all := lw_g (lw_at lw_m6 0 rfl) rfl
theorem q1305 : (Jvm.Cond.code ({ cls := "HotIron$Hand", name := "slips", desc := "()Z" } : Jvm.MethodName) prog_7_method_2_code (1 : Nat) (Option.some Jvm.ClassFile.FieldType.boolean)) ∈ lw_all := lw_g (lw_at lw_m6 1 rfl) rfl
theorem q1306 : (Jvm.Cond.constantLong "HotIron$Hand" (15 : Nat) (1103 : Int64)) ∈ lw_all := lw_g (lw_at lw_m6 2 rfl) rfl
theorem q1307 : (Jvm.Cond.constantLong "HotIron$Hand" (17 : Nat) (12345 : Int64)) ∈ lw_all := lw_g (lw_at lw_m6 3 rfl) rfl
theorem q1308 : (Jvm.Cond.constantLong "HotIron$Hand" (19 : Nat) (1000003 : Int64)) ∈ lw_all := lw_g (lw_at lw_m6 4 rfl) rfl
theorem q2133 : (Jvm.Cond.castable "HotIron$Hand" "java/lang/Object") ∈ lw_tbl := lw_at lw_m9 109 rfl
theorem in_X4 : ∀ w ∈ wsX40, w ∈ lw_all := lw_in wsX40 [401, 403] (by decide +kernel) (by decide +kernel)
/-! HotIron$Gate -/
set_option maxRecDepth 100000
def RX5 : String := "HotIron$Gate"
def TX5 : u_T := fun k => match k with
  | 0 => ("HotIron$Gate", "begin", "[I", true)
  | 1 => ("HotIron$Gate", "end", "[I", true)
  | 2 => ("HotIron$Gate", "best", "[I", true)
  | 3 => ("HotIron$Gate", "free", "[I", true)
  | 4 => ("HotIron$Gate", "soonest", "I", false)
  | 5 => ("HotIron$Gate", "fires", "I", false)
  | _ => ("HotIron$Gate", "this$0", "LHotIron;", true)
def tyX5 : Nat → FieldType := fun k => match k with
  | 0 => .array .int
  | 1 => .array .int
  | 2 => .array .int
  | 3 => .array .int
  | 4 => .int
  | 5 => .int
  | _ => .object "HotIron"
abbrev wsX50 : List Cond := u_ws RX5 TX5 7
theorem nmX5 : ∀ a, a < 7 → ∀ b, b < 7 → a ≠ b → (TX5 a).2.1 ≠ (TX5 b).2.1 := by decide +kernel
theorem tyX5_ok : ∀ k, k < 7 → parseFieldDescriptor (TX5 k).2.2.1 = some (tyX5 k) := by decide +kernel
abbrev cX5_init : ByteArray := prog_5_method_1_code
def yX5_init : MethodName := ⟨RX5, "<init>", "(LHotIron;)V"⟩
def dkwX5_init_1 : List UInt8 := [181, 0, 19, 42, 16, 8, 188, 10, 181, 0, 22, 42, 6, 188, 10, 181, 0, 25, 177]
abbrev dktX5_init_1 : List UInt8 := dkwX5_init_1 ++ []
def dkwX5_init_0 : List UInt8 := [42, 43, 181, 0, 3, 42, 183, 0, 9, 42, 16, 8, 188, 10, 181, 0, 15, 42, 16, 8, 188, 10]
abbrev dktX5_init_0 : List UInt8 := dkwX5_init_0 ++ dktX5_init_1
theorem dksX5_init_0 : cX5_init.data.toList.drop 0 = dktX5_init_0 := by decide +kernel
theorem dksX5_init_1 : cX5_init.data.toList.drop 22 = dktX5_init_1 := dk_seg dksX5_init_0 22 rfl rfl
theorem dX5_init_0 : decode cX5_init 0 = .ok (.aload_n 0, 1) := dk_42 (dk_at dksX5_init_0 0 rfl rfl)
theorem dX5_init_1 : decode cX5_init 1 = .ok (.aload_n 1, 1) := dk_43 (dk_at dksX5_init_0 1 rfl rfl)
theorem dX5_init_2 : decode cX5_init 2 = .ok (.putfield 3, 3) := dk_181 0 3 (dk_at dksX5_init_0 2 rfl rfl)
theorem dX5_init_5 : decode cX5_init 5 = .ok (.aload_n 0, 1) := dk_42 (dk_at dksX5_init_0 5 rfl rfl)
theorem dX5_init_6 : decode cX5_init 6 = .ok (.invokespecial 9, 3) := dk_183 0 9 (dk_at dksX5_init_0 6 rfl rfl)
theorem dX5_init_9 : decode cX5_init 9 = .ok (.aload_n 0, 1) := dk_42 (dk_at dksX5_init_0 9 rfl rfl)
theorem dX5_init_10 : decode cX5_init 10 = .ok (.bipush 8, 2) := dk_16 8 (dk_at dksX5_init_0 10 rfl rfl)
theorem dX5_init_12 : decode cX5_init 12 = .ok (.newarray .int, 2) := dk_188_10 (dk_at dksX5_init_0 12 rfl rfl)
theorem dX5_init_14 : decode cX5_init 14 = .ok (.putfield 15, 3) := dk_181 0 15 (dk_at dksX5_init_0 14 rfl rfl)
theorem dX5_init_17 : decode cX5_init 17 = .ok (.aload_n 0, 1) := dk_42 (dk_at dksX5_init_0 17 rfl rfl)
theorem dX5_init_18 : decode cX5_init 18 = .ok (.bipush 8, 2) := dk_16 8 (dk_at dksX5_init_0 18 rfl rfl)
theorem dX5_init_20 : decode cX5_init 20 = .ok (.newarray .int, 2) := dk_188_10 (dk_at dksX5_init_0 20 rfl rfl)
theorem dX5_init_22 : decode cX5_init 22 = .ok (.putfield 19, 3) := dk_181 0 19 (dk_at dksX5_init_1 0 rfl rfl)
theorem dX5_init_25 : decode cX5_init 25 = .ok (.aload_n 0, 1) := dk_42 (dk_at dksX5_init_1 3 rfl rfl)
theorem dX5_init_26 : decode cX5_init 26 = .ok (.bipush 8, 2) := dk_16 8 (dk_at dksX5_init_1 4 rfl rfl)
theorem dX5_init_28 : decode cX5_init 28 = .ok (.newarray .int, 2) := dk_188_10 (dk_at dksX5_init_1 6 rfl rfl)
theorem dX5_init_30 : decode cX5_init 30 = .ok (.putfield 22, 3) := dk_181 0 22 (dk_at dksX5_init_1 8 rfl rfl)
theorem dX5_init_33 : decode cX5_init 33 = .ok (.aload_n 0, 1) := dk_42 (dk_at dksX5_init_1 11 rfl rfl)
theorem dX5_init_34 : decode cX5_init 34 = .ok (.iconst 3, 1) := dk_6 (dk_at dksX5_init_1 12 rfl rfl)
theorem dX5_init_35 : decode cX5_init 35 = .ok (.newarray .int, 2) := dk_188_10 (dk_at dksX5_init_1 13 rfl rfl)
theorem dX5_init_37 : decode cX5_init 37 = .ok (.putfield 25, 3) := dk_181 0 25 (dk_at dksX5_init_1 15 rfl rfl)
theorem dX5_init_40 : decode cX5_init 40 = .ok (.return_, 1) := dk_177 (dk_at dksX5_init_1 18 rfl rfl)
abbrev cX5_looks : ByteArray := prog_5_method_2_code
def yX5_looks : MethodName := ⟨RX5, "looks", "(I)V"⟩
def dkwX5_looks_1 : List UInt8 := [79, 132, 2, 1, 167, 255, 241, 42, 3, 3, 182, 0, 36, 177]
abbrev dktX5_looks_1 : List UInt8 := dkwX5_looks_1 ++ []
def dkwX5_looks_0 : List UInt8 := [42, 27, 181, 0, 28, 42, 18, 32, 181, 0, 33, 3, 61, 28, 6, 162, 0, 16, 42, 180, 0, 25, 28, 3]
abbrev dktX5_looks_0 : List UInt8 := dkwX5_looks_0 ++ dktX5_looks_1
theorem dksX5_looks_0 : cX5_looks.data.toList.drop 0 = dktX5_looks_0 := by decide +kernel
theorem dksX5_looks_1 : cX5_looks.data.toList.drop 24 = dktX5_looks_1 := dk_seg dksX5_looks_0 24 rfl rfl
theorem dX5_looks_0 : decode cX5_looks 0 = .ok (.aload_n 0, 1) := dk_42 (dk_at dksX5_looks_0 0 rfl rfl)
theorem dX5_looks_1 : decode cX5_looks 1 = .ok (.iload_n 1, 1) := dk_27 (dk_at dksX5_looks_0 1 rfl rfl)
theorem dX5_looks_2 : decode cX5_looks 2 = .ok (.putfield 28, 3) := dk_181 0 28 (dk_at dksX5_looks_0 2 rfl rfl)
theorem dX5_looks_5 : decode cX5_looks 5 = .ok (.aload_n 0, 1) := dk_42 (dk_at dksX5_looks_0 5 rfl rfl)
theorem dX5_looks_6 : decode cX5_looks 6 = .ok (.ldc 32, 2) := dk_18 32 (dk_at dksX5_looks_0 6 rfl rfl)
theorem dX5_looks_8 : decode cX5_looks 8 = .ok (.putfield 33, 3) := dk_181 0 33 (dk_at dksX5_looks_0 8 rfl rfl)
theorem dX5_looks_11 : decode cX5_looks 11 = .ok (.iconst 0, 1) := dk_3 (dk_at dksX5_looks_0 11 rfl rfl)
theorem dX5_looks_12 : decode cX5_looks 12 = .ok (.istore_n 2, 1) := dk_61 (dk_at dksX5_looks_0 12 rfl rfl)
theorem dX5_looks_13 : decode cX5_looks 13 = .ok (.iload_n 2, 1) := dk_28 (dk_at dksX5_looks_0 13 rfl rfl)
theorem dX5_looks_14 : decode cX5_looks 14 = .ok (.iconst 3, 1) := dk_6 (dk_at dksX5_looks_0 14 rfl rfl)
theorem dX5_looks_15 : decode cX5_looks 15 = .ok (.if_icmp .ge 16, 3) := dk_162 0 16 (dk_at dksX5_looks_0 15 rfl rfl)
theorem dX5_looks_18 : decode cX5_looks 18 = .ok (.aload_n 0, 1) := dk_42 (dk_at dksX5_looks_0 18 rfl rfl)
theorem dX5_looks_19 : decode cX5_looks 19 = .ok (.getfield 25, 3) := dk_180 0 25 (dk_at dksX5_looks_0 19 rfl rfl)
theorem dX5_looks_22 : decode cX5_looks 22 = .ok (.iload_n 2, 1) := dk_28 (dk_at dksX5_looks_0 22 rfl rfl)
theorem dX5_looks_23 : decode cX5_looks 23 = .ok (.iconst 0, 1) := dk_3 (dk_at dksX5_looks_0 23 rfl rfl)
theorem dX5_looks_24 : decode cX5_looks 24 = .ok (.iastore, 1) := dk_79 (dk_at dksX5_looks_1 0 rfl rfl)
theorem dX5_looks_25 : decode cX5_looks 25 = .ok (.iinc 2 1, 3) := dk_132 2 1 (dk_at dksX5_looks_1 1 rfl rfl)
theorem dX5_looks_28 : decode cX5_looks 28 = .ok (.goto (-15), 3) := dk_167 255 241 (dk_at dksX5_looks_1 4 rfl rfl)
theorem dX5_looks_31 : decode cX5_looks 31 = .ok (.aload_n 0, 1) := dk_42 (dk_at dksX5_looks_1 7 rfl rfl)
theorem dX5_looks_32 : decode cX5_looks 32 = .ok (.iconst 0, 1) := dk_3 (dk_at dksX5_looks_1 8 rfl rfl)
theorem dX5_looks_33 : decode cX5_looks 33 = .ok (.iconst 0, 1) := dk_3 (dk_at dksX5_looks_1 9 rfl rfl)
theorem dX5_looks_34 : decode cX5_looks 34 = .ok (.invokevirtual 36, 3) := dk_182 0 36 (dk_at dksX5_looks_1 10 rfl rfl)
theorem dX5_looks_37 : decode cX5_looks 37 = .ok (.return_, 1) := dk_177 (dk_at dksX5_looks_1 13 rfl rfl)
abbrev cX5_goes : ByteArray := prog_5_method_3_code
def yX5_goes : MethodName := ⟨RX5, "goes", "(II)V"⟩
def dkwX5_goes_12 : List UInt8 := [167, 255, 26, 177]
abbrev dktX5_goes_12 : List UInt8 := dkwX5_goes_12 ++ []
def dkwX5_goes_11 : List UInt8 := [180, 0, 19, 29, 46, 184, 0, 71, 182, 0, 36, 42, 180, 0, 25, 21, 5, 21, 6, 79, 132, 3, 1]
abbrev dktX5_goes_11 : List UInt8 := dkwX5_goes_11 ++ dktX5_goes_12
def dkwX5_goes_10 : List UInt8 := [46, 79, 42, 180, 0, 19, 29, 46, 42, 180, 0, 33, 162, 0, 22, 42, 27, 4, 29, 120, 128, 28, 42]
abbrev dktX5_goes_10 : List UInt8 := dkwX5_goes_10 ++ dktX5_goes_11
def dkwX5_goes_9 : List UInt8 := [42, 180, 0, 15, 29, 46, 25, 4, 180, 0, 77, 96, 79, 42, 180, 0, 25, 21, 5, 42, 180, 0, 19, 29]
abbrev dktX5_goes_9 : List UInt8 := dkwX5_goes_9 ++ dktX5_goes_10
def dkwX5_goes_8 : List UInt8 := [167, 0, 18, 21, 6, 42, 180, 0, 19, 25, 4, 180, 0, 68, 46, 184, 0, 71, 79, 42, 180, 0, 19, 29]
abbrev dktX5_goes_8 : List UInt8 := dkwX5_goes_8 ++ dktX5_goes_9
def dkwX5_goes_7 : List UInt8 := [180, 0, 25, 21, 5, 46, 54, 6, 42, 180, 0, 15, 29, 25, 4, 180, 0, 68, 2, 160, 0, 8, 21, 6]
abbrev dktX5_goes_7 : List UInt8 := dkwX5_goes_7 ++ dktX5_goes_8
def dkwX5_goes_6 : List UInt8 := [46, 42, 180, 0, 25, 21, 5, 46, 162, 0, 7, 21, 6, 54, 5, 132, 6, 1, 167, 255, 223, 42]
abbrev dktX5_goes_6 : List UInt8 := dkwX5_goes_6 ++ dktX5_goes_7
def dkwX5_goes_5 : List UInt8 := [167, 0, 161, 3, 54, 5, 4, 54, 6, 21, 6, 42, 180, 0, 28, 162, 0, 30, 42, 180, 0, 25, 21, 6]
abbrev dktX5_goes_5 : List UInt8 := dkwX5_goes_5 ++ dktX5_goes_6
def dkwX5_goes_4 : List UInt8 := [159, 0, 185, 25, 4, 180, 0, 68, 2, 159, 0, 18, 27, 25, 4, 180, 0, 68, 122, 4, 126, 154, 0, 6]
abbrev dktX5_goes_4 : List UInt8 := dkwX5_goes_4 ++ dktX5_goes_5
def dkwX5_goes_3 : List UInt8 := [180, 0, 3, 180, 0, 40, 180, 0, 44, 29, 182, 0, 62, 192, 0, 66, 58, 4, 27, 29, 122, 4, 126, 4]
abbrev dktX5_goes_3 : List UInt8 := dkwX5_goes_3 ++ dktX5_goes_4
def dkwX5_goes_2 : List UInt8 := [184, 0, 56, 177, 3, 62, 29, 42, 180, 0, 3, 180, 0, 40, 180, 0, 44, 182, 0, 50, 162, 0, 219, 42]
abbrev dktX5_goes_2 : List UInt8 := dkwX5_goes_2 ++ dktX5_goes_3
def dkwX5_goes_1 : List UInt8 := [180, 0, 33, 161, 0, 4, 177, 42, 28, 181, 0, 33, 42, 180, 0, 15, 3, 42, 180, 0, 22, 3, 16, 8]
abbrev dktX5_goes_1 : List UInt8 := dkwX5_goes_1 ++ dktX5_goes_2
def dkwX5_goes_0 : List UInt8 := [27, 4, 42, 180, 0, 3, 180, 0, 40, 180, 0, 44, 182, 0, 50, 120, 4, 100, 160, 0, 33, 28, 42]
abbrev dktX5_goes_0 : List UInt8 := dkwX5_goes_0 ++ dktX5_goes_1
theorem dksX5_goes_0 : cX5_goes.data.toList.drop 0 = dktX5_goes_0 := by decide +kernel
theorem dksX5_goes_1 : cX5_goes.data.toList.drop 23 = dktX5_goes_1 := dk_seg dksX5_goes_0 23 rfl rfl
theorem dksX5_goes_2 : cX5_goes.data.toList.drop 47 = dktX5_goes_2 := dk_seg dksX5_goes_1 24 rfl rfl
theorem dksX5_goes_3 : cX5_goes.data.toList.drop 71 = dktX5_goes_3 := dk_seg dksX5_goes_2 24 rfl rfl
theorem dksX5_goes_4 : cX5_goes.data.toList.drop 95 = dktX5_goes_4 := dk_seg dksX5_goes_3 24 rfl rfl
theorem dksX5_goes_5 : cX5_goes.data.toList.drop 119 = dktX5_goes_5 := dk_seg dksX5_goes_4 24 rfl rfl
theorem dksX5_goes_6 : cX5_goes.data.toList.drop 143 = dktX5_goes_6 := dk_seg dksX5_goes_5 24 rfl rfl
theorem dksX5_goes_7 : cX5_goes.data.toList.drop 165 = dktX5_goes_7 := dk_seg dksX5_goes_6 22 rfl rfl
theorem dksX5_goes_8 : cX5_goes.data.toList.drop 189 = dktX5_goes_8 := dk_seg dksX5_goes_7 24 rfl rfl
theorem dksX5_goes_9 : cX5_goes.data.toList.drop 213 = dktX5_goes_9 := dk_seg dksX5_goes_8 24 rfl rfl
theorem dksX5_goes_10 : cX5_goes.data.toList.drop 237 = dktX5_goes_10 := dk_seg dksX5_goes_9 24 rfl rfl
theorem dksX5_goes_11 : cX5_goes.data.toList.drop 260 = dktX5_goes_11 := dk_seg dksX5_goes_10 23 rfl rfl
theorem dksX5_goes_12 : cX5_goes.data.toList.drop 283 = dktX5_goes_12 := dk_seg dksX5_goes_11 23 rfl rfl
theorem dX5_goes_0 : decode cX5_goes 0 = .ok (.iload_n 1, 1) := dk_27 (dk_at dksX5_goes_0 0 rfl rfl)
theorem dX5_goes_1 : decode cX5_goes 1 = .ok (.iconst 1, 1) := dk_4 (dk_at dksX5_goes_0 1 rfl rfl)
theorem dX5_goes_2 : decode cX5_goes 2 = .ok (.aload_n 0, 1) := dk_42 (dk_at dksX5_goes_0 2 rfl rfl)
theorem dX5_goes_3 : decode cX5_goes 3 = .ok (.getfield 3, 3) := dk_180 0 3 (dk_at dksX5_goes_0 3 rfl rfl)
theorem dX5_goes_6 : decode cX5_goes 6 = .ok (.getfield 40, 3) := dk_180 0 40 (dk_at dksX5_goes_0 6 rfl rfl)
theorem dX5_goes_9 : decode cX5_goes 9 = .ok (.getfield 44, 3) := dk_180 0 44 (dk_at dksX5_goes_0 9 rfl rfl)
theorem dX5_goes_12 : decode cX5_goes 12 = .ok (.invokevirtual 50, 3) := dk_182 0 50 (dk_at dksX5_goes_0 12 rfl rfl)
theorem dX5_goes_15 : decode cX5_goes 15 = .ok (.ishl, 1) := dk_120 (dk_at dksX5_goes_0 15 rfl rfl)
theorem dX5_goes_16 : decode cX5_goes 16 = .ok (.iconst 1, 1) := dk_4 (dk_at dksX5_goes_0 16 rfl rfl)
theorem dX5_goes_17 : decode cX5_goes 17 = .ok (.isub, 1) := dk_100 (dk_at dksX5_goes_0 17 rfl rfl)
theorem dX5_goes_18 : decode cX5_goes 18 = .ok (.if_icmp .ne 33, 3) := dk_160 0 33 (dk_at dksX5_goes_0 18 rfl rfl)
theorem dX5_goes_21 : decode cX5_goes 21 = .ok (.iload_n 2, 1) := dk_28 (dk_at dksX5_goes_0 21 rfl rfl)
theorem dX5_goes_22 : decode cX5_goes 22 = .ok (.aload_n 0, 1) := dk_42 (dk_at dksX5_goes_0 22 rfl rfl)
theorem dX5_goes_23 : decode cX5_goes 23 = .ok (.getfield 33, 3) := dk_180 0 33 (dk_at dksX5_goes_1 0 rfl rfl)
theorem dX5_goes_26 : decode cX5_goes 26 = .ok (.if_icmp .lt 4, 3) := dk_161 0 4 (dk_at dksX5_goes_1 3 rfl rfl)
theorem dX5_goes_29 : decode cX5_goes 29 = .ok (.return_, 1) := dk_177 (dk_at dksX5_goes_1 6 rfl rfl)
theorem dX5_goes_30 : decode cX5_goes 30 = .ok (.aload_n 0, 1) := dk_42 (dk_at dksX5_goes_1 7 rfl rfl)
theorem dX5_goes_31 : decode cX5_goes 31 = .ok (.iload_n 2, 1) := dk_28 (dk_at dksX5_goes_1 8 rfl rfl)
theorem dX5_goes_32 : decode cX5_goes 32 = .ok (.putfield 33, 3) := dk_181 0 33 (dk_at dksX5_goes_1 9 rfl rfl)
theorem dX5_goes_35 : decode cX5_goes 35 = .ok (.aload_n 0, 1) := dk_42 (dk_at dksX5_goes_1 12 rfl rfl)
theorem dX5_goes_36 : decode cX5_goes 36 = .ok (.getfield 15, 3) := dk_180 0 15 (dk_at dksX5_goes_1 13 rfl rfl)
theorem dX5_goes_39 : decode cX5_goes 39 = .ok (.iconst 0, 1) := dk_3 (dk_at dksX5_goes_1 16 rfl rfl)
theorem dX5_goes_40 : decode cX5_goes 40 = .ok (.aload_n 0, 1) := dk_42 (dk_at dksX5_goes_1 17 rfl rfl)
theorem dX5_goes_41 : decode cX5_goes 41 = .ok (.getfield 22, 3) := dk_180 0 22 (dk_at dksX5_goes_1 18 rfl rfl)
theorem dX5_goes_44 : decode cX5_goes 44 = .ok (.iconst 0, 1) := dk_3 (dk_at dksX5_goes_1 21 rfl rfl)
theorem dX5_goes_45 : decode cX5_goes 45 = .ok (.bipush 8, 2) := dk_16 8 (dk_at dksX5_goes_1 22 rfl rfl)
theorem dX5_goes_47 : decode cX5_goes 47 = .ok (.invokestatic 56, 3) := dk_184 0 56 (dk_at dksX5_goes_2 0 rfl rfl)
theorem dX5_goes_50 : decode cX5_goes 50 = .ok (.return_, 1) := dk_177 (dk_at dksX5_goes_2 3 rfl rfl)
theorem dX5_goes_51 : decode cX5_goes 51 = .ok (.iconst 0, 1) := dk_3 (dk_at dksX5_goes_2 4 rfl rfl)
theorem dX5_goes_52 : decode cX5_goes 52 = .ok (.istore_n 3, 1) := dk_62 (dk_at dksX5_goes_2 5 rfl rfl)
theorem dX5_goes_53 : decode cX5_goes 53 = .ok (.iload_n 3, 1) := dk_29 (dk_at dksX5_goes_2 6 rfl rfl)
theorem dX5_goes_54 : decode cX5_goes 54 = .ok (.aload_n 0, 1) := dk_42 (dk_at dksX5_goes_2 7 rfl rfl)
theorem dX5_goes_55 : decode cX5_goes 55 = .ok (.getfield 3, 3) := dk_180 0 3 (dk_at dksX5_goes_2 8 rfl rfl)
theorem dX5_goes_58 : decode cX5_goes 58 = .ok (.getfield 40, 3) := dk_180 0 40 (dk_at dksX5_goes_2 11 rfl rfl)
theorem dX5_goes_61 : decode cX5_goes 61 = .ok (.getfield 44, 3) := dk_180 0 44 (dk_at dksX5_goes_2 14 rfl rfl)
theorem dX5_goes_64 : decode cX5_goes 64 = .ok (.invokevirtual 50, 3) := dk_182 0 50 (dk_at dksX5_goes_2 17 rfl rfl)
theorem dX5_goes_67 : decode cX5_goes 67 = .ok (.if_icmp .ge 219, 3) := dk_162 0 219 (dk_at dksX5_goes_2 20 rfl rfl)
theorem dX5_goes_70 : decode cX5_goes 70 = .ok (.aload_n 0, 1) := dk_42 (dk_at dksX5_goes_2 23 rfl rfl)
theorem dX5_goes_71 : decode cX5_goes 71 = .ok (.getfield 3, 3) := dk_180 0 3 (dk_at dksX5_goes_3 0 rfl rfl)
theorem dX5_goes_74 : decode cX5_goes 74 = .ok (.getfield 40, 3) := dk_180 0 40 (dk_at dksX5_goes_3 3 rfl rfl)
theorem dX5_goes_77 : decode cX5_goes 77 = .ok (.getfield 44, 3) := dk_180 0 44 (dk_at dksX5_goes_3 6 rfl rfl)
theorem dX5_goes_80 : decode cX5_goes 80 = .ok (.iload_n 3, 1) := dk_29 (dk_at dksX5_goes_3 9 rfl rfl)
theorem dX5_goes_81 : decode cX5_goes 81 = .ok (.invokevirtual 62, 3) := dk_182 0 62 (dk_at dksX5_goes_3 10 rfl rfl)
theorem dX5_goes_84 : decode cX5_goes 84 = .ok (.checkcast 66, 3) := dk_192 0 66 (dk_at dksX5_goes_3 13 rfl rfl)
theorem dX5_goes_87 : decode cX5_goes 87 = .ok (.astore 4, 2) := dk_58 4 (dk_at dksX5_goes_3 16 rfl rfl)
theorem dX5_goes_89 : decode cX5_goes 89 = .ok (.iload_n 1, 1) := dk_27 (dk_at dksX5_goes_3 18 rfl rfl)
theorem dX5_goes_90 : decode cX5_goes 90 = .ok (.iload_n 3, 1) := dk_29 (dk_at dksX5_goes_3 19 rfl rfl)
theorem dX5_goes_91 : decode cX5_goes 91 = .ok (.ishr, 1) := dk_122 (dk_at dksX5_goes_3 20 rfl rfl)
theorem dX5_goes_92 : decode cX5_goes 92 = .ok (.iconst 1, 1) := dk_4 (dk_at dksX5_goes_3 21 rfl rfl)
theorem dX5_goes_93 : decode cX5_goes 93 = .ok (.iand, 1) := dk_126 (dk_at dksX5_goes_3 22 rfl rfl)
theorem dX5_goes_94 : decode cX5_goes 94 = .ok (.iconst 1, 1) := dk_4 (dk_at dksX5_goes_3 23 rfl rfl)
theorem dX5_goes_95 : decode cX5_goes 95 = .ok (.if_icmp .eq 185, 3) := dk_159 0 185 (dk_at dksX5_goes_4 0 rfl rfl)
theorem dX5_goes_98 : decode cX5_goes 98 = .ok (.aload 4, 2) := dk_25 4 (dk_at dksX5_goes_4 3 rfl rfl)
theorem dX5_goes_100 : decode cX5_goes 100 = .ok (.getfield 68, 3) := dk_180 0 68 (dk_at dksX5_goes_4 5 rfl rfl)
theorem dX5_goes_103 : decode cX5_goes 103 = .ok (.iconst (-1), 1) := dk_2 (dk_at dksX5_goes_4 8 rfl rfl)
theorem dX5_goes_104 : decode cX5_goes 104 = .ok (.if_icmp .eq 18, 3) := dk_159 0 18 (dk_at dksX5_goes_4 9 rfl rfl)
theorem dX5_goes_107 : decode cX5_goes 107 = .ok (.iload_n 1, 1) := dk_27 (dk_at dksX5_goes_4 12 rfl rfl)
theorem dX5_goes_108 : decode cX5_goes 108 = .ok (.aload 4, 2) := dk_25 4 (dk_at dksX5_goes_4 13 rfl rfl)
theorem dX5_goes_110 : decode cX5_goes 110 = .ok (.getfield 68, 3) := dk_180 0 68 (dk_at dksX5_goes_4 15 rfl rfl)
theorem dX5_goes_113 : decode cX5_goes 113 = .ok (.ishr, 1) := dk_122 (dk_at dksX5_goes_4 18 rfl rfl)
theorem dX5_goes_114 : decode cX5_goes 114 = .ok (.iconst 1, 1) := dk_4 (dk_at dksX5_goes_4 19 rfl rfl)
theorem dX5_goes_115 : decode cX5_goes 115 = .ok (.iand, 1) := dk_126 (dk_at dksX5_goes_4 20 rfl rfl)
theorem dX5_goes_116 : decode cX5_goes 116 = .ok (.ifCond .ne 6, 3) := dk_154 0 6 (dk_at dksX5_goes_4 21 rfl rfl)
theorem dX5_goes_119 : decode cX5_goes 119 = .ok (.goto 161, 3) := dk_167 0 161 (dk_at dksX5_goes_5 0 rfl rfl)
theorem dX5_goes_122 : decode cX5_goes 122 = .ok (.iconst 0, 1) := dk_3 (dk_at dksX5_goes_5 3 rfl rfl)
theorem dX5_goes_123 : decode cX5_goes 123 = .ok (.istore 5, 2) := dk_54 5 (dk_at dksX5_goes_5 4 rfl rfl)
theorem dX5_goes_125 : decode cX5_goes 125 = .ok (.iconst 1, 1) := dk_4 (dk_at dksX5_goes_5 6 rfl rfl)
theorem dX5_goes_126 : decode cX5_goes 126 = .ok (.istore 6, 2) := dk_54 6 (dk_at dksX5_goes_5 7 rfl rfl)
theorem dX5_goes_128 : decode cX5_goes 128 = .ok (.iload 6, 2) := dk_21 6 (dk_at dksX5_goes_5 9 rfl rfl)
theorem dX5_goes_130 : decode cX5_goes 130 = .ok (.aload_n 0, 1) := dk_42 (dk_at dksX5_goes_5 11 rfl rfl)
theorem dX5_goes_131 : decode cX5_goes 131 = .ok (.getfield 28, 3) := dk_180 0 28 (dk_at dksX5_goes_5 12 rfl rfl)
theorem dX5_goes_134 : decode cX5_goes 134 = .ok (.if_icmp .ge 30, 3) := dk_162 0 30 (dk_at dksX5_goes_5 15 rfl rfl)
theorem dX5_goes_137 : decode cX5_goes 137 = .ok (.aload_n 0, 1) := dk_42 (dk_at dksX5_goes_5 18 rfl rfl)
theorem dX5_goes_138 : decode cX5_goes 138 = .ok (.getfield 25, 3) := dk_180 0 25 (dk_at dksX5_goes_5 19 rfl rfl)
theorem dX5_goes_141 : decode cX5_goes 141 = .ok (.iload 6, 2) := dk_21 6 (dk_at dksX5_goes_5 22 rfl rfl)
theorem dX5_goes_143 : decode cX5_goes 143 = .ok (.iaload, 1) := dk_46 (dk_at dksX5_goes_6 0 rfl rfl)
theorem dX5_goes_144 : decode cX5_goes 144 = .ok (.aload_n 0, 1) := dk_42 (dk_at dksX5_goes_6 1 rfl rfl)
theorem dX5_goes_145 : decode cX5_goes 145 = .ok (.getfield 25, 3) := dk_180 0 25 (dk_at dksX5_goes_6 2 rfl rfl)
theorem dX5_goes_148 : decode cX5_goes 148 = .ok (.iload 5, 2) := dk_21 5 (dk_at dksX5_goes_6 5 rfl rfl)
theorem dX5_goes_150 : decode cX5_goes 150 = .ok (.iaload, 1) := dk_46 (dk_at dksX5_goes_6 7 rfl rfl)
theorem dX5_goes_151 : decode cX5_goes 151 = .ok (.if_icmp .ge 7, 3) := dk_162 0 7 (dk_at dksX5_goes_6 8 rfl rfl)
theorem dX5_goes_154 : decode cX5_goes 154 = .ok (.iload 6, 2) := dk_21 6 (dk_at dksX5_goes_6 11 rfl rfl)
theorem dX5_goes_156 : decode cX5_goes 156 = .ok (.istore 5, 2) := dk_54 5 (dk_at dksX5_goes_6 13 rfl rfl)
theorem dX5_goes_158 : decode cX5_goes 158 = .ok (.iinc 6 1, 3) := dk_132 6 1 (dk_at dksX5_goes_6 15 rfl rfl)
theorem dX5_goes_161 : decode cX5_goes 161 = .ok (.goto (-33), 3) := dk_167 255 223 (dk_at dksX5_goes_6 18 rfl rfl)
theorem dX5_goes_164 : decode cX5_goes 164 = .ok (.aload_n 0, 1) := dk_42 (dk_at dksX5_goes_6 21 rfl rfl)
theorem dX5_goes_165 : decode cX5_goes 165 = .ok (.getfield 25, 3) := dk_180 0 25 (dk_at dksX5_goes_7 0 rfl rfl)
theorem dX5_goes_168 : decode cX5_goes 168 = .ok (.iload 5, 2) := dk_21 5 (dk_at dksX5_goes_7 3 rfl rfl)
theorem dX5_goes_170 : decode cX5_goes 170 = .ok (.iaload, 1) := dk_46 (dk_at dksX5_goes_7 5 rfl rfl)
theorem dX5_goes_171 : decode cX5_goes 171 = .ok (.istore 6, 2) := dk_54 6 (dk_at dksX5_goes_7 6 rfl rfl)
theorem dX5_goes_173 : decode cX5_goes 173 = .ok (.aload_n 0, 1) := dk_42 (dk_at dksX5_goes_7 8 rfl rfl)
theorem dX5_goes_174 : decode cX5_goes 174 = .ok (.getfield 15, 3) := dk_180 0 15 (dk_at dksX5_goes_7 9 rfl rfl)
theorem dX5_goes_177 : decode cX5_goes 177 = .ok (.iload_n 3, 1) := dk_29 (dk_at dksX5_goes_7 12 rfl rfl)
theorem dX5_goes_178 : decode cX5_goes 178 = .ok (.aload 4, 2) := dk_25 4 (dk_at dksX5_goes_7 13 rfl rfl)
theorem dX5_goes_180 : decode cX5_goes 180 = .ok (.getfield 68, 3) := dk_180 0 68 (dk_at dksX5_goes_7 15 rfl rfl)
theorem dX5_goes_183 : decode cX5_goes 183 = .ok (.iconst (-1), 1) := dk_2 (dk_at dksX5_goes_7 18 rfl rfl)
theorem dX5_goes_184 : decode cX5_goes 184 = .ok (.if_icmp .ne 8, 3) := dk_160 0 8 (dk_at dksX5_goes_7 19 rfl rfl)
theorem dX5_goes_187 : decode cX5_goes 187 = .ok (.iload 6, 2) := dk_21 6 (dk_at dksX5_goes_7 22 rfl rfl)
theorem dX5_goes_189 : decode cX5_goes 189 = .ok (.goto 18, 3) := dk_167 0 18 (dk_at dksX5_goes_8 0 rfl rfl)
theorem dX5_goes_192 : decode cX5_goes 192 = .ok (.iload 6, 2) := dk_21 6 (dk_at dksX5_goes_8 3 rfl rfl)
theorem dX5_goes_194 : decode cX5_goes 194 = .ok (.aload_n 0, 1) := dk_42 (dk_at dksX5_goes_8 5 rfl rfl)
theorem dX5_goes_195 : decode cX5_goes 195 = .ok (.getfield 19, 3) := dk_180 0 19 (dk_at dksX5_goes_8 6 rfl rfl)
theorem dX5_goes_198 : decode cX5_goes 198 = .ok (.aload 4, 2) := dk_25 4 (dk_at dksX5_goes_8 9 rfl rfl)
theorem dX5_goes_200 : decode cX5_goes 200 = .ok (.getfield 68, 3) := dk_180 0 68 (dk_at dksX5_goes_8 11 rfl rfl)
theorem dX5_goes_203 : decode cX5_goes 203 = .ok (.iaload, 1) := dk_46 (dk_at dksX5_goes_8 14 rfl rfl)
theorem dX5_goes_204 : decode cX5_goes 204 = .ok (.invokestatic 71, 3) := dk_184 0 71 (dk_at dksX5_goes_8 15 rfl rfl)
theorem dX5_goes_207 : decode cX5_goes 207 = .ok (.iastore, 1) := dk_79 (dk_at dksX5_goes_8 18 rfl rfl)
theorem dX5_goes_208 : decode cX5_goes 208 = .ok (.aload_n 0, 1) := dk_42 (dk_at dksX5_goes_8 19 rfl rfl)
theorem dX5_goes_209 : decode cX5_goes 209 = .ok (.getfield 19, 3) := dk_180 0 19 (dk_at dksX5_goes_8 20 rfl rfl)
theorem dX5_goes_212 : decode cX5_goes 212 = .ok (.iload_n 3, 1) := dk_29 (dk_at dksX5_goes_8 23 rfl rfl)
theorem dX5_goes_213 : decode cX5_goes 213 = .ok (.aload_n 0, 1) := dk_42 (dk_at dksX5_goes_9 0 rfl rfl)
theorem dX5_goes_214 : decode cX5_goes 214 = .ok (.getfield 15, 3) := dk_180 0 15 (dk_at dksX5_goes_9 1 rfl rfl)
theorem dX5_goes_217 : decode cX5_goes 217 = .ok (.iload_n 3, 1) := dk_29 (dk_at dksX5_goes_9 4 rfl rfl)
theorem dX5_goes_218 : decode cX5_goes 218 = .ok (.iaload, 1) := dk_46 (dk_at dksX5_goes_9 5 rfl rfl)
theorem dX5_goes_219 : decode cX5_goes 219 = .ok (.aload 4, 2) := dk_25 4 (dk_at dksX5_goes_9 6 rfl rfl)
theorem dX5_goes_221 : decode cX5_goes 221 = .ok (.getfield 77, 3) := dk_180 0 77 (dk_at dksX5_goes_9 8 rfl rfl)
theorem dX5_goes_224 : decode cX5_goes 224 = .ok (.iadd, 1) := dk_96 (dk_at dksX5_goes_9 11 rfl rfl)
theorem dX5_goes_225 : decode cX5_goes 225 = .ok (.iastore, 1) := dk_79 (dk_at dksX5_goes_9 12 rfl rfl)
theorem dX5_goes_226 : decode cX5_goes 226 = .ok (.aload_n 0, 1) := dk_42 (dk_at dksX5_goes_9 13 rfl rfl)
theorem dX5_goes_227 : decode cX5_goes 227 = .ok (.getfield 25, 3) := dk_180 0 25 (dk_at dksX5_goes_9 14 rfl rfl)
theorem dX5_goes_230 : decode cX5_goes 230 = .ok (.iload 5, 2) := dk_21 5 (dk_at dksX5_goes_9 17 rfl rfl)
theorem dX5_goes_232 : decode cX5_goes 232 = .ok (.aload_n 0, 1) := dk_42 (dk_at dksX5_goes_9 19 rfl rfl)
theorem dX5_goes_233 : decode cX5_goes 233 = .ok (.getfield 19, 3) := dk_180 0 19 (dk_at dksX5_goes_9 20 rfl rfl)
theorem dX5_goes_236 : decode cX5_goes 236 = .ok (.iload_n 3, 1) := dk_29 (dk_at dksX5_goes_9 23 rfl rfl)
theorem dX5_goes_237 : decode cX5_goes 237 = .ok (.iaload, 1) := dk_46 (dk_at dksX5_goes_10 0 rfl rfl)
theorem dX5_goes_238 : decode cX5_goes 238 = .ok (.iastore, 1) := dk_79 (dk_at dksX5_goes_10 1 rfl rfl)
theorem dX5_goes_239 : decode cX5_goes 239 = .ok (.aload_n 0, 1) := dk_42 (dk_at dksX5_goes_10 2 rfl rfl)
theorem dX5_goes_240 : decode cX5_goes 240 = .ok (.getfield 19, 3) := dk_180 0 19 (dk_at dksX5_goes_10 3 rfl rfl)
theorem dX5_goes_243 : decode cX5_goes 243 = .ok (.iload_n 3, 1) := dk_29 (dk_at dksX5_goes_10 6 rfl rfl)
theorem dX5_goes_244 : decode cX5_goes 244 = .ok (.iaload, 1) := dk_46 (dk_at dksX5_goes_10 7 rfl rfl)
theorem dX5_goes_245 : decode cX5_goes 245 = .ok (.aload_n 0, 1) := dk_42 (dk_at dksX5_goes_10 8 rfl rfl)
theorem dX5_goes_246 : decode cX5_goes 246 = .ok (.getfield 33, 3) := dk_180 0 33 (dk_at dksX5_goes_10 9 rfl rfl)
theorem dX5_goes_249 : decode cX5_goes 249 = .ok (.if_icmp .ge 22, 3) := dk_162 0 22 (dk_at dksX5_goes_10 12 rfl rfl)
theorem dX5_goes_252 : decode cX5_goes 252 = .ok (.aload_n 0, 1) := dk_42 (dk_at dksX5_goes_10 15 rfl rfl)
theorem dX5_goes_253 : decode cX5_goes 253 = .ok (.iload_n 1, 1) := dk_27 (dk_at dksX5_goes_10 16 rfl rfl)
theorem dX5_goes_254 : decode cX5_goes 254 = .ok (.iconst 1, 1) := dk_4 (dk_at dksX5_goes_10 17 rfl rfl)
theorem dX5_goes_255 : decode cX5_goes 255 = .ok (.iload_n 3, 1) := dk_29 (dk_at dksX5_goes_10 18 rfl rfl)
theorem dX5_goes_256 : decode cX5_goes 256 = .ok (.ishl, 1) := dk_120 (dk_at dksX5_goes_10 19 rfl rfl)
theorem dX5_goes_257 : decode cX5_goes 257 = .ok (.ior, 1) := dk_128 (dk_at dksX5_goes_10 20 rfl rfl)
theorem dX5_goes_258 : decode cX5_goes 258 = .ok (.iload_n 2, 1) := dk_28 (dk_at dksX5_goes_10 21 rfl rfl)
theorem dX5_goes_259 : decode cX5_goes 259 = .ok (.aload_n 0, 1) := dk_42 (dk_at dksX5_goes_10 22 rfl rfl)
theorem dX5_goes_260 : decode cX5_goes 260 = .ok (.getfield 19, 3) := dk_180 0 19 (dk_at dksX5_goes_11 0 rfl rfl)
theorem dX5_goes_263 : decode cX5_goes 263 = .ok (.iload_n 3, 1) := dk_29 (dk_at dksX5_goes_11 3 rfl rfl)
theorem dX5_goes_264 : decode cX5_goes 264 = .ok (.iaload, 1) := dk_46 (dk_at dksX5_goes_11 4 rfl rfl)
theorem dX5_goes_265 : decode cX5_goes 265 = .ok (.invokestatic 71, 3) := dk_184 0 71 (dk_at dksX5_goes_11 5 rfl rfl)
theorem dX5_goes_268 : decode cX5_goes 268 = .ok (.invokevirtual 36, 3) := dk_182 0 36 (dk_at dksX5_goes_11 8 rfl rfl)
theorem dX5_goes_271 : decode cX5_goes 271 = .ok (.aload_n 0, 1) := dk_42 (dk_at dksX5_goes_11 11 rfl rfl)
theorem dX5_goes_272 : decode cX5_goes 272 = .ok (.getfield 25, 3) := dk_180 0 25 (dk_at dksX5_goes_11 12 rfl rfl)
theorem dX5_goes_275 : decode cX5_goes 275 = .ok (.iload 5, 2) := dk_21 5 (dk_at dksX5_goes_11 15 rfl rfl)
theorem dX5_goes_277 : decode cX5_goes 277 = .ok (.iload 6, 2) := dk_21 6 (dk_at dksX5_goes_11 17 rfl rfl)
theorem dX5_goes_279 : decode cX5_goes 279 = .ok (.iastore, 1) := dk_79 (dk_at dksX5_goes_11 19 rfl rfl)
theorem dX5_goes_280 : decode cX5_goes 280 = .ok (.iinc 3 1, 3) := dk_132 3 1 (dk_at dksX5_goes_11 20 rfl rfl)
theorem dX5_goes_283 : decode cX5_goes 283 = .ok (.goto (-230), 3) := dk_167 255 26 (dk_at dksX5_goes_12 0 rfl rfl)
theorem dX5_goes_286 : decode cX5_goes 286 = .ok (.return_, 1) := dk_177 (dk_at dksX5_goes_12 3 rfl rfl)
theorem q113 : (Jvm.Cond.initialized "HotIron$Gate") ∈ lw_all := lw_g (lw_at lw_m1 9 rfl) rfl
theorem q204 : (Jvm.Cond.fieldLinkNest "HotIron$Gate" (44 : Nat) "HotIron$State" "pieces" "Ljava/util/ArrayList;" "HotIron") ∈ lw_tbl := lw_at lw_m1 100 rfl
theorem q407 : (Jvm.Cond.instantiable "HotIron$Gate" (7 : Nat)) ∈ lw_all := lw_g (lw_at lw_m2 63 rfl) rfl
theorem q409 : (Jvm.Cond.instanceMethod ({ cls := "HotIron$Gate", name := "<init>", desc := "(LHotIron;)V" } : Jvm.MethodName)) ∈ lw_all := lw_g (lw_at lw_m2 65 rfl) rfl
theorem q410 : (Jvm.Cond.code ({ cls := "HotIron$Gate", name := "<init>", desc := "(LHotIron;)V" } : Jvm.MethodName) prog_5_method_1_code (2 : Nat) (Option.none : Option Jvm.ClassFile.FieldType)) ∈ lw_all := lw_g (lw_at lw_m2 66 rfl) rfl
theorem q411 : (Jvm.Cond.methodLink "HotIron$Gate" (9 : Nat) ({ cls := "java/lang/Object", name := "<init>", desc := "()V" } : Jvm.MethodName)) ∈ lw_all := lw_g (lw_at lw_m2 67 rfl) rfl
theorem q412 : (Jvm.Cond.fieldLink "HotIron$Gate" (15 : Nat) "HotIron$Gate" "begin" "[I") ∈ lw_all := lw_g (lw_at lw_m2 68 rfl) rfl
theorem q413 : (Jvm.Cond.fieldLink "HotIron$Gate" (19 : Nat) "HotIron$Gate" "end" "[I") ∈ lw_all := lw_g (lw_at lw_m2 69 rfl) rfl
theorem q414 : (Jvm.Cond.fieldLink "HotIron$Gate" (22 : Nat) "HotIron$Gate" "best" "[I") ∈ lw_all := lw_g (lw_at lw_m2 70 rfl) rfl
theorem q416 : (Jvm.Cond.fieldLink "HotIron$Gate" (25 : Nat) "HotIron$Gate" "free" "[I") ∈ lw_all := lw_g (lw_at lw_m2 72 rfl) rfl
theorem q417 : (Jvm.Cond.fieldLink "HotIron$Gate" (33 : Nat) "HotIron$Gate" "soonest" "I") ∈ lw_all := lw_g (lw_at lw_m2 73 rfl) rfl
theorem q419 : (Jvm.Cond.fieldLink "HotIron$Gate" (28 : Nat) "HotIron$Gate" "fires" "I") ∈ lw_all := lw_g (lw_at lw_m2 75 rfl) rfl
theorem q420 : (Jvm.Cond.fieldLink "HotIron$Gate" (3 : Nat) "HotIron$Gate" "this$0" "LHotIron;") ∈ lw_all := lw_g (lw_at lw_m2 76 rfl) rfl
theorem q421 : (Jvm.Cond.laysFinal "HotIron$Gate" "HotIron$Gate" "begin" "[I") ∈ lw_all := lw_g (lw_at lw_m2 77 rfl) rfl
theorem q422 : (Jvm.Cond.soleField "HotIron$Gate" "begin") ∈ lw_all := lw_g (lw_at lw_m2 78 rfl) rfl
theorem q423 : (Jvm.Cond.laysFinal "HotIron$Gate" "HotIron$Gate" "end" "[I") ∈ lw_all := lw_g (lw_at lw_m2 79 rfl) rfl
theorem q424 : (Jvm.Cond.soleField "HotIron$Gate" "end") ∈ lw_all := lw_g (lw_at lw_m2 80 rfl) rfl
theorem q425 : (Jvm.Cond.laysFinal "HotIron$Gate" "HotIron$Gate" "best" "[I") ∈ lw_all := lw_g (lw_at lw_m2 81 rfl) rfl
theorem q426 : (Jvm.Cond.soleField "HotIron$Gate" "best") ∈ lw_all := lw_g (lw_at lw_m2 82 rfl) rfl
theorem q427 : (Jvm.Cond.laysFinal "HotIron$Gate" "HotIron$Gate" "free" "[I") ∈ lw_all := lw_g (lw_at lw_m2 83 rfl) rfl
theorem q428 : (Jvm.Cond.soleField "HotIron$Gate" "free") ∈ lw_all := lw_g (lw_at lw_m2 84 rfl) rfl
theorem q429 : (Jvm.Cond.lays "HotIron$Gate" "HotIron$Gate" "soonest" "I") ∈ lw_all := lw_g (lw_at lw_m2 85 rfl) rfl
theorem q430 : (Jvm.Cond.soleField "HotIron$Gate" "soonest") ∈ lw_all := lw_g (lw_at lw_m2 86 rfl) rfl
theorem q431 : (Jvm.Cond.lays "HotIron$Gate" "HotIron$Gate" "fires" "I") ∈ lw_all := lw_g (lw_at lw_m2 87 rfl) rfl
theorem q432 : (Jvm.Cond.soleField "HotIron$Gate" "fires") ∈ lw_all := lw_g (lw_at lw_m2 88 rfl) rfl
theorem q433 : (Jvm.Cond.laysFinal "HotIron$Gate" "HotIron$Gate" "this$0" "LHotIron;") ∈ lw_all := lw_g (lw_at lw_m2 89 rfl) rfl
theorem q434 : (Jvm.Cond.soleField "HotIron$Gate" "this$0") ∈ lw_all := lw_g (lw_at lw_m2 90 rfl) rfl
theorem q435 : (Jvm.Cond.superclass "HotIron$Gate" "java/lang/Object") ∈ lw_all := lw_g (lw_at lw_m2 91 rfl) rfl
theorem q439 : (Jvm.Cond.fieldLinkNest "HotIron$Gate" (40 : Nat) "HotIron" "state" "LHotIron$State;" "HotIron") ∈ lw_tbl := lw_at lw_m2 95 rfl
theorem q546 : (Jvm.Cond.selects "HotIron$Gate" ({ cls := "java/lang/Object", name := "getClass", desc := "()Ljava/lang/Class;" } : Jvm.MethodName) ({ cls := "java/lang/Object", name := "getClass", desc := "()Ljava/lang/Class;" } : Jvm.MethodName)) ∈ lw_all := lw_g (lw_at lw_m2 202 rfl) rfl
theorem q1473 : (Jvm.Cond.fieldLinkNest "HotIron$Gate" (77 : Nat) "HotIron$Piece" "minutes" "I" "HotIron") ∈ lw_tbl := lw_at lw_m6 169 rfl
theorem q1475 : (Jvm.Cond.fieldLinkNest "HotIron$Gate" (68 : Nat) "HotIron$Piece" "need" "I" "HotIron") ∈ lw_tbl := lw_at lw_m6 171 rfl
theorem q1486 : (Jvm.Cond.instanceMethod ({ cls := "HotIron$Gate", name := "looks", desc := "(I)V" } : Jvm.MethodName)) ∈ lw_all := lw_g (lw_at lw_m6 182 rfl) rfl
theorem q1487 : (Jvm.Cond.selects "HotIron$Gate" ({ cls := "HotIron$Gate", name := "looks", desc := "(I)V" } : Jvm.MethodName) ({ cls := "HotIron$Gate", name := "looks", desc := "(I)V" } : Jvm.MethodName)) ∈ lw_all := lw_g (lw_at lw_m6 183 rfl) rfl
theorem q1488 : (Jvm.Cond.code ({ cls := "HotIron$Gate", name := "looks", desc := "(I)V" } : Jvm.MethodName) prog_5_method_2_code (3 : Nat) (Option.none : Option Jvm.ClassFile.FieldType)) ∈ lw_all := lw_g (lw_at lw_m6 184 rfl) rfl
theorem q1489 : (Jvm.Cond.constant "HotIron$Gate" (32 : Nat) (1000000 : Int32)) ∈ lw_all := lw_g (lw_at lw_m6 185 rfl) rfl
theorem q1490 : (Jvm.Cond.methodLink "HotIron$Gate" (36 : Nat) ({ cls := "HotIron$Gate", name := "goes", desc := "(II)V" } : Jvm.MethodName)) ∈ lw_all := lw_g (lw_at lw_m6 186 rfl) rfl
theorem q1491 : (Jvm.Cond.privateMethod ({ cls := "HotIron$Gate", name := "goes", desc := "(II)V" } : Jvm.MethodName)) ∈ lw_tbl := lw_at lw_m6 187 rfl
theorem q1492 : (Jvm.Cond.instanceMethod ({ cls := "HotIron$Gate", name := "goes", desc := "(II)V" } : Jvm.MethodName)) ∈ lw_all := lw_g (lw_at lw_m6 188 rfl) rfl
theorem q1493 : (Jvm.Cond.code ({ cls := "HotIron$Gate", name := "goes", desc := "(II)V" } : Jvm.MethodName) prog_5_method_3_code (7 : Nat) (Option.none : Option Jvm.ClassFile.FieldType)) ∈ lw_all := lw_g (lw_at lw_m6 189 rfl) rfl
theorem q1494 : (Jvm.Cond.methodLink "HotIron$Gate" (50 : Nat) ({ cls := "java/util/ArrayList", name := "size", desc := "()I" } : Jvm.MethodName)) ∈ lw_all := lw_g (lw_at lw_m6 190 rfl) rfl
theorem q1495 : (Jvm.Cond.methodLink "HotIron$Gate" (56 : Nat) ({ cls := "java/lang/System", name := "arraycopy", desc := "(Ljava/lang/Object;ILjava/lang/Object;II)V" } : Jvm.MethodName)) ∈ lw_all := lw_g (lw_at lw_m6 191 rfl) rfl
theorem q1496 : (Jvm.Cond.methodLink "HotIron$Gate" (62 : Nat) ({ cls := "java/util/ArrayList", name := "get", desc := "(I)Ljava/lang/Object;" } : Jvm.MethodName)) ∈ lw_all := lw_g (lw_at lw_m6 192 rfl) rfl
theorem q1497 : (Jvm.Cond.classLink "HotIron$Gate" (66 : Nat) "HotIron$Piece") ∈ lw_all := lw_g (lw_at lw_m6 193 rfl) rfl
theorem q1498 : (Jvm.Cond.methodLink "HotIron$Gate" (71 : Nat) ({ cls := "java/lang/Math", name := "max", desc := "(II)I" } : Jvm.MethodName)) ∈ lw_all := lw_g (lw_at lw_m6 194 rfl) rfl
theorem q2134 : (Jvm.Cond.castable "HotIron$Gate" "java/lang/Object") ∈ lw_tbl := lw_at lw_m9 110 rfl
theorem in_X5 : ∀ w ∈ wsX50, w ∈ lw_all := lw_in wsX50 [421, 423, 425, 427, 429, 431, 433] (by decide +kernel) (by decide +kernel)
/-! HotIron$Reader -/
set_option maxRecDepth 100000
def RX7 : String := "HotIron$Reader"
def TX7 : u_T := fun k => match k with
  | 0 => ("HotIron$Reader", "tape", "[B", true)
  | 1 => ("HotIron$Reader", "size", "I", true)
  | 2 => ("HotIron$Reader", "made", "Ljava/util/ArrayList;", true)
  | 3 => ("HotIron$Reader", "from", "I", false)
  | 4 => ("HotIron$Reader", "to", "I", false)
  | 5 => ("HotIron$Reader", "leaves", "I", false)
  | _ => ("HotIron$Reader", "deep", "I", false)
def tyX7 : Nat → FieldType := fun k => match k with
  | 0 => .array .byte
  | 1 => .int
  | 2 => .object "java/util/ArrayList"
  | 3 => .int
  | 4 => .int
  | 5 => .int
  | _ => .int
abbrev wsX70 : List Cond := u_ws RX7 TX7 7
theorem nmX7 : ∀ a, a < 7 → ∀ b, b < 7 → a ≠ b → (TX7 a).2.1 ≠ (TX7 b).2.1 := by decide +kernel
theorem tyX7_ok : ∀ k, k < 7 → parseFieldDescriptor (TX7 k).2.2.1 = some (tyX7 k) := by decide +kernel
abbrev cX7_init : ByteArray := prog_15_method_1_code
def yX7_init : MethodName := ⟨RX7, "<init>", "([BI)V"⟩
def dkwX7_init_1 : List UInt8 := [181, 0, 24, 177]
abbrev dktX7_init_1 : List UInt8 := dkwX7_init_1 ++ []
def dkwX7_init_0 : List UInt8 := [42, 183, 0, 3, 42, 187, 0, 9, 89, 5, 183, 0, 11, 181, 0, 14, 42, 43, 181, 0, 20, 42, 28]
abbrev dktX7_init_0 : List UInt8 := dkwX7_init_0 ++ dktX7_init_1
theorem dksX7_init_0 : cX7_init.data.toList.drop 0 = dktX7_init_0 := by decide +kernel
theorem dksX7_init_1 : cX7_init.data.toList.drop 23 = dktX7_init_1 := dk_seg dksX7_init_0 23 rfl rfl
theorem dX7_init_0 : decode cX7_init 0 = .ok (.aload_n 0, 1) := dk_42 (dk_at dksX7_init_0 0 rfl rfl)
theorem dX7_init_1 : decode cX7_init 1 = .ok (.invokespecial 3, 3) := dk_183 0 3 (dk_at dksX7_init_0 1 rfl rfl)
theorem dX7_init_4 : decode cX7_init 4 = .ok (.aload_n 0, 1) := dk_42 (dk_at dksX7_init_0 4 rfl rfl)
theorem dX7_init_5 : decode cX7_init 5 = .ok (.new 9, 3) := dk_187 0 9 (dk_at dksX7_init_0 5 rfl rfl)
theorem dX7_init_8 : decode cX7_init 8 = .ok (.dup, 1) := dk_89 (dk_at dksX7_init_0 8 rfl rfl)
theorem dX7_init_9 : decode cX7_init 9 = .ok (.iconst 2, 1) := dk_5 (dk_at dksX7_init_0 9 rfl rfl)
theorem dX7_init_10 : decode cX7_init 10 = .ok (.invokespecial 11, 3) := dk_183 0 11 (dk_at dksX7_init_0 10 rfl rfl)
theorem dX7_init_13 : decode cX7_init 13 = .ok (.putfield 14, 3) := dk_181 0 14 (dk_at dksX7_init_0 13 rfl rfl)
theorem dX7_init_16 : decode cX7_init 16 = .ok (.aload_n 0, 1) := dk_42 (dk_at dksX7_init_0 16 rfl rfl)
theorem dX7_init_17 : decode cX7_init 17 = .ok (.aload_n 1, 1) := dk_43 (dk_at dksX7_init_0 17 rfl rfl)
theorem dX7_init_18 : decode cX7_init 18 = .ok (.putfield 20, 3) := dk_181 0 20 (dk_at dksX7_init_0 18 rfl rfl)
theorem dX7_init_21 : decode cX7_init 21 = .ok (.aload_n 0, 1) := dk_42 (dk_at dksX7_init_0 21 rfl rfl)
theorem dX7_init_22 : decode cX7_init 22 = .ok (.iload_n 2, 1) := dk_28 (dk_at dksX7_init_0 22 rfl rfl)
theorem dX7_init_23 : decode cX7_init 23 = .ok (.putfield 24, 3) := dk_181 0 24 (dk_at dksX7_init_1 0 rfl rfl)
theorem dX7_init_26 : decode cX7_init 26 = .ok (.return_, 1) := dk_177 (dk_at dksX7_init_1 3 rfl rfl)
abbrev cX7_read : ByteArray := prog_15_method_8_code
def yX7_read : MethodName := ⟨RX7, "read", "()V"⟩
def dkwX7_read_1 : List UInt8 := [42, 180, 0, 31, 42, 180, 0, 24, 162, 0, 15, 187, 0, 58, 89, 42, 180, 0, 31, 183, 0, 60, 191, 177]
abbrev dktX7_read_1 : List UInt8 := dkwX7_read_1 ++ []
def dkwX7_read_0 : List UInt8 := [42, 182, 0, 52, 42, 182, 0, 61, 42, 18, 64, 182, 0, 55, 153, 0, 10, 42, 182, 0, 61, 167, 255, 243]
abbrev dktX7_read_0 : List UInt8 := dkwX7_read_0 ++ dktX7_read_1
theorem dksX7_read_0 : cX7_read.data.toList.drop 0 = dktX7_read_0 := by decide +kernel
theorem dksX7_read_1 : cX7_read.data.toList.drop 24 = dktX7_read_1 := dk_seg dksX7_read_0 24 rfl rfl
theorem dX7_read_0 : decode cX7_read 0 = .ok (.aload_n 0, 1) := dk_42 (dk_at dksX7_read_0 0 rfl rfl)
theorem dX7_read_1 : decode cX7_read 1 = .ok (.invokevirtual 52, 3) := dk_182 0 52 (dk_at dksX7_read_0 1 rfl rfl)
theorem dX7_read_4 : decode cX7_read 4 = .ok (.aload_n 0, 1) := dk_42 (dk_at dksX7_read_0 4 rfl rfl)
theorem dX7_read_5 : decode cX7_read 5 = .ok (.invokevirtual 61, 3) := dk_182 0 61 (dk_at dksX7_read_0 5 rfl rfl)
theorem dX7_read_8 : decode cX7_read 8 = .ok (.aload_n 0, 1) := dk_42 (dk_at dksX7_read_0 8 rfl rfl)
theorem dX7_read_9 : decode cX7_read 9 = .ok (.ldc 64, 2) := dk_18 64 (dk_at dksX7_read_0 9 rfl rfl)
theorem dX7_read_11 : decode cX7_read 11 = .ok (.invokevirtual 55, 3) := dk_182 0 55 (dk_at dksX7_read_0 11 rfl rfl)
theorem dX7_read_14 : decode cX7_read 14 = .ok (.ifCond .eq 10, 3) := dk_153 0 10 (dk_at dksX7_read_0 14 rfl rfl)
theorem dX7_read_17 : decode cX7_read 17 = .ok (.aload_n 0, 1) := dk_42 (dk_at dksX7_read_0 17 rfl rfl)
theorem dX7_read_18 : decode cX7_read 18 = .ok (.invokevirtual 61, 3) := dk_182 0 61 (dk_at dksX7_read_0 18 rfl rfl)
theorem dX7_read_21 : decode cX7_read 21 = .ok (.goto (-13), 3) := dk_167 255 243 (dk_at dksX7_read_0 21 rfl rfl)
theorem dX7_read_24 : decode cX7_read 24 = .ok (.aload_n 0, 1) := dk_42 (dk_at dksX7_read_1 0 rfl rfl)
theorem dX7_read_25 : decode cX7_read 25 = .ok (.getfield 31, 3) := dk_180 0 31 (dk_at dksX7_read_1 1 rfl rfl)
theorem dX7_read_28 : decode cX7_read 28 = .ok (.aload_n 0, 1) := dk_42 (dk_at dksX7_read_1 4 rfl rfl)
theorem dX7_read_29 : decode cX7_read 29 = .ok (.getfield 24, 3) := dk_180 0 24 (dk_at dksX7_read_1 5 rfl rfl)
theorem dX7_read_32 : decode cX7_read 32 = .ok (.if_icmp .ge 15, 3) := dk_162 0 15 (dk_at dksX7_read_1 8 rfl rfl)
theorem dX7_read_35 : decode cX7_read 35 = .ok (.new 58, 3) := dk_187 0 58 (dk_at dksX7_read_1 11 rfl rfl)
theorem dX7_read_38 : decode cX7_read 38 = .ok (.dup, 1) := dk_89 (dk_at dksX7_read_1 14 rfl rfl)
theorem dX7_read_39 : decode cX7_read 39 = .ok (.aload_n 0, 1) := dk_42 (dk_at dksX7_read_1 15 rfl rfl)
theorem dX7_read_40 : decode cX7_read 40 = .ok (.getfield 31, 3) := dk_180 0 31 (dk_at dksX7_read_1 16 rfl rfl)
theorem dX7_read_43 : decode cX7_read 43 = .ok (.invokespecial 60, 3) := dk_183 0 60 (dk_at dksX7_read_1 19 rfl rfl)
theorem dX7_read_46 : decode cX7_read 46 = .ok (.athrow, 1) := dk_191 (dk_at dksX7_read_1 22 rfl rfl)
theorem dX7_read_47 : decode cX7_read 47 = .ok (.return_, 1) := dk_177 (dk_at dksX7_read_1 23 rfl rfl)
abbrev cX7_next : ByteArray := prog_15_method_3_code
def yX7_next : MethodName := ⟨RX7, "next", "()V"⟩
def dkwX7_next_6 : List UInt8 := [162, 0, 13, 42, 89, 180, 0, 28, 4, 96, 181, 0, 28, 177]
abbrev dktX7_next_6 : List UInt8 := dkwX7_next_6 ++ []
def dkwX7_next_5 : List UInt8 := [153, 0, 37, 42, 89, 180, 0, 28, 4, 96, 181, 0, 28, 167, 255, 231, 42, 180, 0, 31, 42, 180, 0, 24]
abbrev dktX7_next_5 : List UInt8 := dkwX7_next_5 ++ dktX7_next_6
def dkwX7_next_4 : List UInt8 := [16, 48, 16, 57, 182, 0, 34, 153, 0, 31, 42, 42, 180, 0, 28, 16, 48, 16, 57, 182, 0, 34]
abbrev dktX7_next_4 : List UInt8 := dkwX7_next_4 ++ dktX7_next_5
def dkwX7_next_3 : List UInt8 := [182, 0, 34, 153, 0, 80, 42, 89, 180, 0, 28, 4, 96, 181, 0, 28, 167, 255, 231, 42, 42, 180, 0, 31]
abbrev dktX7_next_3 : List UInt8 := dkwX7_next_3 ++ dktX7_next_4
def dkwX7_next_2 : List UInt8 := [180, 0, 31, 16, 97, 16, 122, 182, 0, 34, 153, 0, 31, 42, 42, 180, 0, 28, 16, 97, 16, 122]
abbrev dktX7_next_2 : List UInt8 := dkwX7_next_2 ++ dktX7_next_3
def dkwX7_next_1 : List UInt8 := [89, 180, 0, 31, 4, 96, 181, 0, 31, 167, 255, 231, 42, 42, 180, 0, 31, 181, 0, 28, 42, 42]
abbrev dktX7_next_1 : List UInt8 := dkwX7_next_1 ++ dktX7_next_2
def dkwX7_next_0 : List UInt8 := [42, 42, 180, 0, 28, 181, 0, 31, 42, 42, 180, 0, 31, 16, 32, 16, 32, 182, 0, 34, 153, 0, 16, 42]
abbrev dktX7_next_0 : List UInt8 := dkwX7_next_0 ++ dktX7_next_1
theorem dksX7_next_0 : cX7_next.data.toList.drop 0 = dktX7_next_0 := by decide +kernel
theorem dksX7_next_1 : cX7_next.data.toList.drop 24 = dktX7_next_1 := dk_seg dksX7_next_0 24 rfl rfl
theorem dksX7_next_2 : cX7_next.data.toList.drop 46 = dktX7_next_2 := dk_seg dksX7_next_1 22 rfl rfl
theorem dksX7_next_3 : cX7_next.data.toList.drop 68 = dktX7_next_3 := dk_seg dksX7_next_2 22 rfl rfl
theorem dksX7_next_4 : cX7_next.data.toList.drop 92 = dktX7_next_4 := dk_seg dksX7_next_3 24 rfl rfl
theorem dksX7_next_5 : cX7_next.data.toList.drop 114 = dktX7_next_5 := dk_seg dksX7_next_4 22 rfl rfl
theorem dksX7_next_6 : cX7_next.data.toList.drop 138 = dktX7_next_6 := dk_seg dksX7_next_5 24 rfl rfl
theorem dX7_next_0 : decode cX7_next 0 = .ok (.aload_n 0, 1) := dk_42 (dk_at dksX7_next_0 0 rfl rfl)
theorem dX7_next_1 : decode cX7_next 1 = .ok (.aload_n 0, 1) := dk_42 (dk_at dksX7_next_0 1 rfl rfl)
theorem dX7_next_2 : decode cX7_next 2 = .ok (.getfield 28, 3) := dk_180 0 28 (dk_at dksX7_next_0 2 rfl rfl)
theorem dX7_next_5 : decode cX7_next 5 = .ok (.putfield 31, 3) := dk_181 0 31 (dk_at dksX7_next_0 5 rfl rfl)
theorem dX7_next_8 : decode cX7_next 8 = .ok (.aload_n 0, 1) := dk_42 (dk_at dksX7_next_0 8 rfl rfl)
theorem dX7_next_9 : decode cX7_next 9 = .ok (.aload_n 0, 1) := dk_42 (dk_at dksX7_next_0 9 rfl rfl)
theorem dX7_next_10 : decode cX7_next 10 = .ok (.getfield 31, 3) := dk_180 0 31 (dk_at dksX7_next_0 10 rfl rfl)
theorem dX7_next_13 : decode cX7_next 13 = .ok (.bipush 32, 2) := dk_16 32 (dk_at dksX7_next_0 13 rfl rfl)
theorem dX7_next_15 : decode cX7_next 15 = .ok (.bipush 32, 2) := dk_16 32 (dk_at dksX7_next_0 15 rfl rfl)
theorem dX7_next_17 : decode cX7_next 17 = .ok (.invokevirtual 34, 3) := dk_182 0 34 (dk_at dksX7_next_0 17 rfl rfl)
theorem dX7_next_20 : decode cX7_next 20 = .ok (.ifCond .eq 16, 3) := dk_153 0 16 (dk_at dksX7_next_0 20 rfl rfl)
theorem dX7_next_23 : decode cX7_next 23 = .ok (.aload_n 0, 1) := dk_42 (dk_at dksX7_next_0 23 rfl rfl)
theorem dX7_next_24 : decode cX7_next 24 = .ok (.dup, 1) := dk_89 (dk_at dksX7_next_1 0 rfl rfl)
theorem dX7_next_25 : decode cX7_next 25 = .ok (.getfield 31, 3) := dk_180 0 31 (dk_at dksX7_next_1 1 rfl rfl)
theorem dX7_next_28 : decode cX7_next 28 = .ok (.iconst 1, 1) := dk_4 (dk_at dksX7_next_1 4 rfl rfl)
theorem dX7_next_29 : decode cX7_next 29 = .ok (.iadd, 1) := dk_96 (dk_at dksX7_next_1 5 rfl rfl)
theorem dX7_next_30 : decode cX7_next 30 = .ok (.putfield 31, 3) := dk_181 0 31 (dk_at dksX7_next_1 6 rfl rfl)
theorem dX7_next_33 : decode cX7_next 33 = .ok (.goto (-25), 3) := dk_167 255 231 (dk_at dksX7_next_1 9 rfl rfl)
theorem dX7_next_36 : decode cX7_next 36 = .ok (.aload_n 0, 1) := dk_42 (dk_at dksX7_next_1 12 rfl rfl)
theorem dX7_next_37 : decode cX7_next 37 = .ok (.aload_n 0, 1) := dk_42 (dk_at dksX7_next_1 13 rfl rfl)
theorem dX7_next_38 : decode cX7_next 38 = .ok (.getfield 31, 3) := dk_180 0 31 (dk_at dksX7_next_1 14 rfl rfl)
theorem dX7_next_41 : decode cX7_next 41 = .ok (.putfield 28, 3) := dk_181 0 28 (dk_at dksX7_next_1 17 rfl rfl)
theorem dX7_next_44 : decode cX7_next 44 = .ok (.aload_n 0, 1) := dk_42 (dk_at dksX7_next_1 20 rfl rfl)
theorem dX7_next_45 : decode cX7_next 45 = .ok (.aload_n 0, 1) := dk_42 (dk_at dksX7_next_1 21 rfl rfl)
theorem dX7_next_46 : decode cX7_next 46 = .ok (.getfield 31, 3) := dk_180 0 31 (dk_at dksX7_next_2 0 rfl rfl)
theorem dX7_next_49 : decode cX7_next 49 = .ok (.bipush 97, 2) := dk_16 97 (dk_at dksX7_next_2 3 rfl rfl)
theorem dX7_next_51 : decode cX7_next 51 = .ok (.bipush 122, 2) := dk_16 122 (dk_at dksX7_next_2 5 rfl rfl)
theorem dX7_next_53 : decode cX7_next 53 = .ok (.invokevirtual 34, 3) := dk_182 0 34 (dk_at dksX7_next_2 7 rfl rfl)
theorem dX7_next_56 : decode cX7_next 56 = .ok (.ifCond .eq 31, 3) := dk_153 0 31 (dk_at dksX7_next_2 10 rfl rfl)
theorem dX7_next_59 : decode cX7_next 59 = .ok (.aload_n 0, 1) := dk_42 (dk_at dksX7_next_2 13 rfl rfl)
theorem dX7_next_60 : decode cX7_next 60 = .ok (.aload_n 0, 1) := dk_42 (dk_at dksX7_next_2 14 rfl rfl)
theorem dX7_next_61 : decode cX7_next 61 = .ok (.getfield 28, 3) := dk_180 0 28 (dk_at dksX7_next_2 15 rfl rfl)
theorem dX7_next_64 : decode cX7_next 64 = .ok (.bipush 97, 2) := dk_16 97 (dk_at dksX7_next_2 18 rfl rfl)
theorem dX7_next_66 : decode cX7_next 66 = .ok (.bipush 122, 2) := dk_16 122 (dk_at dksX7_next_2 20 rfl rfl)
theorem dX7_next_68 : decode cX7_next 68 = .ok (.invokevirtual 34, 3) := dk_182 0 34 (dk_at dksX7_next_3 0 rfl rfl)
theorem dX7_next_71 : decode cX7_next 71 = .ok (.ifCond .eq 80, 3) := dk_153 0 80 (dk_at dksX7_next_3 3 rfl rfl)
theorem dX7_next_74 : decode cX7_next 74 = .ok (.aload_n 0, 1) := dk_42 (dk_at dksX7_next_3 6 rfl rfl)
theorem dX7_next_75 : decode cX7_next 75 = .ok (.dup, 1) := dk_89 (dk_at dksX7_next_3 7 rfl rfl)
theorem dX7_next_76 : decode cX7_next 76 = .ok (.getfield 28, 3) := dk_180 0 28 (dk_at dksX7_next_3 8 rfl rfl)
theorem dX7_next_79 : decode cX7_next 79 = .ok (.iconst 1, 1) := dk_4 (dk_at dksX7_next_3 11 rfl rfl)
theorem dX7_next_80 : decode cX7_next 80 = .ok (.iadd, 1) := dk_96 (dk_at dksX7_next_3 12 rfl rfl)
theorem dX7_next_81 : decode cX7_next 81 = .ok (.putfield 28, 3) := dk_181 0 28 (dk_at dksX7_next_3 13 rfl rfl)
theorem dX7_next_84 : decode cX7_next 84 = .ok (.goto (-25), 3) := dk_167 255 231 (dk_at dksX7_next_3 16 rfl rfl)
theorem dX7_next_87 : decode cX7_next 87 = .ok (.aload_n 0, 1) := dk_42 (dk_at dksX7_next_3 19 rfl rfl)
theorem dX7_next_88 : decode cX7_next 88 = .ok (.aload_n 0, 1) := dk_42 (dk_at dksX7_next_3 20 rfl rfl)
theorem dX7_next_89 : decode cX7_next 89 = .ok (.getfield 31, 3) := dk_180 0 31 (dk_at dksX7_next_3 21 rfl rfl)
theorem dX7_next_92 : decode cX7_next 92 = .ok (.bipush 48, 2) := dk_16 48 (dk_at dksX7_next_4 0 rfl rfl)
theorem dX7_next_94 : decode cX7_next 94 = .ok (.bipush 57, 2) := dk_16 57 (dk_at dksX7_next_4 2 rfl rfl)
theorem dX7_next_96 : decode cX7_next 96 = .ok (.invokevirtual 34, 3) := dk_182 0 34 (dk_at dksX7_next_4 4 rfl rfl)
theorem dX7_next_99 : decode cX7_next 99 = .ok (.ifCond .eq 31, 3) := dk_153 0 31 (dk_at dksX7_next_4 7 rfl rfl)
theorem dX7_next_102 : decode cX7_next 102 = .ok (.aload_n 0, 1) := dk_42 (dk_at dksX7_next_4 10 rfl rfl)
theorem dX7_next_103 : decode cX7_next 103 = .ok (.aload_n 0, 1) := dk_42 (dk_at dksX7_next_4 11 rfl rfl)
theorem dX7_next_104 : decode cX7_next 104 = .ok (.getfield 28, 3) := dk_180 0 28 (dk_at dksX7_next_4 12 rfl rfl)
theorem dX7_next_107 : decode cX7_next 107 = .ok (.bipush 48, 2) := dk_16 48 (dk_at dksX7_next_4 15 rfl rfl)
theorem dX7_next_109 : decode cX7_next 109 = .ok (.bipush 57, 2) := dk_16 57 (dk_at dksX7_next_4 17 rfl rfl)
theorem dX7_next_111 : decode cX7_next 111 = .ok (.invokevirtual 34, 3) := dk_182 0 34 (dk_at dksX7_next_4 19 rfl rfl)
theorem dX7_next_114 : decode cX7_next 114 = .ok (.ifCond .eq 37, 3) := dk_153 0 37 (dk_at dksX7_next_5 0 rfl rfl)
theorem dX7_next_117 : decode cX7_next 117 = .ok (.aload_n 0, 1) := dk_42 (dk_at dksX7_next_5 3 rfl rfl)
theorem dX7_next_118 : decode cX7_next 118 = .ok (.dup, 1) := dk_89 (dk_at dksX7_next_5 4 rfl rfl)
theorem dX7_next_119 : decode cX7_next 119 = .ok (.getfield 28, 3) := dk_180 0 28 (dk_at dksX7_next_5 5 rfl rfl)
theorem dX7_next_122 : decode cX7_next 122 = .ok (.iconst 1, 1) := dk_4 (dk_at dksX7_next_5 8 rfl rfl)
theorem dX7_next_123 : decode cX7_next 123 = .ok (.iadd, 1) := dk_96 (dk_at dksX7_next_5 9 rfl rfl)
theorem dX7_next_124 : decode cX7_next 124 = .ok (.putfield 28, 3) := dk_181 0 28 (dk_at dksX7_next_5 10 rfl rfl)
theorem dX7_next_127 : decode cX7_next 127 = .ok (.goto (-25), 3) := dk_167 255 231 (dk_at dksX7_next_5 13 rfl rfl)
theorem dX7_next_130 : decode cX7_next 130 = .ok (.aload_n 0, 1) := dk_42 (dk_at dksX7_next_5 16 rfl rfl)
theorem dX7_next_131 : decode cX7_next 131 = .ok (.getfield 31, 3) := dk_180 0 31 (dk_at dksX7_next_5 17 rfl rfl)
theorem dX7_next_134 : decode cX7_next 134 = .ok (.aload_n 0, 1) := dk_42 (dk_at dksX7_next_5 20 rfl rfl)
theorem dX7_next_135 : decode cX7_next 135 = .ok (.getfield 24, 3) := dk_180 0 24 (dk_at dksX7_next_5 21 rfl rfl)
theorem dX7_next_138 : decode cX7_next 138 = .ok (.if_icmp .ge 13, 3) := dk_162 0 13 (dk_at dksX7_next_6 0 rfl rfl)
theorem dX7_next_141 : decode cX7_next 141 = .ok (.aload_n 0, 1) := dk_42 (dk_at dksX7_next_6 3 rfl rfl)
theorem dX7_next_142 : decode cX7_next 142 = .ok (.dup, 1) := dk_89 (dk_at dksX7_next_6 4 rfl rfl)
theorem dX7_next_143 : decode cX7_next 143 = .ok (.getfield 28, 3) := dk_180 0 28 (dk_at dksX7_next_6 5 rfl rfl)
theorem dX7_next_146 : decode cX7_next 146 = .ok (.iconst 1, 1) := dk_4 (dk_at dksX7_next_6 8 rfl rfl)
theorem dX7_next_147 : decode cX7_next 147 = .ok (.iadd, 1) := dk_96 (dk_at dksX7_next_6 9 rfl rfl)
theorem dX7_next_148 : decode cX7_next 148 = .ok (.putfield 28, 3) := dk_181 0 28 (dk_at dksX7_next_6 10 rfl rfl)
theorem dX7_next_151 : decode cX7_next 151 = .ok (.return_, 1) := dk_177 (dk_at dksX7_next_6 13 rfl rfl)
abbrev cX7_isIn : ByteArray := prog_15_method_2_code
def yX7_isIn : MethodName := ⟨RX7, "isIn", "(III)Z"⟩
def dkwX7_isIn_1 : List UInt8 := [29, 163, 0, 7, 4, 167, 0, 4, 3, 172]
abbrev dktX7_isIn_1 : List UInt8 := dkwX7_isIn_1 ++ []
def dkwX7_isIn_0 : List UInt8 := [27, 42, 180, 0, 24, 162, 0, 27, 42, 180, 0, 20, 27, 51, 28, 161, 0, 17, 42, 180, 0, 20, 27, 51]
abbrev dktX7_isIn_0 : List UInt8 := dkwX7_isIn_0 ++ dktX7_isIn_1
theorem dksX7_isIn_0 : cX7_isIn.data.toList.drop 0 = dktX7_isIn_0 := by decide +kernel
theorem dksX7_isIn_1 : cX7_isIn.data.toList.drop 24 = dktX7_isIn_1 := dk_seg dksX7_isIn_0 24 rfl rfl
theorem dX7_isIn_0 : decode cX7_isIn 0 = .ok (.iload_n 1, 1) := dk_27 (dk_at dksX7_isIn_0 0 rfl rfl)
theorem dX7_isIn_1 : decode cX7_isIn 1 = .ok (.aload_n 0, 1) := dk_42 (dk_at dksX7_isIn_0 1 rfl rfl)
theorem dX7_isIn_2 : decode cX7_isIn 2 = .ok (.getfield 24, 3) := dk_180 0 24 (dk_at dksX7_isIn_0 2 rfl rfl)
theorem dX7_isIn_5 : decode cX7_isIn 5 = .ok (.if_icmp .ge 27, 3) := dk_162 0 27 (dk_at dksX7_isIn_0 5 rfl rfl)
theorem dX7_isIn_8 : decode cX7_isIn 8 = .ok (.aload_n 0, 1) := dk_42 (dk_at dksX7_isIn_0 8 rfl rfl)
theorem dX7_isIn_9 : decode cX7_isIn 9 = .ok (.getfield 20, 3) := dk_180 0 20 (dk_at dksX7_isIn_0 9 rfl rfl)
theorem dX7_isIn_12 : decode cX7_isIn 12 = .ok (.iload_n 1, 1) := dk_27 (dk_at dksX7_isIn_0 12 rfl rfl)
theorem dX7_isIn_13 : decode cX7_isIn 13 = .ok (.baload, 1) := dk_51 (dk_at dksX7_isIn_0 13 rfl rfl)
theorem dX7_isIn_14 : decode cX7_isIn 14 = .ok (.iload_n 2, 1) := dk_28 (dk_at dksX7_isIn_0 14 rfl rfl)
theorem dX7_isIn_15 : decode cX7_isIn 15 = .ok (.if_icmp .lt 17, 3) := dk_161 0 17 (dk_at dksX7_isIn_0 15 rfl rfl)
theorem dX7_isIn_18 : decode cX7_isIn 18 = .ok (.aload_n 0, 1) := dk_42 (dk_at dksX7_isIn_0 18 rfl rfl)
theorem dX7_isIn_19 : decode cX7_isIn 19 = .ok (.getfield 20, 3) := dk_180 0 20 (dk_at dksX7_isIn_0 19 rfl rfl)
theorem dX7_isIn_22 : decode cX7_isIn 22 = .ok (.iload_n 1, 1) := dk_27 (dk_at dksX7_isIn_0 22 rfl rfl)
theorem dX7_isIn_23 : decode cX7_isIn 23 = .ok (.baload, 1) := dk_51 (dk_at dksX7_isIn_0 23 rfl rfl)
theorem dX7_isIn_24 : decode cX7_isIn 24 = .ok (.iload_n 3, 1) := dk_29 (dk_at dksX7_isIn_1 0 rfl rfl)
theorem dX7_isIn_25 : decode cX7_isIn 25 = .ok (.if_icmp .gt 7, 3) := dk_163 0 7 (dk_at dksX7_isIn_1 1 rfl rfl)
theorem dX7_isIn_28 : decode cX7_isIn 28 = .ok (.iconst 1, 1) := dk_4 (dk_at dksX7_isIn_1 4 rfl rfl)
theorem dX7_isIn_29 : decode cX7_isIn 29 = .ok (.goto 4, 3) := dk_167 0 4 (dk_at dksX7_isIn_1 5 rfl rfl)
theorem dX7_isIn_32 : decode cX7_isIn 32 = .ok (.iconst 0, 1) := dk_3 (dk_at dksX7_isIn_1 8 rfl rfl)
theorem dX7_isIn_33 : decode cX7_isIn 33 = .ok (.ireturn, 1) := dk_172 (dk_at dksX7_isIn_1 9 rfl rfl)
abbrev cX7_step : ByteArray := prog_15_method_9_code
def yX7_step : MethodName := ⟨RX7, "step", "()V"⟩
def dkwX7_step_2 : List UInt8 := [180, 0, 14, 43, 182, 0, 84, 87, 177]
abbrev dktX7_step_2 : List UInt8 := dkwX7_step_2 ++ []
def dkwX7_step_1 : List UInt8 := [42, 182, 0, 68, 76, 42, 18, 72, 182, 0, 55, 153, 0, 11, 43, 42, 182, 0, 74, 181, 0, 78, 42]
abbrev dktX7_step_1 : List UInt8 := dkwX7_step_1 ++ dktX7_step_2
def dkwX7_step_0 : List UInt8 := [42, 180, 0, 14, 182, 0, 66, 16, 16, 160, 0, 15, 187, 0, 58, 89, 42, 180, 0, 31, 183, 0, 60, 191]
abbrev dktX7_step_0 : List UInt8 := dkwX7_step_0 ++ dktX7_step_1
theorem dksX7_step_0 : cX7_step.data.toList.drop 0 = dktX7_step_0 := by decide +kernel
theorem dksX7_step_1 : cX7_step.data.toList.drop 24 = dktX7_step_1 := dk_seg dksX7_step_0 24 rfl rfl
theorem dksX7_step_2 : cX7_step.data.toList.drop 47 = dktX7_step_2 := dk_seg dksX7_step_1 23 rfl rfl
theorem dX7_step_0 : decode cX7_step 0 = .ok (.aload_n 0, 1) := dk_42 (dk_at dksX7_step_0 0 rfl rfl)
theorem dX7_step_1 : decode cX7_step 1 = .ok (.getfield 14, 3) := dk_180 0 14 (dk_at dksX7_step_0 1 rfl rfl)
theorem dX7_step_4 : decode cX7_step 4 = .ok (.invokevirtual 66, 3) := dk_182 0 66 (dk_at dksX7_step_0 4 rfl rfl)
theorem dX7_step_7 : decode cX7_step 7 = .ok (.bipush 16, 2) := dk_16 16 (dk_at dksX7_step_0 7 rfl rfl)
theorem dX7_step_9 : decode cX7_step 9 = .ok (.if_icmp .ne 15, 3) := dk_160 0 15 (dk_at dksX7_step_0 9 rfl rfl)
theorem dX7_step_12 : decode cX7_step 12 = .ok (.new 58, 3) := dk_187 0 58 (dk_at dksX7_step_0 12 rfl rfl)
theorem dX7_step_15 : decode cX7_step 15 = .ok (.dup, 1) := dk_89 (dk_at dksX7_step_0 15 rfl rfl)
theorem dX7_step_16 : decode cX7_step 16 = .ok (.aload_n 0, 1) := dk_42 (dk_at dksX7_step_0 16 rfl rfl)
theorem dX7_step_17 : decode cX7_step 17 = .ok (.getfield 31, 3) := dk_180 0 31 (dk_at dksX7_step_0 17 rfl rfl)
theorem dX7_step_20 : decode cX7_step 20 = .ok (.invokespecial 60, 3) := dk_183 0 60 (dk_at dksX7_step_0 20 rfl rfl)
theorem dX7_step_23 : decode cX7_step 23 = .ok (.athrow, 1) := dk_191 (dk_at dksX7_step_0 23 rfl rfl)
theorem dX7_step_24 : decode cX7_step 24 = .ok (.aload_n 0, 1) := dk_42 (dk_at dksX7_step_1 0 rfl rfl)
theorem dX7_step_25 : decode cX7_step 25 = .ok (.invokevirtual 68, 3) := dk_182 0 68 (dk_at dksX7_step_1 1 rfl rfl)
theorem dX7_step_28 : decode cX7_step 28 = .ok (.astore_n 1, 1) := dk_76 (dk_at dksX7_step_1 4 rfl rfl)
theorem dX7_step_29 : decode cX7_step 29 = .ok (.aload_n 0, 1) := dk_42 (dk_at dksX7_step_1 5 rfl rfl)
theorem dX7_step_30 : decode cX7_step 30 = .ok (.ldc 72, 2) := dk_18 72 (dk_at dksX7_step_1 6 rfl rfl)
theorem dX7_step_32 : decode cX7_step 32 = .ok (.invokevirtual 55, 3) := dk_182 0 55 (dk_at dksX7_step_1 8 rfl rfl)
theorem dX7_step_35 : decode cX7_step 35 = .ok (.ifCond .eq 11, 3) := dk_153 0 11 (dk_at dksX7_step_1 11 rfl rfl)
theorem dX7_step_38 : decode cX7_step 38 = .ok (.aload_n 1, 1) := dk_43 (dk_at dksX7_step_1 14 rfl rfl)
theorem dX7_step_39 : decode cX7_step 39 = .ok (.aload_n 0, 1) := dk_42 (dk_at dksX7_step_1 15 rfl rfl)
theorem dX7_step_40 : decode cX7_step 40 = .ok (.invokevirtual 74, 3) := dk_182 0 74 (dk_at dksX7_step_1 16 rfl rfl)
theorem dX7_step_43 : decode cX7_step 43 = .ok (.putfield 78, 3) := dk_181 0 78 (dk_at dksX7_step_1 19 rfl rfl)
theorem dX7_step_46 : decode cX7_step 46 = .ok (.aload_n 0, 1) := dk_42 (dk_at dksX7_step_1 22 rfl rfl)
theorem dX7_step_47 : decode cX7_step 47 = .ok (.getfield 14, 3) := dk_180 0 14 (dk_at dksX7_step_2 0 rfl rfl)
theorem dX7_step_50 : decode cX7_step 50 = .ok (.aload_n 1, 1) := dk_43 (dk_at dksX7_step_2 3 rfl rfl)
theorem dX7_step_51 : decode cX7_step 51 = .ok (.invokevirtual 84, 3) := dk_182 0 84 (dk_at dksX7_step_2 4 rfl rfl)
theorem dX7_step_54 : decode cX7_step 54 = .ok (.pop, 1) := dk_87 (dk_at dksX7_step_2 7 rfl rfl)
theorem dX7_step_55 : decode cX7_step 55 = .ok (.return_, 1) := dk_177 (dk_at dksX7_step_2 8 rfl rfl)
abbrev cX7_plainStep : ByteArray := prog_15_method_10_code
def yX7_plainStep : MethodName := ⟨RX7, "plainStep", "()LHotIron$Step;"⟩
def dkwX7_plainStep_6 : List UInt8 := [183, 0, 135, 176]
abbrev dktX7_plainStep_6 : List UInt8 := dkwX7_plainStep_6 ++ []
def dkwX7_plainStep_5 : List UInt8 := [182, 0, 128, 42, 182, 0, 92, 76, 42, 18, 132, 182, 0, 128, 187, 0, 133, 89, 43, 42, 182, 0, 92]
abbrev dktX7_plainStep_5 : List UInt8 := dkwX7_plainStep_5 ++ dktX7_plainStep_6
def dkwX7_plainStep_4 : List UInt8 := [89, 187, 0, 118, 89, 42, 3, 16, 15, 182, 0, 120, 183, 0, 124, 183, 0, 125, 176, 42, 18, 126]
abbrev dktX7_plainStep_4 : List UInt8 := dkwX7_plainStep_4 ++ dktX7_plainStep_5
def dkwX7_plainStep_3 : List UInt8 := [187, 0, 111, 89, 42, 182, 0, 92, 183, 0, 113, 176, 42, 18, 114, 182, 0, 55, 153, 0, 25, 187, 0, 116]
abbrev dktX7_plainStep_3 : List UInt8 := dkwX7_plainStep_3 ++ dktX7_plainStep_4
def dkwX7_plainStep_2 : List UInt8 := [153, 0, 15, 187, 0, 106, 89, 42, 182, 0, 92, 183, 0, 108, 176, 42, 18, 109, 182, 0, 55, 153, 0, 15]
abbrev dktX7_plainStep_2 : List UInt8 := dkwX7_plainStep_2 ++ dktX7_plainStep_3
def dkwX7_plainStep_1 : List UInt8 := [182, 0, 55, 153, 0, 15, 187, 0, 101, 89, 42, 182, 0, 92, 183, 0, 103, 176, 42, 18, 104, 182, 0, 55]
abbrev dktX7_plainStep_1 : List UInt8 := dkwX7_plainStep_1 ++ dktX7_plainStep_2
def dkwX7_plainStep_0 : List UInt8 := [42, 18, 88, 182, 0, 55, 153, 0, 15, 187, 0, 90, 89, 42, 182, 0, 92, 183, 0, 96, 176, 42, 18, 99]
abbrev dktX7_plainStep_0 : List UInt8 := dkwX7_plainStep_0 ++ dktX7_plainStep_1
theorem dksX7_plainStep_0 : cX7_plainStep.data.toList.drop 0 = dktX7_plainStep_0 := by decide +kernel
theorem dksX7_plainStep_1 : cX7_plainStep.data.toList.drop 24 = dktX7_plainStep_1 := dk_seg dksX7_plainStep_0 24 rfl rfl
theorem dksX7_plainStep_2 : cX7_plainStep.data.toList.drop 48 = dktX7_plainStep_2 := dk_seg dksX7_plainStep_1 24 rfl rfl
theorem dksX7_plainStep_3 : cX7_plainStep.data.toList.drop 72 = dktX7_plainStep_3 := dk_seg dksX7_plainStep_2 24 rfl rfl
theorem dksX7_plainStep_4 : cX7_plainStep.data.toList.drop 96 = dktX7_plainStep_4 := dk_seg dksX7_plainStep_3 24 rfl rfl
theorem dksX7_plainStep_5 : cX7_plainStep.data.toList.drop 118 = dktX7_plainStep_5 := dk_seg dksX7_plainStep_4 22 rfl rfl
theorem dksX7_plainStep_6 : cX7_plainStep.data.toList.drop 141 = dktX7_plainStep_6 := dk_seg dksX7_plainStep_5 23 rfl rfl
theorem dX7_plainStep_0 : decode cX7_plainStep 0 = .ok (.aload_n 0, 1) := dk_42 (dk_at dksX7_plainStep_0 0 rfl rfl)
theorem dX7_plainStep_1 : decode cX7_plainStep 1 = .ok (.ldc 88, 2) := dk_18 88 (dk_at dksX7_plainStep_0 1 rfl rfl)
theorem dX7_plainStep_3 : decode cX7_plainStep 3 = .ok (.invokevirtual 55, 3) := dk_182 0 55 (dk_at dksX7_plainStep_0 3 rfl rfl)
theorem dX7_plainStep_6 : decode cX7_plainStep 6 = .ok (.ifCond .eq 15, 3) := dk_153 0 15 (dk_at dksX7_plainStep_0 6 rfl rfl)
theorem dX7_plainStep_9 : decode cX7_plainStep 9 = .ok (.new 90, 3) := dk_187 0 90 (dk_at dksX7_plainStep_0 9 rfl rfl)
theorem dX7_plainStep_12 : decode cX7_plainStep 12 = .ok (.dup, 1) := dk_89 (dk_at dksX7_plainStep_0 12 rfl rfl)
theorem dX7_plainStep_13 : decode cX7_plainStep 13 = .ok (.aload_n 0, 1) := dk_42 (dk_at dksX7_plainStep_0 13 rfl rfl)
theorem dX7_plainStep_14 : decode cX7_plainStep 14 = .ok (.invokevirtual 92, 3) := dk_182 0 92 (dk_at dksX7_plainStep_0 14 rfl rfl)
theorem dX7_plainStep_17 : decode cX7_plainStep 17 = .ok (.invokespecial 96, 3) := dk_183 0 96 (dk_at dksX7_plainStep_0 17 rfl rfl)
theorem dX7_plainStep_20 : decode cX7_plainStep 20 = .ok (.areturn, 1) := dk_176 (dk_at dksX7_plainStep_0 20 rfl rfl)
theorem dX7_plainStep_21 : decode cX7_plainStep 21 = .ok (.aload_n 0, 1) := dk_42 (dk_at dksX7_plainStep_0 21 rfl rfl)
theorem dX7_plainStep_22 : decode cX7_plainStep 22 = .ok (.ldc 99, 2) := dk_18 99 (dk_at dksX7_plainStep_0 22 rfl rfl)
theorem dX7_plainStep_24 : decode cX7_plainStep 24 = .ok (.invokevirtual 55, 3) := dk_182 0 55 (dk_at dksX7_plainStep_1 0 rfl rfl)
theorem dX7_plainStep_27 : decode cX7_plainStep 27 = .ok (.ifCond .eq 15, 3) := dk_153 0 15 (dk_at dksX7_plainStep_1 3 rfl rfl)
theorem dX7_plainStep_30 : decode cX7_plainStep 30 = .ok (.new 101, 3) := dk_187 0 101 (dk_at dksX7_plainStep_1 6 rfl rfl)
theorem dX7_plainStep_33 : decode cX7_plainStep 33 = .ok (.dup, 1) := dk_89 (dk_at dksX7_plainStep_1 9 rfl rfl)
theorem dX7_plainStep_34 : decode cX7_plainStep 34 = .ok (.aload_n 0, 1) := dk_42 (dk_at dksX7_plainStep_1 10 rfl rfl)
theorem dX7_plainStep_35 : decode cX7_plainStep 35 = .ok (.invokevirtual 92, 3) := dk_182 0 92 (dk_at dksX7_plainStep_1 11 rfl rfl)
theorem dX7_plainStep_38 : decode cX7_plainStep 38 = .ok (.invokespecial 103, 3) := dk_183 0 103 (dk_at dksX7_plainStep_1 14 rfl rfl)
theorem dX7_plainStep_41 : decode cX7_plainStep 41 = .ok (.areturn, 1) := dk_176 (dk_at dksX7_plainStep_1 17 rfl rfl)
theorem dX7_plainStep_42 : decode cX7_plainStep 42 = .ok (.aload_n 0, 1) := dk_42 (dk_at dksX7_plainStep_1 18 rfl rfl)
theorem dX7_plainStep_43 : decode cX7_plainStep 43 = .ok (.ldc 104, 2) := dk_18 104 (dk_at dksX7_plainStep_1 19 rfl rfl)
theorem dX7_plainStep_45 : decode cX7_plainStep 45 = .ok (.invokevirtual 55, 3) := dk_182 0 55 (dk_at dksX7_plainStep_1 21 rfl rfl)
theorem dX7_plainStep_48 : decode cX7_plainStep 48 = .ok (.ifCond .eq 15, 3) := dk_153 0 15 (dk_at dksX7_plainStep_2 0 rfl rfl)
theorem dX7_plainStep_51 : decode cX7_plainStep 51 = .ok (.new 106, 3) := dk_187 0 106 (dk_at dksX7_plainStep_2 3 rfl rfl)
theorem dX7_plainStep_54 : decode cX7_plainStep 54 = .ok (.dup, 1) := dk_89 (dk_at dksX7_plainStep_2 6 rfl rfl)
theorem dX7_plainStep_55 : decode cX7_plainStep 55 = .ok (.aload_n 0, 1) := dk_42 (dk_at dksX7_plainStep_2 7 rfl rfl)
theorem dX7_plainStep_56 : decode cX7_plainStep 56 = .ok (.invokevirtual 92, 3) := dk_182 0 92 (dk_at dksX7_plainStep_2 8 rfl rfl)
theorem dX7_plainStep_59 : decode cX7_plainStep 59 = .ok (.invokespecial 108, 3) := dk_183 0 108 (dk_at dksX7_plainStep_2 11 rfl rfl)
theorem dX7_plainStep_62 : decode cX7_plainStep 62 = .ok (.areturn, 1) := dk_176 (dk_at dksX7_plainStep_2 14 rfl rfl)
theorem dX7_plainStep_63 : decode cX7_plainStep 63 = .ok (.aload_n 0, 1) := dk_42 (dk_at dksX7_plainStep_2 15 rfl rfl)
theorem dX7_plainStep_64 : decode cX7_plainStep 64 = .ok (.ldc 109, 2) := dk_18 109 (dk_at dksX7_plainStep_2 16 rfl rfl)
theorem dX7_plainStep_66 : decode cX7_plainStep 66 = .ok (.invokevirtual 55, 3) := dk_182 0 55 (dk_at dksX7_plainStep_2 18 rfl rfl)
theorem dX7_plainStep_69 : decode cX7_plainStep 69 = .ok (.ifCond .eq 15, 3) := dk_153 0 15 (dk_at dksX7_plainStep_2 21 rfl rfl)
theorem dX7_plainStep_72 : decode cX7_plainStep 72 = .ok (.new 111, 3) := dk_187 0 111 (dk_at dksX7_plainStep_3 0 rfl rfl)
theorem dX7_plainStep_75 : decode cX7_plainStep 75 = .ok (.dup, 1) := dk_89 (dk_at dksX7_plainStep_3 3 rfl rfl)
theorem dX7_plainStep_76 : decode cX7_plainStep 76 = .ok (.aload_n 0, 1) := dk_42 (dk_at dksX7_plainStep_3 4 rfl rfl)
theorem dX7_plainStep_77 : decode cX7_plainStep 77 = .ok (.invokevirtual 92, 3) := dk_182 0 92 (dk_at dksX7_plainStep_3 5 rfl rfl)
theorem dX7_plainStep_80 : decode cX7_plainStep 80 = .ok (.invokespecial 113, 3) := dk_183 0 113 (dk_at dksX7_plainStep_3 8 rfl rfl)
theorem dX7_plainStep_83 : decode cX7_plainStep 83 = .ok (.areturn, 1) := dk_176 (dk_at dksX7_plainStep_3 11 rfl rfl)
theorem dX7_plainStep_84 : decode cX7_plainStep 84 = .ok (.aload_n 0, 1) := dk_42 (dk_at dksX7_plainStep_3 12 rfl rfl)
theorem dX7_plainStep_85 : decode cX7_plainStep 85 = .ok (.ldc 114, 2) := dk_18 114 (dk_at dksX7_plainStep_3 13 rfl rfl)
theorem dX7_plainStep_87 : decode cX7_plainStep 87 = .ok (.invokevirtual 55, 3) := dk_182 0 55 (dk_at dksX7_plainStep_3 15 rfl rfl)
theorem dX7_plainStep_90 : decode cX7_plainStep 90 = .ok (.ifCond .eq 25, 3) := dk_153 0 25 (dk_at dksX7_plainStep_3 18 rfl rfl)
theorem dX7_plainStep_93 : decode cX7_plainStep 93 = .ok (.new 116, 3) := dk_187 0 116 (dk_at dksX7_plainStep_3 21 rfl rfl)
theorem dX7_plainStep_96 : decode cX7_plainStep 96 = .ok (.dup, 1) := dk_89 (dk_at dksX7_plainStep_4 0 rfl rfl)
theorem dX7_plainStep_97 : decode cX7_plainStep 97 = .ok (.new 118, 3) := dk_187 0 118 (dk_at dksX7_plainStep_4 1 rfl rfl)
theorem dX7_plainStep_100 : decode cX7_plainStep 100 = .ok (.dup, 1) := dk_89 (dk_at dksX7_plainStep_4 4 rfl rfl)
theorem dX7_plainStep_101 : decode cX7_plainStep 101 = .ok (.aload_n 0, 1) := dk_42 (dk_at dksX7_plainStep_4 5 rfl rfl)
theorem dX7_plainStep_102 : decode cX7_plainStep 102 = .ok (.iconst 0, 1) := dk_3 (dk_at dksX7_plainStep_4 6 rfl rfl)
theorem dX7_plainStep_103 : decode cX7_plainStep 103 = .ok (.bipush 15, 2) := dk_16 15 (dk_at dksX7_plainStep_4 7 rfl rfl)
theorem dX7_plainStep_105 : decode cX7_plainStep 105 = .ok (.invokevirtual 120, 3) := dk_182 0 120 (dk_at dksX7_plainStep_4 9 rfl rfl)
theorem dX7_plainStep_108 : decode cX7_plainStep 108 = .ok (.invokespecial 124, 3) := dk_183 0 124 (dk_at dksX7_plainStep_4 12 rfl rfl)
theorem dX7_plainStep_111 : decode cX7_plainStep 111 = .ok (.invokespecial 125, 3) := dk_183 0 125 (dk_at dksX7_plainStep_4 15 rfl rfl)
theorem dX7_plainStep_114 : decode cX7_plainStep 114 = .ok (.areturn, 1) := dk_176 (dk_at dksX7_plainStep_4 18 rfl rfl)
theorem dX7_plainStep_115 : decode cX7_plainStep 115 = .ok (.aload_n 0, 1) := dk_42 (dk_at dksX7_plainStep_4 19 rfl rfl)
theorem dX7_plainStep_116 : decode cX7_plainStep 116 = .ok (.ldc 126, 2) := dk_18 126 (dk_at dksX7_plainStep_4 20 rfl rfl)
theorem dX7_plainStep_118 : decode cX7_plainStep 118 = .ok (.invokevirtual 128, 3) := dk_182 0 128 (dk_at dksX7_plainStep_5 0 rfl rfl)
theorem dX7_plainStep_121 : decode cX7_plainStep 121 = .ok (.aload_n 0, 1) := dk_42 (dk_at dksX7_plainStep_5 3 rfl rfl)
theorem dX7_plainStep_122 : decode cX7_plainStep 122 = .ok (.invokevirtual 92, 3) := dk_182 0 92 (dk_at dksX7_plainStep_5 4 rfl rfl)
theorem dX7_plainStep_125 : decode cX7_plainStep 125 = .ok (.astore_n 1, 1) := dk_76 (dk_at dksX7_plainStep_5 7 rfl rfl)
theorem dX7_plainStep_126 : decode cX7_plainStep 126 = .ok (.aload_n 0, 1) := dk_42 (dk_at dksX7_plainStep_5 8 rfl rfl)
theorem dX7_plainStep_127 : decode cX7_plainStep 127 = .ok (.ldc 132, 2) := dk_18 132 (dk_at dksX7_plainStep_5 9 rfl rfl)
theorem dX7_plainStep_129 : decode cX7_plainStep 129 = .ok (.invokevirtual 128, 3) := dk_182 0 128 (dk_at dksX7_plainStep_5 11 rfl rfl)
theorem dX7_plainStep_132 : decode cX7_plainStep 132 = .ok (.new 133, 3) := dk_187 0 133 (dk_at dksX7_plainStep_5 14 rfl rfl)
theorem dX7_plainStep_135 : decode cX7_plainStep 135 = .ok (.dup, 1) := dk_89 (dk_at dksX7_plainStep_5 17 rfl rfl)
theorem dX7_plainStep_136 : decode cX7_plainStep 136 = .ok (.aload_n 1, 1) := dk_43 (dk_at dksX7_plainStep_5 18 rfl rfl)
theorem dX7_plainStep_137 : decode cX7_plainStep 137 = .ok (.aload_n 0, 1) := dk_42 (dk_at dksX7_plainStep_5 19 rfl rfl)
theorem dX7_plainStep_138 : decode cX7_plainStep 138 = .ok (.invokevirtual 92, 3) := dk_182 0 92 (dk_at dksX7_plainStep_5 20 rfl rfl)
theorem dX7_plainStep_141 : decode cX7_plainStep 141 = .ok (.invokespecial 135, 3) := dk_183 0 135 (dk_at dksX7_plainStep_6 0 rfl rfl)
theorem dX7_plainStep_144 : decode cX7_plainStep 144 = .ok (.areturn, 1) := dk_176 (dk_at dksX7_plainStep_6 3 rfl rfl)
abbrev cX7_takes : ByteArray := prog_15_method_5_code
def yX7_takes : MethodName := ⟨RX7, "takes", "(Ljava/lang/String;)Z"⟩
def dkwX7_takes_0 : List UInt8 := [42, 43, 182, 0, 48, 61, 28, 153, 0, 7, 42, 182, 0, 52, 28, 172]
abbrev dktX7_takes_0 : List UInt8 := dkwX7_takes_0 ++ []
theorem dksX7_takes_0 : cX7_takes.data.toList.drop 0 = dktX7_takes_0 := by decide +kernel
theorem dX7_takes_0 : decode cX7_takes 0 = .ok (.aload_n 0, 1) := dk_42 (dk_at dksX7_takes_0 0 rfl rfl)
theorem dX7_takes_1 : decode cX7_takes 1 = .ok (.aload_n 1, 1) := dk_43 (dk_at dksX7_takes_0 1 rfl rfl)
theorem dX7_takes_2 : decode cX7_takes 2 = .ok (.invokevirtual 48, 3) := dk_182 0 48 (dk_at dksX7_takes_0 2 rfl rfl)
theorem dX7_takes_5 : decode cX7_takes 5 = .ok (.istore_n 2, 1) := dk_61 (dk_at dksX7_takes_0 5 rfl rfl)
theorem dX7_takes_6 : decode cX7_takes 6 = .ok (.iload_n 2, 1) := dk_28 (dk_at dksX7_takes_0 6 rfl rfl)
theorem dX7_takes_7 : decode cX7_takes 7 = .ok (.ifCond .eq 7, 3) := dk_153 0 7 (dk_at dksX7_takes_0 7 rfl rfl)
theorem dX7_takes_10 : decode cX7_takes 10 = .ok (.aload_n 0, 1) := dk_42 (dk_at dksX7_takes_0 10 rfl rfl)
theorem dX7_takes_11 : decode cX7_takes 11 = .ok (.invokevirtual 52, 3) := dk_182 0 52 (dk_at dksX7_takes_0 11 rfl rfl)
theorem dX7_takes_14 : decode cX7_takes 14 = .ok (.iload_n 2, 1) := dk_28 (dk_at dksX7_takes_0 14 rfl rfl)
theorem dX7_takes_15 : decode cX7_takes 15 = .ok (.ireturn, 1) := dk_172 (dk_at dksX7_takes_0 15 rfl rfl)
abbrev cX7_is : ByteArray := prog_15_method_4_code
def yX7_is : MethodName := ⟨RX7, "is", "(Ljava/lang/String;)Z"⟩
def dkwX7_is_2 : List UInt8 := [159, 0, 5, 3, 172, 132, 2, 1, 167, 255, 224, 4, 172]
abbrev dktX7_is_2 : List UInt8 := dkwX7_is_2 ++ []
def dkwX7_is_1 : List UInt8 := [182, 0, 38, 162, 0, 30, 42, 180, 0, 20, 42, 180, 0, 31, 28, 96, 51, 43, 28, 182, 0, 44]
abbrev dktX7_is_1 : List UInt8 := dkwX7_is_1 ++ dktX7_is_2
def dkwX7_is_0 : List UInt8 := [42, 180, 0, 28, 42, 180, 0, 31, 100, 43, 182, 0, 38, 159, 0, 5, 3, 172, 3, 61, 28, 43]
abbrev dktX7_is_0 : List UInt8 := dkwX7_is_0 ++ dktX7_is_1
theorem dksX7_is_0 : cX7_is.data.toList.drop 0 = dktX7_is_0 := by decide +kernel
theorem dksX7_is_1 : cX7_is.data.toList.drop 22 = dktX7_is_1 := dk_seg dksX7_is_0 22 rfl rfl
theorem dksX7_is_2 : cX7_is.data.toList.drop 44 = dktX7_is_2 := dk_seg dksX7_is_1 22 rfl rfl
theorem dX7_is_0 : decode cX7_is 0 = .ok (.aload_n 0, 1) := dk_42 (dk_at dksX7_is_0 0 rfl rfl)
theorem dX7_is_1 : decode cX7_is 1 = .ok (.getfield 28, 3) := dk_180 0 28 (dk_at dksX7_is_0 1 rfl rfl)
theorem dX7_is_4 : decode cX7_is 4 = .ok (.aload_n 0, 1) := dk_42 (dk_at dksX7_is_0 4 rfl rfl)
theorem dX7_is_5 : decode cX7_is 5 = .ok (.getfield 31, 3) := dk_180 0 31 (dk_at dksX7_is_0 5 rfl rfl)
theorem dX7_is_8 : decode cX7_is 8 = .ok (.isub, 1) := dk_100 (dk_at dksX7_is_0 8 rfl rfl)
theorem dX7_is_9 : decode cX7_is 9 = .ok (.aload_n 1, 1) := dk_43 (dk_at dksX7_is_0 9 rfl rfl)
theorem dX7_is_10 : decode cX7_is 10 = .ok (.invokevirtual 38, 3) := dk_182 0 38 (dk_at dksX7_is_0 10 rfl rfl)
theorem dX7_is_13 : decode cX7_is 13 = .ok (.if_icmp .eq 5, 3) := dk_159 0 5 (dk_at dksX7_is_0 13 rfl rfl)
theorem dX7_is_16 : decode cX7_is 16 = .ok (.iconst 0, 1) := dk_3 (dk_at dksX7_is_0 16 rfl rfl)
theorem dX7_is_17 : decode cX7_is 17 = .ok (.ireturn, 1) := dk_172 (dk_at dksX7_is_0 17 rfl rfl)
theorem dX7_is_18 : decode cX7_is 18 = .ok (.iconst 0, 1) := dk_3 (dk_at dksX7_is_0 18 rfl rfl)
theorem dX7_is_19 : decode cX7_is 19 = .ok (.istore_n 2, 1) := dk_61 (dk_at dksX7_is_0 19 rfl rfl)
theorem dX7_is_20 : decode cX7_is 20 = .ok (.iload_n 2, 1) := dk_28 (dk_at dksX7_is_0 20 rfl rfl)
theorem dX7_is_21 : decode cX7_is 21 = .ok (.aload_n 1, 1) := dk_43 (dk_at dksX7_is_0 21 rfl rfl)
theorem dX7_is_22 : decode cX7_is 22 = .ok (.invokevirtual 38, 3) := dk_182 0 38 (dk_at dksX7_is_1 0 rfl rfl)
theorem dX7_is_25 : decode cX7_is 25 = .ok (.if_icmp .ge 30, 3) := dk_162 0 30 (dk_at dksX7_is_1 3 rfl rfl)
theorem dX7_is_28 : decode cX7_is 28 = .ok (.aload_n 0, 1) := dk_42 (dk_at dksX7_is_1 6 rfl rfl)
theorem dX7_is_29 : decode cX7_is 29 = .ok (.getfield 20, 3) := dk_180 0 20 (dk_at dksX7_is_1 7 rfl rfl)
theorem dX7_is_32 : decode cX7_is 32 = .ok (.aload_n 0, 1) := dk_42 (dk_at dksX7_is_1 10 rfl rfl)
theorem dX7_is_33 : decode cX7_is 33 = .ok (.getfield 31, 3) := dk_180 0 31 (dk_at dksX7_is_1 11 rfl rfl)
theorem dX7_is_36 : decode cX7_is 36 = .ok (.iload_n 2, 1) := dk_28 (dk_at dksX7_is_1 14 rfl rfl)
theorem dX7_is_37 : decode cX7_is 37 = .ok (.iadd, 1) := dk_96 (dk_at dksX7_is_1 15 rfl rfl)
theorem dX7_is_38 : decode cX7_is 38 = .ok (.baload, 1) := dk_51 (dk_at dksX7_is_1 16 rfl rfl)
theorem dX7_is_39 : decode cX7_is 39 = .ok (.aload_n 1, 1) := dk_43 (dk_at dksX7_is_1 17 rfl rfl)
theorem dX7_is_40 : decode cX7_is 40 = .ok (.iload_n 2, 1) := dk_28 (dk_at dksX7_is_1 18 rfl rfl)
theorem dX7_is_41 : decode cX7_is 41 = .ok (.invokevirtual 44, 3) := dk_182 0 44 (dk_at dksX7_is_1 19 rfl rfl)
theorem dX7_is_44 : decode cX7_is 44 = .ok (.if_icmp .eq 5, 3) := dk_159 0 5 (dk_at dksX7_is_2 0 rfl rfl)
theorem dX7_is_47 : decode cX7_is 47 = .ok (.iconst 0, 1) := dk_3 (dk_at dksX7_is_2 3 rfl rfl)
theorem dX7_is_48 : decode cX7_is 48 = .ok (.ireturn, 1) := dk_172 (dk_at dksX7_is_2 4 rfl rfl)
theorem dX7_is_49 : decode cX7_is 49 = .ok (.iinc 2 1, 3) := dk_132 2 1 (dk_at dksX7_is_2 5 rfl rfl)
theorem dX7_is_52 : decode cX7_is 52 = .ok (.goto (-32), 3) := dk_167 255 224 (dk_at dksX7_is_2 8 rfl rfl)
theorem dX7_is_55 : decode cX7_is 55 = .ok (.iconst 1, 1) := dk_4 (dk_at dksX7_is_2 11 rfl rfl)
theorem dX7_is_56 : decode cX7_is 56 = .ok (.ireturn, 1) := dk_172 (dk_at dksX7_is_2 12 rfl rfl)
abbrev cX7_sum : ByteArray := prog_15_method_17_code
def yX7_sum : MethodName := ⟨RX7, "sum", "()LHotIron$Sum;"⟩
def dkwX7_sum_2 : List UInt8 := [167, 255, 213, 43, 176]
abbrev dktX7_sum_2 : List UInt8 := dkwX7_sum_2 ++ []
def dkwX7_sum_1 : List UInt8 := [18, 193, 182, 0, 48, 61, 42, 182, 0, 52, 187, 0, 197, 89, 28, 43, 42, 182, 0, 190, 183, 0, 199, 76]
abbrev dktX7_sum_1 : List UInt8 := dkwX7_sum_1 ++ dktX7_sum_2
def dkwX7_sum_0 : List UInt8 := [42, 182, 0, 190, 76, 42, 18, 193, 182, 0, 48, 154, 0, 12, 42, 18, 195, 182, 0, 48, 153, 0, 31, 42]
abbrev dktX7_sum_0 : List UInt8 := dkwX7_sum_0 ++ dktX7_sum_1
theorem dksX7_sum_0 : cX7_sum.data.toList.drop 0 = dktX7_sum_0 := by decide +kernel
theorem dksX7_sum_1 : cX7_sum.data.toList.drop 24 = dktX7_sum_1 := dk_seg dksX7_sum_0 24 rfl rfl
theorem dksX7_sum_2 : cX7_sum.data.toList.drop 48 = dktX7_sum_2 := dk_seg dksX7_sum_1 24 rfl rfl
theorem dX7_sum_0 : decode cX7_sum 0 = .ok (.aload_n 0, 1) := dk_42 (dk_at dksX7_sum_0 0 rfl rfl)
theorem dX7_sum_1 : decode cX7_sum 1 = .ok (.invokevirtual 190, 3) := dk_182 0 190 (dk_at dksX7_sum_0 1 rfl rfl)
theorem dX7_sum_4 : decode cX7_sum 4 = .ok (.astore_n 1, 1) := dk_76 (dk_at dksX7_sum_0 4 rfl rfl)
theorem dX7_sum_5 : decode cX7_sum 5 = .ok (.aload_n 0, 1) := dk_42 (dk_at dksX7_sum_0 5 rfl rfl)
theorem dX7_sum_6 : decode cX7_sum 6 = .ok (.ldc 193, 2) := dk_18 193 (dk_at dksX7_sum_0 6 rfl rfl)
theorem dX7_sum_8 : decode cX7_sum 8 = .ok (.invokevirtual 48, 3) := dk_182 0 48 (dk_at dksX7_sum_0 8 rfl rfl)
theorem dX7_sum_11 : decode cX7_sum 11 = .ok (.ifCond .ne 12, 3) := dk_154 0 12 (dk_at dksX7_sum_0 11 rfl rfl)
theorem dX7_sum_14 : decode cX7_sum 14 = .ok (.aload_n 0, 1) := dk_42 (dk_at dksX7_sum_0 14 rfl rfl)
theorem dX7_sum_15 : decode cX7_sum 15 = .ok (.ldc 195, 2) := dk_18 195 (dk_at dksX7_sum_0 15 rfl rfl)
theorem dX7_sum_17 : decode cX7_sum 17 = .ok (.invokevirtual 48, 3) := dk_182 0 48 (dk_at dksX7_sum_0 17 rfl rfl)
theorem dX7_sum_20 : decode cX7_sum 20 = .ok (.ifCond .eq 31, 3) := dk_153 0 31 (dk_at dksX7_sum_0 20 rfl rfl)
theorem dX7_sum_23 : decode cX7_sum 23 = .ok (.aload_n 0, 1) := dk_42 (dk_at dksX7_sum_0 23 rfl rfl)
theorem dX7_sum_24 : decode cX7_sum 24 = .ok (.ldc 193, 2) := dk_18 193 (dk_at dksX7_sum_1 0 rfl rfl)
theorem dX7_sum_26 : decode cX7_sum 26 = .ok (.invokevirtual 48, 3) := dk_182 0 48 (dk_at dksX7_sum_1 2 rfl rfl)
theorem dX7_sum_29 : decode cX7_sum 29 = .ok (.istore_n 2, 1) := dk_61 (dk_at dksX7_sum_1 5 rfl rfl)
theorem dX7_sum_30 : decode cX7_sum 30 = .ok (.aload_n 0, 1) := dk_42 (dk_at dksX7_sum_1 6 rfl rfl)
theorem dX7_sum_31 : decode cX7_sum 31 = .ok (.invokevirtual 52, 3) := dk_182 0 52 (dk_at dksX7_sum_1 7 rfl rfl)
theorem dX7_sum_34 : decode cX7_sum 34 = .ok (.new 197, 3) := dk_187 0 197 (dk_at dksX7_sum_1 10 rfl rfl)
theorem dX7_sum_37 : decode cX7_sum 37 = .ok (.dup, 1) := dk_89 (dk_at dksX7_sum_1 13 rfl rfl)
theorem dX7_sum_38 : decode cX7_sum 38 = .ok (.iload_n 2, 1) := dk_28 (dk_at dksX7_sum_1 14 rfl rfl)
theorem dX7_sum_39 : decode cX7_sum 39 = .ok (.aload_n 1, 1) := dk_43 (dk_at dksX7_sum_1 15 rfl rfl)
theorem dX7_sum_40 : decode cX7_sum 40 = .ok (.aload_n 0, 1) := dk_42 (dk_at dksX7_sum_1 16 rfl rfl)
theorem dX7_sum_41 : decode cX7_sum 41 = .ok (.invokevirtual 190, 3) := dk_182 0 190 (dk_at dksX7_sum_1 17 rfl rfl)
theorem dX7_sum_44 : decode cX7_sum 44 = .ok (.invokespecial 199, 3) := dk_183 0 199 (dk_at dksX7_sum_1 20 rfl rfl)
theorem dX7_sum_47 : decode cX7_sum 47 = .ok (.astore_n 1, 1) := dk_76 (dk_at dksX7_sum_1 23 rfl rfl)
theorem dX7_sum_48 : decode cX7_sum 48 = .ok (.goto (-43), 3) := dk_167 255 213 (dk_at dksX7_sum_2 0 rfl rfl)
theorem dX7_sum_51 : decode cX7_sum 51 = .ok (.aload_n 1, 1) := dk_43 (dk_at dksX7_sum_2 3 rfl rfl)
theorem dX7_sum_52 : decode cX7_sum 52 = .ok (.areturn, 1) := dk_176 (dk_at dksX7_sum_2 4 rfl rfl)
abbrev cX7_part : ByteArray := prog_15_method_21_code
def yX7_part : MethodName := ⟨RX7, "part", "()LHotIron$Sum;"⟩
def dkwX7_part_6 : List UInt8 := [187, 0, 234, 89, 25, 4, 183, 0, 236, 167, 0, 12, 187, 0, 237, 89, 25, 4, 183, 0, 239, 176]
abbrev dktX7_part_6 : List UInt8 := dkwX7_part_6 ++ []
def dkwX7_part_5 : List UInt8 := [187, 0, 231, 89, 28, 183, 0, 233, 176, 42, 18, 169, 18, 174, 182, 0, 227, 58, 4, 27, 153, 0, 15]
abbrev dktX7_part_5 : List UInt8 := dkwX7_part_5 ++ dktX7_part_6
def dkwX7_part_4 : List UInt8 := [182, 0, 48, 153, 0, 12, 42, 18, 220, 18, 225, 182, 0, 227, 176, 42, 182, 0, 52, 28, 2, 159, 0, 12]
abbrev dktX7_part_4 : List UInt8 := dkwX7_part_4 ++ dktX7_part_5
def dkwX7_part_3 : List UInt8 := [29, 153, 0, 18, 187, 0, 118, 89, 42, 3, 16, 99, 182, 0, 120, 183, 0, 124, 176, 42, 18, 220]
abbrev dktX7_part_3 : List UInt8 := dkwX7_part_3 ++ dktX7_part_4
def dkwX7_part_2 : List UInt8 := [18, 220, 182, 0, 48, 154, 0, 15, 187, 0, 58, 89, 42, 180, 0, 31, 183, 0, 60, 191, 42, 182, 0, 222]
abbrev dktX7_part_2 : List UInt8 := dkwX7_part_2 ++ dktX7_part_3
def dkwX7_part_1 : List UInt8 := [62, 27, 154, 0, 42, 42, 18, 218, 182, 0, 48, 154, 0, 33, 28, 2, 160, 0, 28, 29, 154, 0, 24, 42]
abbrev dktX7_part_1 : List UInt8 := dkwX7_part_1 ++ dktX7_part_2
def dkwX7_part_0 : List UInt8 := [42, 18, 213, 182, 0, 48, 60, 42, 182, 0, 215, 61, 42, 42, 180, 0, 31, 16, 48, 16, 57, 182, 0, 34]
abbrev dktX7_part_0 : List UInt8 := dkwX7_part_0 ++ dktX7_part_1
theorem dksX7_part_0 : cX7_part.data.toList.drop 0 = dktX7_part_0 := by decide +kernel
theorem dksX7_part_1 : cX7_part.data.toList.drop 24 = dktX7_part_1 := dk_seg dksX7_part_0 24 rfl rfl
theorem dksX7_part_2 : cX7_part.data.toList.drop 48 = dktX7_part_2 := dk_seg dksX7_part_1 24 rfl rfl
theorem dksX7_part_3 : cX7_part.data.toList.drop 72 = dktX7_part_3 := dk_seg dksX7_part_2 24 rfl rfl
theorem dksX7_part_4 : cX7_part.data.toList.drop 94 = dktX7_part_4 := dk_seg dksX7_part_3 22 rfl rfl
theorem dksX7_part_5 : cX7_part.data.toList.drop 118 = dktX7_part_5 := dk_seg dksX7_part_4 24 rfl rfl
theorem dksX7_part_6 : cX7_part.data.toList.drop 141 = dktX7_part_6 := dk_seg dksX7_part_5 23 rfl rfl
theorem dX7_part_0 : decode cX7_part 0 = .ok (.aload_n 0, 1) := dk_42 (dk_at dksX7_part_0 0 rfl rfl)
theorem dX7_part_1 : decode cX7_part 1 = .ok (.ldc 213, 2) := dk_18 213 (dk_at dksX7_part_0 1 rfl rfl)
theorem dX7_part_3 : decode cX7_part 3 = .ok (.invokevirtual 48, 3) := dk_182 0 48 (dk_at dksX7_part_0 3 rfl rfl)
theorem dX7_part_6 : decode cX7_part 6 = .ok (.istore_n 1, 1) := dk_60 (dk_at dksX7_part_0 6 rfl rfl)
theorem dX7_part_7 : decode cX7_part 7 = .ok (.aload_n 0, 1) := dk_42 (dk_at dksX7_part_0 7 rfl rfl)
theorem dX7_part_8 : decode cX7_part 8 = .ok (.invokevirtual 215, 3) := dk_182 0 215 (dk_at dksX7_part_0 8 rfl rfl)
theorem dX7_part_11 : decode cX7_part 11 = .ok (.istore_n 2, 1) := dk_61 (dk_at dksX7_part_0 11 rfl rfl)
theorem dX7_part_12 : decode cX7_part 12 = .ok (.aload_n 0, 1) := dk_42 (dk_at dksX7_part_0 12 rfl rfl)
theorem dX7_part_13 : decode cX7_part 13 = .ok (.aload_n 0, 1) := dk_42 (dk_at dksX7_part_0 13 rfl rfl)
theorem dX7_part_14 : decode cX7_part 14 = .ok (.getfield 31, 3) := dk_180 0 31 (dk_at dksX7_part_0 14 rfl rfl)
theorem dX7_part_17 : decode cX7_part 17 = .ok (.bipush 48, 2) := dk_16 48 (dk_at dksX7_part_0 17 rfl rfl)
theorem dX7_part_19 : decode cX7_part 19 = .ok (.bipush 57, 2) := dk_16 57 (dk_at dksX7_part_0 19 rfl rfl)
theorem dX7_part_21 : decode cX7_part 21 = .ok (.invokevirtual 34, 3) := dk_182 0 34 (dk_at dksX7_part_0 21 rfl rfl)
theorem dX7_part_24 : decode cX7_part 24 = .ok (.istore_n 3, 1) := dk_62 (dk_at dksX7_part_1 0 rfl rfl)
theorem dX7_part_25 : decode cX7_part 25 = .ok (.iload_n 1, 1) := dk_27 (dk_at dksX7_part_1 1 rfl rfl)
theorem dX7_part_26 : decode cX7_part 26 = .ok (.ifCond .ne 42, 3) := dk_154 0 42 (dk_at dksX7_part_1 2 rfl rfl)
theorem dX7_part_29 : decode cX7_part 29 = .ok (.aload_n 0, 1) := dk_42 (dk_at dksX7_part_1 5 rfl rfl)
theorem dX7_part_30 : decode cX7_part 30 = .ok (.ldc 218, 2) := dk_18 218 (dk_at dksX7_part_1 6 rfl rfl)
theorem dX7_part_32 : decode cX7_part 32 = .ok (.invokevirtual 48, 3) := dk_182 0 48 (dk_at dksX7_part_1 8 rfl rfl)
theorem dX7_part_35 : decode cX7_part 35 = .ok (.ifCond .ne 33, 3) := dk_154 0 33 (dk_at dksX7_part_1 11 rfl rfl)
theorem dX7_part_38 : decode cX7_part 38 = .ok (.iload_n 2, 1) := dk_28 (dk_at dksX7_part_1 14 rfl rfl)
theorem dX7_part_39 : decode cX7_part 39 = .ok (.iconst (-1), 1) := dk_2 (dk_at dksX7_part_1 15 rfl rfl)
theorem dX7_part_40 : decode cX7_part 40 = .ok (.if_icmp .ne 28, 3) := dk_160 0 28 (dk_at dksX7_part_1 16 rfl rfl)
theorem dX7_part_43 : decode cX7_part 43 = .ok (.iload_n 3, 1) := dk_29 (dk_at dksX7_part_1 19 rfl rfl)
theorem dX7_part_44 : decode cX7_part 44 = .ok (.ifCond .ne 24, 3) := dk_154 0 24 (dk_at dksX7_part_1 20 rfl rfl)
theorem dX7_part_47 : decode cX7_part 47 = .ok (.aload_n 0, 1) := dk_42 (dk_at dksX7_part_1 23 rfl rfl)
theorem dX7_part_48 : decode cX7_part 48 = .ok (.ldc 220, 2) := dk_18 220 (dk_at dksX7_part_2 0 rfl rfl)
theorem dX7_part_50 : decode cX7_part 50 = .ok (.invokevirtual 48, 3) := dk_182 0 48 (dk_at dksX7_part_2 2 rfl rfl)
theorem dX7_part_53 : decode cX7_part 53 = .ok (.ifCond .ne 15, 3) := dk_154 0 15 (dk_at dksX7_part_2 5 rfl rfl)
theorem dX7_part_56 : decode cX7_part 56 = .ok (.new 58, 3) := dk_187 0 58 (dk_at dksX7_part_2 8 rfl rfl)
theorem dX7_part_59 : decode cX7_part 59 = .ok (.dup, 1) := dk_89 (dk_at dksX7_part_2 11 rfl rfl)
theorem dX7_part_60 : decode cX7_part 60 = .ok (.aload_n 0, 1) := dk_42 (dk_at dksX7_part_2 12 rfl rfl)
theorem dX7_part_61 : decode cX7_part 61 = .ok (.getfield 31, 3) := dk_180 0 31 (dk_at dksX7_part_2 13 rfl rfl)
theorem dX7_part_64 : decode cX7_part 64 = .ok (.invokespecial 60, 3) := dk_183 0 60 (dk_at dksX7_part_2 16 rfl rfl)
theorem dX7_part_67 : decode cX7_part 67 = .ok (.athrow, 1) := dk_191 (dk_at dksX7_part_2 19 rfl rfl)
theorem dX7_part_68 : decode cX7_part 68 = .ok (.aload_n 0, 1) := dk_42 (dk_at dksX7_part_2 20 rfl rfl)
theorem dX7_part_69 : decode cX7_part 69 = .ok (.invokevirtual 222, 3) := dk_182 0 222 (dk_at dksX7_part_2 21 rfl rfl)
theorem dX7_part_72 : decode cX7_part 72 = .ok (.iload_n 3, 1) := dk_29 (dk_at dksX7_part_3 0 rfl rfl)
theorem dX7_part_73 : decode cX7_part 73 = .ok (.ifCond .eq 18, 3) := dk_153 0 18 (dk_at dksX7_part_3 1 rfl rfl)
theorem dX7_part_76 : decode cX7_part 76 = .ok (.new 118, 3) := dk_187 0 118 (dk_at dksX7_part_3 4 rfl rfl)
theorem dX7_part_79 : decode cX7_part 79 = .ok (.dup, 1) := dk_89 (dk_at dksX7_part_3 7 rfl rfl)
theorem dX7_part_80 : decode cX7_part 80 = .ok (.aload_n 0, 1) := dk_42 (dk_at dksX7_part_3 8 rfl rfl)
theorem dX7_part_81 : decode cX7_part 81 = .ok (.iconst 0, 1) := dk_3 (dk_at dksX7_part_3 9 rfl rfl)
theorem dX7_part_82 : decode cX7_part 82 = .ok (.bipush 99, 2) := dk_16 99 (dk_at dksX7_part_3 10 rfl rfl)
theorem dX7_part_84 : decode cX7_part 84 = .ok (.invokevirtual 120, 3) := dk_182 0 120 (dk_at dksX7_part_3 12 rfl rfl)
theorem dX7_part_87 : decode cX7_part 87 = .ok (.invokespecial 124, 3) := dk_183 0 124 (dk_at dksX7_part_3 15 rfl rfl)
theorem dX7_part_90 : decode cX7_part 90 = .ok (.areturn, 1) := dk_176 (dk_at dksX7_part_3 18 rfl rfl)
theorem dX7_part_91 : decode cX7_part 91 = .ok (.aload_n 0, 1) := dk_42 (dk_at dksX7_part_3 19 rfl rfl)
theorem dX7_part_92 : decode cX7_part 92 = .ok (.ldc 220, 2) := dk_18 220 (dk_at dksX7_part_3 20 rfl rfl)
theorem dX7_part_94 : decode cX7_part 94 = .ok (.invokevirtual 48, 3) := dk_182 0 48 (dk_at dksX7_part_4 0 rfl rfl)
theorem dX7_part_97 : decode cX7_part 97 = .ok (.ifCond .eq 12, 3) := dk_153 0 12 (dk_at dksX7_part_4 3 rfl rfl)
theorem dX7_part_100 : decode cX7_part 100 = .ok (.aload_n 0, 1) := dk_42 (dk_at dksX7_part_4 6 rfl rfl)
theorem dX7_part_101 : decode cX7_part 101 = .ok (.ldc 220, 2) := dk_18 220 (dk_at dksX7_part_4 7 rfl rfl)
theorem dX7_part_103 : decode cX7_part 103 = .ok (.ldc 225, 2) := dk_18 225 (dk_at dksX7_part_4 9 rfl rfl)
theorem dX7_part_105 : decode cX7_part 105 = .ok (.invokevirtual 227, 3) := dk_182 0 227 (dk_at dksX7_part_4 11 rfl rfl)
theorem dX7_part_108 : decode cX7_part 108 = .ok (.areturn, 1) := dk_176 (dk_at dksX7_part_4 14 rfl rfl)
theorem dX7_part_109 : decode cX7_part 109 = .ok (.aload_n 0, 1) := dk_42 (dk_at dksX7_part_4 15 rfl rfl)
theorem dX7_part_110 : decode cX7_part 110 = .ok (.invokevirtual 52, 3) := dk_182 0 52 (dk_at dksX7_part_4 16 rfl rfl)
theorem dX7_part_113 : decode cX7_part 113 = .ok (.iload_n 2, 1) := dk_28 (dk_at dksX7_part_4 19 rfl rfl)
theorem dX7_part_114 : decode cX7_part 114 = .ok (.iconst (-1), 1) := dk_2 (dk_at dksX7_part_4 20 rfl rfl)
theorem dX7_part_115 : decode cX7_part 115 = .ok (.if_icmp .eq 12, 3) := dk_159 0 12 (dk_at dksX7_part_4 21 rfl rfl)
theorem dX7_part_118 : decode cX7_part 118 = .ok (.new 231, 3) := dk_187 0 231 (dk_at dksX7_part_5 0 rfl rfl)
theorem dX7_part_121 : decode cX7_part 121 = .ok (.dup, 1) := dk_89 (dk_at dksX7_part_5 3 rfl rfl)
theorem dX7_part_122 : decode cX7_part 122 = .ok (.iload_n 2, 1) := dk_28 (dk_at dksX7_part_5 4 rfl rfl)
theorem dX7_part_123 : decode cX7_part 123 = .ok (.invokespecial 233, 3) := dk_183 0 233 (dk_at dksX7_part_5 5 rfl rfl)
theorem dX7_part_126 : decode cX7_part 126 = .ok (.areturn, 1) := dk_176 (dk_at dksX7_part_5 8 rfl rfl)
theorem dX7_part_127 : decode cX7_part 127 = .ok (.aload_n 0, 1) := dk_42 (dk_at dksX7_part_5 9 rfl rfl)
theorem dX7_part_128 : decode cX7_part 128 = .ok (.ldc 169, 2) := dk_18 169 (dk_at dksX7_part_5 10 rfl rfl)
theorem dX7_part_130 : decode cX7_part 130 = .ok (.ldc 174, 2) := dk_18 174 (dk_at dksX7_part_5 12 rfl rfl)
theorem dX7_part_132 : decode cX7_part 132 = .ok (.invokevirtual 227, 3) := dk_182 0 227 (dk_at dksX7_part_5 14 rfl rfl)
theorem dX7_part_135 : decode cX7_part 135 = .ok (.astore 4, 2) := dk_58 4 (dk_at dksX7_part_5 17 rfl rfl)
theorem dX7_part_137 : decode cX7_part 137 = .ok (.iload_n 1, 1) := dk_27 (dk_at dksX7_part_5 19 rfl rfl)
theorem dX7_part_138 : decode cX7_part 138 = .ok (.ifCond .eq 15, 3) := dk_153 0 15 (dk_at dksX7_part_5 20 rfl rfl)
theorem dX7_part_141 : decode cX7_part 141 = .ok (.new 234, 3) := dk_187 0 234 (dk_at dksX7_part_6 0 rfl rfl)
theorem dX7_part_144 : decode cX7_part 144 = .ok (.dup, 1) := dk_89 (dk_at dksX7_part_6 3 rfl rfl)
theorem dX7_part_145 : decode cX7_part 145 = .ok (.aload 4, 2) := dk_25 4 (dk_at dksX7_part_6 4 rfl rfl)
theorem dX7_part_147 : decode cX7_part 147 = .ok (.invokespecial 236, 3) := dk_183 0 236 (dk_at dksX7_part_6 6 rfl rfl)
theorem dX7_part_150 : decode cX7_part 150 = .ok (.goto 12, 3) := dk_167 0 12 (dk_at dksX7_part_6 9 rfl rfl)
theorem dX7_part_153 : decode cX7_part 153 = .ok (.new 237, 3) := dk_187 0 237 (dk_at dksX7_part_6 12 rfl rfl)
theorem dX7_part_156 : decode cX7_part 156 = .ok (.dup, 1) := dk_89 (dk_at dksX7_part_6 15 rfl rfl)
theorem dX7_part_157 : decode cX7_part 157 = .ok (.aload 4, 2) := dk_25 4 (dk_at dksX7_part_6 16 rfl rfl)
theorem dX7_part_159 : decode cX7_part 159 = .ok (.invokespecial 239, 3) := dk_183 0 239 (dk_at dksX7_part_6 18 rfl rfl)
theorem dX7_part_162 : decode cX7_part 162 = .ok (.areturn, 1) := dk_176 (dk_at dksX7_part_6 21 rfl rfl)
abbrev cX7_told : ByteArray := prog_15_method_19_code
def yX7_told : MethodName := ⟨RX7, "told", "()I"⟩
def dkwX7_told_2 : List UInt8 := [172]
abbrev dktX7_told_2 : List UInt8 := dkwX7_told_2 ++ []
def dkwX7_told_1 : List UInt8 := [18, 209, 182, 0, 48, 153, 0, 5, 5, 172, 42, 18, 211, 182, 0, 48, 153, 0, 7, 6, 167, 0, 4, 2]
abbrev dktX7_told_1 : List UInt8 := dkwX7_told_1 ++ dktX7_told_2
def dkwX7_told_0 : List UInt8 := [42, 18, 205, 182, 0, 48, 153, 0, 5, 3, 172, 42, 18, 207, 182, 0, 48, 153, 0, 5, 4, 172, 42]
abbrev dktX7_told_0 : List UInt8 := dkwX7_told_0 ++ dktX7_told_1
theorem dksX7_told_0 : cX7_told.data.toList.drop 0 = dktX7_told_0 := by decide +kernel
theorem dksX7_told_1 : cX7_told.data.toList.drop 23 = dktX7_told_1 := dk_seg dksX7_told_0 23 rfl rfl
theorem dksX7_told_2 : cX7_told.data.toList.drop 47 = dktX7_told_2 := dk_seg dksX7_told_1 24 rfl rfl
theorem dX7_told_0 : decode cX7_told 0 = .ok (.aload_n 0, 1) := dk_42 (dk_at dksX7_told_0 0 rfl rfl)
theorem dX7_told_1 : decode cX7_told 1 = .ok (.ldc 205, 2) := dk_18 205 (dk_at dksX7_told_0 1 rfl rfl)
theorem dX7_told_3 : decode cX7_told 3 = .ok (.invokevirtual 48, 3) := dk_182 0 48 (dk_at dksX7_told_0 3 rfl rfl)
theorem dX7_told_6 : decode cX7_told 6 = .ok (.ifCond .eq 5, 3) := dk_153 0 5 (dk_at dksX7_told_0 6 rfl rfl)
theorem dX7_told_9 : decode cX7_told 9 = .ok (.iconst 0, 1) := dk_3 (dk_at dksX7_told_0 9 rfl rfl)
theorem dX7_told_10 : decode cX7_told 10 = .ok (.ireturn, 1) := dk_172 (dk_at dksX7_told_0 10 rfl rfl)
theorem dX7_told_11 : decode cX7_told 11 = .ok (.aload_n 0, 1) := dk_42 (dk_at dksX7_told_0 11 rfl rfl)
theorem dX7_told_12 : decode cX7_told 12 = .ok (.ldc 207, 2) := dk_18 207 (dk_at dksX7_told_0 12 rfl rfl)
theorem dX7_told_14 : decode cX7_told 14 = .ok (.invokevirtual 48, 3) := dk_182 0 48 (dk_at dksX7_told_0 14 rfl rfl)
theorem dX7_told_17 : decode cX7_told 17 = .ok (.ifCond .eq 5, 3) := dk_153 0 5 (dk_at dksX7_told_0 17 rfl rfl)
theorem dX7_told_20 : decode cX7_told 20 = .ok (.iconst 1, 1) := dk_4 (dk_at dksX7_told_0 20 rfl rfl)
theorem dX7_told_21 : decode cX7_told 21 = .ok (.ireturn, 1) := dk_172 (dk_at dksX7_told_0 21 rfl rfl)
theorem dX7_told_22 : decode cX7_told 22 = .ok (.aload_n 0, 1) := dk_42 (dk_at dksX7_told_0 22 rfl rfl)
theorem dX7_told_23 : decode cX7_told 23 = .ok (.ldc 209, 2) := dk_18 209 (dk_at dksX7_told_1 0 rfl rfl)
theorem dX7_told_25 : decode cX7_told 25 = .ok (.invokevirtual 48, 3) := dk_182 0 48 (dk_at dksX7_told_1 2 rfl rfl)
theorem dX7_told_28 : decode cX7_told 28 = .ok (.ifCond .eq 5, 3) := dk_153 0 5 (dk_at dksX7_told_1 5 rfl rfl)
theorem dX7_told_31 : decode cX7_told 31 = .ok (.iconst 2, 1) := dk_5 (dk_at dksX7_told_1 8 rfl rfl)
theorem dX7_told_32 : decode cX7_told 32 = .ok (.ireturn, 1) := dk_172 (dk_at dksX7_told_1 9 rfl rfl)
theorem dX7_told_33 : decode cX7_told 33 = .ok (.aload_n 0, 1) := dk_42 (dk_at dksX7_told_1 10 rfl rfl)
theorem dX7_told_34 : decode cX7_told 34 = .ok (.ldc 211, 2) := dk_18 211 (dk_at dksX7_told_1 11 rfl rfl)
theorem dX7_told_36 : decode cX7_told 36 = .ok (.invokevirtual 48, 3) := dk_182 0 48 (dk_at dksX7_told_1 13 rfl rfl)
theorem dX7_told_39 : decode cX7_told 39 = .ok (.ifCond .eq 7, 3) := dk_153 0 7 (dk_at dksX7_told_1 16 rfl rfl)
theorem dX7_told_42 : decode cX7_told 42 = .ok (.iconst 3, 1) := dk_6 (dk_at dksX7_told_1 19 rfl rfl)
theorem dX7_told_43 : decode cX7_told 43 = .ok (.goto 4, 3) := dk_167 0 4 (dk_at dksX7_told_1 20 rfl rfl)
theorem dX7_told_46 : decode cX7_told 46 = .ok (.iconst (-1), 1) := dk_2 (dk_at dksX7_told_1 23 rfl rfl)
theorem dX7_told_47 : decode cX7_told 47 = .ok (.ireturn, 1) := dk_172 (dk_at dksX7_told_2 0 rfl rfl)
abbrev cX7_leaf : ByteArray := prog_15_method_18_code
def yX7_leaf : MethodName := ⟨RX7, "leaf", "()V"⟩
def dkwX7_leaf_1 : List UInt8 := [180, 0, 202, 4, 96, 181, 0, 202, 177]
abbrev dktX7_leaf_1 : List UInt8 := dkwX7_leaf_1 ++ []
def dkwX7_leaf_0 : List UInt8 := [42, 180, 0, 202, 16, 60, 160, 0, 15, 187, 0, 58, 89, 42, 180, 0, 31, 183, 0, 60, 191, 42, 89]
abbrev dktX7_leaf_0 : List UInt8 := dkwX7_leaf_0 ++ dktX7_leaf_1
theorem dksX7_leaf_0 : cX7_leaf.data.toList.drop 0 = dktX7_leaf_0 := by decide +kernel
theorem dksX7_leaf_1 : cX7_leaf.data.toList.drop 23 = dktX7_leaf_1 := dk_seg dksX7_leaf_0 23 rfl rfl
theorem dX7_leaf_0 : decode cX7_leaf 0 = .ok (.aload_n 0, 1) := dk_42 (dk_at dksX7_leaf_0 0 rfl rfl)
theorem dX7_leaf_1 : decode cX7_leaf 1 = .ok (.getfield 202, 3) := dk_180 0 202 (dk_at dksX7_leaf_0 1 rfl rfl)
theorem dX7_leaf_4 : decode cX7_leaf 4 = .ok (.bipush 60, 2) := dk_16 60 (dk_at dksX7_leaf_0 4 rfl rfl)
theorem dX7_leaf_6 : decode cX7_leaf 6 = .ok (.if_icmp .ne 15, 3) := dk_160 0 15 (dk_at dksX7_leaf_0 6 rfl rfl)
theorem dX7_leaf_9 : decode cX7_leaf 9 = .ok (.new 58, 3) := dk_187 0 58 (dk_at dksX7_leaf_0 9 rfl rfl)
theorem dX7_leaf_12 : decode cX7_leaf 12 = .ok (.dup, 1) := dk_89 (dk_at dksX7_leaf_0 12 rfl rfl)
theorem dX7_leaf_13 : decode cX7_leaf 13 = .ok (.aload_n 0, 1) := dk_42 (dk_at dksX7_leaf_0 13 rfl rfl)
theorem dX7_leaf_14 : decode cX7_leaf 14 = .ok (.getfield 31, 3) := dk_180 0 31 (dk_at dksX7_leaf_0 14 rfl rfl)
theorem dX7_leaf_17 : decode cX7_leaf 17 = .ok (.invokespecial 60, 3) := dk_183 0 60 (dk_at dksX7_leaf_0 17 rfl rfl)
theorem dX7_leaf_20 : decode cX7_leaf 20 = .ok (.athrow, 1) := dk_191 (dk_at dksX7_leaf_0 20 rfl rfl)
theorem dX7_leaf_21 : decode cX7_leaf 21 = .ok (.aload_n 0, 1) := dk_42 (dk_at dksX7_leaf_0 21 rfl rfl)
theorem dX7_leaf_22 : decode cX7_leaf 22 = .ok (.dup, 1) := dk_89 (dk_at dksX7_leaf_0 22 rfl rfl)
theorem dX7_leaf_23 : decode cX7_leaf 23 = .ok (.getfield 202, 3) := dk_180 0 202 (dk_at dksX7_leaf_1 0 rfl rfl)
theorem dX7_leaf_26 : decode cX7_leaf 26 = .ok (.iconst 1, 1) := dk_4 (dk_at dksX7_leaf_1 3 rfl rfl)
theorem dX7_leaf_27 : decode cX7_leaf 27 = .ok (.iadd, 1) := dk_96 (dk_at dksX7_leaf_1 4 rfl rfl)
theorem dX7_leaf_28 : decode cX7_leaf 28 = .ok (.putfield 202, 3) := dk_181 0 202 (dk_at dksX7_leaf_1 5 rfl rfl)
theorem dX7_leaf_31 : decode cX7_leaf 31 = .ok (.return_, 1) := dk_177 (dk_at dksX7_leaf_1 8 rfl rfl)
abbrev cX7_number : ByteArray := prog_15_method_7_code
def yX7_number : MethodName := ⟨RX7, "number", "(II)I"⟩
def dkwX7_number_4 : List UInt8 := [191, 42, 182, 0, 52, 29, 172]
abbrev dktX7_number_4 : List UInt8 := dkwX7_number_4 ++ []
def dkwX7_number_3 : List UInt8 := [167, 255, 223, 29, 27, 161, 0, 8, 29, 28, 164, 0, 15, 187, 0, 58, 89, 42, 180, 0, 31, 183, 0, 60]
abbrev dktX7_number_3 : List UInt8 := dkwX7_number_3 ++ dktX7_number_4
def dkwX7_number_2 : List UInt8 := [163, 0, 25, 16, 10, 29, 104, 42, 180, 0, 20, 21, 4, 51, 96, 16, 48, 100, 62, 132, 4, 1]
abbrev dktX7_number_2 : List UInt8 := dkwX7_number_2 ++ dktX7_number_3
def dkwX7_number_1 : List UInt8 := [183, 0, 60, 191, 3, 62, 42, 180, 0, 31, 54, 4, 21, 4, 42, 180, 0, 28, 162, 0, 30, 29, 28]
abbrev dktX7_number_1 : List UInt8 := dkwX7_number_1 ++ dktX7_number_2
def dkwX7_number_0 : List UInt8 := [42, 42, 180, 0, 31, 16, 48, 16, 57, 182, 0, 34, 154, 0, 15, 187, 0, 58, 89, 42, 180, 0, 31]
abbrev dktX7_number_0 : List UInt8 := dkwX7_number_0 ++ dktX7_number_1
theorem dksX7_number_0 : cX7_number.data.toList.drop 0 = dktX7_number_0 := by decide +kernel
theorem dksX7_number_1 : cX7_number.data.toList.drop 23 = dktX7_number_1 := dk_seg dksX7_number_0 23 rfl rfl
theorem dksX7_number_2 : cX7_number.data.toList.drop 46 = dktX7_number_2 := dk_seg dksX7_number_1 23 rfl rfl
theorem dksX7_number_3 : cX7_number.data.toList.drop 68 = dktX7_number_3 := dk_seg dksX7_number_2 22 rfl rfl
theorem dksX7_number_4 : cX7_number.data.toList.drop 92 = dktX7_number_4 := dk_seg dksX7_number_3 24 rfl rfl
theorem dX7_number_0 : decode cX7_number 0 = .ok (.aload_n 0, 1) := dk_42 (dk_at dksX7_number_0 0 rfl rfl)
theorem dX7_number_1 : decode cX7_number 1 = .ok (.aload_n 0, 1) := dk_42 (dk_at dksX7_number_0 1 rfl rfl)
theorem dX7_number_2 : decode cX7_number 2 = .ok (.getfield 31, 3) := dk_180 0 31 (dk_at dksX7_number_0 2 rfl rfl)
theorem dX7_number_5 : decode cX7_number 5 = .ok (.bipush 48, 2) := dk_16 48 (dk_at dksX7_number_0 5 rfl rfl)
theorem dX7_number_7 : decode cX7_number 7 = .ok (.bipush 57, 2) := dk_16 57 (dk_at dksX7_number_0 7 rfl rfl)
theorem dX7_number_9 : decode cX7_number 9 = .ok (.invokevirtual 34, 3) := dk_182 0 34 (dk_at dksX7_number_0 9 rfl rfl)
theorem dX7_number_12 : decode cX7_number 12 = .ok (.ifCond .ne 15, 3) := dk_154 0 15 (dk_at dksX7_number_0 12 rfl rfl)
theorem dX7_number_15 : decode cX7_number 15 = .ok (.new 58, 3) := dk_187 0 58 (dk_at dksX7_number_0 15 rfl rfl)
theorem dX7_number_18 : decode cX7_number 18 = .ok (.dup, 1) := dk_89 (dk_at dksX7_number_0 18 rfl rfl)
theorem dX7_number_19 : decode cX7_number 19 = .ok (.aload_n 0, 1) := dk_42 (dk_at dksX7_number_0 19 rfl rfl)
theorem dX7_number_20 : decode cX7_number 20 = .ok (.getfield 31, 3) := dk_180 0 31 (dk_at dksX7_number_0 20 rfl rfl)
theorem dX7_number_23 : decode cX7_number 23 = .ok (.invokespecial 60, 3) := dk_183 0 60 (dk_at dksX7_number_1 0 rfl rfl)
theorem dX7_number_26 : decode cX7_number 26 = .ok (.athrow, 1) := dk_191 (dk_at dksX7_number_1 3 rfl rfl)
theorem dX7_number_27 : decode cX7_number 27 = .ok (.iconst 0, 1) := dk_3 (dk_at dksX7_number_1 4 rfl rfl)
theorem dX7_number_28 : decode cX7_number 28 = .ok (.istore_n 3, 1) := dk_62 (dk_at dksX7_number_1 5 rfl rfl)
theorem dX7_number_29 : decode cX7_number 29 = .ok (.aload_n 0, 1) := dk_42 (dk_at dksX7_number_1 6 rfl rfl)
theorem dX7_number_30 : decode cX7_number 30 = .ok (.getfield 31, 3) := dk_180 0 31 (dk_at dksX7_number_1 7 rfl rfl)
theorem dX7_number_33 : decode cX7_number 33 = .ok (.istore 4, 2) := dk_54 4 (dk_at dksX7_number_1 10 rfl rfl)
theorem dX7_number_35 : decode cX7_number 35 = .ok (.iload 4, 2) := dk_21 4 (dk_at dksX7_number_1 12 rfl rfl)
theorem dX7_number_37 : decode cX7_number 37 = .ok (.aload_n 0, 1) := dk_42 (dk_at dksX7_number_1 14 rfl rfl)
theorem dX7_number_38 : decode cX7_number 38 = .ok (.getfield 28, 3) := dk_180 0 28 (dk_at dksX7_number_1 15 rfl rfl)
theorem dX7_number_41 : decode cX7_number 41 = .ok (.if_icmp .ge 30, 3) := dk_162 0 30 (dk_at dksX7_number_1 18 rfl rfl)
theorem dX7_number_44 : decode cX7_number 44 = .ok (.iload_n 3, 1) := dk_29 (dk_at dksX7_number_1 21 rfl rfl)
theorem dX7_number_45 : decode cX7_number 45 = .ok (.iload_n 2, 1) := dk_28 (dk_at dksX7_number_1 22 rfl rfl)
theorem dX7_number_46 : decode cX7_number 46 = .ok (.if_icmp .gt 25, 3) := dk_163 0 25 (dk_at dksX7_number_2 0 rfl rfl)
theorem dX7_number_49 : decode cX7_number 49 = .ok (.bipush 10, 2) := dk_16 10 (dk_at dksX7_number_2 3 rfl rfl)
theorem dX7_number_51 : decode cX7_number 51 = .ok (.iload_n 3, 1) := dk_29 (dk_at dksX7_number_2 5 rfl rfl)
theorem dX7_number_52 : decode cX7_number 52 = .ok (.imul, 1) := dk_104 (dk_at dksX7_number_2 6 rfl rfl)
theorem dX7_number_53 : decode cX7_number 53 = .ok (.aload_n 0, 1) := dk_42 (dk_at dksX7_number_2 7 rfl rfl)
theorem dX7_number_54 : decode cX7_number 54 = .ok (.getfield 20, 3) := dk_180 0 20 (dk_at dksX7_number_2 8 rfl rfl)
theorem dX7_number_57 : decode cX7_number 57 = .ok (.iload 4, 2) := dk_21 4 (dk_at dksX7_number_2 11 rfl rfl)
theorem dX7_number_59 : decode cX7_number 59 = .ok (.baload, 1) := dk_51 (dk_at dksX7_number_2 13 rfl rfl)
theorem dX7_number_60 : decode cX7_number 60 = .ok (.iadd, 1) := dk_96 (dk_at dksX7_number_2 14 rfl rfl)
theorem dX7_number_61 : decode cX7_number 61 = .ok (.bipush 48, 2) := dk_16 48 (dk_at dksX7_number_2 15 rfl rfl)
theorem dX7_number_63 : decode cX7_number 63 = .ok (.isub, 1) := dk_100 (dk_at dksX7_number_2 17 rfl rfl)
theorem dX7_number_64 : decode cX7_number 64 = .ok (.istore_n 3, 1) := dk_62 (dk_at dksX7_number_2 18 rfl rfl)
theorem dX7_number_65 : decode cX7_number 65 = .ok (.iinc 4 1, 3) := dk_132 4 1 (dk_at dksX7_number_2 19 rfl rfl)
theorem dX7_number_68 : decode cX7_number 68 = .ok (.goto (-33), 3) := dk_167 255 223 (dk_at dksX7_number_3 0 rfl rfl)
theorem dX7_number_71 : decode cX7_number 71 = .ok (.iload_n 3, 1) := dk_29 (dk_at dksX7_number_3 3 rfl rfl)
theorem dX7_number_72 : decode cX7_number 72 = .ok (.iload_n 1, 1) := dk_27 (dk_at dksX7_number_3 4 rfl rfl)
theorem dX7_number_73 : decode cX7_number 73 = .ok (.if_icmp .lt 8, 3) := dk_161 0 8 (dk_at dksX7_number_3 5 rfl rfl)
theorem dX7_number_76 : decode cX7_number 76 = .ok (.iload_n 3, 1) := dk_29 (dk_at dksX7_number_3 8 rfl rfl)
theorem dX7_number_77 : decode cX7_number 77 = .ok (.iload_n 2, 1) := dk_28 (dk_at dksX7_number_3 9 rfl rfl)
theorem dX7_number_78 : decode cX7_number 78 = .ok (.if_icmp .le 15, 3) := dk_164 0 15 (dk_at dksX7_number_3 10 rfl rfl)
theorem dX7_number_81 : decode cX7_number 81 = .ok (.new 58, 3) := dk_187 0 58 (dk_at dksX7_number_3 13 rfl rfl)
theorem dX7_number_84 : decode cX7_number 84 = .ok (.dup, 1) := dk_89 (dk_at dksX7_number_3 16 rfl rfl)
theorem dX7_number_85 : decode cX7_number 85 = .ok (.aload_n 0, 1) := dk_42 (dk_at dksX7_number_3 17 rfl rfl)
theorem dX7_number_86 : decode cX7_number 86 = .ok (.getfield 31, 3) := dk_180 0 31 (dk_at dksX7_number_3 18 rfl rfl)
theorem dX7_number_89 : decode cX7_number 89 = .ok (.invokespecial 60, 3) := dk_183 0 60 (dk_at dksX7_number_3 21 rfl rfl)
theorem dX7_number_92 : decode cX7_number 92 = .ok (.athrow, 1) := dk_191 (dk_at dksX7_number_4 0 rfl rfl)
theorem dX7_number_93 : decode cX7_number 93 = .ok (.aload_n 0, 1) := dk_42 (dk_at dksX7_number_4 1 rfl rfl)
theorem dX7_number_94 : decode cX7_number 94 = .ok (.invokevirtual 52, 3) := dk_182 0 52 (dk_at dksX7_number_4 2 rfl rfl)
theorem dX7_number_97 : decode cX7_number 97 = .ok (.iload_n 3, 1) := dk_29 (dk_at dksX7_number_4 5 rfl rfl)
theorem dX7_number_98 : decode cX7_number 98 = .ok (.ireturn, 1) := dk_172 (dk_at dksX7_number_4 6 rfl rfl)
abbrev cX7_inside : ByteArray := prog_15_method_20_code
def yX7_inside : MethodName := ⟨RX7, "inside", "(Ljava/lang/String;Ljava/lang/String;)LHotIron$Sum;"⟩
def dkwX7_inside_0 : List UInt8 := [42, 43, 182, 0, 171, 42, 182, 0, 92, 78, 42, 44, 182, 0, 176, 45, 176]
abbrev dktX7_inside_0 : List UInt8 := dkwX7_inside_0 ++ []
theorem dksX7_inside_0 : cX7_inside.data.toList.drop 0 = dktX7_inside_0 := by decide +kernel
theorem dX7_inside_0 : decode cX7_inside 0 = .ok (.aload_n 0, 1) := dk_42 (dk_at dksX7_inside_0 0 rfl rfl)
theorem dX7_inside_1 : decode cX7_inside 1 = .ok (.aload_n 1, 1) := dk_43 (dk_at dksX7_inside_0 1 rfl rfl)
theorem dX7_inside_2 : decode cX7_inside 2 = .ok (.invokevirtual 171, 3) := dk_182 0 171 (dk_at dksX7_inside_0 2 rfl rfl)
theorem dX7_inside_5 : decode cX7_inside 5 = .ok (.aload_n 0, 1) := dk_42 (dk_at dksX7_inside_0 5 rfl rfl)
theorem dX7_inside_6 : decode cX7_inside 6 = .ok (.invokevirtual 92, 3) := dk_182 0 92 (dk_at dksX7_inside_0 6 rfl rfl)
theorem dX7_inside_9 : decode cX7_inside 9 = .ok (.astore_n 3, 1) := dk_78 (dk_at dksX7_inside_0 9 rfl rfl)
theorem dX7_inside_10 : decode cX7_inside 10 = .ok (.aload_n 0, 1) := dk_42 (dk_at dksX7_inside_0 10 rfl rfl)
theorem dX7_inside_11 : decode cX7_inside 11 = .ok (.aload_n 2, 1) := dk_44 (dk_at dksX7_inside_0 11 rfl rfl)
theorem dX7_inside_12 : decode cX7_inside 12 = .ok (.invokevirtual 176, 3) := dk_182 0 176 (dk_at dksX7_inside_0 12 rfl rfl)
theorem dX7_inside_15 : decode cX7_inside 15 = .ok (.aload_n 3, 1) := dk_45 (dk_at dksX7_inside_0 15 rfl rfl)
theorem dX7_inside_16 : decode cX7_inside 16 = .ok (.areturn, 1) := dk_176 (dk_at dksX7_inside_0 16 rfl rfl)
abbrev cX7_opens : ByteArray := prog_15_method_13_code
def yX7_opens : MethodName := ⟨RX7, "opens", "(Ljava/lang/String;)V"⟩
def dkwX7_opens_1 : List UInt8 := [180, 0, 31, 183, 0, 60, 191, 42, 89, 180, 0, 156, 4, 96, 181, 0, 156, 42, 182, 0, 52, 177]
abbrev dktX7_opens_1 : List UInt8 := dkwX7_opens_1 ++ []
def dkwX7_opens_0 : List UInt8 := [42, 43, 182, 0, 48, 153, 0, 12, 42, 180, 0, 156, 16, 8, 160, 0, 15, 187, 0, 58, 89, 42]
abbrev dktX7_opens_0 : List UInt8 := dkwX7_opens_0 ++ dktX7_opens_1
theorem dksX7_opens_0 : cX7_opens.data.toList.drop 0 = dktX7_opens_0 := by decide +kernel
theorem dksX7_opens_1 : cX7_opens.data.toList.drop 22 = dktX7_opens_1 := dk_seg dksX7_opens_0 22 rfl rfl
theorem dX7_opens_0 : decode cX7_opens 0 = .ok (.aload_n 0, 1) := dk_42 (dk_at dksX7_opens_0 0 rfl rfl)
theorem dX7_opens_1 : decode cX7_opens 1 = .ok (.aload_n 1, 1) := dk_43 (dk_at dksX7_opens_0 1 rfl rfl)
theorem dX7_opens_2 : decode cX7_opens 2 = .ok (.invokevirtual 48, 3) := dk_182 0 48 (dk_at dksX7_opens_0 2 rfl rfl)
theorem dX7_opens_5 : decode cX7_opens 5 = .ok (.ifCond .eq 12, 3) := dk_153 0 12 (dk_at dksX7_opens_0 5 rfl rfl)
theorem dX7_opens_8 : decode cX7_opens 8 = .ok (.aload_n 0, 1) := dk_42 (dk_at dksX7_opens_0 8 rfl rfl)
theorem dX7_opens_9 : decode cX7_opens 9 = .ok (.getfield 156, 3) := dk_180 0 156 (dk_at dksX7_opens_0 9 rfl rfl)
theorem dX7_opens_12 : decode cX7_opens 12 = .ok (.bipush 8, 2) := dk_16 8 (dk_at dksX7_opens_0 12 rfl rfl)
theorem dX7_opens_14 : decode cX7_opens 14 = .ok (.if_icmp .ne 15, 3) := dk_160 0 15 (dk_at dksX7_opens_0 14 rfl rfl)
theorem dX7_opens_17 : decode cX7_opens 17 = .ok (.new 58, 3) := dk_187 0 58 (dk_at dksX7_opens_0 17 rfl rfl)
theorem dX7_opens_20 : decode cX7_opens 20 = .ok (.dup, 1) := dk_89 (dk_at dksX7_opens_0 20 rfl rfl)
theorem dX7_opens_21 : decode cX7_opens 21 = .ok (.aload_n 0, 1) := dk_42 (dk_at dksX7_opens_0 21 rfl rfl)
theorem dX7_opens_22 : decode cX7_opens 22 = .ok (.getfield 31, 3) := dk_180 0 31 (dk_at dksX7_opens_1 0 rfl rfl)
theorem dX7_opens_25 : decode cX7_opens 25 = .ok (.invokespecial 60, 3) := dk_183 0 60 (dk_at dksX7_opens_1 3 rfl rfl)
theorem dX7_opens_28 : decode cX7_opens 28 = .ok (.athrow, 1) := dk_191 (dk_at dksX7_opens_1 6 rfl rfl)
theorem dX7_opens_29 : decode cX7_opens 29 = .ok (.aload_n 0, 1) := dk_42 (dk_at dksX7_opens_1 7 rfl rfl)
theorem dX7_opens_30 : decode cX7_opens 30 = .ok (.dup, 1) := dk_89 (dk_at dksX7_opens_1 8 rfl rfl)
theorem dX7_opens_31 : decode cX7_opens 31 = .ok (.getfield 156, 3) := dk_180 0 156 (dk_at dksX7_opens_1 9 rfl rfl)
theorem dX7_opens_34 : decode cX7_opens 34 = .ok (.iconst 1, 1) := dk_4 (dk_at dksX7_opens_1 12 rfl rfl)
theorem dX7_opens_35 : decode cX7_opens 35 = .ok (.iadd, 1) := dk_96 (dk_at dksX7_opens_1 13 rfl rfl)
theorem dX7_opens_36 : decode cX7_opens 36 = .ok (.putfield 156, 3) := dk_181 0 156 (dk_at dksX7_opens_1 14 rfl rfl)
theorem dX7_opens_39 : decode cX7_opens 39 = .ok (.aload_n 0, 1) := dk_42 (dk_at dksX7_opens_1 17 rfl rfl)
theorem dX7_opens_40 : decode cX7_opens 40 = .ok (.invokevirtual 52, 3) := dk_182 0 52 (dk_at dksX7_opens_1 18 rfl rfl)
theorem dX7_opens_43 : decode cX7_opens 43 = .ok (.return_, 1) := dk_177 (dk_at dksX7_opens_1 21 rfl rfl)
abbrev cX7_closes : ByteArray := prog_15_method_14_code
def yX7_closes : MethodName := ⟨RX7, "closes", "(Ljava/lang/String;)V"⟩
def dkwX7_closes_0 : List UInt8 := [42, 43, 182, 0, 128, 42, 89, 180, 0, 156, 4, 100, 181, 0, 156, 177]
abbrev dktX7_closes_0 : List UInt8 := dkwX7_closes_0 ++ []
theorem dksX7_closes_0 : cX7_closes.data.toList.drop 0 = dktX7_closes_0 := by decide +kernel
theorem dX7_closes_0 : decode cX7_closes 0 = .ok (.aload_n 0, 1) := dk_42 (dk_at dksX7_closes_0 0 rfl rfl)
theorem dX7_closes_1 : decode cX7_closes 1 = .ok (.aload_n 1, 1) := dk_43 (dk_at dksX7_closes_0 1 rfl rfl)
theorem dX7_closes_2 : decode cX7_closes 2 = .ok (.invokevirtual 128, 3) := dk_182 0 128 (dk_at dksX7_closes_0 2 rfl rfl)
theorem dX7_closes_5 : decode cX7_closes 5 = .ok (.aload_n 0, 1) := dk_42 (dk_at dksX7_closes_0 5 rfl rfl)
theorem dX7_closes_6 : decode cX7_closes 6 = .ok (.dup, 1) := dk_89 (dk_at dksX7_closes_0 6 rfl rfl)
theorem dX7_closes_7 : decode cX7_closes 7 = .ok (.getfield 156, 3) := dk_180 0 156 (dk_at dksX7_closes_0 7 rfl rfl)
theorem dX7_closes_10 : decode cX7_closes 10 = .ok (.iconst 1, 1) := dk_4 (dk_at dksX7_closes_0 10 rfl rfl)
theorem dX7_closes_11 : decode cX7_closes 11 = .ok (.isub, 1) := dk_100 (dk_at dksX7_closes_0 11 rfl rfl)
theorem dX7_closes_12 : decode cX7_closes 12 = .ok (.putfield 156, 3) := dk_181 0 156 (dk_at dksX7_closes_0 12 rfl rfl)
theorem dX7_closes_15 : decode cX7_closes 15 = .ok (.return_, 1) := dk_177 (dk_at dksX7_closes_0 15 rfl rfl)
abbrev cX7_need : ByteArray := prog_15_method_6_code
def yX7_need : MethodName := ⟨RX7, "need", "(Ljava/lang/String;)V"⟩
def dkwX7_need_0 : List UInt8 := [42, 43, 182, 0, 55, 154, 0, 15, 187, 0, 58, 89, 42, 180, 0, 31, 183, 0, 60, 191, 177]
abbrev dktX7_need_0 : List UInt8 := dkwX7_need_0 ++ []
theorem dksX7_need_0 : cX7_need.data.toList.drop 0 = dktX7_need_0 := by decide +kernel
theorem dX7_need_0 : decode cX7_need 0 = .ok (.aload_n 0, 1) := dk_42 (dk_at dksX7_need_0 0 rfl rfl)
theorem dX7_need_1 : decode cX7_need 1 = .ok (.aload_n 1, 1) := dk_43 (dk_at dksX7_need_0 1 rfl rfl)
theorem dX7_need_2 : decode cX7_need 2 = .ok (.invokevirtual 55, 3) := dk_182 0 55 (dk_at dksX7_need_0 2 rfl rfl)
theorem dX7_need_5 : decode cX7_need 5 = .ok (.ifCond .ne 15, 3) := dk_154 0 15 (dk_at dksX7_need_0 5 rfl rfl)
theorem dX7_need_8 : decode cX7_need 8 = .ok (.new 58, 3) := dk_187 0 58 (dk_at dksX7_need_0 8 rfl rfl)
theorem dX7_need_11 : decode cX7_need 11 = .ok (.dup, 1) := dk_89 (dk_at dksX7_need_0 11 rfl rfl)
theorem dX7_need_12 : decode cX7_need 12 = .ok (.aload_n 0, 1) := dk_42 (dk_at dksX7_need_0 12 rfl rfl)
theorem dX7_need_13 : decode cX7_need 13 = .ok (.getfield 31, 3) := dk_180 0 31 (dk_at dksX7_need_0 13 rfl rfl)
theorem dX7_need_16 : decode cX7_need 16 = .ok (.invokespecial 60, 3) := dk_183 0 60 (dk_at dksX7_need_0 16 rfl rfl)
theorem dX7_need_19 : decode cX7_need 19 = .ok (.athrow, 1) := dk_191 (dk_at dksX7_need_0 19 rfl rfl)
theorem dX7_need_20 : decode cX7_need 20 = .ok (.return_, 1) := dk_177 (dk_at dksX7_need_0 20 rfl rfl)
abbrev cX7_test : ByteArray := prog_15_method_11_code
def yX7_test : MethodName := ⟨RX7, "test", "()LHotIron$Test;"⟩
def dkwX7_test_2 : List UInt8 := [182, 0, 138, 182, 0, 84, 87, 167, 255, 235, 44, 176]
abbrev dktX7_test_2 : List UInt8 := dkwX7_test_2 ++ []
def dkwX7_test_1 : List UInt8 := [77, 44, 180, 0, 148, 43, 182, 0, 84, 87, 42, 18, 141, 182, 0, 55, 153, 0, 18, 44, 180, 0, 148, 42]
abbrev dktX7_test_1 : List UInt8 := dkwX7_test_1 ++ dktX7_test_2
def dkwX7_test_0 : List UInt8 := [42, 182, 0, 138, 76, 42, 18, 141, 182, 0, 48, 154, 0, 5, 43, 176, 187, 0, 143, 89, 3, 183, 0, 145]
abbrev dktX7_test_0 : List UInt8 := dkwX7_test_0 ++ dktX7_test_1
theorem dksX7_test_0 : cX7_test.data.toList.drop 0 = dktX7_test_0 := by decide +kernel
theorem dksX7_test_1 : cX7_test.data.toList.drop 24 = dktX7_test_1 := dk_seg dksX7_test_0 24 rfl rfl
theorem dksX7_test_2 : cX7_test.data.toList.drop 48 = dktX7_test_2 := dk_seg dksX7_test_1 24 rfl rfl
theorem dX7_test_0 : decode cX7_test 0 = .ok (.aload_n 0, 1) := dk_42 (dk_at dksX7_test_0 0 rfl rfl)
theorem dX7_test_1 : decode cX7_test 1 = .ok (.invokevirtual 138, 3) := dk_182 0 138 (dk_at dksX7_test_0 1 rfl rfl)
theorem dX7_test_4 : decode cX7_test 4 = .ok (.astore_n 1, 1) := dk_76 (dk_at dksX7_test_0 4 rfl rfl)
theorem dX7_test_5 : decode cX7_test 5 = .ok (.aload_n 0, 1) := dk_42 (dk_at dksX7_test_0 5 rfl rfl)
theorem dX7_test_6 : decode cX7_test 6 = .ok (.ldc 141, 2) := dk_18 141 (dk_at dksX7_test_0 6 rfl rfl)
theorem dX7_test_8 : decode cX7_test 8 = .ok (.invokevirtual 48, 3) := dk_182 0 48 (dk_at dksX7_test_0 8 rfl rfl)
theorem dX7_test_11 : decode cX7_test 11 = .ok (.ifCond .ne 5, 3) := dk_154 0 5 (dk_at dksX7_test_0 11 rfl rfl)
theorem dX7_test_14 : decode cX7_test 14 = .ok (.aload_n 1, 1) := dk_43 (dk_at dksX7_test_0 14 rfl rfl)
theorem dX7_test_15 : decode cX7_test 15 = .ok (.areturn, 1) := dk_176 (dk_at dksX7_test_0 15 rfl rfl)
theorem dX7_test_16 : decode cX7_test 16 = .ok (.new 143, 3) := dk_187 0 143 (dk_at dksX7_test_0 16 rfl rfl)
theorem dX7_test_19 : decode cX7_test 19 = .ok (.dup, 1) := dk_89 (dk_at dksX7_test_0 19 rfl rfl)
theorem dX7_test_20 : decode cX7_test 20 = .ok (.iconst 0, 1) := dk_3 (dk_at dksX7_test_0 20 rfl rfl)
theorem dX7_test_21 : decode cX7_test 21 = .ok (.invokespecial 145, 3) := dk_183 0 145 (dk_at dksX7_test_0 21 rfl rfl)
theorem dX7_test_24 : decode cX7_test 24 = .ok (.astore_n 2, 1) := dk_77 (dk_at dksX7_test_1 0 rfl rfl)
theorem dX7_test_25 : decode cX7_test 25 = .ok (.aload_n 2, 1) := dk_44 (dk_at dksX7_test_1 1 rfl rfl)
theorem dX7_test_26 : decode cX7_test 26 = .ok (.getfield 148, 3) := dk_180 0 148 (dk_at dksX7_test_1 2 rfl rfl)
theorem dX7_test_29 : decode cX7_test 29 = .ok (.aload_n 1, 1) := dk_43 (dk_at dksX7_test_1 5 rfl rfl)
theorem dX7_test_30 : decode cX7_test 30 = .ok (.invokevirtual 84, 3) := dk_182 0 84 (dk_at dksX7_test_1 6 rfl rfl)
theorem dX7_test_33 : decode cX7_test 33 = .ok (.pop, 1) := dk_87 (dk_at dksX7_test_1 9 rfl rfl)
theorem dX7_test_34 : decode cX7_test 34 = .ok (.aload_n 0, 1) := dk_42 (dk_at dksX7_test_1 10 rfl rfl)
theorem dX7_test_35 : decode cX7_test 35 = .ok (.ldc 141, 2) := dk_18 141 (dk_at dksX7_test_1 11 rfl rfl)
theorem dX7_test_37 : decode cX7_test 37 = .ok (.invokevirtual 55, 3) := dk_182 0 55 (dk_at dksX7_test_1 13 rfl rfl)
theorem dX7_test_40 : decode cX7_test 40 = .ok (.ifCond .eq 18, 3) := dk_153 0 18 (dk_at dksX7_test_1 16 rfl rfl)
theorem dX7_test_43 : decode cX7_test 43 = .ok (.aload_n 2, 1) := dk_44 (dk_at dksX7_test_1 19 rfl rfl)
theorem dX7_test_44 : decode cX7_test 44 = .ok (.getfield 148, 3) := dk_180 0 148 (dk_at dksX7_test_1 20 rfl rfl)
theorem dX7_test_47 : decode cX7_test 47 = .ok (.aload_n 0, 1) := dk_42 (dk_at dksX7_test_1 23 rfl rfl)
theorem dX7_test_48 : decode cX7_test 48 = .ok (.invokevirtual 138, 3) := dk_182 0 138 (dk_at dksX7_test_2 0 rfl rfl)
theorem dX7_test_51 : decode cX7_test 51 = .ok (.invokevirtual 84, 3) := dk_182 0 84 (dk_at dksX7_test_2 3 rfl rfl)
theorem dX7_test_54 : decode cX7_test 54 = .ok (.pop, 1) := dk_87 (dk_at dksX7_test_2 6 rfl rfl)
theorem dX7_test_55 : decode cX7_test 55 = .ok (.goto (-21), 3) := dk_167 255 235 (dk_at dksX7_test_2 7 rfl rfl)
theorem dX7_test_58 : decode cX7_test 58 = .ok (.aload_n 2, 1) := dk_44 (dk_at dksX7_test_2 10 rfl rfl)
theorem dX7_test_59 : decode cX7_test 59 = .ok (.areturn, 1) := dk_176 (dk_at dksX7_test_2 11 rfl rfl)
abbrev cX7_both : ByteArray := prog_15_method_12_code
def yX7_both : MethodName := ⟨RX7, "both", "()LHotIron$Test;"⟩
def dkwX7_both_2 : List UInt8 := [182, 0, 151, 182, 0, 84, 87, 167, 255, 235, 44, 176]
abbrev dktX7_both_2 : List UInt8 := dkwX7_both_2 ++ []
def dkwX7_both_1 : List UInt8 := [77, 44, 180, 0, 148, 43, 182, 0, 84, 87, 42, 18, 154, 182, 0, 55, 153, 0, 18, 44, 180, 0, 148, 42]
abbrev dktX7_both_1 : List UInt8 := dkwX7_both_1 ++ dktX7_both_2
def dkwX7_both_0 : List UInt8 := [42, 182, 0, 151, 76, 42, 18, 154, 182, 0, 48, 154, 0, 5, 43, 176, 187, 0, 143, 89, 4, 183, 0, 145]
abbrev dktX7_both_0 : List UInt8 := dkwX7_both_0 ++ dktX7_both_1
theorem dksX7_both_0 : cX7_both.data.toList.drop 0 = dktX7_both_0 := by decide +kernel
theorem dksX7_both_1 : cX7_both.data.toList.drop 24 = dktX7_both_1 := dk_seg dksX7_both_0 24 rfl rfl
theorem dksX7_both_2 : cX7_both.data.toList.drop 48 = dktX7_both_2 := dk_seg dksX7_both_1 24 rfl rfl
theorem dX7_both_0 : decode cX7_both 0 = .ok (.aload_n 0, 1) := dk_42 (dk_at dksX7_both_0 0 rfl rfl)
theorem dX7_both_1 : decode cX7_both 1 = .ok (.invokevirtual 151, 3) := dk_182 0 151 (dk_at dksX7_both_0 1 rfl rfl)
theorem dX7_both_4 : decode cX7_both 4 = .ok (.astore_n 1, 1) := dk_76 (dk_at dksX7_both_0 4 rfl rfl)
theorem dX7_both_5 : decode cX7_both 5 = .ok (.aload_n 0, 1) := dk_42 (dk_at dksX7_both_0 5 rfl rfl)
theorem dX7_both_6 : decode cX7_both 6 = .ok (.ldc 154, 2) := dk_18 154 (dk_at dksX7_both_0 6 rfl rfl)
theorem dX7_both_8 : decode cX7_both 8 = .ok (.invokevirtual 48, 3) := dk_182 0 48 (dk_at dksX7_both_0 8 rfl rfl)
theorem dX7_both_11 : decode cX7_both 11 = .ok (.ifCond .ne 5, 3) := dk_154 0 5 (dk_at dksX7_both_0 11 rfl rfl)
theorem dX7_both_14 : decode cX7_both 14 = .ok (.aload_n 1, 1) := dk_43 (dk_at dksX7_both_0 14 rfl rfl)
theorem dX7_both_15 : decode cX7_both 15 = .ok (.areturn, 1) := dk_176 (dk_at dksX7_both_0 15 rfl rfl)
theorem dX7_both_16 : decode cX7_both 16 = .ok (.new 143, 3) := dk_187 0 143 (dk_at dksX7_both_0 16 rfl rfl)
theorem dX7_both_19 : decode cX7_both 19 = .ok (.dup, 1) := dk_89 (dk_at dksX7_both_0 19 rfl rfl)
theorem dX7_both_20 : decode cX7_both 20 = .ok (.iconst 1, 1) := dk_4 (dk_at dksX7_both_0 20 rfl rfl)
theorem dX7_both_21 : decode cX7_both 21 = .ok (.invokespecial 145, 3) := dk_183 0 145 (dk_at dksX7_both_0 21 rfl rfl)
theorem dX7_both_24 : decode cX7_both 24 = .ok (.astore_n 2, 1) := dk_77 (dk_at dksX7_both_1 0 rfl rfl)
theorem dX7_both_25 : decode cX7_both 25 = .ok (.aload_n 2, 1) := dk_44 (dk_at dksX7_both_1 1 rfl rfl)
theorem dX7_both_26 : decode cX7_both 26 = .ok (.getfield 148, 3) := dk_180 0 148 (dk_at dksX7_both_1 2 rfl rfl)
theorem dX7_both_29 : decode cX7_both 29 = .ok (.aload_n 1, 1) := dk_43 (dk_at dksX7_both_1 5 rfl rfl)
theorem dX7_both_30 : decode cX7_both 30 = .ok (.invokevirtual 84, 3) := dk_182 0 84 (dk_at dksX7_both_1 6 rfl rfl)
theorem dX7_both_33 : decode cX7_both 33 = .ok (.pop, 1) := dk_87 (dk_at dksX7_both_1 9 rfl rfl)
theorem dX7_both_34 : decode cX7_both 34 = .ok (.aload_n 0, 1) := dk_42 (dk_at dksX7_both_1 10 rfl rfl)
theorem dX7_both_35 : decode cX7_both 35 = .ok (.ldc 154, 2) := dk_18 154 (dk_at dksX7_both_1 11 rfl rfl)
theorem dX7_both_37 : decode cX7_both 37 = .ok (.invokevirtual 55, 3) := dk_182 0 55 (dk_at dksX7_both_1 13 rfl rfl)
theorem dX7_both_40 : decode cX7_both 40 = .ok (.ifCond .eq 18, 3) := dk_153 0 18 (dk_at dksX7_both_1 16 rfl rfl)
theorem dX7_both_43 : decode cX7_both 43 = .ok (.aload_n 2, 1) := dk_44 (dk_at dksX7_both_1 19 rfl rfl)
theorem dX7_both_44 : decode cX7_both 44 = .ok (.getfield 148, 3) := dk_180 0 148 (dk_at dksX7_both_1 20 rfl rfl)
theorem dX7_both_47 : decode cX7_both 47 = .ok (.aload_n 0, 1) := dk_42 (dk_at dksX7_both_1 23 rfl rfl)
theorem dX7_both_48 : decode cX7_both 48 = .ok (.invokevirtual 151, 3) := dk_182 0 151 (dk_at dksX7_both_2 0 rfl rfl)
theorem dX7_both_51 : decode cX7_both 51 = .ok (.invokevirtual 84, 3) := dk_182 0 84 (dk_at dksX7_both_2 3 rfl rfl)
theorem dX7_both_54 : decode cX7_both 54 = .ok (.pop, 1) := dk_87 (dk_at dksX7_both_2 6 rfl rfl)
theorem dX7_both_55 : decode cX7_both 55 = .ok (.goto (-21), 3) := dk_167 255 235 (dk_at dksX7_both_2 7 rfl rfl)
theorem dX7_both_58 : decode cX7_both 58 = .ok (.aload_n 2, 1) := dk_44 (dk_at dksX7_both_2 10 rfl rfl)
theorem dX7_both_59 : decode cX7_both 59 = .ok (.areturn, 1) := dk_176 (dk_at dksX7_both_2 11 rfl rfl)
abbrev cX7_plain : ByteArray := prog_15_method_15_code
def yX7_plain : MethodName := ⟨RX7, "plain", "()LHotIron$Test;"⟩
def dkwX7_plain_1 : List UInt8 := [42, 182, 0, 161, 77, 27, 153, 0, 14, 187, 0, 164, 89, 44, 183, 0, 166, 167, 0, 4, 44, 176]
abbrev dktX7_plain_1 : List UInt8 := dkwX7_plain_1 ++ []
def dkwX7_plain_0 : List UInt8 := [3, 60, 42, 18, 159, 182, 0, 55, 153, 0, 16, 27, 154, 0, 7, 4, 167, 0, 4, 3, 60, 167, 255, 237]
abbrev dktX7_plain_0 : List UInt8 := dkwX7_plain_0 ++ dktX7_plain_1
theorem dksX7_plain_0 : cX7_plain.data.toList.drop 0 = dktX7_plain_0 := by decide +kernel
theorem dksX7_plain_1 : cX7_plain.data.toList.drop 24 = dktX7_plain_1 := dk_seg dksX7_plain_0 24 rfl rfl
theorem dX7_plain_0 : decode cX7_plain 0 = .ok (.iconst 0, 1) := dk_3 (dk_at dksX7_plain_0 0 rfl rfl)
theorem dX7_plain_1 : decode cX7_plain 1 = .ok (.istore_n 1, 1) := dk_60 (dk_at dksX7_plain_0 1 rfl rfl)
theorem dX7_plain_2 : decode cX7_plain 2 = .ok (.aload_n 0, 1) := dk_42 (dk_at dksX7_plain_0 2 rfl rfl)
theorem dX7_plain_3 : decode cX7_plain 3 = .ok (.ldc 159, 2) := dk_18 159 (dk_at dksX7_plain_0 3 rfl rfl)
theorem dX7_plain_5 : decode cX7_plain 5 = .ok (.invokevirtual 55, 3) := dk_182 0 55 (dk_at dksX7_plain_0 5 rfl rfl)
theorem dX7_plain_8 : decode cX7_plain 8 = .ok (.ifCond .eq 16, 3) := dk_153 0 16 (dk_at dksX7_plain_0 8 rfl rfl)
theorem dX7_plain_11 : decode cX7_plain 11 = .ok (.iload_n 1, 1) := dk_27 (dk_at dksX7_plain_0 11 rfl rfl)
theorem dX7_plain_12 : decode cX7_plain 12 = .ok (.ifCond .ne 7, 3) := dk_154 0 7 (dk_at dksX7_plain_0 12 rfl rfl)
theorem dX7_plain_15 : decode cX7_plain 15 = .ok (.iconst 1, 1) := dk_4 (dk_at dksX7_plain_0 15 rfl rfl)
theorem dX7_plain_16 : decode cX7_plain 16 = .ok (.goto 4, 3) := dk_167 0 4 (dk_at dksX7_plain_0 16 rfl rfl)
theorem dX7_plain_19 : decode cX7_plain 19 = .ok (.iconst 0, 1) := dk_3 (dk_at dksX7_plain_0 19 rfl rfl)
theorem dX7_plain_20 : decode cX7_plain 20 = .ok (.istore_n 1, 1) := dk_60 (dk_at dksX7_plain_0 20 rfl rfl)
theorem dX7_plain_21 : decode cX7_plain 21 = .ok (.goto (-19), 3) := dk_167 255 237 (dk_at dksX7_plain_0 21 rfl rfl)
theorem dX7_plain_24 : decode cX7_plain 24 = .ok (.aload_n 0, 1) := dk_42 (dk_at dksX7_plain_1 0 rfl rfl)
theorem dX7_plain_25 : decode cX7_plain 25 = .ok (.invokevirtual 161, 3) := dk_182 0 161 (dk_at dksX7_plain_1 1 rfl rfl)
theorem dX7_plain_28 : decode cX7_plain 28 = .ok (.astore_n 2, 1) := dk_77 (dk_at dksX7_plain_1 4 rfl rfl)
theorem dX7_plain_29 : decode cX7_plain 29 = .ok (.iload_n 1, 1) := dk_27 (dk_at dksX7_plain_1 5 rfl rfl)
theorem dX7_plain_30 : decode cX7_plain 30 = .ok (.ifCond .eq 14, 3) := dk_153 0 14 (dk_at dksX7_plain_1 6 rfl rfl)
theorem dX7_plain_33 : decode cX7_plain 33 = .ok (.new 164, 3) := dk_187 0 164 (dk_at dksX7_plain_1 9 rfl rfl)
theorem dX7_plain_36 : decode cX7_plain 36 = .ok (.dup, 1) := dk_89 (dk_at dksX7_plain_1 12 rfl rfl)
theorem dX7_plain_37 : decode cX7_plain 37 = .ok (.aload_n 2, 1) := dk_44 (dk_at dksX7_plain_1 13 rfl rfl)
theorem dX7_plain_38 : decode cX7_plain 38 = .ok (.invokespecial 166, 3) := dk_183 0 166 (dk_at dksX7_plain_1 14 rfl rfl)
theorem dX7_plain_41 : decode cX7_plain 41 = .ok (.goto 4, 3) := dk_167 0 4 (dk_at dksX7_plain_1 17 rfl rfl)
theorem dX7_plain_44 : decode cX7_plain 44 = .ok (.aload_n 2, 1) := dk_44 (dk_at dksX7_plain_1 20 rfl rfl)
theorem dX7_plain_45 : decode cX7_plain 45 = .ok (.areturn, 1) := dk_176 (dk_at dksX7_plain_1 21 rfl rfl)
abbrev cX7_positive : ByteArray := prog_15_method_16_code
def yX7_positive : MethodName := ⟨RX7, "positive", "()LHotIron$Test;"⟩
def dkwX7_positive_4 : List UInt8 := [43, 42, 182, 0, 92, 183, 0, 187, 176]
abbrev dktX7_positive_4 : List UInt8 := dkwX7_positive_4 ++ []
def dkwX7_positive_3 : List UInt8 := [183, 0, 60, 191, 42, 180, 0, 20, 42, 180, 0, 31, 51, 146, 61, 42, 182, 0, 52, 187, 0, 185, 89, 28]
abbrev dktX7_positive_3 : List UInt8 := dkwX7_positive_3 ++ dktX7_positive_4
def dkwX7_positive_2 : List UInt8 := [182, 0, 48, 154, 0, 24, 42, 18, 183, 182, 0, 48, 154, 0, 15, 187, 0, 58, 89, 42, 180, 0, 31]
abbrev dktX7_positive_2 : List UInt8 := dkwX7_positive_2 ++ dktX7_positive_3
def dkwX7_positive_1 : List UInt8 := [182, 0, 176, 43, 176, 42, 182, 0, 92, 76, 42, 18, 179, 182, 0, 48, 154, 0, 33, 42, 18, 181]
abbrev dktX7_positive_1 : List UInt8 := dkwX7_positive_1 ++ dktX7_positive_2
def dkwX7_positive_0 : List UInt8 := [42, 18, 169, 182, 0, 48, 153, 0, 22, 42, 18, 169, 182, 0, 171, 42, 182, 0, 74, 76, 42, 18, 174]
abbrev dktX7_positive_0 : List UInt8 := dkwX7_positive_0 ++ dktX7_positive_1
theorem dksX7_positive_0 : cX7_positive.data.toList.drop 0 = dktX7_positive_0 := by decide +kernel
theorem dksX7_positive_1 : cX7_positive.data.toList.drop 23 = dktX7_positive_1 := dk_seg dksX7_positive_0 23 rfl rfl
theorem dksX7_positive_2 : cX7_positive.data.toList.drop 45 = dktX7_positive_2 := dk_seg dksX7_positive_1 22 rfl rfl
theorem dksX7_positive_3 : cX7_positive.data.toList.drop 68 = dktX7_positive_3 := dk_seg dksX7_positive_2 23 rfl rfl
theorem dksX7_positive_4 : cX7_positive.data.toList.drop 92 = dktX7_positive_4 := dk_seg dksX7_positive_3 24 rfl rfl
theorem dX7_positive_0 : decode cX7_positive 0 = .ok (.aload_n 0, 1) := dk_42 (dk_at dksX7_positive_0 0 rfl rfl)
theorem dX7_positive_1 : decode cX7_positive 1 = .ok (.ldc 169, 2) := dk_18 169 (dk_at dksX7_positive_0 1 rfl rfl)
theorem dX7_positive_3 : decode cX7_positive 3 = .ok (.invokevirtual 48, 3) := dk_182 0 48 (dk_at dksX7_positive_0 3 rfl rfl)
theorem dX7_positive_6 : decode cX7_positive 6 = .ok (.ifCond .eq 22, 3) := dk_153 0 22 (dk_at dksX7_positive_0 6 rfl rfl)
theorem dX7_positive_9 : decode cX7_positive 9 = .ok (.aload_n 0, 1) := dk_42 (dk_at dksX7_positive_0 9 rfl rfl)
theorem dX7_positive_10 : decode cX7_positive 10 = .ok (.ldc 169, 2) := dk_18 169 (dk_at dksX7_positive_0 10 rfl rfl)
theorem dX7_positive_12 : decode cX7_positive 12 = .ok (.invokevirtual 171, 3) := dk_182 0 171 (dk_at dksX7_positive_0 12 rfl rfl)
theorem dX7_positive_15 : decode cX7_positive 15 = .ok (.aload_n 0, 1) := dk_42 (dk_at dksX7_positive_0 15 rfl rfl)
theorem dX7_positive_16 : decode cX7_positive 16 = .ok (.invokevirtual 74, 3) := dk_182 0 74 (dk_at dksX7_positive_0 16 rfl rfl)
theorem dX7_positive_19 : decode cX7_positive 19 = .ok (.astore_n 1, 1) := dk_76 (dk_at dksX7_positive_0 19 rfl rfl)
theorem dX7_positive_20 : decode cX7_positive 20 = .ok (.aload_n 0, 1) := dk_42 (dk_at dksX7_positive_0 20 rfl rfl)
theorem dX7_positive_21 : decode cX7_positive 21 = .ok (.ldc 174, 2) := dk_18 174 (dk_at dksX7_positive_0 21 rfl rfl)
theorem dX7_positive_23 : decode cX7_positive 23 = .ok (.invokevirtual 176, 3) := dk_182 0 176 (dk_at dksX7_positive_1 0 rfl rfl)
theorem dX7_positive_26 : decode cX7_positive 26 = .ok (.aload_n 1, 1) := dk_43 (dk_at dksX7_positive_1 3 rfl rfl)
theorem dX7_positive_27 : decode cX7_positive 27 = .ok (.areturn, 1) := dk_176 (dk_at dksX7_positive_1 4 rfl rfl)
theorem dX7_positive_28 : decode cX7_positive 28 = .ok (.aload_n 0, 1) := dk_42 (dk_at dksX7_positive_1 5 rfl rfl)
theorem dX7_positive_29 : decode cX7_positive 29 = .ok (.invokevirtual 92, 3) := dk_182 0 92 (dk_at dksX7_positive_1 6 rfl rfl)
theorem dX7_positive_32 : decode cX7_positive 32 = .ok (.astore_n 1, 1) := dk_76 (dk_at dksX7_positive_1 9 rfl rfl)
theorem dX7_positive_33 : decode cX7_positive 33 = .ok (.aload_n 0, 1) := dk_42 (dk_at dksX7_positive_1 10 rfl rfl)
theorem dX7_positive_34 : decode cX7_positive 34 = .ok (.ldc 179, 2) := dk_18 179 (dk_at dksX7_positive_1 11 rfl rfl)
theorem dX7_positive_36 : decode cX7_positive 36 = .ok (.invokevirtual 48, 3) := dk_182 0 48 (dk_at dksX7_positive_1 13 rfl rfl)
theorem dX7_positive_39 : decode cX7_positive 39 = .ok (.ifCond .ne 33, 3) := dk_154 0 33 (dk_at dksX7_positive_1 16 rfl rfl)
theorem dX7_positive_42 : decode cX7_positive 42 = .ok (.aload_n 0, 1) := dk_42 (dk_at dksX7_positive_1 19 rfl rfl)
theorem dX7_positive_43 : decode cX7_positive 43 = .ok (.ldc 181, 2) := dk_18 181 (dk_at dksX7_positive_1 20 rfl rfl)
theorem dX7_positive_45 : decode cX7_positive 45 = .ok (.invokevirtual 48, 3) := dk_182 0 48 (dk_at dksX7_positive_2 0 rfl rfl)
theorem dX7_positive_48 : decode cX7_positive 48 = .ok (.ifCond .ne 24, 3) := dk_154 0 24 (dk_at dksX7_positive_2 3 rfl rfl)
theorem dX7_positive_51 : decode cX7_positive 51 = .ok (.aload_n 0, 1) := dk_42 (dk_at dksX7_positive_2 6 rfl rfl)
theorem dX7_positive_52 : decode cX7_positive 52 = .ok (.ldc 183, 2) := dk_18 183 (dk_at dksX7_positive_2 7 rfl rfl)
theorem dX7_positive_54 : decode cX7_positive 54 = .ok (.invokevirtual 48, 3) := dk_182 0 48 (dk_at dksX7_positive_2 9 rfl rfl)
theorem dX7_positive_57 : decode cX7_positive 57 = .ok (.ifCond .ne 15, 3) := dk_154 0 15 (dk_at dksX7_positive_2 12 rfl rfl)
theorem dX7_positive_60 : decode cX7_positive 60 = .ok (.new 58, 3) := dk_187 0 58 (dk_at dksX7_positive_2 15 rfl rfl)
theorem dX7_positive_63 : decode cX7_positive 63 = .ok (.dup, 1) := dk_89 (dk_at dksX7_positive_2 18 rfl rfl)
theorem dX7_positive_64 : decode cX7_positive 64 = .ok (.aload_n 0, 1) := dk_42 (dk_at dksX7_positive_2 19 rfl rfl)
theorem dX7_positive_65 : decode cX7_positive 65 = .ok (.getfield 31, 3) := dk_180 0 31 (dk_at dksX7_positive_2 20 rfl rfl)
theorem dX7_positive_68 : decode cX7_positive 68 = .ok (.invokespecial 60, 3) := dk_183 0 60 (dk_at dksX7_positive_3 0 rfl rfl)
theorem dX7_positive_71 : decode cX7_positive 71 = .ok (.athrow, 1) := dk_191 (dk_at dksX7_positive_3 3 rfl rfl)
theorem dX7_positive_72 : decode cX7_positive 72 = .ok (.aload_n 0, 1) := dk_42 (dk_at dksX7_positive_3 4 rfl rfl)
theorem dX7_positive_73 : decode cX7_positive 73 = .ok (.getfield 20, 3) := dk_180 0 20 (dk_at dksX7_positive_3 5 rfl rfl)
theorem dX7_positive_76 : decode cX7_positive 76 = .ok (.aload_n 0, 1) := dk_42 (dk_at dksX7_positive_3 8 rfl rfl)
theorem dX7_positive_77 : decode cX7_positive 77 = .ok (.getfield 31, 3) := dk_180 0 31 (dk_at dksX7_positive_3 9 rfl rfl)
theorem dX7_positive_80 : decode cX7_positive 80 = .ok (.baload, 1) := dk_51 (dk_at dksX7_positive_3 12 rfl rfl)
theorem dX7_positive_81 : decode cX7_positive 81 = .ok (.i2c, 1) := dk_146 (dk_at dksX7_positive_3 13 rfl rfl)
theorem dX7_positive_82 : decode cX7_positive 82 = .ok (.istore_n 2, 1) := dk_61 (dk_at dksX7_positive_3 14 rfl rfl)
theorem dX7_positive_83 : decode cX7_positive 83 = .ok (.aload_n 0, 1) := dk_42 (dk_at dksX7_positive_3 15 rfl rfl)
theorem dX7_positive_84 : decode cX7_positive 84 = .ok (.invokevirtual 52, 3) := dk_182 0 52 (dk_at dksX7_positive_3 16 rfl rfl)
theorem dX7_positive_87 : decode cX7_positive 87 = .ok (.new 185, 3) := dk_187 0 185 (dk_at dksX7_positive_3 19 rfl rfl)
theorem dX7_positive_90 : decode cX7_positive 90 = .ok (.dup, 1) := dk_89 (dk_at dksX7_positive_3 22 rfl rfl)
theorem dX7_positive_91 : decode cX7_positive 91 = .ok (.iload_n 2, 1) := dk_28 (dk_at dksX7_positive_3 23 rfl rfl)
theorem dX7_positive_92 : decode cX7_positive 92 = .ok (.aload_n 1, 1) := dk_43 (dk_at dksX7_positive_4 0 rfl rfl)
theorem dX7_positive_93 : decode cX7_positive 93 = .ok (.aload_n 0, 1) := dk_42 (dk_at dksX7_positive_4 1 rfl rfl)
theorem dX7_positive_94 : decode cX7_positive 94 = .ok (.invokevirtual 92, 3) := dk_182 0 92 (dk_at dksX7_positive_4 2 rfl rfl)
theorem dX7_positive_97 : decode cX7_positive 97 = .ok (.invokespecial 187, 3) := dk_183 0 187 (dk_at dksX7_positive_4 5 rfl rfl)
theorem dX7_positive_100 : decode cX7_positive 100 = .ok (.areturn, 1) := dk_176 (dk_at dksX7_positive_4 8 rfl rfl)
theorem q122 : (Jvm.Cond.initialized "HotIron$Reader") ∈ lw_all := lw_g (lw_at lw_m1 18 rfl) rfl
theorem q556 : (Jvm.Cond.selects "HotIron$Reader" ({ cls := "java/lang/Object", name := "getClass", desc := "()Ljava/lang/Class;" } : Jvm.MethodName) ({ cls := "java/lang/Object", name := "getClass", desc := "()Ljava/lang/Class;" } : Jvm.MethodName)) ∈ lw_all := lw_g (lw_at lw_m2 212 rfl) rfl
theorem q743 : (Jvm.Cond.instantiable "HotIron$Reader" (7 : Nat)) ∈ lw_all := lw_g (lw_at lw_m3 159 rfl) rfl
theorem q745 : (Jvm.Cond.instanceMethod ({ cls := "HotIron$Reader", name := "<init>", desc := "([BI)V" } : Jvm.MethodName)) ∈ lw_all := lw_g (lw_at lw_m3 161 rfl) rfl
theorem q746 : (Jvm.Cond.code ({ cls := "HotIron$Reader", name := "<init>", desc := "([BI)V" } : Jvm.MethodName) prog_15_method_1_code (3 : Nat) (Option.none : Option Jvm.ClassFile.FieldType)) ∈ lw_all := lw_g (lw_at lw_m3 162 rfl) rfl
theorem q747 : (Jvm.Cond.methodLink "HotIron$Reader" (3 : Nat) ({ cls := "java/lang/Object", name := "<init>", desc := "()V" } : Jvm.MethodName)) ∈ lw_all := lw_g (lw_at lw_m3 163 rfl) rfl
theorem q748 : (Jvm.Cond.classLink "HotIron$Reader" (9 : Nat) "java/util/ArrayList") ∈ lw_all := lw_g (lw_at lw_m3 164 rfl) rfl
theorem q749 : (Jvm.Cond.methodLink "HotIron$Reader" (11 : Nat) ({ cls := "java/util/ArrayList", name := "<init>", desc := "(I)V" } : Jvm.MethodName)) ∈ lw_all := lw_g (lw_at lw_m3 165 rfl) rfl
theorem q750 : (Jvm.Cond.fieldLink "HotIron$Reader" (20 : Nat) "HotIron$Reader" "tape" "[B") ∈ lw_all := lw_g (lw_at lw_m3 166 rfl) rfl
theorem q751 : (Jvm.Cond.fieldLink "HotIron$Reader" (24 : Nat) "HotIron$Reader" "size" "I") ∈ lw_all := lw_g (lw_at lw_m3 167 rfl) rfl
theorem q752 : (Jvm.Cond.fieldLink "HotIron$Reader" (14 : Nat) "HotIron$Reader" "made" "Ljava/util/ArrayList;") ∈ lw_all := lw_g (lw_at lw_m3 168 rfl) rfl
theorem q754 : (Jvm.Cond.fieldLink "HotIron$Reader" (31 : Nat) "HotIron$Reader" "from" "I") ∈ lw_all := lw_g (lw_at lw_m3 170 rfl) rfl
theorem q755 : (Jvm.Cond.fieldLink "HotIron$Reader" (28 : Nat) "HotIron$Reader" "to" "I") ∈ lw_all := lw_g (lw_at lw_m3 171 rfl) rfl
theorem q756 : (Jvm.Cond.fieldLink "HotIron$Reader" (202 : Nat) "HotIron$Reader" "leaves" "I") ∈ lw_all := lw_g (lw_at lw_m3 172 rfl) rfl
theorem q757 : (Jvm.Cond.fieldLink "HotIron$Reader" (156 : Nat) "HotIron$Reader" "deep" "I") ∈ lw_all := lw_g (lw_at lw_m3 173 rfl) rfl
theorem q758 : (Jvm.Cond.laysFinal "HotIron$Reader" "HotIron$Reader" "tape" "[B") ∈ lw_all := lw_g (lw_at lw_m3 174 rfl) rfl
theorem q759 : (Jvm.Cond.soleField "HotIron$Reader" "tape") ∈ lw_all := lw_g (lw_at lw_m3 175 rfl) rfl
theorem q760 : (Jvm.Cond.laysFinal "HotIron$Reader" "HotIron$Reader" "size" "I") ∈ lw_all := lw_g (lw_at lw_m3 176 rfl) rfl
theorem q761 : (Jvm.Cond.soleField "HotIron$Reader" "size") ∈ lw_all := lw_g (lw_at lw_m3 177 rfl) rfl
theorem q762 : (Jvm.Cond.laysFinal "HotIron$Reader" "HotIron$Reader" "made" "Ljava/util/ArrayList;") ∈ lw_all := lw_g (lw_at lw_m3 178 rfl) rfl
theorem q763 : (Jvm.Cond.soleField "HotIron$Reader" "made") ∈ lw_all := lw_g (lw_at lw_m3 179 rfl) rfl
theorem q764 : (Jvm.Cond.lays "HotIron$Reader" "HotIron$Reader" "from" "I") ∈ lw_all := lw_g (lw_at lw_m3 180 rfl) rfl
theorem q765 : (Jvm.Cond.soleField "HotIron$Reader" "from") ∈ lw_all := lw_g (lw_at lw_m3 181 rfl) rfl
theorem q766 : (Jvm.Cond.lays "HotIron$Reader" "HotIron$Reader" "to" "I") ∈ lw_all := lw_g (lw_at lw_m3 182 rfl) rfl
theorem q767 : (Jvm.Cond.soleField "HotIron$Reader" "to") ∈ lw_all := lw_g (lw_at lw_m3 183 rfl) rfl
theorem q768 : (Jvm.Cond.lays "HotIron$Reader" "HotIron$Reader" "leaves" "I") ∈ lw_all := lw_g (lw_at lw_m3 184 rfl) rfl
theorem q769 : (Jvm.Cond.soleField "HotIron$Reader" "leaves") ∈ lw_all := lw_g (lw_at lw_m3 185 rfl) rfl
theorem q770 : (Jvm.Cond.lays "HotIron$Reader" "HotIron$Reader" "deep" "I") ∈ lw_all := lw_g (lw_at lw_m3 186 rfl) rfl
theorem q771 : (Jvm.Cond.soleField "HotIron$Reader" "deep") ∈ lw_all := lw_g (lw_at lw_m3 187 rfl) rfl
theorem q772 : (Jvm.Cond.superclass "HotIron$Reader" "java/lang/Object") ∈ lw_all := lw_g (lw_at lw_m3 188 rfl) rfl
theorem q774 : (Jvm.Cond.instanceMethod ({ cls := "HotIron$Reader", name := "read", desc := "()V" } : Jvm.MethodName)) ∈ lw_all := lw_g (lw_at lw_m3 190 rfl) rfl
theorem q775 : (Jvm.Cond.selects "HotIron$Reader" ({ cls := "HotIron$Reader", name := "read", desc := "()V" } : Jvm.MethodName) ({ cls := "HotIron$Reader", name := "read", desc := "()V" } : Jvm.MethodName)) ∈ lw_all := lw_g (lw_at lw_m3 191 rfl) rfl
theorem q776 : (Jvm.Cond.code ({ cls := "HotIron$Reader", name := "read", desc := "()V" } : Jvm.MethodName) prog_15_method_8_code (1 : Nat) (Option.none : Option Jvm.ClassFile.FieldType)) ∈ lw_all := lw_g (lw_at lw_m3 192 rfl) rfl
theorem q777 : (Jvm.Cond.methodLink "HotIron$Reader" (52 : Nat) ({ cls := "HotIron$Reader", name := "next", desc := "()V" } : Jvm.MethodName)) ∈ lw_all := lw_g (lw_at lw_m3 193 rfl) rfl
theorem q778 : (Jvm.Cond.privateMethod ({ cls := "HotIron$Reader", name := "next", desc := "()V" } : Jvm.MethodName)) ∈ lw_tbl := lw_at lw_m3 194 rfl
theorem q779 : (Jvm.Cond.instanceMethod ({ cls := "HotIron$Reader", name := "next", desc := "()V" } : Jvm.MethodName)) ∈ lw_all := lw_g (lw_at lw_m3 195 rfl) rfl
theorem q780 : (Jvm.Cond.code ({ cls := "HotIron$Reader", name := "next", desc := "()V" } : Jvm.MethodName) prog_15_method_3_code (1 : Nat) (Option.none : Option Jvm.ClassFile.FieldType)) ∈ lw_all := lw_g (lw_at lw_m3 196 rfl) rfl
theorem q781 : (Jvm.Cond.methodLink "HotIron$Reader" (34 : Nat) ({ cls := "HotIron$Reader", name := "isIn", desc := "(III)Z" } : Jvm.MethodName)) ∈ lw_all := lw_g (lw_at lw_m3 197 rfl) rfl
theorem q782 : (Jvm.Cond.privateMethod ({ cls := "HotIron$Reader", name := "isIn", desc := "(III)Z" } : Jvm.MethodName)) ∈ lw_tbl := lw_at lw_m3 198 rfl
theorem q783 : (Jvm.Cond.instanceMethod ({ cls := "HotIron$Reader", name := "isIn", desc := "(III)Z" } : Jvm.MethodName)) ∈ lw_all := lw_g (lw_at lw_m3 199 rfl) rfl
theorem q784 : (Jvm.Cond.code ({ cls := "HotIron$Reader", name := "isIn", desc := "(III)Z" } : Jvm.MethodName) prog_15_method_2_code (4 : Nat) (Option.some Jvm.ClassFile.FieldType.boolean)) ∈ lw_all := lw_g (lw_at lw_m3 200 rfl) rfl
theorem q785 : (Jvm.Cond.methodLink "HotIron$Reader" (61 : Nat) ({ cls := "HotIron$Reader", name := "step", desc := "()V" } : Jvm.MethodName)) ∈ lw_all := lw_g (lw_at lw_m3 201 rfl) rfl
theorem q786 : (Jvm.Cond.privateMethod ({ cls := "HotIron$Reader", name := "step", desc := "()V" } : Jvm.MethodName)) ∈ lw_tbl := lw_at lw_m3 202 rfl
theorem q787 : (Jvm.Cond.instanceMethod ({ cls := "HotIron$Reader", name := "step", desc := "()V" } : Jvm.MethodName)) ∈ lw_all := lw_g (lw_at lw_m3 203 rfl) rfl
theorem q788 : (Jvm.Cond.code ({ cls := "HotIron$Reader", name := "step", desc := "()V" } : Jvm.MethodName) prog_15_method_9_code (2 : Nat) (Option.none : Option Jvm.ClassFile.FieldType)) ∈ lw_all := lw_g (lw_at lw_m3 204 rfl) rfl
theorem q789 : (Jvm.Cond.methodLink "HotIron$Reader" (66 : Nat) ({ cls := "java/util/ArrayList", name := "size", desc := "()I" } : Jvm.MethodName)) ∈ lw_all := lw_g (lw_at lw_m3 205 rfl) rfl
theorem q790 : (Jvm.Cond.classLink "HotIron$Reader" (58 : Nat) "HotIron$Fault") ∈ lw_all := lw_g (lw_at lw_m3 206 rfl) rfl
theorem q799 : (Jvm.Cond.methodLink "HotIron$Reader" (60 : Nat) ({ cls := "HotIron$Fault", name := "<init>", desc := "(I)V" } : Jvm.MethodName)) ∈ lw_all := lw_g (lw_at lw_m3 215 rfl) rfl
theorem q814 : (Jvm.Cond.methodLink "HotIron$Reader" (68 : Nat) ({ cls := "HotIron$Reader", name := "plainStep", desc := "()LHotIron$Step;" } : Jvm.MethodName)) ∈ lw_all := lw_g (lw_at lw_m3 230 rfl) rfl
theorem q815 : (Jvm.Cond.privateMethod ({ cls := "HotIron$Reader", name := "plainStep", desc := "()LHotIron$Step;" } : Jvm.MethodName)) ∈ lw_tbl := lw_at lw_m3 231 rfl
theorem q816 : (Jvm.Cond.instanceMethod ({ cls := "HotIron$Reader", name := "plainStep", desc := "()LHotIron$Step;" } : Jvm.MethodName)) ∈ lw_all := lw_g (lw_at lw_m3 232 rfl) rfl
theorem q817 : (Jvm.Cond.code ({ cls := "HotIron$Reader", name := "plainStep", desc := "()LHotIron$Step;" } : Jvm.MethodName) prog_15_method_10_code (2 : Nat) (Option.some (Jvm.ClassFile.FieldType.object "HotIron$Step"))) ∈ lw_all := lw_g (lw_at lw_m3 233 rfl) rfl
theorem q818 : (Jvm.Cond.stringRef "HotIron$Reader" (88 : Nat) "fire") ∈ lw_tbl := lw_at lw_m3 234 rfl
theorem q819 : (Jvm.Cond.methodLink "HotIron$Reader" (55 : Nat) ({ cls := "HotIron$Reader", name := "takes", desc := "(Ljava/lang/String;)Z" } : Jvm.MethodName)) ∈ lw_all := lw_g (lw_at lw_m3 235 rfl) rfl
theorem q820 : (Jvm.Cond.privateMethod ({ cls := "HotIron$Reader", name := "takes", desc := "(Ljava/lang/String;)Z" } : Jvm.MethodName)) ∈ lw_tbl := lw_at lw_m3 236 rfl
theorem q821 : (Jvm.Cond.instanceMethod ({ cls := "HotIron$Reader", name := "takes", desc := "(Ljava/lang/String;)Z" } : Jvm.MethodName)) ∈ lw_all := lw_g (lw_at lw_m3 237 rfl) rfl
theorem q822 : (Jvm.Cond.code ({ cls := "HotIron$Reader", name := "takes", desc := "(Ljava/lang/String;)Z" } : Jvm.MethodName) prog_15_method_5_code (3 : Nat) (Option.some Jvm.ClassFile.FieldType.boolean)) ∈ lw_all := lw_g (lw_at lw_m3 238 rfl) rfl
theorem q823 : (Jvm.Cond.methodLink "HotIron$Reader" (48 : Nat) ({ cls := "HotIron$Reader", name := "is", desc := "(Ljava/lang/String;)Z" } : Jvm.MethodName)) ∈ lw_all := lw_g (lw_at lw_m3 239 rfl) rfl
theorem q824 : (Jvm.Cond.privateMethod ({ cls := "HotIron$Reader", name := "is", desc := "(Ljava/lang/String;)Z" } : Jvm.MethodName)) ∈ lw_tbl := lw_at lw_m4 0 rfl
theorem q825 : (Jvm.Cond.instanceMethod ({ cls := "HotIron$Reader", name := "is", desc := "(Ljava/lang/String;)Z" } : Jvm.MethodName)) ∈ lw_all := lw_g (lw_at lw_m4 1 rfl) rfl
theorem q826 : (Jvm.Cond.code ({ cls := "HotIron$Reader", name := "is", desc := "(Ljava/lang/String;)Z" } : Jvm.MethodName) prog_15_method_4_code (3 : Nat) (Option.some Jvm.ClassFile.FieldType.boolean)) ∈ lw_all := lw_g (lw_at lw_m4 2 rfl) rfl
theorem q827 : (Jvm.Cond.methodLink "HotIron$Reader" (38 : Nat) ({ cls := "java/lang/String", name := "length", desc := "()I" } : Jvm.MethodName)) ∈ lw_all := lw_g (lw_at lw_m4 3 rfl) rfl
theorem q837 : (Jvm.Cond.methodLink "HotIron$Reader" (44 : Nat) ({ cls := "java/lang/String", name := "charAt", desc := "(I)C" } : Jvm.MethodName)) ∈ lw_all := lw_g (lw_at lw_m4 13 rfl) rfl
theorem q875 : (Jvm.Cond.classLink "HotIron$Reader" (90 : Nat) "HotIron$Fire") ∈ lw_all := lw_g (lw_at lw_m4 51 rfl) rfl
theorem q877 : (Jvm.Cond.methodLink "HotIron$Reader" (92 : Nat) ({ cls := "HotIron$Reader", name := "sum", desc := "()LHotIron$Sum;" } : Jvm.MethodName)) ∈ lw_all := lw_g (lw_at lw_m4 53 rfl) rfl
theorem q878 : (Jvm.Cond.privateMethod ({ cls := "HotIron$Reader", name := "sum", desc := "()LHotIron$Sum;" } : Jvm.MethodName)) ∈ lw_tbl := lw_at lw_m4 54 rfl
theorem q879 : (Jvm.Cond.instanceMethod ({ cls := "HotIron$Reader", name := "sum", desc := "()LHotIron$Sum;" } : Jvm.MethodName)) ∈ lw_all := lw_g (lw_at lw_m4 55 rfl) rfl
theorem q880 : (Jvm.Cond.code ({ cls := "HotIron$Reader", name := "sum", desc := "()LHotIron$Sum;" } : Jvm.MethodName) prog_15_method_17_code (3 : Nat) (Option.some (Jvm.ClassFile.FieldType.object "HotIron$Sum"))) ∈ lw_all := lw_g (lw_at lw_m4 56 rfl) rfl
theorem q881 : (Jvm.Cond.methodLink "HotIron$Reader" (190 : Nat) ({ cls := "HotIron$Reader", name := "part", desc := "()LHotIron$Sum;" } : Jvm.MethodName)) ∈ lw_all := lw_g (lw_at lw_m4 57 rfl) rfl
theorem q882 : (Jvm.Cond.privateMethod ({ cls := "HotIron$Reader", name := "part", desc := "()LHotIron$Sum;" } : Jvm.MethodName)) ∈ lw_tbl := lw_at lw_m4 58 rfl
theorem q883 : (Jvm.Cond.instanceMethod ({ cls := "HotIron$Reader", name := "part", desc := "()LHotIron$Sum;" } : Jvm.MethodName)) ∈ lw_all := lw_g (lw_at lw_m4 59 rfl) rfl
theorem q884 : (Jvm.Cond.code ({ cls := "HotIron$Reader", name := "part", desc := "()LHotIron$Sum;" } : Jvm.MethodName) prog_15_method_21_code (5 : Nat) (Option.some (Jvm.ClassFile.FieldType.object "HotIron$Sum"))) ∈ lw_all := lw_g (lw_at lw_m4 60 rfl) rfl
theorem q885 : (Jvm.Cond.stringRef "HotIron$Reader" (213 : Nat) "iron") ∈ lw_tbl := lw_at lw_m4 61 rfl
theorem q886 : (Jvm.Cond.methodLink "HotIron$Reader" (215 : Nat) ({ cls := "HotIron$Reader", name := "told", desc := "()I" } : Jvm.MethodName)) ∈ lw_all := lw_g (lw_at lw_m4 62 rfl) rfl
theorem q887 : (Jvm.Cond.privateMethod ({ cls := "HotIron$Reader", name := "told", desc := "()I" } : Jvm.MethodName)) ∈ lw_tbl := lw_at lw_m4 63 rfl
theorem q888 : (Jvm.Cond.instanceMethod ({ cls := "HotIron$Reader", name := "told", desc := "()I" } : Jvm.MethodName)) ∈ lw_all := lw_g (lw_at lw_m4 64 rfl) rfl
theorem q889 : (Jvm.Cond.code ({ cls := "HotIron$Reader", name := "told", desc := "()I" } : Jvm.MethodName) prog_15_method_19_code (1 : Nat) (Option.some Jvm.ClassFile.FieldType.int)) ∈ lw_all := lw_g (lw_at lw_m4 65 rfl) rfl
theorem q890 : (Jvm.Cond.stringRef "HotIron$Reader" (205 : Nat) "cells") ∈ lw_tbl := lw_at lw_m4 66 rfl
theorem q891 : (Jvm.Cond.stringRef "HotIron$Reader" (207 : Nat) "left") ∈ lw_tbl := lw_at lw_m4 67 rfl
theorem q892 : (Jvm.Cond.stringRef "HotIron$Reader" (209 : Nat) "heats") ∈ lw_tbl := lw_at lw_m4 68 rfl
theorem q893 : (Jvm.Cond.stringRef "HotIron$Reader" (211 : Nat) "struck") ∈ lw_tbl := lw_at lw_m4 69 rfl
theorem q894 : (Jvm.Cond.stringRef "HotIron$Reader" (218 : Nat) "hot") ∈ lw_tbl := lw_at lw_m4 70 rfl
theorem q895 : (Jvm.Cond.stringRef "HotIron$Reader" (220 : Nat) "[") ∈ lw_tbl := lw_at lw_m4 71 rfl
theorem q896 : (Jvm.Cond.methodLink "HotIron$Reader" (222 : Nat) ({ cls := "HotIron$Reader", name := "leaf", desc := "()V" } : Jvm.MethodName)) ∈ lw_all := lw_g (lw_at lw_m4 72 rfl) rfl
theorem q897 : (Jvm.Cond.privateMethod ({ cls := "HotIron$Reader", name := "leaf", desc := "()V" } : Jvm.MethodName)) ∈ lw_tbl := lw_at lw_m4 73 rfl
theorem q898 : (Jvm.Cond.instanceMethod ({ cls := "HotIron$Reader", name := "leaf", desc := "()V" } : Jvm.MethodName)) ∈ lw_all := lw_g (lw_at lw_m4 74 rfl) rfl
theorem q899 : (Jvm.Cond.code ({ cls := "HotIron$Reader", name := "leaf", desc := "()V" } : Jvm.MethodName) prog_15_method_18_code (1 : Nat) (Option.none : Option Jvm.ClassFile.FieldType)) ∈ lw_all := lw_g (lw_at lw_m4 75 rfl) rfl
theorem q900 : (Jvm.Cond.classLink "HotIron$Reader" (118 : Nat) "HotIron$Number") ∈ lw_all := lw_g (lw_at lw_m4 76 rfl) rfl
theorem q902 : (Jvm.Cond.methodLink "HotIron$Reader" (120 : Nat) ({ cls := "HotIron$Reader", name := "number", desc := "(II)I" } : Jvm.MethodName)) ∈ lw_all := lw_g (lw_at lw_m4 78 rfl) rfl
theorem q903 : (Jvm.Cond.privateMethod ({ cls := "HotIron$Reader", name := "number", desc := "(II)I" } : Jvm.MethodName)) ∈ lw_tbl := lw_at lw_m4 79 rfl
theorem q904 : (Jvm.Cond.instanceMethod ({ cls := "HotIron$Reader", name := "number", desc := "(II)I" } : Jvm.MethodName)) ∈ lw_all := lw_g (lw_at lw_m4 80 rfl) rfl
theorem q905 : (Jvm.Cond.code ({ cls := "HotIron$Reader", name := "number", desc := "(II)I" } : Jvm.MethodName) prog_15_method_7_code (5 : Nat) (Option.some Jvm.ClassFile.FieldType.int)) ∈ lw_all := lw_g (lw_at lw_m4 81 rfl) rfl
theorem q906 : (Jvm.Cond.methodLink "HotIron$Reader" (124 : Nat) ({ cls := "HotIron$Number", name := "<init>", desc := "(I)V" } : Jvm.MethodName)) ∈ lw_all := lw_g (lw_at lw_m4 82 rfl) rfl
theorem q917 : (Jvm.Cond.stringRef "HotIron$Reader" (225 : Nat) "]") ∈ lw_tbl := lw_at lw_m4 93 rfl
theorem q918 : (Jvm.Cond.methodLink "HotIron$Reader" (227 : Nat) ({ cls := "HotIron$Reader", name := "inside", desc := "(Ljava/lang/String;Ljava/lang/String;)LHotIron$Sum;" } : Jvm.MethodName)) ∈ lw_all := lw_g (lw_at lw_m4 94 rfl) rfl
theorem q919 : (Jvm.Cond.privateMethod ({ cls := "HotIron$Reader", name := "inside", desc := "(Ljava/lang/String;Ljava/lang/String;)LHotIron$Sum;" } : Jvm.MethodName)) ∈ lw_tbl := lw_at lw_m4 95 rfl
theorem q920 : (Jvm.Cond.instanceMethod ({ cls := "HotIron$Reader", name := "inside", desc := "(Ljava/lang/String;Ljava/lang/String;)LHotIron$Sum;" } : Jvm.MethodName)) ∈ lw_all := lw_g (lw_at lw_m4 96 rfl) rfl
theorem q921 : (Jvm.Cond.code ({ cls := "HotIron$Reader", name := "inside", desc := "(Ljava/lang/String;Ljava/lang/String;)LHotIron$Sum;" } : Jvm.MethodName) prog_15_method_20_code (4 : Nat) (Option.some (Jvm.ClassFile.FieldType.object "HotIron$Sum"))) ∈ lw_all := lw_g (lw_at lw_m4 97 rfl) rfl
theorem q922 : (Jvm.Cond.methodLink "HotIron$Reader" (171 : Nat) ({ cls := "HotIron$Reader", name := "opens", desc := "(Ljava/lang/String;)V" } : Jvm.MethodName)) ∈ lw_all := lw_g (lw_at lw_m4 98 rfl) rfl
theorem q923 : (Jvm.Cond.privateMethod ({ cls := "HotIron$Reader", name := "opens", desc := "(Ljava/lang/String;)V" } : Jvm.MethodName)) ∈ lw_tbl := lw_at lw_m4 99 rfl
theorem q924 : (Jvm.Cond.instanceMethod ({ cls := "HotIron$Reader", name := "opens", desc := "(Ljava/lang/String;)V" } : Jvm.MethodName)) ∈ lw_all := lw_g (lw_at lw_m4 100 rfl) rfl
theorem q925 : (Jvm.Cond.code ({ cls := "HotIron$Reader", name := "opens", desc := "(Ljava/lang/String;)V" } : Jvm.MethodName) prog_15_method_13_code (2 : Nat) (Option.none : Option Jvm.ClassFile.FieldType)) ∈ lw_all := lw_g (lw_at lw_m4 101 rfl) rfl
theorem q926 : (Jvm.Cond.methodLink "HotIron$Reader" (176 : Nat) ({ cls := "HotIron$Reader", name := "closes", desc := "(Ljava/lang/String;)V" } : Jvm.MethodName)) ∈ lw_all := lw_g (lw_at lw_m4 102 rfl) rfl
theorem q927 : (Jvm.Cond.privateMethod ({ cls := "HotIron$Reader", name := "closes", desc := "(Ljava/lang/String;)V" } : Jvm.MethodName)) ∈ lw_tbl := lw_at lw_m4 103 rfl
theorem q928 : (Jvm.Cond.instanceMethod ({ cls := "HotIron$Reader", name := "closes", desc := "(Ljava/lang/String;)V" } : Jvm.MethodName)) ∈ lw_all := lw_g (lw_at lw_m4 104 rfl) rfl
theorem q929 : (Jvm.Cond.code ({ cls := "HotIron$Reader", name := "closes", desc := "(Ljava/lang/String;)V" } : Jvm.MethodName) prog_15_method_14_code (2 : Nat) (Option.none : Option Jvm.ClassFile.FieldType)) ∈ lw_all := lw_g (lw_at lw_m4 105 rfl) rfl
theorem q930 : (Jvm.Cond.methodLink "HotIron$Reader" (128 : Nat) ({ cls := "HotIron$Reader", name := "need", desc := "(Ljava/lang/String;)V" } : Jvm.MethodName)) ∈ lw_all := lw_g (lw_at lw_m4 106 rfl) rfl
theorem q931 : (Jvm.Cond.privateMethod ({ cls := "HotIron$Reader", name := "need", desc := "(Ljava/lang/String;)V" } : Jvm.MethodName)) ∈ lw_tbl := lw_at lw_m4 107 rfl
theorem q932 : (Jvm.Cond.instanceMethod ({ cls := "HotIron$Reader", name := "need", desc := "(Ljava/lang/String;)V" } : Jvm.MethodName)) ∈ lw_all := lw_g (lw_at lw_m4 108 rfl) rfl
theorem q933 : (Jvm.Cond.code ({ cls := "HotIron$Reader", name := "need", desc := "(Ljava/lang/String;)V" } : Jvm.MethodName) prog_15_method_6_code (2 : Nat) (Option.none : Option Jvm.ClassFile.FieldType)) ∈ lw_all := lw_g (lw_at lw_m4 109 rfl) rfl
theorem q934 : (Jvm.Cond.classLink "HotIron$Reader" (231 : Nat) "HotIron$Told") ∈ lw_all := lw_g (lw_at lw_m4 110 rfl) rfl
theorem q936 : (Jvm.Cond.methodLink "HotIron$Reader" (233 : Nat) ({ cls := "HotIron$Told", name := "<init>", desc := "(I)V" } : Jvm.MethodName)) ∈ lw_all := lw_g (lw_at lw_m4 112 rfl) rfl
theorem q944 : (Jvm.Cond.stringRef "HotIron$Reader" (169 : Nat) "(") ∈ lw_tbl := lw_at lw_m4 120 rfl
theorem q945 : (Jvm.Cond.stringRef "HotIron$Reader" (174 : Nat) ")") ∈ lw_tbl := lw_at lw_m4 121 rfl
theorem q946 : (Jvm.Cond.classLink "HotIron$Reader" (234 : Nat) "HotIron$Iron") ∈ lw_all := lw_g (lw_at lw_m4 122 rfl) rfl
theorem q948 : (Jvm.Cond.methodLink "HotIron$Reader" (236 : Nat) ({ cls := "HotIron$Iron", name := "<init>", desc := "(LHotIron$Sum;)V" } : Jvm.MethodName)) ∈ lw_all := lw_g (lw_at lw_m4 124 rfl) rfl
theorem q958 : (Jvm.Cond.classLink "HotIron$Reader" (237 : Nat) "HotIron$Hot") ∈ lw_all := lw_g (lw_at lw_m4 134 rfl) rfl
theorem q960 : (Jvm.Cond.methodLink "HotIron$Reader" (239 : Nat) ({ cls := "HotIron$Hot", name := "<init>", desc := "(LHotIron$Sum;)V" } : Jvm.MethodName)) ∈ lw_all := lw_g (lw_at lw_m4 136 rfl) rfl
theorem q966 : (Jvm.Cond.stringRef "HotIron$Reader" (193 : Nat) "+") ∈ lw_tbl := lw_at lw_m4 142 rfl
theorem q967 : (Jvm.Cond.stringRef "HotIron$Reader" (195 : Nat) "-") ∈ lw_tbl := lw_at lw_m4 143 rfl
theorem q968 : (Jvm.Cond.classLink "HotIron$Reader" (197 : Nat) "HotIron$Two") ∈ lw_all := lw_g (lw_at lw_m4 144 rfl) rfl
theorem q970 : (Jvm.Cond.methodLink "HotIron$Reader" (199 : Nat) ({ cls := "HotIron$Two", name := "<init>", desc := "(ZLHotIron$Sum;LHotIron$Sum;)V" } : Jvm.MethodName)) ∈ lw_all := lw_g (lw_at lw_m4 146 rfl) rfl
theorem q984 : (Jvm.Cond.methodLink "HotIron$Reader" (96 : Nat) ({ cls := "HotIron$Fire", name := "<init>", desc := "(LHotIron$Sum;)V" } : Jvm.MethodName)) ∈ lw_all := lw_g (lw_at lw_m4 160 rfl) rfl
theorem q1005 : (Jvm.Cond.fieldLinkNest "HotIron$Reader" (78 : Nat) "HotIron$Step" "when" "LHotIron$Test;" "HotIron") ∈ lw_tbl := lw_at lw_m4 181 rfl
theorem q1011 : (Jvm.Cond.stringRef "HotIron$Reader" (99 : Nat) "shoulder") ∈ lw_tbl := lw_at lw_m4 187 rfl
theorem q1012 : (Jvm.Cond.classLink "HotIron$Reader" (101 : Nat) "HotIron$Shoulder") ∈ lw_all := lw_g (lw_at lw_m4 188 rfl) rfl
theorem q1014 : (Jvm.Cond.methodLink "HotIron$Reader" (103 : Nat) ({ cls := "HotIron$Shoulder", name := "<init>", desc := "(LHotIron$Sum;)V" } : Jvm.MethodName)) ∈ lw_all := lw_g (lw_at lw_m4 190 rfl) rfl
theorem q1021 : (Jvm.Cond.stringRef "HotIron$Reader" (104 : Nat) "punch") ∈ lw_tbl := lw_at lw_m4 197 rfl
theorem q1022 : (Jvm.Cond.classLink "HotIron$Reader" (106 : Nat) "HotIron$Punch") ∈ lw_all := lw_g (lw_at lw_m4 198 rfl) rfl
theorem q1024 : (Jvm.Cond.methodLink "HotIron$Reader" (108 : Nat) ({ cls := "HotIron$Punch", name := "<init>", desc := "(LHotIron$Sum;)V" } : Jvm.MethodName)) ∈ lw_all := lw_g (lw_at lw_m4 200 rfl) rfl
theorem q1031 : (Jvm.Cond.stringRef "HotIron$Reader" (109 : Nat) "weld") ∈ lw_tbl := lw_at lw_m4 207 rfl
theorem q1032 : (Jvm.Cond.classLink "HotIron$Reader" (111 : Nat) "HotIron$Weld") ∈ lw_all := lw_g (lw_at lw_m4 208 rfl) rfl
theorem q1034 : (Jvm.Cond.methodLink "HotIron$Reader" (113 : Nat) ({ cls := "HotIron$Weld", name := "<init>", desc := "(LHotIron$Sum;)V" } : Jvm.MethodName)) ∈ lw_all := lw_g (lw_at lw_m4 210 rfl) rfl
theorem q1041 : (Jvm.Cond.stringRef "HotIron$Reader" (114 : Nat) "go") ∈ lw_tbl := lw_at lw_m4 217 rfl
theorem q1042 : (Jvm.Cond.classLink "HotIron$Reader" (116 : Nat) "HotIron$Go") ∈ lw_all := lw_g (lw_at lw_m4 218 rfl) rfl
theorem q1044 : (Jvm.Cond.methodLink "HotIron$Reader" (125 : Nat) ({ cls := "HotIron$Go", name := "<init>", desc := "(LHotIron$Sum;)V" } : Jvm.MethodName)) ∈ lw_all := lw_g (lw_at lw_m4 220 rfl) rfl
theorem q1051 : (Jvm.Cond.stringRef "HotIron$Reader" (126 : Nat) "strike") ∈ lw_tbl := lw_at lw_m4 227 rfl
theorem q1052 : (Jvm.Cond.stringRef "HotIron$Reader" (132 : Nat) "to") ∈ lw_tbl := lw_at lw_m4 228 rfl
theorem q1053 : (Jvm.Cond.classLink "HotIron$Reader" (133 : Nat) "HotIron$Strike") ∈ lw_all := lw_g (lw_at lw_m4 229 rfl) rfl
theorem q1055 : (Jvm.Cond.methodLink "HotIron$Reader" (135 : Nat) ({ cls := "HotIron$Strike", name := "<init>", desc := "(LHotIron$Sum;LHotIron$Sum;)V" } : Jvm.MethodName)) ∈ lw_all := lw_g (lw_at lw_m4 231 rfl) rfl
theorem q1065 : (Jvm.Cond.stringRef "HotIron$Reader" (72 : Nat) "if") ∈ lw_tbl := lw_at lw_m5 1 rfl
theorem q1066 : (Jvm.Cond.methodLink "HotIron$Reader" (74 : Nat) ({ cls := "HotIron$Reader", name := "test", desc := "()LHotIron$Test;" } : Jvm.MethodName)) ∈ lw_all := lw_g (lw_at lw_m5 2 rfl) rfl
theorem q1067 : (Jvm.Cond.privateMethod ({ cls := "HotIron$Reader", name := "test", desc := "()LHotIron$Test;" } : Jvm.MethodName)) ∈ lw_tbl := lw_at lw_m5 3 rfl
theorem q1068 : (Jvm.Cond.instanceMethod ({ cls := "HotIron$Reader", name := "test", desc := "()LHotIron$Test;" } : Jvm.MethodName)) ∈ lw_all := lw_g (lw_at lw_m5 4 rfl) rfl
theorem q1069 : (Jvm.Cond.code ({ cls := "HotIron$Reader", name := "test", desc := "()LHotIron$Test;" } : Jvm.MethodName) prog_15_method_11_code (3 : Nat) (Option.some (Jvm.ClassFile.FieldType.object "HotIron$Test"))) ∈ lw_all := lw_g (lw_at lw_m5 5 rfl) rfl
theorem q1070 : (Jvm.Cond.methodLink "HotIron$Reader" (138 : Nat) ({ cls := "HotIron$Reader", name := "both", desc := "()LHotIron$Test;" } : Jvm.MethodName)) ∈ lw_all := lw_g (lw_at lw_m5 6 rfl) rfl
theorem q1071 : (Jvm.Cond.privateMethod ({ cls := "HotIron$Reader", name := "both", desc := "()LHotIron$Test;" } : Jvm.MethodName)) ∈ lw_tbl := lw_at lw_m5 7 rfl
theorem q1072 : (Jvm.Cond.instanceMethod ({ cls := "HotIron$Reader", name := "both", desc := "()LHotIron$Test;" } : Jvm.MethodName)) ∈ lw_all := lw_g (lw_at lw_m5 8 rfl) rfl
theorem q1073 : (Jvm.Cond.code ({ cls := "HotIron$Reader", name := "both", desc := "()LHotIron$Test;" } : Jvm.MethodName) prog_15_method_12_code (3 : Nat) (Option.some (Jvm.ClassFile.FieldType.object "HotIron$Test"))) ∈ lw_all := lw_g (lw_at lw_m5 9 rfl) rfl
theorem q1074 : (Jvm.Cond.methodLink "HotIron$Reader" (151 : Nat) ({ cls := "HotIron$Reader", name := "plain", desc := "()LHotIron$Test;" } : Jvm.MethodName)) ∈ lw_all := lw_g (lw_at lw_m5 10 rfl) rfl
theorem q1075 : (Jvm.Cond.privateMethod ({ cls := "HotIron$Reader", name := "plain", desc := "()LHotIron$Test;" } : Jvm.MethodName)) ∈ lw_tbl := lw_at lw_m5 11 rfl
theorem q1076 : (Jvm.Cond.instanceMethod ({ cls := "HotIron$Reader", name := "plain", desc := "()LHotIron$Test;" } : Jvm.MethodName)) ∈ lw_all := lw_g (lw_at lw_m5 12 rfl) rfl
theorem q1077 : (Jvm.Cond.code ({ cls := "HotIron$Reader", name := "plain", desc := "()LHotIron$Test;" } : Jvm.MethodName) prog_15_method_15_code (3 : Nat) (Option.some (Jvm.ClassFile.FieldType.object "HotIron$Test"))) ∈ lw_all := lw_g (lw_at lw_m5 13 rfl) rfl
theorem q1078 : (Jvm.Cond.stringRef "HotIron$Reader" (159 : Nat) "not") ∈ lw_tbl := lw_at lw_m5 14 rfl
theorem q1079 : (Jvm.Cond.methodLink "HotIron$Reader" (161 : Nat) ({ cls := "HotIron$Reader", name := "positive", desc := "()LHotIron$Test;" } : Jvm.MethodName)) ∈ lw_all := lw_g (lw_at lw_m5 15 rfl) rfl
theorem q1080 : (Jvm.Cond.privateMethod ({ cls := "HotIron$Reader", name := "positive", desc := "()LHotIron$Test;" } : Jvm.MethodName)) ∈ lw_tbl := lw_at lw_m5 16 rfl
theorem q1081 : (Jvm.Cond.instanceMethod ({ cls := "HotIron$Reader", name := "positive", desc := "()LHotIron$Test;" } : Jvm.MethodName)) ∈ lw_all := lw_g (lw_at lw_m5 17 rfl) rfl
theorem q1082 : (Jvm.Cond.code ({ cls := "HotIron$Reader", name := "positive", desc := "()LHotIron$Test;" } : Jvm.MethodName) prog_15_method_16_code (3 : Nat) (Option.some (Jvm.ClassFile.FieldType.object "HotIron$Test"))) ∈ lw_all := lw_g (lw_at lw_m5 18 rfl) rfl
theorem q1083 : (Jvm.Cond.stringRef "HotIron$Reader" (179 : Nat) "<") ∈ lw_tbl := lw_at lw_m5 19 rfl
theorem q1084 : (Jvm.Cond.stringRef "HotIron$Reader" (181 : Nat) ">") ∈ lw_tbl := lw_at lw_m5 20 rfl
theorem q1085 : (Jvm.Cond.stringRef "HotIron$Reader" (183 : Nat) "=") ∈ lw_tbl := lw_at lw_m5 21 rfl
theorem q1086 : (Jvm.Cond.classLink "HotIron$Reader" (185 : Nat) "HotIron$Compare") ∈ lw_all := lw_g (lw_at lw_m5 22 rfl) rfl
theorem q1088 : (Jvm.Cond.methodLink "HotIron$Reader" (187 : Nat) ({ cls := "HotIron$Compare", name := "<init>", desc := "(CLHotIron$Sum;LHotIron$Sum;)V" } : Jvm.MethodName)) ∈ lw_all := lw_g (lw_at lw_m5 24 rfl) rfl
theorem q1105 : (Jvm.Cond.classLink "HotIron$Reader" (164 : Nat) "HotIron$Not") ∈ lw_all := lw_g (lw_at lw_m5 41 rfl) rfl
theorem q1107 : (Jvm.Cond.methodLink "HotIron$Reader" (166 : Nat) ({ cls := "HotIron$Not", name := "<init>", desc := "(LHotIron$Test;)V" } : Jvm.MethodName)) ∈ lw_all := lw_g (lw_at lw_m5 43 rfl) rfl
theorem q1115 : (Jvm.Cond.stringRef "HotIron$Reader" (154 : Nat) "and") ∈ lw_tbl := lw_at lw_m5 51 rfl
theorem q1116 : (Jvm.Cond.classLink "HotIron$Reader" (143 : Nat) "HotIron$Several") ∈ lw_all := lw_g (lw_at lw_m5 52 rfl) rfl
theorem q1118 : (Jvm.Cond.methodLink "HotIron$Reader" (145 : Nat) ({ cls := "HotIron$Several", name := "<init>", desc := "(Z)V" } : Jvm.MethodName)) ∈ lw_all := lw_g (lw_at lw_m5 54 rfl) rfl
theorem q1126 : (Jvm.Cond.fieldLinkNest "HotIron$Reader" (148 : Nat) "HotIron$Several" "of" "Ljava/util/ArrayList;" "HotIron") ∈ lw_tbl := lw_at lw_m5 62 rfl
theorem q1132 : (Jvm.Cond.methodLink "HotIron$Reader" (84 : Nat) ({ cls := "java/util/ArrayList", name := "add", desc := "(Ljava/lang/Object;)Z" } : Jvm.MethodName)) ∈ lw_all := lw_g (lw_at lw_m5 68 rfl) rfl
theorem q1144 : (Jvm.Cond.stringRef "HotIron$Reader" (141 : Nat) "or") ∈ lw_tbl := lw_at lw_m5 80 rfl
theorem q1145 : (Jvm.Cond.stringRef "HotIron$Reader" (64 : Nat) ";") ∈ lw_tbl := lw_at lw_m5 81 rfl
theorem q2137 : (Jvm.Cond.castable "HotIron$Reader" "java/lang/Object") ∈ lw_tbl := lw_at lw_m9 113 rfl
theorem in_X7 : ∀ w ∈ wsX70, w ∈ lw_all := lw_in wsX70 [758, 760, 762, 764, 766, 768, 770] (by decide +kernel) (by decide +kernel)
/-! HotIron$Fault -/
set_option maxRecDepth 100000
def RX8 : String := "HotIron$Fault"
def TX8 : u_T := fun k => match k with
  | 0 => ("java/lang/Throwable", "cause", "Ljava/lang/Throwable;", false)
  | 1 => ("java/lang/Throwable", "stackTrace", "[Ljava/lang/StackTraceElement;", false)
  | 2 => ("java/lang/Throwable", "suppressedExceptions", "Ljava/util/List;", false)
  | 3 => ("java/lang/Throwable", "detailMessage", "Ljava/lang/String;", false)
  | 4 => ("java/lang/Throwable", "backtrace", "Ljava/lang/Object;", false)
  | 5 => ("java/lang/Throwable", "depth", "I", false)
  | _ => ("HotIron$Fault", "place", "I", true)
def tyX8 : Nat → FieldType := fun k => match k with
  | 0 => .object "java/lang/Throwable"
  | 1 => .array (.object "java/lang/StackTraceElement")
  | 2 => .object "java/util/List"
  | 3 => .object "java/lang/String"
  | 4 => .object "java/lang/Object"
  | 5 => .int
  | _ => .int
abbrev wsX80 : List Cond := u_ws RX8 TX8 7
theorem nmX8 : ∀ a, a < 7 → ∀ b, b < 7 → a ≠ b → (TX8 a).2.1 ≠ (TX8 b).2.1 := by decide +kernel
theorem tyX8_ok : ∀ k, k < 7 → parseFieldDescriptor (TX8 k).2.2.1 = some (tyX8 k) := by decide +kernel
abbrev cX8_init : ByteArray := prog_3_method_1_code
def yX8_init : MethodName := ⟨RX8, "<init>", "(I)V"⟩
def dkwX8_init_0 : List UInt8 := [42, 1, 1, 3, 3, 183, 0, 1, 42, 27, 181, 0, 7, 177]
abbrev dktX8_init_0 : List UInt8 := dkwX8_init_0 ++ []
theorem dksX8_init_0 : cX8_init.data.toList.drop 0 = dktX8_init_0 := by decide +kernel
theorem dX8_init_0 : decode cX8_init 0 = .ok (.aload_n 0, 1) := dk_42 (dk_at dksX8_init_0 0 rfl rfl)
theorem dX8_init_1 : decode cX8_init 1 = .ok (.aconst_null, 1) := dk_1 (dk_at dksX8_init_0 1 rfl rfl)
theorem dX8_init_2 : decode cX8_init 2 = .ok (.aconst_null, 1) := dk_1 (dk_at dksX8_init_0 2 rfl rfl)
theorem dX8_init_3 : decode cX8_init 3 = .ok (.iconst 0, 1) := dk_3 (dk_at dksX8_init_0 3 rfl rfl)
theorem dX8_init_4 : decode cX8_init 4 = .ok (.iconst 0, 1) := dk_3 (dk_at dksX8_init_0 4 rfl rfl)
theorem dX8_init_5 : decode cX8_init 5 = .ok (.invokespecial 1, 3) := dk_183 0 1 (dk_at dksX8_init_0 5 rfl rfl)
theorem dX8_init_8 : decode cX8_init 8 = .ok (.aload_n 0, 1) := dk_42 (dk_at dksX8_init_0 8 rfl rfl)
theorem dX8_init_9 : decode cX8_init 9 = .ok (.iload_n 1, 1) := dk_27 (dk_at dksX8_init_0 9 rfl rfl)
theorem dX8_init_10 : decode cX8_init 10 = .ok (.putfield 7, 3) := dk_181 0 7 (dk_at dksX8_init_0 10 rfl rfl)
theorem dX8_init_13 : decode cX8_init 13 = .ok (.return_, 1) := dk_177 (dk_at dksX8_init_0 13 rfl rfl)
theorem q123 : (Jvm.Cond.initialized "HotIron$Fault") ∈ lw_all := lw_g (lw_at lw_m1 19 rfl) rfl
theorem q544 : (Jvm.Cond.selects "HotIron$Fault" ({ cls := "java/lang/Object", name := "getClass", desc := "()Ljava/lang/Class;" } : Jvm.MethodName) ({ cls := "java/lang/Object", name := "getClass", desc := "()Ljava/lang/Class;" } : Jvm.MethodName)) ∈ lw_all := lw_g (lw_at lw_m2 200 rfl) rfl
theorem q679 : (Jvm.Cond.selects "HotIron$Fault" ({ cls := "java/lang/Throwable", name := "fillInStackTrace", desc := "()Ljava/lang/Throwable;" } : Jvm.MethodName) ({ cls := "java/lang/Throwable", name := "fillInStackTrace", desc := "()Ljava/lang/Throwable;" } : Jvm.MethodName)) ∈ lw_all := lw_g (lw_at lw_m3 95 rfl) rfl
theorem q791 : (Jvm.Cond.instantiable "HotIron$Fault" (7 : Nat)) ∈ lw_all := lw_g (lw_at lw_m3 207 rfl) rfl
theorem q792 : (Jvm.Cond.castable "HotIron$Fault" "HotIron$Fault") ∈ lw_tbl := lw_at lw_m3 208 rfl
theorem q793 : (Jvm.Cond.selects "HotIron$Fault" ({ cls := "java/lang/Throwable", name := "fillInStackTrace", desc := "(I)Ljava/lang/Throwable;" } : Jvm.MethodName) ({ cls := "java/lang/Throwable", name := "fillInStackTrace", desc := "(I)Ljava/lang/Throwable;" } : Jvm.MethodName)) ∈ lw_all := lw_g (lw_at lw_m3 209 rfl) rfl
theorem q794 : (Jvm.Cond.lays "HotIron$Fault" "java/lang/Throwable" "cause" "Ljava/lang/Throwable;") ∈ lw_all := lw_g (lw_at lw_m3 210 rfl) rfl
theorem q795 : (Jvm.Cond.lays "HotIron$Fault" "java/lang/Throwable" "stackTrace" "[Ljava/lang/StackTraceElement;") ∈ lw_all := lw_g (lw_at lw_m3 211 rfl) rfl
theorem q796 : (Jvm.Cond.lays "HotIron$Fault" "java/lang/Throwable" "suppressedExceptions" "Ljava/util/List;") ∈ lw_all := lw_g (lw_at lw_m3 212 rfl) rfl
theorem q797 : (Jvm.Cond.lays "HotIron$Fault" "java/lang/Throwable" "detailMessage" "Ljava/lang/String;") ∈ lw_all := lw_g (lw_at lw_m3 213 rfl) rfl
theorem q798 : (Jvm.Cond.lays "HotIron$Fault" "java/lang/Throwable" "backtrace" "Ljava/lang/Object;") ∈ lw_all := lw_g (lw_at lw_m3 214 rfl) rfl
theorem q800 : (Jvm.Cond.instanceMethod ({ cls := "HotIron$Fault", name := "<init>", desc := "(I)V" } : Jvm.MethodName)) ∈ lw_all := lw_g (lw_at lw_m3 216 rfl) rfl
theorem q801 : (Jvm.Cond.code ({ cls := "HotIron$Fault", name := "<init>", desc := "(I)V" } : Jvm.MethodName) prog_3_method_1_code (2 : Nat) (Option.none : Option Jvm.ClassFile.FieldType)) ∈ lw_all := lw_g (lw_at lw_m3 217 rfl) rfl
theorem q802 : (Jvm.Cond.methodLink "HotIron$Fault" (1 : Nat) ({ cls := "java/lang/Exception", name := "<init>", desc := "(Ljava/lang/String;Ljava/lang/Throwable;ZZ)V" } : Jvm.MethodName)) ∈ lw_all := lw_g (lw_at lw_m3 218 rfl) rfl
theorem q808 : (Jvm.Cond.fieldLink "HotIron$Fault" (7 : Nat) "HotIron$Fault" "place" "I") ∈ lw_all := lw_g (lw_at lw_m3 224 rfl) rfl
theorem q810 : (Jvm.Cond.laysFinal "HotIron$Fault" "HotIron$Fault" "place" "I") ∈ lw_all := lw_g (lw_at lw_m3 226 rfl) rfl
theorem q811 : (Jvm.Cond.soleField "HotIron$Fault" "place") ∈ lw_all := lw_g (lw_at lw_m3 227 rfl) rfl
theorem q812 : (Jvm.Cond.lays "HotIron$Fault" "java/lang/Throwable" "depth" "I") ∈ lw_all := lw_g (lw_at lw_m3 228 rfl) rfl
theorem q813 : (Jvm.Cond.superclass "HotIron$Fault" "java/lang/Exception") ∈ lw_all := lw_g (lw_at lw_m3 229 rfl) rfl
theorem q2138 : (Jvm.Cond.castable "HotIron$Fault" "java/lang/Object") ∈ lw_tbl := lw_at lw_m9 114 rfl
theorem in_X8 : ∀ w ∈ wsX80, w ∈ lw_all := lw_in wsX80 [794, 795, 796, 797, 798, 812, 810] (by decide +kernel) (by decide +kernel)
/-! HotIron$Step -/
set_option maxRecDepth 100000
def RX9 : String := "HotIron$Step"
abbrev cX9_init : ByteArray := prog_19_method_1_code
def yX9_init : MethodName := ⟨RX9, "<init>", "(LHotIron$Sum;)V"⟩
def dkwX9_init_0 : List UInt8 := [42, 183, 0, 1, 42, 43, 181, 0, 7, 177]
abbrev dktX9_init_0 : List UInt8 := dkwX9_init_0 ++ []
theorem dksX9_init_0 : cX9_init.data.toList.drop 0 = dktX9_init_0 := by decide +kernel
theorem dX9_init_0 : decode cX9_init 0 = .ok (.aload_n 0, 1) := dk_42 (dk_at dksX9_init_0 0 rfl rfl)
theorem dX9_init_1 : decode cX9_init 1 = .ok (.invokespecial 1, 3) := dk_183 0 1 (dk_at dksX9_init_0 1 rfl rfl)
theorem dX9_init_4 : decode cX9_init 4 = .ok (.aload_n 0, 1) := dk_42 (dk_at dksX9_init_0 4 rfl rfl)
theorem dX9_init_5 : decode cX9_init 5 = .ok (.aload_n 1, 1) := dk_43 (dk_at dksX9_init_0 5 rfl rfl)
theorem dX9_init_6 : decode cX9_init 6 = .ok (.putfield 7, 3) := dk_181 0 7 (dk_at dksX9_init_0 6 rfl rfl)
theorem dX9_init_9 : decode cX9_init 9 = .ok (.return_, 1) := dk_177 (dk_at dksX9_init_0 9 rfl rfl)
abbrev cX9_holds : ByteArray := prog_19_method_2_code
def yX9_holds : MethodName := ⟨RX9, "holds", "(LHotIron$Work;)Z"⟩
def dkwX9_holds_0 : List UInt8 := [42, 180, 0, 13, 198, 0, 14, 42, 180, 0, 13, 43, 182, 0, 17, 153, 0, 7, 4, 167, 0, 4, 3, 172]
abbrev dktX9_holds_0 : List UInt8 := dkwX9_holds_0 ++ []
theorem dksX9_holds_0 : cX9_holds.data.toList.drop 0 = dktX9_holds_0 := by decide +kernel
theorem dX9_holds_0 : decode cX9_holds 0 = .ok (.aload_n 0, 1) := dk_42 (dk_at dksX9_holds_0 0 rfl rfl)
theorem dX9_holds_1 : decode cX9_holds 1 = .ok (.getfield 13, 3) := dk_180 0 13 (dk_at dksX9_holds_0 1 rfl rfl)
theorem dX9_holds_4 : decode cX9_holds 4 = .ok (.ifnull 14, 3) := dk_198 0 14 (dk_at dksX9_holds_0 4 rfl rfl)
theorem dX9_holds_7 : decode cX9_holds 7 = .ok (.aload_n 0, 1) := dk_42 (dk_at dksX9_holds_0 7 rfl rfl)
theorem dX9_holds_8 : decode cX9_holds 8 = .ok (.getfield 13, 3) := dk_180 0 13 (dk_at dksX9_holds_0 8 rfl rfl)
theorem dX9_holds_11 : decode cX9_holds 11 = .ok (.aload_n 1, 1) := dk_43 (dk_at dksX9_holds_0 11 rfl rfl)
theorem dX9_holds_12 : decode cX9_holds 12 = .ok (.invokevirtual 17, 3) := dk_182 0 17 (dk_at dksX9_holds_0 12 rfl rfl)
theorem dX9_holds_15 : decode cX9_holds 15 = .ok (.ifCond .eq 7, 3) := dk_153 0 7 (dk_at dksX9_holds_0 15 rfl rfl)
theorem dX9_holds_18 : decode cX9_holds 18 = .ok (.iconst 1, 1) := dk_4 (dk_at dksX9_holds_0 18 rfl rfl)
theorem dX9_holds_19 : decode cX9_holds 19 = .ok (.goto 4, 3) := dk_167 0 4 (dk_at dksX9_holds_0 19 rfl rfl)
theorem dX9_holds_22 : decode cX9_holds 22 = .ok (.iconst 0, 1) := dk_3 (dk_at dksX9_holds_0 22 rfl rfl)
theorem dX9_holds_23 : decode cX9_holds 23 = .ok (.ireturn, 1) := dk_172 (dk_at dksX9_holds_0 23 rfl rfl)
theorem q127 : (Jvm.Cond.initialized "HotIron$Step") ∈ lw_all := lw_g (lw_at lw_m1 23 rfl) rfl
theorem q988 : (Jvm.Cond.instanceMethod ({ cls := "HotIron$Step", name := "<init>", desc := "(LHotIron$Sum;)V" } : Jvm.MethodName)) ∈ lw_all := lw_g (lw_at lw_m4 164 rfl) rfl
theorem q989 : (Jvm.Cond.code ({ cls := "HotIron$Step", name := "<init>", desc := "(LHotIron$Sum;)V" } : Jvm.MethodName) prog_19_method_1_code (2 : Nat) (Option.none : Option Jvm.ClassFile.FieldType)) ∈ lw_all := lw_g (lw_at lw_m4 165 rfl) rfl
theorem q990 : (Jvm.Cond.methodLink "HotIron$Step" (1 : Nat) ({ cls := "java/lang/Object", name := "<init>", desc := "()V" } : Jvm.MethodName)) ∈ lw_all := lw_g (lw_at lw_m4 166 rfl) rfl
theorem q991 : (Jvm.Cond.fieldLink "HotIron$Step" (7 : Nat) "HotIron$Step" "at" "LHotIron$Sum;") ∈ lw_all := lw_g (lw_at lw_m4 167 rfl) rfl
theorem q1004 : (Jvm.Cond.fieldLink "HotIron$Step" (13 : Nat) "HotIron$Step" "when" "LHotIron$Test;") ∈ lw_all := lw_g (lw_at lw_m4 180 rfl) rfl
theorem q1007 : (Jvm.Cond.soleField "HotIron$Step" "at") ∈ lw_all := lw_g (lw_at lw_m4 183 rfl) rfl
theorem q1009 : (Jvm.Cond.soleField "HotIron$Step" "when") ∈ lw_all := lw_g (lw_at lw_m4 185 rfl) rfl
theorem q1186 : (Jvm.Cond.instanceMethod ({ cls := "HotIron$Step", name := "holds", desc := "(LHotIron$Work;)Z" } : Jvm.MethodName)) ∈ lw_all := lw_g (lw_at lw_m5 122 rfl) rfl
theorem q1187 : (Jvm.Cond.sameMethod "HotIron$Step" "HotIron$Step" "holds" "(LHotIron$Work;)Z") ∈ lw_all := lw_g (lw_at lw_m5 123 rfl) rfl
theorem q1194 : (Jvm.Cond.code ({ cls := "HotIron$Step", name := "holds", desc := "(LHotIron$Work;)Z" } : Jvm.MethodName) prog_19_method_2_code (2 : Nat) (Option.some Jvm.ClassFile.FieldType.boolean)) ∈ lw_all := lw_g (lw_at lw_m5 130 rfl) rfl
theorem q1195 : (Jvm.Cond.methodLink "HotIron$Step" (17 : Nat) ({ cls := "HotIron$Test", name := "is", desc := "(LHotIron$Work;)Z" } : Jvm.MethodName)) ∈ lw_all := lw_g (lw_at lw_m5 131 rfl) rfl
theorem q1247 : (Jvm.Cond.declares ({ cls := "HotIron$Step", name := "does", desc := "(LHotIron$Work;I)I" } : Jvm.MethodName)) ∈ lw_tbl := lw_at lw_m5 183 rfl
theorem q1248 : (Jvm.Cond.sameMethod "HotIron$Step" "HotIron$Step" "does" "(LHotIron$Work;I)I") ∈ lw_all := lw_g (lw_at lw_m5 184 rfl) rfl
/-! HotIron$Fire -/
set_option maxRecDepth 100000
def RX10 : String := "HotIron$Fire"
def TX10 : u_T := fun k => match k with
  | 0 => ("HotIron$Step", "at", "LHotIron$Sum;", true)
  | _ => ("HotIron$Step", "when", "LHotIron$Test;", false)
def tyX10 : Nat → FieldType := fun k => match k with
  | 0 => .object "HotIron$Sum"
  | _ => .object "HotIron$Test"
abbrev wsX100 : List Cond := u_ws RX10 TX10 2
theorem nmX10 : ∀ a, a < 2 → ∀ b, b < 2 → a ≠ b → (TX10 a).2.1 ≠ (TX10 b).2.1 := by decide +kernel
theorem tyX10_ok : ∀ k, k < 2 → parseFieldDescriptor (TX10 k).2.2.1 = some (tyX10 k) := by decide +kernel
abbrev cX10_init : ByteArray := prog_4_method_1_code
def yX10_init : MethodName := ⟨RX10, "<init>", "(LHotIron$Sum;)V"⟩
def dkwX10_init_0 : List UInt8 := [42, 43, 183, 0, 3, 177]
abbrev dktX10_init_0 : List UInt8 := dkwX10_init_0 ++ []
theorem dksX10_init_0 : cX10_init.data.toList.drop 0 = dktX10_init_0 := by decide +kernel
theorem dX10_init_0 : decode cX10_init 0 = .ok (.aload_n 0, 1) := dk_42 (dk_at dksX10_init_0 0 rfl rfl)
theorem dX10_init_1 : decode cX10_init 1 = .ok (.aload_n 1, 1) := dk_43 (dk_at dksX10_init_0 1 rfl rfl)
theorem dX10_init_2 : decode cX10_init 2 = .ok (.invokespecial 3, 3) := dk_183 0 3 (dk_at dksX10_init_0 2 rfl rfl)
theorem dX10_init_5 : decode cX10_init 5 = .ok (.return_, 1) := dk_177 (dk_at dksX10_init_0 5 rfl rfl)
abbrev cX10_does : ByteArray := prog_4_method_2_code
def yX10_does : MethodName := ⟨RX10, "does", "(LHotIron$Work;I)I"⟩
def dkwX10_does_1 : List UInt8 := [16, 16, 172]
abbrev dktX10_does_1 : List UInt8 := dkwX10_does_1 ++ []
def dkwX10_does_0 : List UInt8 := [43, 42, 180, 0, 9, 43, 182, 0, 15, 182, 0, 21, 153, 0, 7, 28, 4, 96, 172, 43, 28, 181, 0, 27]
abbrev dktX10_does_0 : List UInt8 := dkwX10_does_0 ++ dktX10_does_1
theorem dksX10_does_0 : cX10_does.data.toList.drop 0 = dktX10_does_0 := by decide +kernel
theorem dksX10_does_1 : cX10_does.data.toList.drop 24 = dktX10_does_1 := dk_seg dksX10_does_0 24 rfl rfl
theorem dX10_does_0 : decode cX10_does 0 = .ok (.aload_n 1, 1) := dk_43 (dk_at dksX10_does_0 0 rfl rfl)
theorem dX10_does_1 : decode cX10_does 1 = .ok (.aload_n 0, 1) := dk_42 (dk_at dksX10_does_0 1 rfl rfl)
theorem dX10_does_2 : decode cX10_does 2 = .ok (.getfield 9, 3) := dk_180 0 9 (dk_at dksX10_does_0 2 rfl rfl)
theorem dX10_does_5 : decode cX10_does 5 = .ok (.aload_n 1, 1) := dk_43 (dk_at dksX10_does_0 5 rfl rfl)
theorem dX10_does_6 : decode cX10_does 6 = .ok (.invokevirtual 15, 3) := dk_182 0 15 (dk_at dksX10_does_0 6 rfl rfl)
theorem dX10_does_9 : decode cX10_does 9 = .ok (.invokevirtual 21, 3) := dk_182 0 21 (dk_at dksX10_does_0 9 rfl rfl)
theorem dX10_does_12 : decode cX10_does 12 = .ok (.ifCond .eq 7, 3) := dk_153 0 7 (dk_at dksX10_does_0 12 rfl rfl)
theorem dX10_does_15 : decode cX10_does 15 = .ok (.iload_n 2, 1) := dk_28 (dk_at dksX10_does_0 15 rfl rfl)
theorem dX10_does_16 : decode cX10_does 16 = .ok (.iconst 1, 1) := dk_4 (dk_at dksX10_does_0 16 rfl rfl)
theorem dX10_does_17 : decode cX10_does 17 = .ok (.iadd, 1) := dk_96 (dk_at dksX10_does_0 17 rfl rfl)
theorem dX10_does_18 : decode cX10_does 18 = .ok (.ireturn, 1) := dk_172 (dk_at dksX10_does_0 18 rfl rfl)
theorem dX10_does_19 : decode cX10_does 19 = .ok (.aload_n 1, 1) := dk_43 (dk_at dksX10_does_0 19 rfl rfl)
theorem dX10_does_20 : decode cX10_does 20 = .ok (.iload_n 2, 1) := dk_28 (dk_at dksX10_does_0 20 rfl rfl)
theorem dX10_does_21 : decode cX10_does 21 = .ok (.putfield 27, 3) := dk_181 0 27 (dk_at dksX10_does_0 21 rfl rfl)
theorem dX10_does_24 : decode cX10_does 24 = .ok (.bipush 16, 2) := dk_16 16 (dk_at dksX10_does_1 0 rfl rfl)
theorem dX10_does_26 : decode cX10_does 26 = .ok (.ireturn, 1) := dk_172 (dk_at dksX10_does_1 2 rfl rfl)
theorem q128 : (Jvm.Cond.initialized "HotIron$Fire") ∈ lw_all := lw_g (lw_at lw_m1 24 rfl) rfl
theorem q272 : (Jvm.Cond.fieldLinkNest "HotIron$Fire" (27 : Nat) "HotIron$Work" "dropped" "I" "HotIron") ∈ lw_tbl := lw_at lw_m1 168 rfl
theorem q545 : (Jvm.Cond.selects "HotIron$Fire" ({ cls := "java/lang/Object", name := "getClass", desc := "()Ljava/lang/Class;" } : Jvm.MethodName) ({ cls := "java/lang/Object", name := "getClass", desc := "()Ljava/lang/Class;" } : Jvm.MethodName)) ∈ lw_all := lw_g (lw_at lw_m2 201 rfl) rfl
theorem q876 : (Jvm.Cond.instantiable "HotIron$Fire" (2 : Nat)) ∈ lw_all := lw_g (lw_at lw_m4 52 rfl) rfl
theorem q985 : (Jvm.Cond.instanceMethod ({ cls := "HotIron$Fire", name := "<init>", desc := "(LHotIron$Sum;)V" } : Jvm.MethodName)) ∈ lw_all := lw_g (lw_at lw_m4 161 rfl) rfl
theorem q986 : (Jvm.Cond.code ({ cls := "HotIron$Fire", name := "<init>", desc := "(LHotIron$Sum;)V" } : Jvm.MethodName) prog_4_method_1_code (2 : Nat) (Option.none : Option Jvm.ClassFile.FieldType)) ∈ lw_all := lw_g (lw_at lw_m4 162 rfl) rfl
theorem q987 : (Jvm.Cond.methodLink "HotIron$Fire" (3 : Nat) ({ cls := "HotIron$Step", name := "<init>", desc := "(LHotIron$Sum;)V" } : Jvm.MethodName)) ∈ lw_all := lw_g (lw_at lw_m4 163 rfl) rfl
theorem q994 : (Jvm.Cond.fieldLink "HotIron$Fire" (9 : Nat) "HotIron$Fire" "at" "LHotIron$Sum;") ∈ lw_all := lw_g (lw_at lw_m4 170 rfl) rfl
theorem q995 : (Jvm.Cond.sameField "HotIron$Fire" "HotIron$Step" "at" "LHotIron$Sum;") ∈ lw_all := lw_g (lw_at lw_m4 171 rfl) rfl
theorem q1006 : (Jvm.Cond.laysFinal "HotIron$Fire" "HotIron$Step" "at" "LHotIron$Sum;") ∈ lw_all := lw_g (lw_at lw_m4 182 rfl) rfl
theorem q1008 : (Jvm.Cond.lays "HotIron$Fire" "HotIron$Step" "when" "LHotIron$Test;") ∈ lw_all := lw_g (lw_at lw_m4 184 rfl) rfl
theorem q1010 : (Jvm.Cond.superclass "HotIron$Fire" "HotIron$Step") ∈ lw_all := lw_g (lw_at lw_m4 186 rfl) rfl
theorem q1188 : (Jvm.Cond.selects "HotIron$Fire" ({ cls := "HotIron$Step", name := "holds", desc := "(LHotIron$Work;)Z" } : Jvm.MethodName) ({ cls := "HotIron$Step", name := "holds", desc := "(LHotIron$Work;)Z" } : Jvm.MethodName)) ∈ lw_all := lw_g (lw_at lw_m5 124 rfl) rfl
theorem q1249 : (Jvm.Cond.selects "HotIron$Fire" ({ cls := "HotIron$Step", name := "does", desc := "(LHotIron$Work;I)I" } : Jvm.MethodName) ({ cls := "HotIron$Fire", name := "does", desc := "(LHotIron$Work;I)I" } : Jvm.MethodName)) ∈ lw_all := lw_g (lw_at lw_m5 185 rfl) rfl
theorem q1250 : (Jvm.Cond.instanceMethod ({ cls := "HotIron$Fire", name := "does", desc := "(LHotIron$Work;I)I" } : Jvm.MethodName)) ∈ lw_all := lw_g (lw_at lw_m5 186 rfl) rfl
theorem q1251 : (Jvm.Cond.code ({ cls := "HotIron$Fire", name := "does", desc := "(LHotIron$Work;I)I" } : Jvm.MethodName) prog_4_method_2_code (3 : Nat) (Option.some Jvm.ClassFile.FieldType.int)) ∈ lw_all := lw_g (lw_at lw_m5 187 rfl) rfl
theorem q1252 : (Jvm.Cond.methodLink "HotIron$Fire" (15 : Nat) ({ cls := "HotIron$Sum", name := "of", desc := "(LHotIron$Work;)I" } : Jvm.MethodName)) ∈ lw_all := lw_g (lw_at lw_m5 188 rfl) rfl
theorem q1253 : (Jvm.Cond.methodLink "HotIron$Fire" (21 : Nat) ({ cls := "HotIron$Work", name := "fires", desc := "(I)Z" } : Jvm.MethodName)) ∈ lw_all := lw_g (lw_at lw_m5 189 rfl) rfl
theorem q2119 : (Jvm.Cond.castable "HotIron$Fire" "HotIron$Step") ∈ lw_tbl := lw_at lw_m9 95 rfl
theorem q2139 : (Jvm.Cond.castable "HotIron$Fire" "java/lang/Object") ∈ lw_tbl := lw_at lw_m9 115 rfl
theorem in_X10 : ∀ w ∈ wsX100, w ∈ lw_all := lw_in wsX100 [1006, 1008] (by decide +kernel) (by decide +kernel)
/-! HotIron$Sum -/
set_option maxRecDepth 100000
def RX11 : String := "HotIron$Sum"
abbrev cX11_init : ByteArray := prog_21_method_1_code
def yX11_init : MethodName := ⟨RX11, "<init>", "()V"⟩
theorem dX11_init_0 : decode cX11_init 0 = .ok (.aload_n 0, 1) := by decide +kernel
theorem dX11_init_1 : decode cX11_init 1 = .ok (.invokespecial 1, 3) := by decide +kernel
theorem dX11_init_4 : decode cX11_init 4 = .ok (.return_, 1) := by decide +kernel
theorem q129 : (Jvm.Cond.initialized "HotIron$Sum") ∈ lw_all := lw_g (lw_at lw_m1 25 rfl) rfl
theorem q910 : (Jvm.Cond.instanceMethod ({ cls := "HotIron$Sum", name := "<init>", desc := "()V" } : Jvm.MethodName)) ∈ lw_all := lw_g (lw_at lw_m4 86 rfl) rfl
theorem q911 : (Jvm.Cond.code ({ cls := "HotIron$Sum", name := "<init>", desc := "()V" } : Jvm.MethodName) prog_21_method_1_code (1 : Nat) (Option.none : Option Jvm.ClassFile.FieldType)) ∈ lw_all := lw_g (lw_at lw_m4 87 rfl) rfl
theorem q912 : (Jvm.Cond.methodLink "HotIron$Sum" (1 : Nat) ({ cls := "java/lang/Object", name := "<init>", desc := "()V" } : Jvm.MethodName)) ∈ lw_all := lw_g (lw_at lw_m4 88 rfl) rfl
theorem q1202 : (Jvm.Cond.declares ({ cls := "HotIron$Sum", name := "of", desc := "(LHotIron$Work;)I" } : Jvm.MethodName)) ∈ lw_tbl := lw_at lw_m5 138 rfl
theorem q1203 : (Jvm.Cond.sameMethod "HotIron$Sum" "HotIron$Sum" "of" "(LHotIron$Work;)I") ∈ lw_all := lw_g (lw_at lw_m5 139 rfl) rfl
/-! HotIron$Number -/
set_option maxRecDepth 100000
def RX12 : String := "HotIron$Number"
def TX12 : u_T := fun k => match k with
  | _ => ("HotIron$Number", "number", "I", true)
def tyX12 : Nat → FieldType := fun k => match k with
  | _ => .int
abbrev wsX120 : List Cond := u_ws RX12 TX12 1
theorem nmX12 : ∀ a, a < 1 → ∀ b, b < 1 → a ≠ b → (TX12 a).2.1 ≠ (TX12 b).2.1 := by decide +kernel
theorem tyX12_ok : ∀ k, k < 1 → parseFieldDescriptor (TX12 k).2.2.1 = some (tyX12 k) := by decide +kernel
abbrev cX12_init : ByteArray := prog_11_method_1_code
def yX12_init : MethodName := ⟨RX12, "<init>", "(I)V"⟩
def dkwX12_init_0 : List UInt8 := [42, 183, 0, 1, 42, 27, 181, 0, 7, 177]
abbrev dktX12_init_0 : List UInt8 := dkwX12_init_0 ++ []
theorem dksX12_init_0 : cX12_init.data.toList.drop 0 = dktX12_init_0 := by decide +kernel
theorem dX12_init_0 : decode cX12_init 0 = .ok (.aload_n 0, 1) := dk_42 (dk_at dksX12_init_0 0 rfl rfl)
theorem dX12_init_1 : decode cX12_init 1 = .ok (.invokespecial 1, 3) := dk_183 0 1 (dk_at dksX12_init_0 1 rfl rfl)
theorem dX12_init_4 : decode cX12_init 4 = .ok (.aload_n 0, 1) := dk_42 (dk_at dksX12_init_0 4 rfl rfl)
theorem dX12_init_5 : decode cX12_init 5 = .ok (.iload_n 1, 1) := dk_27 (dk_at dksX12_init_0 5 rfl rfl)
theorem dX12_init_6 : decode cX12_init 6 = .ok (.putfield 7, 3) := dk_181 0 7 (dk_at dksX12_init_0 6 rfl rfl)
theorem dX12_init_9 : decode cX12_init 9 = .ok (.return_, 1) := dk_177 (dk_at dksX12_init_0 9 rfl rfl)
abbrev cX12_of : ByteArray := prog_11_method_2_code
def yX12_of : MethodName := ⟨RX12, "of", "(LHotIron$Work;)I"⟩
theorem dX12_of_0 : decode cX12_of 0 = .ok (.aload_n 0, 1) := by decide +kernel
theorem dX12_of_1 : decode cX12_of 1 = .ok (.getfield 7, 3) := by decide +kernel
theorem dX12_of_4 : decode cX12_of 4 = .ok (.ireturn, 1) := by decide +kernel
theorem q130 : (Jvm.Cond.initialized "HotIron$Number") ∈ lw_all := lw_g (lw_at lw_m1 26 rfl) rfl
theorem q552 : (Jvm.Cond.selects "HotIron$Number" ({ cls := "java/lang/Object", name := "getClass", desc := "()Ljava/lang/Class;" } : Jvm.MethodName) ({ cls := "java/lang/Object", name := "getClass", desc := "()Ljava/lang/Class;" } : Jvm.MethodName)) ∈ lw_all := lw_g (lw_at lw_m2 208 rfl) rfl
theorem q901 : (Jvm.Cond.instantiable "HotIron$Number" (1 : Nat)) ∈ lw_all := lw_g (lw_at lw_m4 77 rfl) rfl
theorem q907 : (Jvm.Cond.instanceMethod ({ cls := "HotIron$Number", name := "<init>", desc := "(I)V" } : Jvm.MethodName)) ∈ lw_all := lw_g (lw_at lw_m4 83 rfl) rfl
theorem q908 : (Jvm.Cond.code ({ cls := "HotIron$Number", name := "<init>", desc := "(I)V" } : Jvm.MethodName) prog_11_method_1_code (2 : Nat) (Option.none : Option Jvm.ClassFile.FieldType)) ∈ lw_all := lw_g (lw_at lw_m4 84 rfl) rfl
theorem q909 : (Jvm.Cond.methodLinkNest "HotIron$Number" (1 : Nat) ({ cls := "HotIron$Sum", name := "<init>", desc := "()V" } : Jvm.MethodName) "HotIron") ∈ lw_tbl := lw_at lw_m4 85 rfl
theorem q913 : (Jvm.Cond.fieldLink "HotIron$Number" (7 : Nat) "HotIron$Number" "number" "I") ∈ lw_all := lw_g (lw_at lw_m4 89 rfl) rfl
theorem q914 : (Jvm.Cond.laysFinal "HotIron$Number" "HotIron$Number" "number" "I") ∈ lw_all := lw_g (lw_at lw_m4 90 rfl) rfl
theorem q915 : (Jvm.Cond.soleField "HotIron$Number" "number") ∈ lw_all := lw_g (lw_at lw_m4 91 rfl) rfl
theorem q916 : (Jvm.Cond.superclass "HotIron$Number" "HotIron$Sum") ∈ lw_all := lw_g (lw_at lw_m4 92 rfl) rfl
theorem q1211 : (Jvm.Cond.instanceMethod ({ cls := "HotIron$Number", name := "of", desc := "(LHotIron$Work;)I" } : Jvm.MethodName)) ∈ lw_all := lw_g (lw_at lw_m5 147 rfl) rfl
theorem q1212 : (Jvm.Cond.code ({ cls := "HotIron$Number", name := "of", desc := "(LHotIron$Work;)I" } : Jvm.MethodName) prog_11_method_2_code (2 : Nat) (Option.some Jvm.ClassFile.FieldType.int)) ∈ lw_all := lw_g (lw_at lw_m5 148 rfl) rfl
theorem q1232 : (Jvm.Cond.selects "HotIron$Number" ({ cls := "HotIron$Sum", name := "of", desc := "(LHotIron$Work;)I" } : Jvm.MethodName) ({ cls := "HotIron$Number", name := "of", desc := "(LHotIron$Work;)I" } : Jvm.MethodName)) ∈ lw_all := lw_g (lw_at lw_m5 168 rfl) rfl
theorem q2140 : (Jvm.Cond.castable "HotIron$Number" "java/lang/Object") ∈ lw_tbl := lw_at lw_m9 116 rfl
theorem in_X12 : ∀ w ∈ wsX120, w ∈ lw_all := lw_in wsX120 [914] (by decide +kernel) (by decide +kernel)
/-! HotIron$Told -/
set_option maxRecDepth 100000
def RX13 : String := "HotIron$Told"
def TX13 : u_T := fun k => match k with
  | _ => ("HotIron$Told", "what", "I", true)
def tyX13 : Nat → FieldType := fun k => match k with
  | _ => .int
abbrev wsX130 : List Cond := u_ws RX13 TX13 1
theorem nmX13 : ∀ a, a < 1 → ∀ b, b < 1 → a ≠ b → (TX13 a).2.1 ≠ (TX13 b).2.1 := by decide +kernel
theorem tyX13_ok : ∀ k, k < 1 → parseFieldDescriptor (TX13 k).2.2.1 = some (tyX13 k) := by decide +kernel
abbrev cX13_init : ByteArray := prog_23_method_1_code
def yX13_init : MethodName := ⟨RX13, "<init>", "(I)V"⟩
def dkwX13_init_0 : List UInt8 := [42, 183, 0, 1, 42, 27, 181, 0, 7, 177]
abbrev dktX13_init_0 : List UInt8 := dkwX13_init_0 ++ []
theorem dksX13_init_0 : cX13_init.data.toList.drop 0 = dktX13_init_0 := by decide +kernel
theorem dX13_init_0 : decode cX13_init 0 = .ok (.aload_n 0, 1) := dk_42 (dk_at dksX13_init_0 0 rfl rfl)
theorem dX13_init_1 : decode cX13_init 1 = .ok (.invokespecial 1, 3) := dk_183 0 1 (dk_at dksX13_init_0 1 rfl rfl)
theorem dX13_init_4 : decode cX13_init 4 = .ok (.aload_n 0, 1) := dk_42 (dk_at dksX13_init_0 4 rfl rfl)
theorem dX13_init_5 : decode cX13_init 5 = .ok (.iload_n 1, 1) := dk_27 (dk_at dksX13_init_0 5 rfl rfl)
theorem dX13_init_6 : decode cX13_init 6 = .ok (.putfield 7, 3) := dk_181 0 7 (dk_at dksX13_init_0 6 rfl rfl)
theorem dX13_init_9 : decode cX13_init 9 = .ok (.return_, 1) := dk_177 (dk_at dksX13_init_0 9 rfl rfl)
abbrev cX13_of : ByteArray := prog_23_method_2_code
def yX13_of : MethodName := ⟨RX13, "of", "(LHotIron$Work;)I"⟩
def dkwX13_of_2 : List UInt8 := [180, 0, 24, 172]
abbrev dktX13_of_2 : List UInt8 := dkwX13_of_2 ++ []
def dkwX13_of_1 : List UInt8 := [180, 0, 18, 167, 0, 22, 42, 180, 0, 7, 5, 160, 0, 10, 43, 180, 0, 21, 167, 0, 7, 43]
abbrev dktX13_of_1 : List UInt8 := dkwX13_of_1 ++ dktX13_of_2
def dkwX13_of_0 : List UInt8 := [42, 180, 0, 7, 154, 0, 10, 43, 180, 0, 13, 167, 0, 37, 42, 180, 0, 7, 4, 160, 0, 10, 43]
abbrev dktX13_of_0 : List UInt8 := dkwX13_of_0 ++ dktX13_of_1
theorem dksX13_of_0 : cX13_of.data.toList.drop 0 = dktX13_of_0 := by decide +kernel
theorem dksX13_of_1 : cX13_of.data.toList.drop 23 = dktX13_of_1 := dk_seg dksX13_of_0 23 rfl rfl
theorem dksX13_of_2 : cX13_of.data.toList.drop 45 = dktX13_of_2 := dk_seg dksX13_of_1 22 rfl rfl
theorem dX13_of_0 : decode cX13_of 0 = .ok (.aload_n 0, 1) := dk_42 (dk_at dksX13_of_0 0 rfl rfl)
theorem dX13_of_1 : decode cX13_of 1 = .ok (.getfield 7, 3) := dk_180 0 7 (dk_at dksX13_of_0 1 rfl rfl)
theorem dX13_of_4 : decode cX13_of 4 = .ok (.ifCond .ne 10, 3) := dk_154 0 10 (dk_at dksX13_of_0 4 rfl rfl)
theorem dX13_of_7 : decode cX13_of 7 = .ok (.aload_n 1, 1) := dk_43 (dk_at dksX13_of_0 7 rfl rfl)
theorem dX13_of_8 : decode cX13_of 8 = .ok (.getfield 13, 3) := dk_180 0 13 (dk_at dksX13_of_0 8 rfl rfl)
theorem dX13_of_11 : decode cX13_of 11 = .ok (.goto 37, 3) := dk_167 0 37 (dk_at dksX13_of_0 11 rfl rfl)
theorem dX13_of_14 : decode cX13_of 14 = .ok (.aload_n 0, 1) := dk_42 (dk_at dksX13_of_0 14 rfl rfl)
theorem dX13_of_15 : decode cX13_of 15 = .ok (.getfield 7, 3) := dk_180 0 7 (dk_at dksX13_of_0 15 rfl rfl)
theorem dX13_of_18 : decode cX13_of 18 = .ok (.iconst 1, 1) := dk_4 (dk_at dksX13_of_0 18 rfl rfl)
theorem dX13_of_19 : decode cX13_of 19 = .ok (.if_icmp .ne 10, 3) := dk_160 0 10 (dk_at dksX13_of_0 19 rfl rfl)
theorem dX13_of_22 : decode cX13_of 22 = .ok (.aload_n 1, 1) := dk_43 (dk_at dksX13_of_0 22 rfl rfl)
theorem dX13_of_23 : decode cX13_of 23 = .ok (.getfield 18, 3) := dk_180 0 18 (dk_at dksX13_of_1 0 rfl rfl)
theorem dX13_of_26 : decode cX13_of 26 = .ok (.goto 22, 3) := dk_167 0 22 (dk_at dksX13_of_1 3 rfl rfl)
theorem dX13_of_29 : decode cX13_of 29 = .ok (.aload_n 0, 1) := dk_42 (dk_at dksX13_of_1 6 rfl rfl)
theorem dX13_of_30 : decode cX13_of 30 = .ok (.getfield 7, 3) := dk_180 0 7 (dk_at dksX13_of_1 7 rfl rfl)
theorem dX13_of_33 : decode cX13_of 33 = .ok (.iconst 2, 1) := dk_5 (dk_at dksX13_of_1 10 rfl rfl)
theorem dX13_of_34 : decode cX13_of 34 = .ok (.if_icmp .ne 10, 3) := dk_160 0 10 (dk_at dksX13_of_1 11 rfl rfl)
theorem dX13_of_37 : decode cX13_of 37 = .ok (.aload_n 1, 1) := dk_43 (dk_at dksX13_of_1 14 rfl rfl)
theorem dX13_of_38 : decode cX13_of 38 = .ok (.getfield 21, 3) := dk_180 0 21 (dk_at dksX13_of_1 15 rfl rfl)
theorem dX13_of_41 : decode cX13_of 41 = .ok (.goto 7, 3) := dk_167 0 7 (dk_at dksX13_of_1 18 rfl rfl)
theorem dX13_of_44 : decode cX13_of 44 = .ok (.aload_n 1, 1) := dk_43 (dk_at dksX13_of_1 21 rfl rfl)
theorem dX13_of_45 : decode cX13_of 45 = .ok (.getfield 24, 3) := dk_180 0 24 (dk_at dksX13_of_2 0 rfl rfl)
theorem dX13_of_48 : decode cX13_of 48 = .ok (.ireturn, 1) := dk_172 (dk_at dksX13_of_2 3 rfl rfl)
theorem q131 : (Jvm.Cond.initialized "HotIron$Told") ∈ lw_all := lw_g (lw_at lw_m1 27 rfl) rfl
theorem q240 : (Jvm.Cond.fieldLinkNest "HotIron$Told" (13 : Nat) "HotIron$Work" "cells" "I" "HotIron") ∈ lw_tbl := lw_at lw_m1 136 rfl
theorem q245 : (Jvm.Cond.fieldLinkNest "HotIron$Told" (18 : Nat) "HotIron$Work" "left" "I" "HotIron") ∈ lw_tbl := lw_at lw_m1 141 rfl
theorem q247 : (Jvm.Cond.fieldLinkNest "HotIron$Told" (21 : Nat) "HotIron$Work" "heats" "I" "HotIron") ∈ lw_tbl := lw_at lw_m1 143 rfl
theorem q250 : (Jvm.Cond.fieldLinkNest "HotIron$Told" (24 : Nat) "HotIron$Work" "struck" "I" "HotIron") ∈ lw_tbl := lw_at lw_m1 146 rfl
theorem q561 : (Jvm.Cond.selects "HotIron$Told" ({ cls := "java/lang/Object", name := "getClass", desc := "()Ljava/lang/Class;" } : Jvm.MethodName) ({ cls := "java/lang/Object", name := "getClass", desc := "()Ljava/lang/Class;" } : Jvm.MethodName)) ∈ lw_all := lw_g (lw_at lw_m2 217 rfl) rfl
theorem q935 : (Jvm.Cond.instantiable "HotIron$Told" (1 : Nat)) ∈ lw_all := lw_g (lw_at lw_m4 111 rfl) rfl
theorem q937 : (Jvm.Cond.instanceMethod ({ cls := "HotIron$Told", name := "<init>", desc := "(I)V" } : Jvm.MethodName)) ∈ lw_all := lw_g (lw_at lw_m4 113 rfl) rfl
theorem q938 : (Jvm.Cond.code ({ cls := "HotIron$Told", name := "<init>", desc := "(I)V" } : Jvm.MethodName) prog_23_method_1_code (2 : Nat) (Option.none : Option Jvm.ClassFile.FieldType)) ∈ lw_all := lw_g (lw_at lw_m4 114 rfl) rfl
theorem q939 : (Jvm.Cond.methodLinkNest "HotIron$Told" (1 : Nat) ({ cls := "HotIron$Sum", name := "<init>", desc := "()V" } : Jvm.MethodName) "HotIron") ∈ lw_tbl := lw_at lw_m4 115 rfl
theorem q940 : (Jvm.Cond.fieldLink "HotIron$Told" (7 : Nat) "HotIron$Told" "what" "I") ∈ lw_all := lw_g (lw_at lw_m4 116 rfl) rfl
theorem q941 : (Jvm.Cond.laysFinal "HotIron$Told" "HotIron$Told" "what" "I") ∈ lw_all := lw_g (lw_at lw_m4 117 rfl) rfl
theorem q942 : (Jvm.Cond.soleField "HotIron$Told" "what") ∈ lw_all := lw_g (lw_at lw_m4 118 rfl) rfl
theorem q943 : (Jvm.Cond.superclass "HotIron$Told" "HotIron$Sum") ∈ lw_all := lw_g (lw_at lw_m4 119 rfl) rfl
theorem q1213 : (Jvm.Cond.instanceMethod ({ cls := "HotIron$Told", name := "of", desc := "(LHotIron$Work;)I" } : Jvm.MethodName)) ∈ lw_all := lw_g (lw_at lw_m5 149 rfl) rfl
theorem q1214 : (Jvm.Cond.code ({ cls := "HotIron$Told", name := "of", desc := "(LHotIron$Work;)I" } : Jvm.MethodName) prog_23_method_2_code (2 : Nat) (Option.some Jvm.ClassFile.FieldType.int)) ∈ lw_all := lw_g (lw_at lw_m5 150 rfl) rfl
theorem q1233 : (Jvm.Cond.selects "HotIron$Told" ({ cls := "HotIron$Sum", name := "of", desc := "(LHotIron$Work;)I" } : Jvm.MethodName) ({ cls := "HotIron$Told", name := "of", desc := "(LHotIron$Work;)I" } : Jvm.MethodName)) ∈ lw_all := lw_g (lw_at lw_m5 169 rfl) rfl
theorem q2141 : (Jvm.Cond.castable "HotIron$Told" "java/lang/Object") ∈ lw_tbl := lw_at lw_m9 117 rfl
theorem in_X13 : ∀ w ∈ wsX130, w ∈ lw_all := lw_in wsX130 [941] (by decide +kernel) (by decide +kernel)
/-! HotIron$Iron -/
set_option maxRecDepth 100000
def RX14 : String := "HotIron$Iron"
def TX14 : u_T := fun k => match k with
  | _ => ("HotIron$Iron", "cell", "LHotIron$Sum;", true)
def tyX14 : Nat → FieldType := fun k => match k with
  | _ => .object "HotIron$Sum"
abbrev wsX140 : List Cond := u_ws RX14 TX14 1
theorem nmX14 : ∀ a, a < 1 → ∀ b, b < 1 → a ≠ b → (TX14 a).2.1 ≠ (TX14 b).2.1 := by decide +kernel
theorem tyX14_ok : ∀ k, k < 1 → parseFieldDescriptor (TX14 k).2.2.1 = some (tyX14 k) := by decide +kernel
abbrev cX14_init : ByteArray := prog_9_method_1_code
def yX14_init : MethodName := ⟨RX14, "<init>", "(LHotIron$Sum;)V"⟩
def dkwX14_init_0 : List UInt8 := [42, 183, 0, 1, 42, 43, 181, 0, 7, 177]
abbrev dktX14_init_0 : List UInt8 := dkwX14_init_0 ++ []
theorem dksX14_init_0 : cX14_init.data.toList.drop 0 = dktX14_init_0 := by decide +kernel
theorem dX14_init_0 : decode cX14_init 0 = .ok (.aload_n 0, 1) := dk_42 (dk_at dksX14_init_0 0 rfl rfl)
theorem dX14_init_1 : decode cX14_init 1 = .ok (.invokespecial 1, 3) := dk_183 0 1 (dk_at dksX14_init_0 1 rfl rfl)
theorem dX14_init_4 : decode cX14_init 4 = .ok (.aload_n 0, 1) := dk_42 (dk_at dksX14_init_0 4 rfl rfl)
theorem dX14_init_5 : decode cX14_init 5 = .ok (.aload_n 1, 1) := dk_43 (dk_at dksX14_init_0 5 rfl rfl)
theorem dX14_init_6 : decode cX14_init 6 = .ok (.putfield 7, 3) := dk_181 0 7 (dk_at dksX14_init_0 6 rfl rfl)
theorem dX14_init_9 : decode cX14_init 9 = .ok (.return_, 1) := dk_177 (dk_at dksX14_init_0 9 rfl rfl)
abbrev cX14_of : ByteArray := prog_9_method_2_code
def yX14_of : MethodName := ⟨RX14, "of", "(LHotIron$Work;)I"⟩
def dkwX14_of_0 : List UInt8 := [43, 42, 180, 0, 7, 43, 182, 0, 13, 182, 0, 17, 172]
abbrev dktX14_of_0 : List UInt8 := dkwX14_of_0 ++ []
theorem dksX14_of_0 : cX14_of.data.toList.drop 0 = dktX14_of_0 := by decide +kernel
theorem dX14_of_0 : decode cX14_of 0 = .ok (.aload_n 1, 1) := dk_43 (dk_at dksX14_of_0 0 rfl rfl)
theorem dX14_of_1 : decode cX14_of 1 = .ok (.aload_n 0, 1) := dk_42 (dk_at dksX14_of_0 1 rfl rfl)
theorem dX14_of_2 : decode cX14_of 2 = .ok (.getfield 7, 3) := dk_180 0 7 (dk_at dksX14_of_0 2 rfl rfl)
theorem dX14_of_5 : decode cX14_of 5 = .ok (.aload_n 1, 1) := dk_43 (dk_at dksX14_of_0 5 rfl rfl)
theorem dX14_of_6 : decode cX14_of 6 = .ok (.invokevirtual 13, 3) := dk_182 0 13 (dk_at dksX14_of_0 6 rfl rfl)
theorem dX14_of_9 : decode cX14_of 9 = .ok (.invokevirtual 17, 3) := dk_182 0 17 (dk_at dksX14_of_0 9 rfl rfl)
theorem dX14_of_12 : decode cX14_of 12 = .ok (.ireturn, 1) := dk_172 (dk_at dksX14_of_0 12 rfl rfl)
theorem q132 : (Jvm.Cond.initialized "HotIron$Iron") ∈ lw_all := lw_g (lw_at lw_m1 28 rfl) rfl
theorem q550 : (Jvm.Cond.selects "HotIron$Iron" ({ cls := "java/lang/Object", name := "getClass", desc := "()Ljava/lang/Class;" } : Jvm.MethodName) ({ cls := "java/lang/Object", name := "getClass", desc := "()Ljava/lang/Class;" } : Jvm.MethodName)) ∈ lw_all := lw_g (lw_at lw_m2 206 rfl) rfl
theorem q947 : (Jvm.Cond.instantiable "HotIron$Iron" (1 : Nat)) ∈ lw_all := lw_g (lw_at lw_m4 123 rfl) rfl
theorem q949 : (Jvm.Cond.instanceMethod ({ cls := "HotIron$Iron", name := "<init>", desc := "(LHotIron$Sum;)V" } : Jvm.MethodName)) ∈ lw_all := lw_g (lw_at lw_m4 125 rfl) rfl
theorem q950 : (Jvm.Cond.code ({ cls := "HotIron$Iron", name := "<init>", desc := "(LHotIron$Sum;)V" } : Jvm.MethodName) prog_9_method_1_code (2 : Nat) (Option.none : Option Jvm.ClassFile.FieldType)) ∈ lw_all := lw_g (lw_at lw_m4 126 rfl) rfl
theorem q951 : (Jvm.Cond.methodLinkNest "HotIron$Iron" (1 : Nat) ({ cls := "HotIron$Sum", name := "<init>", desc := "()V" } : Jvm.MethodName) "HotIron") ∈ lw_tbl := lw_at lw_m4 127 rfl
theorem q952 : (Jvm.Cond.fieldLink "HotIron$Iron" (7 : Nat) "HotIron$Iron" "cell" "LHotIron$Sum;") ∈ lw_all := lw_g (lw_at lw_m4 128 rfl) rfl
theorem q955 : (Jvm.Cond.laysFinal "HotIron$Iron" "HotIron$Iron" "cell" "LHotIron$Sum;") ∈ lw_all := lw_g (lw_at lw_m4 131 rfl) rfl
theorem q956 : (Jvm.Cond.soleField "HotIron$Iron" "cell") ∈ lw_all := lw_g (lw_at lw_m4 132 rfl) rfl
theorem q957 : (Jvm.Cond.superclass "HotIron$Iron" "HotIron$Sum") ∈ lw_all := lw_g (lw_at lw_m4 133 rfl) rfl
theorem q1208 : (Jvm.Cond.instanceMethod ({ cls := "HotIron$Iron", name := "of", desc := "(LHotIron$Work;)I" } : Jvm.MethodName)) ∈ lw_all := lw_g (lw_at lw_m5 144 rfl) rfl
theorem q1209 : (Jvm.Cond.code ({ cls := "HotIron$Iron", name := "of", desc := "(LHotIron$Work;)I" } : Jvm.MethodName) prog_9_method_2_code (2 : Nat) (Option.some Jvm.ClassFile.FieldType.int)) ∈ lw_all := lw_g (lw_at lw_m5 145 rfl) rfl
theorem q1210 : (Jvm.Cond.methodLink "HotIron$Iron" (13 : Nat) ({ cls := "HotIron$Sum", name := "of", desc := "(LHotIron$Work;)I" } : Jvm.MethodName)) ∈ lw_all := lw_g (lw_at lw_m5 146 rfl) rfl
theorem q1218 : (Jvm.Cond.methodLink "HotIron$Iron" (17 : Nat) ({ cls := "HotIron$Work", name := "ironOf", desc := "(I)I" } : Jvm.MethodName)) ∈ lw_all := lw_g (lw_at lw_m5 154 rfl) rfl
theorem q1231 : (Jvm.Cond.selects "HotIron$Iron" ({ cls := "HotIron$Sum", name := "of", desc := "(LHotIron$Work;)I" } : Jvm.MethodName) ({ cls := "HotIron$Iron", name := "of", desc := "(LHotIron$Work;)I" } : Jvm.MethodName)) ∈ lw_all := lw_g (lw_at lw_m5 167 rfl) rfl
theorem q2117 : (Jvm.Cond.sameMethod "HotIron$Iron" "HotIron$Iron" "of" "(LHotIron$Work;)I") ∈ lw_all := lw_g (lw_at lw_m9 93 rfl) rfl
theorem q2142 : (Jvm.Cond.castable "HotIron$Iron" "java/lang/Object") ∈ lw_tbl := lw_at lw_m9 118 rfl
theorem in_X14 : ∀ w ∈ wsX140, w ∈ lw_all := lw_in wsX140 [955] (by decide +kernel) (by decide +kernel)
/-! HotIron$Hot -/
set_option maxRecDepth 100000
def RX15 : String := "HotIron$Hot"
def TX15 : u_T := fun k => match k with
  | _ => ("HotIron$Iron", "cell", "LHotIron$Sum;", true)
def tyX15 : Nat → FieldType := fun k => match k with
  | _ => .object "HotIron$Sum"
abbrev wsX150 : List Cond := u_ws RX15 TX15 1
theorem nmX15 : ∀ a, a < 1 → ∀ b, b < 1 → a ≠ b → (TX15 a).2.1 ≠ (TX15 b).2.1 := by decide +kernel
theorem tyX15_ok : ∀ k, k < 1 → parseFieldDescriptor (TX15 k).2.2.1 = some (tyX15 k) := by decide +kernel
abbrev cX15_init : ByteArray := prog_8_method_1_code
def yX15_init : MethodName := ⟨RX15, "<init>", "(LHotIron$Sum;)V"⟩
def dkwX15_init_0 : List UInt8 := [42, 43, 183, 0, 1, 177]
abbrev dktX15_init_0 : List UInt8 := dkwX15_init_0 ++ []
theorem dksX15_init_0 : cX15_init.data.toList.drop 0 = dktX15_init_0 := by decide +kernel
theorem dX15_init_0 : decode cX15_init 0 = .ok (.aload_n 0, 1) := dk_42 (dk_at dksX15_init_0 0 rfl rfl)
theorem dX15_init_1 : decode cX15_init 1 = .ok (.aload_n 1, 1) := dk_43 (dk_at dksX15_init_0 1 rfl rfl)
theorem dX15_init_2 : decode cX15_init 2 = .ok (.invokespecial 1, 3) := dk_183 0 1 (dk_at dksX15_init_0 2 rfl rfl)
theorem dX15_init_5 : decode cX15_init 5 = .ok (.return_, 1) := dk_177 (dk_at dksX15_init_0 5 rfl rfl)
abbrev cX15_of : ByteArray := prog_8_method_2_code
def yX15_of : MethodName := ⟨RX15, "of", "(LHotIron$Work;)I"⟩
def dkwX15_of_1 : List UInt8 := [167, 0, 4, 3, 172]
abbrev dktX15_of_1 : List UInt8 := dkwX15_of_1 ++ []
def dkwX15_of_0 : List UInt8 := [42, 43, 183, 0, 7, 158, 0, 22, 43, 42, 180, 0, 11, 43, 182, 0, 17, 182, 0, 20, 153, 0, 7, 4]
abbrev dktX15_of_0 : List UInt8 := dkwX15_of_0 ++ dktX15_of_1
theorem dksX15_of_0 : cX15_of.data.toList.drop 0 = dktX15_of_0 := by decide +kernel
theorem dksX15_of_1 : cX15_of.data.toList.drop 24 = dktX15_of_1 := dk_seg dksX15_of_0 24 rfl rfl
theorem dX15_of_0 : decode cX15_of 0 = .ok (.aload_n 0, 1) := dk_42 (dk_at dksX15_of_0 0 rfl rfl)
theorem dX15_of_1 : decode cX15_of 1 = .ok (.aload_n 1, 1) := dk_43 (dk_at dksX15_of_0 1 rfl rfl)
theorem dX15_of_2 : decode cX15_of 2 = .ok (.invokespecial 7, 3) := dk_183 0 7 (dk_at dksX15_of_0 2 rfl rfl)
theorem dX15_of_5 : decode cX15_of 5 = .ok (.ifCond .le 22, 3) := dk_158 0 22 (dk_at dksX15_of_0 5 rfl rfl)
theorem dX15_of_8 : decode cX15_of 8 = .ok (.aload_n 1, 1) := dk_43 (dk_at dksX15_of_0 8 rfl rfl)
theorem dX15_of_9 : decode cX15_of 9 = .ok (.aload_n 0, 1) := dk_42 (dk_at dksX15_of_0 9 rfl rfl)
theorem dX15_of_10 : decode cX15_of 10 = .ok (.getfield 11, 3) := dk_180 0 11 (dk_at dksX15_of_0 10 rfl rfl)
theorem dX15_of_13 : decode cX15_of 13 = .ok (.aload_n 1, 1) := dk_43 (dk_at dksX15_of_0 13 rfl rfl)
theorem dX15_of_14 : decode cX15_of 14 = .ok (.invokevirtual 17, 3) := dk_182 0 17 (dk_at dksX15_of_0 14 rfl rfl)
theorem dX15_of_17 : decode cX15_of 17 = .ok (.invokevirtual 20, 3) := dk_182 0 20 (dk_at dksX15_of_0 17 rfl rfl)
theorem dX15_of_20 : decode cX15_of 20 = .ok (.ifCond .eq 7, 3) := dk_153 0 7 (dk_at dksX15_of_0 20 rfl rfl)
theorem dX15_of_23 : decode cX15_of 23 = .ok (.iconst 1, 1) := dk_4 (dk_at dksX15_of_0 23 rfl rfl)
theorem dX15_of_24 : decode cX15_of 24 = .ok (.goto 4, 3) := dk_167 0 4 (dk_at dksX15_of_1 0 rfl rfl)
theorem dX15_of_27 : decode cX15_of 27 = .ok (.iconst 0, 1) := dk_3 (dk_at dksX15_of_1 3 rfl rfl)
theorem dX15_of_28 : decode cX15_of 28 = .ok (.ireturn, 1) := dk_172 (dk_at dksX15_of_1 4 rfl rfl)
theorem q133 : (Jvm.Cond.initialized "HotIron$Hot") ∈ lw_all := lw_g (lw_at lw_m1 29 rfl) rfl
theorem q549 : (Jvm.Cond.selects "HotIron$Hot" ({ cls := "java/lang/Object", name := "getClass", desc := "()Ljava/lang/Class;" } : Jvm.MethodName) ({ cls := "java/lang/Object", name := "getClass", desc := "()Ljava/lang/Class;" } : Jvm.MethodName)) ∈ lw_all := lw_g (lw_at lw_m2 205 rfl) rfl
theorem q953 : (Jvm.Cond.fieldLink "HotIron$Hot" (11 : Nat) "HotIron$Hot" "cell" "LHotIron$Sum;") ∈ lw_all := lw_g (lw_at lw_m4 129 rfl) rfl
theorem q954 : (Jvm.Cond.sameField "HotIron$Hot" "HotIron$Iron" "cell" "LHotIron$Sum;") ∈ lw_all := lw_g (lw_at lw_m4 130 rfl) rfl
theorem q959 : (Jvm.Cond.instantiable "HotIron$Hot" (1 : Nat)) ∈ lw_all := lw_g (lw_at lw_m4 135 rfl) rfl
theorem q961 : (Jvm.Cond.instanceMethod ({ cls := "HotIron$Hot", name := "<init>", desc := "(LHotIron$Sum;)V" } : Jvm.MethodName)) ∈ lw_all := lw_g (lw_at lw_m4 137 rfl) rfl
theorem q962 : (Jvm.Cond.code ({ cls := "HotIron$Hot", name := "<init>", desc := "(LHotIron$Sum;)V" } : Jvm.MethodName) prog_8_method_1_code (2 : Nat) (Option.none : Option Jvm.ClassFile.FieldType)) ∈ lw_all := lw_g (lw_at lw_m4 138 rfl) rfl
theorem q963 : (Jvm.Cond.methodLink "HotIron$Hot" (1 : Nat) ({ cls := "HotIron$Iron", name := "<init>", desc := "(LHotIron$Sum;)V" } : Jvm.MethodName)) ∈ lw_all := lw_g (lw_at lw_m4 139 rfl) rfl
theorem q964 : (Jvm.Cond.laysFinal "HotIron$Hot" "HotIron$Iron" "cell" "LHotIron$Sum;") ∈ lw_all := lw_g (lw_at lw_m4 140 rfl) rfl
theorem q965 : (Jvm.Cond.superclass "HotIron$Hot" "HotIron$Iron") ∈ lw_all := lw_g (lw_at lw_m4 141 rfl) rfl
theorem q1204 : (Jvm.Cond.selects "HotIron$Hot" ({ cls := "HotIron$Sum", name := "of", desc := "(LHotIron$Work;)I" } : Jvm.MethodName) ({ cls := "HotIron$Hot", name := "of", desc := "(LHotIron$Work;)I" } : Jvm.MethodName)) ∈ lw_all := lw_g (lw_at lw_m5 140 rfl) rfl
theorem q1205 : (Jvm.Cond.instanceMethod ({ cls := "HotIron$Hot", name := "of", desc := "(LHotIron$Work;)I" } : Jvm.MethodName)) ∈ lw_all := lw_g (lw_at lw_m5 141 rfl) rfl
theorem q1206 : (Jvm.Cond.code ({ cls := "HotIron$Hot", name := "of", desc := "(LHotIron$Work;)I" } : Jvm.MethodName) prog_8_method_2_code (2 : Nat) (Option.some Jvm.ClassFile.FieldType.int)) ∈ lw_all := lw_g (lw_at lw_m5 142 rfl) rfl
theorem q1207 : (Jvm.Cond.methodLink "HotIron$Hot" (7 : Nat) ({ cls := "HotIron$Iron", name := "of", desc := "(LHotIron$Work;)I" } : Jvm.MethodName)) ∈ lw_all := lw_g (lw_at lw_m5 143 rfl) rfl
theorem q1226 : (Jvm.Cond.methodLink "HotIron$Hot" (17 : Nat) ({ cls := "HotIron$Sum", name := "of", desc := "(LHotIron$Work;)I" } : Jvm.MethodName)) ∈ lw_all := lw_g (lw_at lw_m5 162 rfl) rfl
theorem q1227 : (Jvm.Cond.methodLink "HotIron$Hot" (20 : Nat) ({ cls := "HotIron$Work", name := "isHot", desc := "(I)Z" } : Jvm.MethodName)) ∈ lw_all := lw_g (lw_at lw_m5 163 rfl) rfl
theorem q2143 : (Jvm.Cond.castable "HotIron$Hot" "java/lang/Object") ∈ lw_tbl := lw_at lw_m9 119 rfl
theorem in_X15 : ∀ w ∈ wsX150, w ∈ lw_all := lw_in wsX150 [964] (by decide +kernel) (by decide +kernel)
/-! HotIron$Two -/
set_option maxRecDepth 100000
def RX16 : String := "HotIron$Two"
def TX16 : u_T := fun k => match k with
  | 0 => ("HotIron$Two", "plus", "Z", true)
  | 1 => ("HotIron$Two", "left", "LHotIron$Sum;", true)
  | _ => ("HotIron$Two", "right", "LHotIron$Sum;", true)
def tyX16 : Nat → FieldType := fun k => match k with
  | 0 => .boolean
  | 1 => .object "HotIron$Sum"
  | _ => .object "HotIron$Sum"
abbrev wsX160 : List Cond := u_ws RX16 TX16 3
theorem nmX16 : ∀ a, a < 3 → ∀ b, b < 3 → a ≠ b → (TX16 a).2.1 ≠ (TX16 b).2.1 := by decide +kernel
theorem tyX16_ok : ∀ k, k < 3 → parseFieldDescriptor (TX16 k).2.2.1 = some (tyX16 k) := by decide +kernel
abbrev cX16_init : ByteArray := prog_24_method_1_code
def yX16_init : MethodName := ⟨RX16, "<init>", "(ZLHotIron$Sum;LHotIron$Sum;)V"⟩
def dkwX16_init_0 : List UInt8 := [42, 183, 0, 1, 42, 27, 181, 0, 7, 42, 44, 181, 0, 13, 42, 45, 181, 0, 17, 177]
abbrev dktX16_init_0 : List UInt8 := dkwX16_init_0 ++ []
theorem dksX16_init_0 : cX16_init.data.toList.drop 0 = dktX16_init_0 := by decide +kernel
theorem dX16_init_0 : decode cX16_init 0 = .ok (.aload_n 0, 1) := dk_42 (dk_at dksX16_init_0 0 rfl rfl)
theorem dX16_init_1 : decode cX16_init 1 = .ok (.invokespecial 1, 3) := dk_183 0 1 (dk_at dksX16_init_0 1 rfl rfl)
theorem dX16_init_4 : decode cX16_init 4 = .ok (.aload_n 0, 1) := dk_42 (dk_at dksX16_init_0 4 rfl rfl)
theorem dX16_init_5 : decode cX16_init 5 = .ok (.iload_n 1, 1) := dk_27 (dk_at dksX16_init_0 5 rfl rfl)
theorem dX16_init_6 : decode cX16_init 6 = .ok (.putfield 7, 3) := dk_181 0 7 (dk_at dksX16_init_0 6 rfl rfl)
theorem dX16_init_9 : decode cX16_init 9 = .ok (.aload_n 0, 1) := dk_42 (dk_at dksX16_init_0 9 rfl rfl)
theorem dX16_init_10 : decode cX16_init 10 = .ok (.aload_n 2, 1) := dk_44 (dk_at dksX16_init_0 10 rfl rfl)
theorem dX16_init_11 : decode cX16_init 11 = .ok (.putfield 13, 3) := dk_181 0 13 (dk_at dksX16_init_0 11 rfl rfl)
theorem dX16_init_14 : decode cX16_init 14 = .ok (.aload_n 0, 1) := dk_42 (dk_at dksX16_init_0 14 rfl rfl)
theorem dX16_init_15 : decode cX16_init 15 = .ok (.aload_n 3, 1) := dk_45 (dk_at dksX16_init_0 15 rfl rfl)
theorem dX16_init_16 : decode cX16_init 16 = .ok (.putfield 17, 3) := dk_181 0 17 (dk_at dksX16_init_0 16 rfl rfl)
theorem dX16_init_19 : decode cX16_init 19 = .ok (.return_, 1) := dk_177 (dk_at dksX16_init_0 19 rfl rfl)
abbrev cX16_of : ByteArray := prog_24_method_2_code
def yX16_of : MethodName := ⟨RX16, "of", "(LHotIron$Work;)I"⟩
def dkwX16_of_1 : List UInt8 := [153, 0, 9, 28, 29, 96, 167, 0, 6, 28, 29, 100, 172]
abbrev dktX16_of_1 : List UInt8 := dkwX16_of_1 ++ []
def dkwX16_of_0 : List UInt8 := [42, 180, 0, 13, 43, 182, 0, 20, 61, 42, 180, 0, 17, 43, 182, 0, 20, 62, 42, 180, 0, 7]
abbrev dktX16_of_0 : List UInt8 := dkwX16_of_0 ++ dktX16_of_1
theorem dksX16_of_0 : cX16_of.data.toList.drop 0 = dktX16_of_0 := by decide +kernel
theorem dksX16_of_1 : cX16_of.data.toList.drop 22 = dktX16_of_1 := dk_seg dksX16_of_0 22 rfl rfl
theorem dX16_of_0 : decode cX16_of 0 = .ok (.aload_n 0, 1) := dk_42 (dk_at dksX16_of_0 0 rfl rfl)
theorem dX16_of_1 : decode cX16_of 1 = .ok (.getfield 13, 3) := dk_180 0 13 (dk_at dksX16_of_0 1 rfl rfl)
theorem dX16_of_4 : decode cX16_of 4 = .ok (.aload_n 1, 1) := dk_43 (dk_at dksX16_of_0 4 rfl rfl)
theorem dX16_of_5 : decode cX16_of 5 = .ok (.invokevirtual 20, 3) := dk_182 0 20 (dk_at dksX16_of_0 5 rfl rfl)
theorem dX16_of_8 : decode cX16_of 8 = .ok (.istore_n 2, 1) := dk_61 (dk_at dksX16_of_0 8 rfl rfl)
theorem dX16_of_9 : decode cX16_of 9 = .ok (.aload_n 0, 1) := dk_42 (dk_at dksX16_of_0 9 rfl rfl)
theorem dX16_of_10 : decode cX16_of 10 = .ok (.getfield 17, 3) := dk_180 0 17 (dk_at dksX16_of_0 10 rfl rfl)
theorem dX16_of_13 : decode cX16_of 13 = .ok (.aload_n 1, 1) := dk_43 (dk_at dksX16_of_0 13 rfl rfl)
theorem dX16_of_14 : decode cX16_of 14 = .ok (.invokevirtual 20, 3) := dk_182 0 20 (dk_at dksX16_of_0 14 rfl rfl)
theorem dX16_of_17 : decode cX16_of 17 = .ok (.istore_n 3, 1) := dk_62 (dk_at dksX16_of_0 17 rfl rfl)
theorem dX16_of_18 : decode cX16_of 18 = .ok (.aload_n 0, 1) := dk_42 (dk_at dksX16_of_0 18 rfl rfl)
theorem dX16_of_19 : decode cX16_of 19 = .ok (.getfield 7, 3) := dk_180 0 7 (dk_at dksX16_of_0 19 rfl rfl)
theorem dX16_of_22 : decode cX16_of 22 = .ok (.ifCond .eq 9, 3) := dk_153 0 9 (dk_at dksX16_of_1 0 rfl rfl)
theorem dX16_of_25 : decode cX16_of 25 = .ok (.iload_n 2, 1) := dk_28 (dk_at dksX16_of_1 3 rfl rfl)
theorem dX16_of_26 : decode cX16_of 26 = .ok (.iload_n 3, 1) := dk_29 (dk_at dksX16_of_1 4 rfl rfl)
theorem dX16_of_27 : decode cX16_of 27 = .ok (.iadd, 1) := dk_96 (dk_at dksX16_of_1 5 rfl rfl)
theorem dX16_of_28 : decode cX16_of 28 = .ok (.goto 6, 3) := dk_167 0 6 (dk_at dksX16_of_1 6 rfl rfl)
theorem dX16_of_31 : decode cX16_of 31 = .ok (.iload_n 2, 1) := dk_28 (dk_at dksX16_of_1 9 rfl rfl)
theorem dX16_of_32 : decode cX16_of 32 = .ok (.iload_n 3, 1) := dk_29 (dk_at dksX16_of_1 10 rfl rfl)
theorem dX16_of_33 : decode cX16_of 33 = .ok (.isub, 1) := dk_100 (dk_at dksX16_of_1 11 rfl rfl)
theorem dX16_of_34 : decode cX16_of 34 = .ok (.ireturn, 1) := dk_172 (dk_at dksX16_of_1 12 rfl rfl)
theorem q134 : (Jvm.Cond.initialized "HotIron$Two") ∈ lw_all := lw_g (lw_at lw_m1 30 rfl) rfl
theorem q562 : (Jvm.Cond.selects "HotIron$Two" ({ cls := "java/lang/Object", name := "getClass", desc := "()Ljava/lang/Class;" } : Jvm.MethodName) ({ cls := "java/lang/Object", name := "getClass", desc := "()Ljava/lang/Class;" } : Jvm.MethodName)) ∈ lw_all := lw_g (lw_at lw_m2 218 rfl) rfl
theorem q969 : (Jvm.Cond.instantiable "HotIron$Two" (3 : Nat)) ∈ lw_all := lw_g (lw_at lw_m4 145 rfl) rfl
theorem q971 : (Jvm.Cond.instanceMethod ({ cls := "HotIron$Two", name := "<init>", desc := "(ZLHotIron$Sum;LHotIron$Sum;)V" } : Jvm.MethodName)) ∈ lw_all := lw_g (lw_at lw_m4 147 rfl) rfl
theorem q972 : (Jvm.Cond.code ({ cls := "HotIron$Two", name := "<init>", desc := "(ZLHotIron$Sum;LHotIron$Sum;)V" } : Jvm.MethodName) prog_24_method_1_code (4 : Nat) (Option.none : Option Jvm.ClassFile.FieldType)) ∈ lw_all := lw_g (lw_at lw_m4 148 rfl) rfl
theorem q973 : (Jvm.Cond.methodLinkNest "HotIron$Two" (1 : Nat) ({ cls := "HotIron$Sum", name := "<init>", desc := "()V" } : Jvm.MethodName) "HotIron") ∈ lw_tbl := lw_at lw_m4 149 rfl
theorem q974 : (Jvm.Cond.fieldLink "HotIron$Two" (7 : Nat) "HotIron$Two" "plus" "Z") ∈ lw_all := lw_g (lw_at lw_m4 150 rfl) rfl
theorem q975 : (Jvm.Cond.fieldLink "HotIron$Two" (13 : Nat) "HotIron$Two" "left" "LHotIron$Sum;") ∈ lw_all := lw_g (lw_at lw_m4 151 rfl) rfl
theorem q976 : (Jvm.Cond.fieldLink "HotIron$Two" (17 : Nat) "HotIron$Two" "right" "LHotIron$Sum;") ∈ lw_all := lw_g (lw_at lw_m4 152 rfl) rfl
theorem q977 : (Jvm.Cond.laysFinal "HotIron$Two" "HotIron$Two" "plus" "Z") ∈ lw_all := lw_g (lw_at lw_m4 153 rfl) rfl
theorem q978 : (Jvm.Cond.soleField "HotIron$Two" "plus") ∈ lw_all := lw_g (lw_at lw_m4 154 rfl) rfl
theorem q979 : (Jvm.Cond.laysFinal "HotIron$Two" "HotIron$Two" "left" "LHotIron$Sum;") ∈ lw_all := lw_g (lw_at lw_m4 155 rfl) rfl
theorem q980 : (Jvm.Cond.soleField "HotIron$Two" "left") ∈ lw_all := lw_g (lw_at lw_m4 156 rfl) rfl
theorem q981 : (Jvm.Cond.laysFinal "HotIron$Two" "HotIron$Two" "right" "LHotIron$Sum;") ∈ lw_all := lw_g (lw_at lw_m4 157 rfl) rfl
theorem q982 : (Jvm.Cond.soleField "HotIron$Two" "right") ∈ lw_all := lw_g (lw_at lw_m4 158 rfl) rfl
theorem q983 : (Jvm.Cond.superclass "HotIron$Two" "HotIron$Sum") ∈ lw_all := lw_g (lw_at lw_m4 159 rfl) rfl
theorem q1215 : (Jvm.Cond.instanceMethod ({ cls := "HotIron$Two", name := "of", desc := "(LHotIron$Work;)I" } : Jvm.MethodName)) ∈ lw_all := lw_g (lw_at lw_m5 151 rfl) rfl
theorem q1216 : (Jvm.Cond.code ({ cls := "HotIron$Two", name := "of", desc := "(LHotIron$Work;)I" } : Jvm.MethodName) prog_24_method_2_code (4 : Nat) (Option.some Jvm.ClassFile.FieldType.int)) ∈ lw_all := lw_g (lw_at lw_m5 152 rfl) rfl
theorem q1217 : (Jvm.Cond.methodLink "HotIron$Two" (20 : Nat) ({ cls := "HotIron$Sum", name := "of", desc := "(LHotIron$Work;)I" } : Jvm.MethodName)) ∈ lw_all := lw_g (lw_at lw_m5 153 rfl) rfl
theorem q1234 : (Jvm.Cond.selects "HotIron$Two" ({ cls := "HotIron$Sum", name := "of", desc := "(LHotIron$Work;)I" } : Jvm.MethodName) ({ cls := "HotIron$Two", name := "of", desc := "(LHotIron$Work;)I" } : Jvm.MethodName)) ∈ lw_all := lw_g (lw_at lw_m5 170 rfl) rfl
theorem q2144 : (Jvm.Cond.castable "HotIron$Two" "java/lang/Object") ∈ lw_tbl := lw_at lw_m9 120 rfl
theorem in_X16 : ∀ w ∈ wsX160, w ∈ lw_all := lw_in wsX160 [977, 979, 981] (by decide +kernel) (by decide +kernel)
/-! HotIron$Shoulder -/
set_option maxRecDepth 100000
def RX17 : String := "HotIron$Shoulder"
def TX17 : u_T := fun k => match k with
  | 0 => ("HotIron$Step", "at", "LHotIron$Sum;", true)
  | _ => ("HotIron$Step", "when", "LHotIron$Test;", false)
def tyX17 : Nat → FieldType := fun k => match k with
  | 0 => .object "HotIron$Sum"
  | _ => .object "HotIron$Test"
abbrev wsX170 : List Cond := u_ws RX17 TX17 2
theorem nmX17 : ∀ a, a < 2 → ∀ b, b < 2 → a ≠ b → (TX17 a).2.1 ≠ (TX17 b).2.1 := by decide +kernel
theorem tyX17_ok : ∀ k, k < 2 → parseFieldDescriptor (TX17 k).2.2.1 = some (tyX17 k) := by decide +kernel
abbrev cX17_init : ByteArray := prog_17_method_1_code
def yX17_init : MethodName := ⟨RX17, "<init>", "(LHotIron$Sum;)V"⟩
def dkwX17_init_0 : List UInt8 := [42, 43, 183, 0, 1, 177]
abbrev dktX17_init_0 : List UInt8 := dkwX17_init_0 ++ []
theorem dksX17_init_0 : cX17_init.data.toList.drop 0 = dktX17_init_0 := by decide +kernel
theorem dX17_init_0 : decode cX17_init 0 = .ok (.aload_n 0, 1) := dk_42 (dk_at dksX17_init_0 0 rfl rfl)
theorem dX17_init_1 : decode cX17_init 1 = .ok (.aload_n 1, 1) := dk_43 (dk_at dksX17_init_0 1 rfl rfl)
theorem dX17_init_2 : decode cX17_init 2 = .ok (.invokespecial 1, 3) := dk_183 0 1 (dk_at dksX17_init_0 2 rfl rfl)
theorem dX17_init_5 : decode cX17_init 5 = .ok (.return_, 1) := dk_177 (dk_at dksX17_init_0 5 rfl rfl)
abbrev cX17_does : ByteArray := prog_17_method_2_code
def yX17_does : MethodName := ⟨RX17, "does", "(LHotIron$Work;I)I"⟩
def dkwX17_does_0 : List UInt8 := [43, 42, 180, 0, 7, 43, 182, 0, 13, 182, 0, 19, 28, 4, 96, 172]
abbrev dktX17_does_0 : List UInt8 := dkwX17_does_0 ++ []
theorem dksX17_does_0 : cX17_does.data.toList.drop 0 = dktX17_does_0 := by decide +kernel
theorem dX17_does_0 : decode cX17_does 0 = .ok (.aload_n 1, 1) := dk_43 (dk_at dksX17_does_0 0 rfl rfl)
theorem dX17_does_1 : decode cX17_does 1 = .ok (.aload_n 0, 1) := dk_42 (dk_at dksX17_does_0 1 rfl rfl)
theorem dX17_does_2 : decode cX17_does 2 = .ok (.getfield 7, 3) := dk_180 0 7 (dk_at dksX17_does_0 2 rfl rfl)
theorem dX17_does_5 : decode cX17_does 5 = .ok (.aload_n 1, 1) := dk_43 (dk_at dksX17_does_0 5 rfl rfl)
theorem dX17_does_6 : decode cX17_does 6 = .ok (.invokevirtual 13, 3) := dk_182 0 13 (dk_at dksX17_does_0 6 rfl rfl)
theorem dX17_does_9 : decode cX17_does 9 = .ok (.invokevirtual 19, 3) := dk_182 0 19 (dk_at dksX17_does_0 9 rfl rfl)
theorem dX17_does_12 : decode cX17_does 12 = .ok (.iload_n 2, 1) := dk_28 (dk_at dksX17_does_0 12 rfl rfl)
theorem dX17_does_13 : decode cX17_does 13 = .ok (.iconst 1, 1) := dk_4 (dk_at dksX17_does_0 13 rfl rfl)
theorem dX17_does_14 : decode cX17_does 14 = .ok (.iadd, 1) := dk_96 (dk_at dksX17_does_0 14 rfl rfl)
theorem dX17_does_15 : decode cX17_does 15 = .ok (.ireturn, 1) := dk_172 (dk_at dksX17_does_0 15 rfl rfl)
theorem q135 : (Jvm.Cond.initialized "HotIron$Shoulder") ∈ lw_all := lw_g (lw_at lw_m1 31 rfl) rfl
theorem q558 : (Jvm.Cond.selects "HotIron$Shoulder" ({ cls := "java/lang/Object", name := "getClass", desc := "()Ljava/lang/Class;" } : Jvm.MethodName) ({ cls := "java/lang/Object", name := "getClass", desc := "()Ljava/lang/Class;" } : Jvm.MethodName)) ∈ lw_all := lw_g (lw_at lw_m2 214 rfl) rfl
theorem q998 : (Jvm.Cond.fieldLink "HotIron$Shoulder" (7 : Nat) "HotIron$Shoulder" "at" "LHotIron$Sum;") ∈ lw_all := lw_g (lw_at lw_m4 174 rfl) rfl
theorem q999 : (Jvm.Cond.sameField "HotIron$Shoulder" "HotIron$Step" "at" "LHotIron$Sum;") ∈ lw_all := lw_g (lw_at lw_m4 175 rfl) rfl
theorem q1013 : (Jvm.Cond.instantiable "HotIron$Shoulder" (2 : Nat)) ∈ lw_all := lw_g (lw_at lw_m4 189 rfl) rfl
theorem q1015 : (Jvm.Cond.instanceMethod ({ cls := "HotIron$Shoulder", name := "<init>", desc := "(LHotIron$Sum;)V" } : Jvm.MethodName)) ∈ lw_all := lw_g (lw_at lw_m4 191 rfl) rfl
theorem q1016 : (Jvm.Cond.code ({ cls := "HotIron$Shoulder", name := "<init>", desc := "(LHotIron$Sum;)V" } : Jvm.MethodName) prog_17_method_1_code (2 : Nat) (Option.none : Option Jvm.ClassFile.FieldType)) ∈ lw_all := lw_g (lw_at lw_m4 192 rfl) rfl
theorem q1017 : (Jvm.Cond.methodLink "HotIron$Shoulder" (1 : Nat) ({ cls := "HotIron$Step", name := "<init>", desc := "(LHotIron$Sum;)V" } : Jvm.MethodName)) ∈ lw_all := lw_g (lw_at lw_m4 193 rfl) rfl
theorem q1018 : (Jvm.Cond.laysFinal "HotIron$Shoulder" "HotIron$Step" "at" "LHotIron$Sum;") ∈ lw_all := lw_g (lw_at lw_m4 194 rfl) rfl
theorem q1019 : (Jvm.Cond.lays "HotIron$Shoulder" "HotIron$Step" "when" "LHotIron$Test;") ∈ lw_all := lw_g (lw_at lw_m4 195 rfl) rfl
theorem q1020 : (Jvm.Cond.superclass "HotIron$Shoulder" "HotIron$Step") ∈ lw_all := lw_g (lw_at lw_m4 196 rfl) rfl
theorem q1191 : (Jvm.Cond.selects "HotIron$Shoulder" ({ cls := "HotIron$Step", name := "holds", desc := "(LHotIron$Work;)Z" } : Jvm.MethodName) ({ cls := "HotIron$Step", name := "holds", desc := "(LHotIron$Work;)Z" } : Jvm.MethodName)) ∈ lw_all := lw_g (lw_at lw_m5 127 rfl) rfl
theorem q1282 : (Jvm.Cond.selects "HotIron$Shoulder" ({ cls := "HotIron$Step", name := "does", desc := "(LHotIron$Work;I)I" } : Jvm.MethodName) ({ cls := "HotIron$Shoulder", name := "does", desc := "(LHotIron$Work;I)I" } : Jvm.MethodName)) ∈ lw_all := lw_g (lw_at lw_m5 218 rfl) rfl
theorem q1283 : (Jvm.Cond.instanceMethod ({ cls := "HotIron$Shoulder", name := "does", desc := "(LHotIron$Work;I)I" } : Jvm.MethodName)) ∈ lw_all := lw_g (lw_at lw_m5 219 rfl) rfl
theorem q1284 : (Jvm.Cond.code ({ cls := "HotIron$Shoulder", name := "does", desc := "(LHotIron$Work;I)I" } : Jvm.MethodName) prog_17_method_2_code (3 : Nat) (Option.some Jvm.ClassFile.FieldType.int)) ∈ lw_all := lw_g (lw_at lw_m5 220 rfl) rfl
theorem q1285 : (Jvm.Cond.methodLink "HotIron$Shoulder" (13 : Nat) ({ cls := "HotIron$Sum", name := "of", desc := "(LHotIron$Work;)I" } : Jvm.MethodName)) ∈ lw_all := lw_g (lw_at lw_m5 221 rfl) rfl
theorem q1286 : (Jvm.Cond.methodLink "HotIron$Shoulder" (19 : Nat) ({ cls := "HotIron$Work", name := "shoulders", desc := "(I)V" } : Jvm.MethodName)) ∈ lw_all := lw_g (lw_at lw_m5 222 rfl) rfl
theorem q2122 : (Jvm.Cond.castable "HotIron$Shoulder" "HotIron$Step") ∈ lw_tbl := lw_at lw_m9 98 rfl
theorem q2145 : (Jvm.Cond.castable "HotIron$Shoulder" "java/lang/Object") ∈ lw_tbl := lw_at lw_m9 121 rfl
theorem in_X17 : ∀ w ∈ wsX170, w ∈ lw_all := lw_in wsX170 [1018, 1019] (by decide +kernel) (by decide +kernel)
/-! HotIron$Punch -/
set_option maxRecDepth 100000
def RX18 : String := "HotIron$Punch"
def TX18 : u_T := fun k => match k with
  | 0 => ("HotIron$Step", "at", "LHotIron$Sum;", true)
  | _ => ("HotIron$Step", "when", "LHotIron$Test;", false)
def tyX18 : Nat → FieldType := fun k => match k with
  | 0 => .object "HotIron$Sum"
  | _ => .object "HotIron$Test"
abbrev wsX180 : List Cond := u_ws RX18 TX18 2
theorem nmX18 : ∀ a, a < 2 → ∀ b, b < 2 → a ≠ b → (TX18 a).2.1 ≠ (TX18 b).2.1 := by decide +kernel
theorem tyX18_ok : ∀ k, k < 2 → parseFieldDescriptor (TX18 k).2.2.1 = some (tyX18 k) := by decide +kernel
abbrev cX18_init : ByteArray := prog_14_method_1_code
def yX18_init : MethodName := ⟨RX18, "<init>", "(LHotIron$Sum;)V"⟩
def dkwX18_init_0 : List UInt8 := [42, 43, 183, 0, 1, 177]
abbrev dktX18_init_0 : List UInt8 := dkwX18_init_0 ++ []
theorem dksX18_init_0 : cX18_init.data.toList.drop 0 = dktX18_init_0 := by decide +kernel
theorem dX18_init_0 : decode cX18_init 0 = .ok (.aload_n 0, 1) := dk_42 (dk_at dksX18_init_0 0 rfl rfl)
theorem dX18_init_1 : decode cX18_init 1 = .ok (.aload_n 1, 1) := dk_43 (dk_at dksX18_init_0 1 rfl rfl)
theorem dX18_init_2 : decode cX18_init 2 = .ok (.invokespecial 1, 3) := dk_183 0 1 (dk_at dksX18_init_0 2 rfl rfl)
theorem dX18_init_5 : decode cX18_init 5 = .ok (.return_, 1) := dk_177 (dk_at dksX18_init_0 5 rfl rfl)
abbrev cX18_does : ByteArray := prog_14_method_2_code
def yX18_does : MethodName := ⟨RX18, "does", "(LHotIron$Work;I)I"⟩
def dkwX18_does_0 : List UInt8 := [43, 42, 180, 0, 7, 43, 182, 0, 13, 182, 0, 19, 28, 4, 96, 172]
abbrev dktX18_does_0 : List UInt8 := dkwX18_does_0 ++ []
theorem dksX18_does_0 : cX18_does.data.toList.drop 0 = dktX18_does_0 := by decide +kernel
theorem dX18_does_0 : decode cX18_does 0 = .ok (.aload_n 1, 1) := dk_43 (dk_at dksX18_does_0 0 rfl rfl)
theorem dX18_does_1 : decode cX18_does 1 = .ok (.aload_n 0, 1) := dk_42 (dk_at dksX18_does_0 1 rfl rfl)
theorem dX18_does_2 : decode cX18_does 2 = .ok (.getfield 7, 3) := dk_180 0 7 (dk_at dksX18_does_0 2 rfl rfl)
theorem dX18_does_5 : decode cX18_does 5 = .ok (.aload_n 1, 1) := dk_43 (dk_at dksX18_does_0 5 rfl rfl)
theorem dX18_does_6 : decode cX18_does 6 = .ok (.invokevirtual 13, 3) := dk_182 0 13 (dk_at dksX18_does_0 6 rfl rfl)
theorem dX18_does_9 : decode cX18_does 9 = .ok (.invokevirtual 19, 3) := dk_182 0 19 (dk_at dksX18_does_0 9 rfl rfl)
theorem dX18_does_12 : decode cX18_does 12 = .ok (.iload_n 2, 1) := dk_28 (dk_at dksX18_does_0 12 rfl rfl)
theorem dX18_does_13 : decode cX18_does 13 = .ok (.iconst 1, 1) := dk_4 (dk_at dksX18_does_0 13 rfl rfl)
theorem dX18_does_14 : decode cX18_does 14 = .ok (.iadd, 1) := dk_96 (dk_at dksX18_does_0 14 rfl rfl)
theorem dX18_does_15 : decode cX18_does 15 = .ok (.ireturn, 1) := dk_172 (dk_at dksX18_does_0 15 rfl rfl)
theorem q136 : (Jvm.Cond.initialized "HotIron$Punch") ∈ lw_all := lw_g (lw_at lw_m1 32 rfl) rfl
theorem q555 : (Jvm.Cond.selects "HotIron$Punch" ({ cls := "java/lang/Object", name := "getClass", desc := "()Ljava/lang/Class;" } : Jvm.MethodName) ({ cls := "java/lang/Object", name := "getClass", desc := "()Ljava/lang/Class;" } : Jvm.MethodName)) ∈ lw_all := lw_g (lw_at lw_m2 211 rfl) rfl
theorem q996 : (Jvm.Cond.fieldLink "HotIron$Punch" (7 : Nat) "HotIron$Punch" "at" "LHotIron$Sum;") ∈ lw_all := lw_g (lw_at lw_m4 172 rfl) rfl
theorem q997 : (Jvm.Cond.sameField "HotIron$Punch" "HotIron$Step" "at" "LHotIron$Sum;") ∈ lw_all := lw_g (lw_at lw_m4 173 rfl) rfl
theorem q1023 : (Jvm.Cond.instantiable "HotIron$Punch" (2 : Nat)) ∈ lw_all := lw_g (lw_at lw_m4 199 rfl) rfl
theorem q1025 : (Jvm.Cond.instanceMethod ({ cls := "HotIron$Punch", name := "<init>", desc := "(LHotIron$Sum;)V" } : Jvm.MethodName)) ∈ lw_all := lw_g (lw_at lw_m4 201 rfl) rfl
theorem q1026 : (Jvm.Cond.code ({ cls := "HotIron$Punch", name := "<init>", desc := "(LHotIron$Sum;)V" } : Jvm.MethodName) prog_14_method_1_code (2 : Nat) (Option.none : Option Jvm.ClassFile.FieldType)) ∈ lw_all := lw_g (lw_at lw_m4 202 rfl) rfl
theorem q1027 : (Jvm.Cond.methodLink "HotIron$Punch" (1 : Nat) ({ cls := "HotIron$Step", name := "<init>", desc := "(LHotIron$Sum;)V" } : Jvm.MethodName)) ∈ lw_all := lw_g (lw_at lw_m4 203 rfl) rfl
theorem q1028 : (Jvm.Cond.laysFinal "HotIron$Punch" "HotIron$Step" "at" "LHotIron$Sum;") ∈ lw_all := lw_g (lw_at lw_m4 204 rfl) rfl
theorem q1029 : (Jvm.Cond.lays "HotIron$Punch" "HotIron$Step" "when" "LHotIron$Test;") ∈ lw_all := lw_g (lw_at lw_m4 205 rfl) rfl
theorem q1030 : (Jvm.Cond.superclass "HotIron$Punch" "HotIron$Step") ∈ lw_all := lw_g (lw_at lw_m4 206 rfl) rfl
theorem q1190 : (Jvm.Cond.selects "HotIron$Punch" ({ cls := "HotIron$Step", name := "holds", desc := "(LHotIron$Work;)Z" } : Jvm.MethodName) ({ cls := "HotIron$Step", name := "holds", desc := "(LHotIron$Work;)Z" } : Jvm.MethodName)) ∈ lw_all := lw_g (lw_at lw_m5 126 rfl) rfl
theorem q1265 : (Jvm.Cond.selects "HotIron$Punch" ({ cls := "HotIron$Step", name := "does", desc := "(LHotIron$Work;I)I" } : Jvm.MethodName) ({ cls := "HotIron$Punch", name := "does", desc := "(LHotIron$Work;I)I" } : Jvm.MethodName)) ∈ lw_all := lw_g (lw_at lw_m5 201 rfl) rfl
theorem q1266 : (Jvm.Cond.instanceMethod ({ cls := "HotIron$Punch", name := "does", desc := "(LHotIron$Work;I)I" } : Jvm.MethodName)) ∈ lw_all := lw_g (lw_at lw_m5 202 rfl) rfl
theorem q1267 : (Jvm.Cond.code ({ cls := "HotIron$Punch", name := "does", desc := "(LHotIron$Work;I)I" } : Jvm.MethodName) prog_14_method_2_code (3 : Nat) (Option.some Jvm.ClassFile.FieldType.int)) ∈ lw_all := lw_g (lw_at lw_m5 203 rfl) rfl
theorem q1268 : (Jvm.Cond.methodLink "HotIron$Punch" (13 : Nat) ({ cls := "HotIron$Sum", name := "of", desc := "(LHotIron$Work;)I" } : Jvm.MethodName)) ∈ lw_all := lw_g (lw_at lw_m5 204 rfl) rfl
theorem q1269 : (Jvm.Cond.methodLink "HotIron$Punch" (19 : Nat) ({ cls := "HotIron$Work", name := "punches", desc := "(I)V" } : Jvm.MethodName)) ∈ lw_all := lw_g (lw_at lw_m5 205 rfl) rfl
theorem q2121 : (Jvm.Cond.castable "HotIron$Punch" "HotIron$Step") ∈ lw_tbl := lw_at lw_m9 97 rfl
theorem q2146 : (Jvm.Cond.castable "HotIron$Punch" "java/lang/Object") ∈ lw_tbl := lw_at lw_m9 122 rfl
theorem in_X18 : ∀ w ∈ wsX180, w ∈ lw_all := lw_in wsX180 [1028, 1029] (by decide +kernel) (by decide +kernel)
/-! HotIron$Weld -/
set_option maxRecDepth 100000
def RX19 : String := "HotIron$Weld"
def TX19 : u_T := fun k => match k with
  | 0 => ("HotIron$Step", "at", "LHotIron$Sum;", true)
  | _ => ("HotIron$Step", "when", "LHotIron$Test;", false)
def tyX19 : Nat → FieldType := fun k => match k with
  | 0 => .object "HotIron$Sum"
  | _ => .object "HotIron$Test"
abbrev wsX190 : List Cond := u_ws RX19 TX19 2
theorem nmX19 : ∀ a, a < 2 → ∀ b, b < 2 → a ≠ b → (TX19 a).2.1 ≠ (TX19 b).2.1 := by decide +kernel
theorem tyX19_ok : ∀ k, k < 2 → parseFieldDescriptor (TX19 k).2.2.1 = some (tyX19 k) := by decide +kernel
abbrev cX19_init : ByteArray := prog_25_method_1_code
def yX19_init : MethodName := ⟨RX19, "<init>", "(LHotIron$Sum;)V"⟩
def dkwX19_init_0 : List UInt8 := [42, 43, 183, 0, 1, 177]
abbrev dktX19_init_0 : List UInt8 := dkwX19_init_0 ++ []
theorem dksX19_init_0 : cX19_init.data.toList.drop 0 = dktX19_init_0 := by decide +kernel
theorem dX19_init_0 : decode cX19_init 0 = .ok (.aload_n 0, 1) := dk_42 (dk_at dksX19_init_0 0 rfl rfl)
theorem dX19_init_1 : decode cX19_init 1 = .ok (.aload_n 1, 1) := dk_43 (dk_at dksX19_init_0 1 rfl rfl)
theorem dX19_init_2 : decode cX19_init 2 = .ok (.invokespecial 1, 3) := dk_183 0 1 (dk_at dksX19_init_0 2 rfl rfl)
theorem dX19_init_5 : decode cX19_init 5 = .ok (.return_, 1) := dk_177 (dk_at dksX19_init_0 5 rfl rfl)
abbrev cX19_does : ByteArray := prog_25_method_2_code
def yX19_does : MethodName := ⟨RX19, "does", "(LHotIron$Work;I)I"⟩
def dkwX19_does_0 : List UInt8 := [43, 42, 180, 0, 7, 43, 182, 0, 13, 182, 0, 19, 28, 4, 96, 172]
abbrev dktX19_does_0 : List UInt8 := dkwX19_does_0 ++ []
theorem dksX19_does_0 : cX19_does.data.toList.drop 0 = dktX19_does_0 := by decide +kernel
theorem dX19_does_0 : decode cX19_does 0 = .ok (.aload_n 1, 1) := dk_43 (dk_at dksX19_does_0 0 rfl rfl)
theorem dX19_does_1 : decode cX19_does 1 = .ok (.aload_n 0, 1) := dk_42 (dk_at dksX19_does_0 1 rfl rfl)
theorem dX19_does_2 : decode cX19_does 2 = .ok (.getfield 7, 3) := dk_180 0 7 (dk_at dksX19_does_0 2 rfl rfl)
theorem dX19_does_5 : decode cX19_does 5 = .ok (.aload_n 1, 1) := dk_43 (dk_at dksX19_does_0 5 rfl rfl)
theorem dX19_does_6 : decode cX19_does 6 = .ok (.invokevirtual 13, 3) := dk_182 0 13 (dk_at dksX19_does_0 6 rfl rfl)
theorem dX19_does_9 : decode cX19_does 9 = .ok (.invokevirtual 19, 3) := dk_182 0 19 (dk_at dksX19_does_0 9 rfl rfl)
theorem dX19_does_12 : decode cX19_does 12 = .ok (.iload_n 2, 1) := dk_28 (dk_at dksX19_does_0 12 rfl rfl)
theorem dX19_does_13 : decode cX19_does 13 = .ok (.iconst 1, 1) := dk_4 (dk_at dksX19_does_0 13 rfl rfl)
theorem dX19_does_14 : decode cX19_does 14 = .ok (.iadd, 1) := dk_96 (dk_at dksX19_does_0 14 rfl rfl)
theorem dX19_does_15 : decode cX19_does 15 = .ok (.ireturn, 1) := dk_172 (dk_at dksX19_does_0 15 rfl rfl)
theorem q137 : (Jvm.Cond.initialized "HotIron$Weld") ∈ lw_all := lw_g (lw_at lw_m1 33 rfl) rfl
theorem q563 : (Jvm.Cond.selects "HotIron$Weld" ({ cls := "java/lang/Object", name := "getClass", desc := "()Ljava/lang/Class;" } : Jvm.MethodName) ({ cls := "java/lang/Object", name := "getClass", desc := "()Ljava/lang/Class;" } : Jvm.MethodName)) ∈ lw_all := lw_g (lw_at lw_m2 219 rfl) rfl
theorem q1002 : (Jvm.Cond.fieldLink "HotIron$Weld" (7 : Nat) "HotIron$Weld" "at" "LHotIron$Sum;") ∈ lw_all := lw_g (lw_at lw_m4 178 rfl) rfl
theorem q1003 : (Jvm.Cond.sameField "HotIron$Weld" "HotIron$Step" "at" "LHotIron$Sum;") ∈ lw_all := lw_g (lw_at lw_m4 179 rfl) rfl
theorem q1033 : (Jvm.Cond.instantiable "HotIron$Weld" (2 : Nat)) ∈ lw_all := lw_g (lw_at lw_m4 209 rfl) rfl
theorem q1035 : (Jvm.Cond.instanceMethod ({ cls := "HotIron$Weld", name := "<init>", desc := "(LHotIron$Sum;)V" } : Jvm.MethodName)) ∈ lw_all := lw_g (lw_at lw_m4 211 rfl) rfl
theorem q1036 : (Jvm.Cond.code ({ cls := "HotIron$Weld", name := "<init>", desc := "(LHotIron$Sum;)V" } : Jvm.MethodName) prog_25_method_1_code (2 : Nat) (Option.none : Option Jvm.ClassFile.FieldType)) ∈ lw_all := lw_g (lw_at lw_m4 212 rfl) rfl
theorem q1037 : (Jvm.Cond.methodLink "HotIron$Weld" (1 : Nat) ({ cls := "HotIron$Step", name := "<init>", desc := "(LHotIron$Sum;)V" } : Jvm.MethodName)) ∈ lw_all := lw_g (lw_at lw_m4 213 rfl) rfl
theorem q1038 : (Jvm.Cond.laysFinal "HotIron$Weld" "HotIron$Step" "at" "LHotIron$Sum;") ∈ lw_all := lw_g (lw_at lw_m4 214 rfl) rfl
theorem q1039 : (Jvm.Cond.lays "HotIron$Weld" "HotIron$Step" "when" "LHotIron$Test;") ∈ lw_all := lw_g (lw_at lw_m4 215 rfl) rfl
theorem q1040 : (Jvm.Cond.superclass "HotIron$Weld" "HotIron$Step") ∈ lw_all := lw_g (lw_at lw_m4 216 rfl) rfl
theorem q1193 : (Jvm.Cond.selects "HotIron$Weld" ({ cls := "HotIron$Step", name := "holds", desc := "(LHotIron$Work;)Z" } : Jvm.MethodName) ({ cls := "HotIron$Step", name := "holds", desc := "(LHotIron$Work;)Z" } : Jvm.MethodName)) ∈ lw_all := lw_g (lw_at lw_m5 129 rfl) rfl
theorem q1309 : (Jvm.Cond.selects "HotIron$Weld" ({ cls := "HotIron$Step", name := "does", desc := "(LHotIron$Work;I)I" } : Jvm.MethodName) ({ cls := "HotIron$Weld", name := "does", desc := "(LHotIron$Work;I)I" } : Jvm.MethodName)) ∈ lw_all := lw_g (lw_at lw_m6 5 rfl) rfl
theorem q1310 : (Jvm.Cond.instanceMethod ({ cls := "HotIron$Weld", name := "does", desc := "(LHotIron$Work;I)I" } : Jvm.MethodName)) ∈ lw_all := lw_g (lw_at lw_m6 6 rfl) rfl
theorem q1311 : (Jvm.Cond.code ({ cls := "HotIron$Weld", name := "does", desc := "(LHotIron$Work;I)I" } : Jvm.MethodName) prog_25_method_2_code (3 : Nat) (Option.some Jvm.ClassFile.FieldType.int)) ∈ lw_all := lw_g (lw_at lw_m6 7 rfl) rfl
theorem q1312 : (Jvm.Cond.methodLink "HotIron$Weld" (13 : Nat) ({ cls := "HotIron$Sum", name := "of", desc := "(LHotIron$Work;)I" } : Jvm.MethodName)) ∈ lw_all := lw_g (lw_at lw_m6 8 rfl) rfl
theorem q1313 : (Jvm.Cond.methodLink "HotIron$Weld" (19 : Nat) ({ cls := "HotIron$Work", name := "welds", desc := "(I)V" } : Jvm.MethodName)) ∈ lw_all := lw_g (lw_at lw_m6 9 rfl) rfl
theorem q2124 : (Jvm.Cond.castable "HotIron$Weld" "HotIron$Step") ∈ lw_tbl := lw_at lw_m9 100 rfl
theorem q2147 : (Jvm.Cond.castable "HotIron$Weld" "java/lang/Object") ∈ lw_tbl := lw_at lw_m9 123 rfl
theorem in_X19 : ∀ w ∈ wsX190, w ∈ lw_all := lw_in wsX190 [1038, 1039] (by decide +kernel) (by decide +kernel)
/-! HotIron$Go -/
set_option maxRecDepth 100000
def RX20 : String := "HotIron$Go"
def TX20 : u_T := fun k => match k with
  | 0 => ("HotIron$Step", "at", "LHotIron$Sum;", true)
  | _ => ("HotIron$Step", "when", "LHotIron$Test;", false)
def tyX20 : Nat → FieldType := fun k => match k with
  | 0 => .object "HotIron$Sum"
  | _ => .object "HotIron$Test"
abbrev wsX200 : List Cond := u_ws RX20 TX20 2
theorem nmX20 : ∀ a, a < 2 → ∀ b, b < 2 → a ≠ b → (TX20 a).2.1 ≠ (TX20 b).2.1 := by decide +kernel
theorem tyX20_ok : ∀ k, k < 2 → parseFieldDescriptor (TX20 k).2.2.1 = some (tyX20 k) := by decide +kernel
abbrev cX20_init : ByteArray := prog_6_method_1_code
def yX20_init : MethodName := ⟨RX20, "<init>", "(LHotIron$Sum;)V"⟩
def dkwX20_init_0 : List UInt8 := [42, 43, 183, 0, 1, 177]
abbrev dktX20_init_0 : List UInt8 := dkwX20_init_0 ++ []
theorem dksX20_init_0 : cX20_init.data.toList.drop 0 = dktX20_init_0 := by decide +kernel
theorem dX20_init_0 : decode cX20_init 0 = .ok (.aload_n 0, 1) := dk_42 (dk_at dksX20_init_0 0 rfl rfl)
theorem dX20_init_1 : decode cX20_init 1 = .ok (.aload_n 1, 1) := dk_43 (dk_at dksX20_init_0 1 rfl rfl)
theorem dX20_init_2 : decode cX20_init 2 = .ok (.invokespecial 1, 3) := dk_183 0 1 (dk_at dksX20_init_0 2 rfl rfl)
theorem dX20_init_5 : decode cX20_init 5 = .ok (.return_, 1) := dk_177 (dk_at dksX20_init_0 5 rfl rfl)
abbrev cX20_does : ByteArray := prog_6_method_2_code
def yX20_does : MethodName := ⟨RX20, "does", "(LHotIron$Work;I)I"⟩
def dkwX20_does_0 : List UInt8 := [42, 180, 0, 7, 43, 182, 0, 13, 172]
abbrev dktX20_does_0 : List UInt8 := dkwX20_does_0 ++ []
theorem dksX20_does_0 : cX20_does.data.toList.drop 0 = dktX20_does_0 := by decide +kernel
theorem dX20_does_0 : decode cX20_does 0 = .ok (.aload_n 0, 1) := dk_42 (dk_at dksX20_does_0 0 rfl rfl)
theorem dX20_does_1 : decode cX20_does 1 = .ok (.getfield 7, 3) := dk_180 0 7 (dk_at dksX20_does_0 1 rfl rfl)
theorem dX20_does_4 : decode cX20_does 4 = .ok (.aload_n 1, 1) := dk_43 (dk_at dksX20_does_0 4 rfl rfl)
theorem dX20_does_5 : decode cX20_does 5 = .ok (.invokevirtual 13, 3) := dk_182 0 13 (dk_at dksX20_does_0 5 rfl rfl)
theorem dX20_does_8 : decode cX20_does 8 = .ok (.ireturn, 1) := dk_172 (dk_at dksX20_does_0 8 rfl rfl)
theorem q138 : (Jvm.Cond.initialized "HotIron$Go") ∈ lw_all := lw_g (lw_at lw_m1 34 rfl) rfl
theorem q547 : (Jvm.Cond.selects "HotIron$Go" ({ cls := "java/lang/Object", name := "getClass", desc := "()Ljava/lang/Class;" } : Jvm.MethodName) ({ cls := "java/lang/Object", name := "getClass", desc := "()Ljava/lang/Class;" } : Jvm.MethodName)) ∈ lw_all := lw_g (lw_at lw_m2 203 rfl) rfl
theorem q992 : (Jvm.Cond.fieldLink "HotIron$Go" (7 : Nat) "HotIron$Go" "at" "LHotIron$Sum;") ∈ lw_all := lw_g (lw_at lw_m4 168 rfl) rfl
theorem q993 : (Jvm.Cond.sameField "HotIron$Go" "HotIron$Step" "at" "LHotIron$Sum;") ∈ lw_all := lw_g (lw_at lw_m4 169 rfl) rfl
theorem q1043 : (Jvm.Cond.instantiable "HotIron$Go" (2 : Nat)) ∈ lw_all := lw_g (lw_at lw_m4 219 rfl) rfl
theorem q1045 : (Jvm.Cond.instanceMethod ({ cls := "HotIron$Go", name := "<init>", desc := "(LHotIron$Sum;)V" } : Jvm.MethodName)) ∈ lw_all := lw_g (lw_at lw_m4 221 rfl) rfl
theorem q1046 : (Jvm.Cond.code ({ cls := "HotIron$Go", name := "<init>", desc := "(LHotIron$Sum;)V" } : Jvm.MethodName) prog_6_method_1_code (2 : Nat) (Option.none : Option Jvm.ClassFile.FieldType)) ∈ lw_all := lw_g (lw_at lw_m4 222 rfl) rfl
theorem q1047 : (Jvm.Cond.methodLink "HotIron$Go" (1 : Nat) ({ cls := "HotIron$Step", name := "<init>", desc := "(LHotIron$Sum;)V" } : Jvm.MethodName)) ∈ lw_all := lw_g (lw_at lw_m4 223 rfl) rfl
theorem q1048 : (Jvm.Cond.laysFinal "HotIron$Go" "HotIron$Step" "at" "LHotIron$Sum;") ∈ lw_all := lw_g (lw_at lw_m4 224 rfl) rfl
theorem q1049 : (Jvm.Cond.lays "HotIron$Go" "HotIron$Step" "when" "LHotIron$Test;") ∈ lw_all := lw_g (lw_at lw_m4 225 rfl) rfl
theorem q1050 : (Jvm.Cond.superclass "HotIron$Go" "HotIron$Step") ∈ lw_all := lw_g (lw_at lw_m4 226 rfl) rfl
theorem q1189 : (Jvm.Cond.selects "HotIron$Go" ({ cls := "HotIron$Step", name := "holds", desc := "(LHotIron$Work;)Z" } : Jvm.MethodName) ({ cls := "HotIron$Step", name := "holds", desc := "(LHotIron$Work;)Z" } : Jvm.MethodName)) ∈ lw_all := lw_g (lw_at lw_m5 125 rfl) rfl
theorem q1261 : (Jvm.Cond.selects "HotIron$Go" ({ cls := "HotIron$Step", name := "does", desc := "(LHotIron$Work;I)I" } : Jvm.MethodName) ({ cls := "HotIron$Go", name := "does", desc := "(LHotIron$Work;I)I" } : Jvm.MethodName)) ∈ lw_all := lw_g (lw_at lw_m5 197 rfl) rfl
theorem q1262 : (Jvm.Cond.instanceMethod ({ cls := "HotIron$Go", name := "does", desc := "(LHotIron$Work;I)I" } : Jvm.MethodName)) ∈ lw_all := lw_g (lw_at lw_m5 198 rfl) rfl
theorem q1263 : (Jvm.Cond.code ({ cls := "HotIron$Go", name := "does", desc := "(LHotIron$Work;I)I" } : Jvm.MethodName) prog_6_method_2_code (3 : Nat) (Option.some Jvm.ClassFile.FieldType.int)) ∈ lw_all := lw_g (lw_at lw_m5 199 rfl) rfl
theorem q1264 : (Jvm.Cond.methodLink "HotIron$Go" (13 : Nat) ({ cls := "HotIron$Sum", name := "of", desc := "(LHotIron$Work;)I" } : Jvm.MethodName)) ∈ lw_all := lw_g (lw_at lw_m5 200 rfl) rfl
theorem q2120 : (Jvm.Cond.castable "HotIron$Go" "HotIron$Step") ∈ lw_tbl := lw_at lw_m9 96 rfl
theorem q2148 : (Jvm.Cond.castable "HotIron$Go" "java/lang/Object") ∈ lw_tbl := lw_at lw_m9 124 rfl
theorem in_X20 : ∀ w ∈ wsX200, w ∈ lw_all := lw_in wsX200 [1048, 1049] (by decide +kernel) (by decide +kernel)
/-! HotIron$Strike -/
set_option maxRecDepth 100000
def RX21 : String := "HotIron$Strike"
def TX21 : u_T := fun k => match k with
  | 0 => ("HotIron$Step", "at", "LHotIron$Sum;", true)
  | 1 => ("HotIron$Step", "when", "LHotIron$Test;", false)
  | _ => ("HotIron$Strike", "to", "LHotIron$Sum;", true)
def tyX21 : Nat → FieldType := fun k => match k with
  | 0 => .object "HotIron$Sum"
  | 1 => .object "HotIron$Test"
  | _ => .object "HotIron$Sum"
abbrev wsX210 : List Cond := u_ws RX21 TX21 3
theorem nmX21 : ∀ a, a < 3 → ∀ b, b < 3 → a ≠ b → (TX21 a).2.1 ≠ (TX21 b).2.1 := by decide +kernel
theorem tyX21_ok : ∀ k, k < 3 → parseFieldDescriptor (TX21 k).2.2.1 = some (tyX21 k) := by decide +kernel
abbrev cX21_init : ByteArray := prog_20_method_1_code
def yX21_init : MethodName := ⟨RX21, "<init>", "(LHotIron$Sum;LHotIron$Sum;)V"⟩
def dkwX21_init_0 : List UInt8 := [42, 43, 183, 0, 1, 42, 44, 181, 0, 7, 177]
abbrev dktX21_init_0 : List UInt8 := dkwX21_init_0 ++ []
theorem dksX21_init_0 : cX21_init.data.toList.drop 0 = dktX21_init_0 := by decide +kernel
theorem dX21_init_0 : decode cX21_init 0 = .ok (.aload_n 0, 1) := dk_42 (dk_at dksX21_init_0 0 rfl rfl)
theorem dX21_init_1 : decode cX21_init 1 = .ok (.aload_n 1, 1) := dk_43 (dk_at dksX21_init_0 1 rfl rfl)
theorem dX21_init_2 : decode cX21_init 2 = .ok (.invokespecial 1, 3) := dk_183 0 1 (dk_at dksX21_init_0 2 rfl rfl)
theorem dX21_init_5 : decode cX21_init 5 = .ok (.aload_n 0, 1) := dk_42 (dk_at dksX21_init_0 5 rfl rfl)
theorem dX21_init_6 : decode cX21_init 6 = .ok (.aload_n 2, 1) := dk_44 (dk_at dksX21_init_0 6 rfl rfl)
theorem dX21_init_7 : decode cX21_init 7 = .ok (.putfield 7, 3) := dk_181 0 7 (dk_at dksX21_init_0 7 rfl rfl)
theorem dX21_init_10 : decode cX21_init 10 = .ok (.return_, 1) := dk_177 (dk_at dksX21_init_0 10 rfl rfl)
abbrev cX21_does : ByteArray := prog_20_method_2_code
def yX21_does : MethodName := ⟨RX21, "does", "(LHotIron$Work;I)I"⟩
def dkwX21_does_0 : List UInt8 := [43, 42, 180, 0, 13, 43, 182, 0, 16, 42, 180, 0, 7, 43, 182, 0, 16, 182, 0, 22, 28, 4, 96, 172]
abbrev dktX21_does_0 : List UInt8 := dkwX21_does_0 ++ []
theorem dksX21_does_0 : cX21_does.data.toList.drop 0 = dktX21_does_0 := by decide +kernel
theorem dX21_does_0 : decode cX21_does 0 = .ok (.aload_n 1, 1) := dk_43 (dk_at dksX21_does_0 0 rfl rfl)
theorem dX21_does_1 : decode cX21_does 1 = .ok (.aload_n 0, 1) := dk_42 (dk_at dksX21_does_0 1 rfl rfl)
theorem dX21_does_2 : decode cX21_does 2 = .ok (.getfield 13, 3) := dk_180 0 13 (dk_at dksX21_does_0 2 rfl rfl)
theorem dX21_does_5 : decode cX21_does 5 = .ok (.aload_n 1, 1) := dk_43 (dk_at dksX21_does_0 5 rfl rfl)
theorem dX21_does_6 : decode cX21_does 6 = .ok (.invokevirtual 16, 3) := dk_182 0 16 (dk_at dksX21_does_0 6 rfl rfl)
theorem dX21_does_9 : decode cX21_does 9 = .ok (.aload_n 0, 1) := dk_42 (dk_at dksX21_does_0 9 rfl rfl)
theorem dX21_does_10 : decode cX21_does 10 = .ok (.getfield 7, 3) := dk_180 0 7 (dk_at dksX21_does_0 10 rfl rfl)
theorem dX21_does_13 : decode cX21_does 13 = .ok (.aload_n 1, 1) := dk_43 (dk_at dksX21_does_0 13 rfl rfl)
theorem dX21_does_14 : decode cX21_does 14 = .ok (.invokevirtual 16, 3) := dk_182 0 16 (dk_at dksX21_does_0 14 rfl rfl)
theorem dX21_does_17 : decode cX21_does 17 = .ok (.invokevirtual 22, 3) := dk_182 0 22 (dk_at dksX21_does_0 17 rfl rfl)
theorem dX21_does_20 : decode cX21_does 20 = .ok (.iload_n 2, 1) := dk_28 (dk_at dksX21_does_0 20 rfl rfl)
theorem dX21_does_21 : decode cX21_does 21 = .ok (.iconst 1, 1) := dk_4 (dk_at dksX21_does_0 21 rfl rfl)
theorem dX21_does_22 : decode cX21_does 22 = .ok (.iadd, 1) := dk_96 (dk_at dksX21_does_0 22 rfl rfl)
theorem dX21_does_23 : decode cX21_does 23 = .ok (.ireturn, 1) := dk_172 (dk_at dksX21_does_0 23 rfl rfl)
theorem q139 : (Jvm.Cond.initialized "HotIron$Strike") ∈ lw_all := lw_g (lw_at lw_m1 35 rfl) rfl
theorem q560 : (Jvm.Cond.selects "HotIron$Strike" ({ cls := "java/lang/Object", name := "getClass", desc := "()Ljava/lang/Class;" } : Jvm.MethodName) ({ cls := "java/lang/Object", name := "getClass", desc := "()Ljava/lang/Class;" } : Jvm.MethodName)) ∈ lw_all := lw_g (lw_at lw_m2 216 rfl) rfl
theorem q1000 : (Jvm.Cond.fieldLink "HotIron$Strike" (13 : Nat) "HotIron$Strike" "at" "LHotIron$Sum;") ∈ lw_all := lw_g (lw_at lw_m4 176 rfl) rfl
theorem q1001 : (Jvm.Cond.sameField "HotIron$Strike" "HotIron$Step" "at" "LHotIron$Sum;") ∈ lw_all := lw_g (lw_at lw_m4 177 rfl) rfl
theorem q1054 : (Jvm.Cond.instantiable "HotIron$Strike" (3 : Nat)) ∈ lw_all := lw_g (lw_at lw_m4 230 rfl) rfl
theorem q1056 : (Jvm.Cond.instanceMethod ({ cls := "HotIron$Strike", name := "<init>", desc := "(LHotIron$Sum;LHotIron$Sum;)V" } : Jvm.MethodName)) ∈ lw_all := lw_g (lw_at lw_m4 232 rfl) rfl
theorem q1057 : (Jvm.Cond.code ({ cls := "HotIron$Strike", name := "<init>", desc := "(LHotIron$Sum;LHotIron$Sum;)V" } : Jvm.MethodName) prog_20_method_1_code (3 : Nat) (Option.none : Option Jvm.ClassFile.FieldType)) ∈ lw_all := lw_g (lw_at lw_m4 233 rfl) rfl
theorem q1058 : (Jvm.Cond.methodLink "HotIron$Strike" (1 : Nat) ({ cls := "HotIron$Step", name := "<init>", desc := "(LHotIron$Sum;)V" } : Jvm.MethodName)) ∈ lw_all := lw_g (lw_at lw_m4 234 rfl) rfl
theorem q1059 : (Jvm.Cond.fieldLink "HotIron$Strike" (7 : Nat) "HotIron$Strike" "to" "LHotIron$Sum;") ∈ lw_all := lw_g (lw_at lw_m4 235 rfl) rfl
theorem q1060 : (Jvm.Cond.laysFinal "HotIron$Strike" "HotIron$Strike" "to" "LHotIron$Sum;") ∈ lw_all := lw_g (lw_at lw_m4 236 rfl) rfl
theorem q1061 : (Jvm.Cond.soleField "HotIron$Strike" "to") ∈ lw_all := lw_g (lw_at lw_m4 237 rfl) rfl
theorem q1062 : (Jvm.Cond.laysFinal "HotIron$Strike" "HotIron$Step" "at" "LHotIron$Sum;") ∈ lw_all := lw_g (lw_at lw_m4 238 rfl) rfl
theorem q1063 : (Jvm.Cond.lays "HotIron$Strike" "HotIron$Step" "when" "LHotIron$Test;") ∈ lw_all := lw_g (lw_at lw_m4 239 rfl) rfl
theorem q1064 : (Jvm.Cond.superclass "HotIron$Strike" "HotIron$Step") ∈ lw_all := lw_g (lw_at lw_m5 0 rfl) rfl
theorem q1192 : (Jvm.Cond.selects "HotIron$Strike" ({ cls := "HotIron$Step", name := "holds", desc := "(LHotIron$Work;)Z" } : Jvm.MethodName) ({ cls := "HotIron$Step", name := "holds", desc := "(LHotIron$Work;)Z" } : Jvm.MethodName)) ∈ lw_all := lw_g (lw_at lw_m5 128 rfl) rfl
theorem q1290 : (Jvm.Cond.selects "HotIron$Strike" ({ cls := "HotIron$Step", name := "does", desc := "(LHotIron$Work;I)I" } : Jvm.MethodName) ({ cls := "HotIron$Strike", name := "does", desc := "(LHotIron$Work;I)I" } : Jvm.MethodName)) ∈ lw_all := lw_g (lw_at lw_m5 226 rfl) rfl
theorem q1291 : (Jvm.Cond.instanceMethod ({ cls := "HotIron$Strike", name := "does", desc := "(LHotIron$Work;I)I" } : Jvm.MethodName)) ∈ lw_all := lw_g (lw_at lw_m5 227 rfl) rfl
theorem q1292 : (Jvm.Cond.code ({ cls := "HotIron$Strike", name := "does", desc := "(LHotIron$Work;I)I" } : Jvm.MethodName) prog_20_method_2_code (3 : Nat) (Option.some Jvm.ClassFile.FieldType.int)) ∈ lw_all := lw_g (lw_at lw_m5 228 rfl) rfl
theorem q1293 : (Jvm.Cond.methodLink "HotIron$Strike" (16 : Nat) ({ cls := "HotIron$Sum", name := "of", desc := "(LHotIron$Work;)I" } : Jvm.MethodName)) ∈ lw_all := lw_g (lw_at lw_m5 229 rfl) rfl
theorem q1294 : (Jvm.Cond.methodLink "HotIron$Strike" (22 : Nat) ({ cls := "HotIron$Work", name := "strikes", desc := "(II)V" } : Jvm.MethodName)) ∈ lw_all := lw_g (lw_at lw_m5 230 rfl) rfl
theorem q2123 : (Jvm.Cond.castable "HotIron$Strike" "HotIron$Step") ∈ lw_tbl := lw_at lw_m9 99 rfl
theorem q2149 : (Jvm.Cond.castable "HotIron$Strike" "java/lang/Object") ∈ lw_tbl := lw_at lw_m9 125 rfl
theorem in_X21 : ∀ w ∈ wsX210, w ∈ lw_all := lw_in wsX210 [1062, 1063, 1060] (by decide +kernel) (by decide +kernel)
/-! HotIron$Test -/
set_option maxRecDepth 100000
def RX22 : String := "HotIron$Test"
abbrev cX22_init : ByteArray := prog_22_method_1_code
def yX22_init : MethodName := ⟨RX22, "<init>", "()V"⟩
theorem dX22_init_0 : decode cX22_init 0 = .ok (.aload_n 0, 1) := by decide +kernel
theorem dX22_init_1 : decode cX22_init 1 = .ok (.invokespecial 1, 3) := by decide +kernel
theorem dX22_init_4 : decode cX22_init 4 = .ok (.return_, 1) := by decide +kernel
theorem q140 : (Jvm.Cond.initialized "HotIron$Test") ∈ lw_all := lw_g (lw_at lw_m1 36 rfl) rfl
theorem q1092 : (Jvm.Cond.instanceMethod ({ cls := "HotIron$Test", name := "<init>", desc := "()V" } : Jvm.MethodName)) ∈ lw_all := lw_g (lw_at lw_m5 28 rfl) rfl
theorem q1093 : (Jvm.Cond.code ({ cls := "HotIron$Test", name := "<init>", desc := "()V" } : Jvm.MethodName) prog_22_method_1_code (1 : Nat) (Option.none : Option Jvm.ClassFile.FieldType)) ∈ lw_all := lw_g (lw_at lw_m5 29 rfl) rfl
theorem q1094 : (Jvm.Cond.methodLink "HotIron$Test" (1 : Nat) ({ cls := "java/lang/Object", name := "<init>", desc := "()V" } : Jvm.MethodName)) ∈ lw_all := lw_g (lw_at lw_m5 30 rfl) rfl
theorem q1196 : (Jvm.Cond.declares ({ cls := "HotIron$Test", name := "is", desc := "(LHotIron$Work;)Z" } : Jvm.MethodName)) ∈ lw_tbl := lw_at lw_m5 132 rfl
theorem q1197 : (Jvm.Cond.sameMethod "HotIron$Test" "HotIron$Test" "is" "(LHotIron$Work;)Z") ∈ lw_all := lw_g (lw_at lw_m5 133 rfl) rfl
/-! HotIron$Compare -/
set_option maxRecDepth 100000
def RX23 : String := "HotIron$Compare"
def TX23 : u_T := fun k => match k with
  | 0 => ("HotIron$Compare", "sign", "C", true)
  | 1 => ("HotIron$Compare", "left", "LHotIron$Sum;", true)
  | _ => ("HotIron$Compare", "right", "LHotIron$Sum;", true)
def tyX23 : Nat → FieldType := fun k => match k with
  | 0 => .char
  | 1 => .object "HotIron$Sum"
  | _ => .object "HotIron$Sum"
abbrev wsX230 : List Cond := u_ws RX23 TX23 3
theorem nmX23 : ∀ a, a < 3 → ∀ b, b < 3 → a ≠ b → (TX23 a).2.1 ≠ (TX23 b).2.1 := by decide +kernel
theorem tyX23_ok : ∀ k, k < 3 → parseFieldDescriptor (TX23 k).2.2.1 = some (tyX23 k) := by decide +kernel
abbrev cX23_init : ByteArray := prog_2_method_1_code
def yX23_init : MethodName := ⟨RX23, "<init>", "(CLHotIron$Sum;LHotIron$Sum;)V"⟩
def dkwX23_init_0 : List UInt8 := [42, 183, 0, 1, 42, 27, 181, 0, 7, 42, 44, 181, 0, 13, 42, 45, 181, 0, 17, 177]
abbrev dktX23_init_0 : List UInt8 := dkwX23_init_0 ++ []
theorem dksX23_init_0 : cX23_init.data.toList.drop 0 = dktX23_init_0 := by decide +kernel
theorem dX23_init_0 : decode cX23_init 0 = .ok (.aload_n 0, 1) := dk_42 (dk_at dksX23_init_0 0 rfl rfl)
theorem dX23_init_1 : decode cX23_init 1 = .ok (.invokespecial 1, 3) := dk_183 0 1 (dk_at dksX23_init_0 1 rfl rfl)
theorem dX23_init_4 : decode cX23_init 4 = .ok (.aload_n 0, 1) := dk_42 (dk_at dksX23_init_0 4 rfl rfl)
theorem dX23_init_5 : decode cX23_init 5 = .ok (.iload_n 1, 1) := dk_27 (dk_at dksX23_init_0 5 rfl rfl)
theorem dX23_init_6 : decode cX23_init 6 = .ok (.putfield 7, 3) := dk_181 0 7 (dk_at dksX23_init_0 6 rfl rfl)
theorem dX23_init_9 : decode cX23_init 9 = .ok (.aload_n 0, 1) := dk_42 (dk_at dksX23_init_0 9 rfl rfl)
theorem dX23_init_10 : decode cX23_init 10 = .ok (.aload_n 2, 1) := dk_44 (dk_at dksX23_init_0 10 rfl rfl)
theorem dX23_init_11 : decode cX23_init 11 = .ok (.putfield 13, 3) := dk_181 0 13 (dk_at dksX23_init_0 11 rfl rfl)
theorem dX23_init_14 : decode cX23_init 14 = .ok (.aload_n 0, 1) := dk_42 (dk_at dksX23_init_0 14 rfl rfl)
theorem dX23_init_15 : decode cX23_init 15 = .ok (.aload_n 3, 1) := dk_45 (dk_at dksX23_init_0 15 rfl rfl)
theorem dX23_init_16 : decode cX23_init 16 = .ok (.putfield 17, 3) := dk_181 0 17 (dk_at dksX23_init_0 16 rfl rfl)
theorem dX23_init_19 : decode cX23_init 19 = .ok (.return_, 1) := dk_177 (dk_at dksX23_init_0 19 rfl rfl)
abbrev cX23_is : ByteArray := prog_2_method_2_code
def yX23_is : MethodName := ⟨RX23, "is", "(LHotIron$Work;)Z"⟩
def dkwX23_is_3 : List UInt8 := [167, 0, 4, 3, 172]
abbrev dktX23_is_3 : List UInt8 := dkwX23_is_3 ++ []
def dkwX23_is_2 : List UInt8 := [160, 0, 16, 28, 29, 164, 0, 7, 4, 167, 0, 17, 3, 167, 0, 13, 28, 29, 160, 0, 7, 4]
abbrev dktX23_is_2 : List UInt8 := dkwX23_is_2 ++ dktX23_is_3
def dkwX23_is_1 : List UInt8 := [160, 0, 16, 28, 29, 162, 0, 7, 4, 167, 0, 39, 3, 167, 0, 35, 42, 180, 0, 7, 16, 62]
abbrev dktX23_is_1 : List UInt8 := dkwX23_is_1 ++ dktX23_is_2
def dkwX23_is_0 : List UInt8 := [42, 180, 0, 13, 43, 182, 0, 20, 61, 42, 180, 0, 17, 43, 182, 0, 20, 62, 42, 180, 0, 7, 16, 60]
abbrev dktX23_is_0 : List UInt8 := dkwX23_is_0 ++ dktX23_is_1
theorem dksX23_is_0 : cX23_is.data.toList.drop 0 = dktX23_is_0 := by decide +kernel
theorem dksX23_is_1 : cX23_is.data.toList.drop 24 = dktX23_is_1 := dk_seg dksX23_is_0 24 rfl rfl
theorem dksX23_is_2 : cX23_is.data.toList.drop 46 = dktX23_is_2 := dk_seg dksX23_is_1 22 rfl rfl
theorem dksX23_is_3 : cX23_is.data.toList.drop 68 = dktX23_is_3 := dk_seg dksX23_is_2 22 rfl rfl
theorem dX23_is_0 : decode cX23_is 0 = .ok (.aload_n 0, 1) := dk_42 (dk_at dksX23_is_0 0 rfl rfl)
theorem dX23_is_1 : decode cX23_is 1 = .ok (.getfield 13, 3) := dk_180 0 13 (dk_at dksX23_is_0 1 rfl rfl)
theorem dX23_is_4 : decode cX23_is 4 = .ok (.aload_n 1, 1) := dk_43 (dk_at dksX23_is_0 4 rfl rfl)
theorem dX23_is_5 : decode cX23_is 5 = .ok (.invokevirtual 20, 3) := dk_182 0 20 (dk_at dksX23_is_0 5 rfl rfl)
theorem dX23_is_8 : decode cX23_is 8 = .ok (.istore_n 2, 1) := dk_61 (dk_at dksX23_is_0 8 rfl rfl)
theorem dX23_is_9 : decode cX23_is 9 = .ok (.aload_n 0, 1) := dk_42 (dk_at dksX23_is_0 9 rfl rfl)
theorem dX23_is_10 : decode cX23_is 10 = .ok (.getfield 17, 3) := dk_180 0 17 (dk_at dksX23_is_0 10 rfl rfl)
theorem dX23_is_13 : decode cX23_is 13 = .ok (.aload_n 1, 1) := dk_43 (dk_at dksX23_is_0 13 rfl rfl)
theorem dX23_is_14 : decode cX23_is 14 = .ok (.invokevirtual 20, 3) := dk_182 0 20 (dk_at dksX23_is_0 14 rfl rfl)
theorem dX23_is_17 : decode cX23_is 17 = .ok (.istore_n 3, 1) := dk_62 (dk_at dksX23_is_0 17 rfl rfl)
theorem dX23_is_18 : decode cX23_is 18 = .ok (.aload_n 0, 1) := dk_42 (dk_at dksX23_is_0 18 rfl rfl)
theorem dX23_is_19 : decode cX23_is 19 = .ok (.getfield 7, 3) := dk_180 0 7 (dk_at dksX23_is_0 19 rfl rfl)
theorem dX23_is_22 : decode cX23_is 22 = .ok (.bipush 60, 2) := dk_16 60 (dk_at dksX23_is_0 22 rfl rfl)
theorem dX23_is_24 : decode cX23_is 24 = .ok (.if_icmp .ne 16, 3) := dk_160 0 16 (dk_at dksX23_is_1 0 rfl rfl)
theorem dX23_is_27 : decode cX23_is 27 = .ok (.iload_n 2, 1) := dk_28 (dk_at dksX23_is_1 3 rfl rfl)
theorem dX23_is_28 : decode cX23_is 28 = .ok (.iload_n 3, 1) := dk_29 (dk_at dksX23_is_1 4 rfl rfl)
theorem dX23_is_29 : decode cX23_is 29 = .ok (.if_icmp .ge 7, 3) := dk_162 0 7 (dk_at dksX23_is_1 5 rfl rfl)
theorem dX23_is_32 : decode cX23_is 32 = .ok (.iconst 1, 1) := dk_4 (dk_at dksX23_is_1 8 rfl rfl)
theorem dX23_is_33 : decode cX23_is 33 = .ok (.goto 39, 3) := dk_167 0 39 (dk_at dksX23_is_1 9 rfl rfl)
theorem dX23_is_36 : decode cX23_is 36 = .ok (.iconst 0, 1) := dk_3 (dk_at dksX23_is_1 12 rfl rfl)
theorem dX23_is_37 : decode cX23_is 37 = .ok (.goto 35, 3) := dk_167 0 35 (dk_at dksX23_is_1 13 rfl rfl)
theorem dX23_is_40 : decode cX23_is 40 = .ok (.aload_n 0, 1) := dk_42 (dk_at dksX23_is_1 16 rfl rfl)
theorem dX23_is_41 : decode cX23_is 41 = .ok (.getfield 7, 3) := dk_180 0 7 (dk_at dksX23_is_1 17 rfl rfl)
theorem dX23_is_44 : decode cX23_is 44 = .ok (.bipush 62, 2) := dk_16 62 (dk_at dksX23_is_1 20 rfl rfl)
theorem dX23_is_46 : decode cX23_is 46 = .ok (.if_icmp .ne 16, 3) := dk_160 0 16 (dk_at dksX23_is_2 0 rfl rfl)
theorem dX23_is_49 : decode cX23_is 49 = .ok (.iload_n 2, 1) := dk_28 (dk_at dksX23_is_2 3 rfl rfl)
theorem dX23_is_50 : decode cX23_is 50 = .ok (.iload_n 3, 1) := dk_29 (dk_at dksX23_is_2 4 rfl rfl)
theorem dX23_is_51 : decode cX23_is 51 = .ok (.if_icmp .le 7, 3) := dk_164 0 7 (dk_at dksX23_is_2 5 rfl rfl)
theorem dX23_is_54 : decode cX23_is 54 = .ok (.iconst 1, 1) := dk_4 (dk_at dksX23_is_2 8 rfl rfl)
theorem dX23_is_55 : decode cX23_is 55 = .ok (.goto 17, 3) := dk_167 0 17 (dk_at dksX23_is_2 9 rfl rfl)
theorem dX23_is_58 : decode cX23_is 58 = .ok (.iconst 0, 1) := dk_3 (dk_at dksX23_is_2 12 rfl rfl)
theorem dX23_is_59 : decode cX23_is 59 = .ok (.goto 13, 3) := dk_167 0 13 (dk_at dksX23_is_2 13 rfl rfl)
theorem dX23_is_62 : decode cX23_is 62 = .ok (.iload_n 2, 1) := dk_28 (dk_at dksX23_is_2 16 rfl rfl)
theorem dX23_is_63 : decode cX23_is 63 = .ok (.iload_n 3, 1) := dk_29 (dk_at dksX23_is_2 17 rfl rfl)
theorem dX23_is_64 : decode cX23_is 64 = .ok (.if_icmp .ne 7, 3) := dk_160 0 7 (dk_at dksX23_is_2 18 rfl rfl)
theorem dX23_is_67 : decode cX23_is 67 = .ok (.iconst 1, 1) := dk_4 (dk_at dksX23_is_2 21 rfl rfl)
theorem dX23_is_68 : decode cX23_is 68 = .ok (.goto 4, 3) := dk_167 0 4 (dk_at dksX23_is_3 0 rfl rfl)
theorem dX23_is_71 : decode cX23_is 71 = .ok (.iconst 0, 1) := dk_3 (dk_at dksX23_is_3 3 rfl rfl)
theorem dX23_is_72 : decode cX23_is 72 = .ok (.ireturn, 1) := dk_172 (dk_at dksX23_is_3 4 rfl rfl)
theorem q141 : (Jvm.Cond.initialized "HotIron$Compare") ∈ lw_all := lw_g (lw_at lw_m1 37 rfl) rfl
theorem q543 : (Jvm.Cond.selects "HotIron$Compare" ({ cls := "java/lang/Object", name := "getClass", desc := "()Ljava/lang/Class;" } : Jvm.MethodName) ({ cls := "java/lang/Object", name := "getClass", desc := "()Ljava/lang/Class;" } : Jvm.MethodName)) ∈ lw_all := lw_g (lw_at lw_m2 199 rfl) rfl
theorem q1087 : (Jvm.Cond.instantiable "HotIron$Compare" (3 : Nat)) ∈ lw_all := lw_g (lw_at lw_m5 23 rfl) rfl
theorem q1089 : (Jvm.Cond.instanceMethod ({ cls := "HotIron$Compare", name := "<init>", desc := "(CLHotIron$Sum;LHotIron$Sum;)V" } : Jvm.MethodName)) ∈ lw_all := lw_g (lw_at lw_m5 25 rfl) rfl
theorem q1090 : (Jvm.Cond.code ({ cls := "HotIron$Compare", name := "<init>", desc := "(CLHotIron$Sum;LHotIron$Sum;)V" } : Jvm.MethodName) prog_2_method_1_code (4 : Nat) (Option.none : Option Jvm.ClassFile.FieldType)) ∈ lw_all := lw_g (lw_at lw_m5 26 rfl) rfl
theorem q1091 : (Jvm.Cond.methodLinkNest "HotIron$Compare" (1 : Nat) ({ cls := "HotIron$Test", name := "<init>", desc := "()V" } : Jvm.MethodName) "HotIron") ∈ lw_tbl := lw_at lw_m5 27 rfl
theorem q1095 : (Jvm.Cond.fieldLink "HotIron$Compare" (7 : Nat) "HotIron$Compare" "sign" "C") ∈ lw_all := lw_g (lw_at lw_m5 31 rfl) rfl
theorem q1096 : (Jvm.Cond.fieldLink "HotIron$Compare" (13 : Nat) "HotIron$Compare" "left" "LHotIron$Sum;") ∈ lw_all := lw_g (lw_at lw_m5 32 rfl) rfl
theorem q1097 : (Jvm.Cond.fieldLink "HotIron$Compare" (17 : Nat) "HotIron$Compare" "right" "LHotIron$Sum;") ∈ lw_all := lw_g (lw_at lw_m5 33 rfl) rfl
theorem q1098 : (Jvm.Cond.laysFinal "HotIron$Compare" "HotIron$Compare" "sign" "C") ∈ lw_all := lw_g (lw_at lw_m5 34 rfl) rfl
theorem q1099 : (Jvm.Cond.soleField "HotIron$Compare" "sign") ∈ lw_all := lw_g (lw_at lw_m5 35 rfl) rfl
theorem q1100 : (Jvm.Cond.laysFinal "HotIron$Compare" "HotIron$Compare" "left" "LHotIron$Sum;") ∈ lw_all := lw_g (lw_at lw_m5 36 rfl) rfl
theorem q1101 : (Jvm.Cond.soleField "HotIron$Compare" "left") ∈ lw_all := lw_g (lw_at lw_m5 37 rfl) rfl
theorem q1102 : (Jvm.Cond.laysFinal "HotIron$Compare" "HotIron$Compare" "right" "LHotIron$Sum;") ∈ lw_all := lw_g (lw_at lw_m5 38 rfl) rfl
theorem q1103 : (Jvm.Cond.soleField "HotIron$Compare" "right") ∈ lw_all := lw_g (lw_at lw_m5 39 rfl) rfl
theorem q1104 : (Jvm.Cond.superclass "HotIron$Compare" "HotIron$Test") ∈ lw_all := lw_g (lw_at lw_m5 40 rfl) rfl
theorem q1198 : (Jvm.Cond.selects "HotIron$Compare" ({ cls := "HotIron$Test", name := "is", desc := "(LHotIron$Work;)Z" } : Jvm.MethodName) ({ cls := "HotIron$Compare", name := "is", desc := "(LHotIron$Work;)Z" } : Jvm.MethodName)) ∈ lw_all := lw_g (lw_at lw_m5 134 rfl) rfl
theorem q1199 : (Jvm.Cond.instanceMethod ({ cls := "HotIron$Compare", name := "is", desc := "(LHotIron$Work;)Z" } : Jvm.MethodName)) ∈ lw_all := lw_g (lw_at lw_m5 135 rfl) rfl
theorem q1200 : (Jvm.Cond.code ({ cls := "HotIron$Compare", name := "is", desc := "(LHotIron$Work;)Z" } : Jvm.MethodName) prog_2_method_2_code (4 : Nat) (Option.some Jvm.ClassFile.FieldType.boolean)) ∈ lw_all := lw_g (lw_at lw_m5 136 rfl) rfl
theorem q1201 : (Jvm.Cond.methodLink "HotIron$Compare" (20 : Nat) ({ cls := "HotIron$Sum", name := "of", desc := "(LHotIron$Work;)I" } : Jvm.MethodName)) ∈ lw_all := lw_g (lw_at lw_m5 137 rfl) rfl
theorem q2125 : (Jvm.Cond.castable "HotIron$Compare" "HotIron$Test") ∈ lw_tbl := lw_at lw_m9 101 rfl
theorem q2150 : (Jvm.Cond.castable "HotIron$Compare" "java/lang/Object") ∈ lw_tbl := lw_at lw_m9 126 rfl
theorem in_X23 : ∀ w ∈ wsX230, w ∈ lw_all := lw_in wsX230 [1098, 1100, 1102] (by decide +kernel) (by decide +kernel)
/-! HotIron$Not -/
set_option maxRecDepth 100000
def RX24 : String := "HotIron$Not"
def TX24 : u_T := fun k => match k with
  | _ => ("HotIron$Not", "of", "LHotIron$Test;", true)
def tyX24 : Nat → FieldType := fun k => match k with
  | _ => .object "HotIron$Test"
abbrev wsX240 : List Cond := u_ws RX24 TX24 1
theorem nmX24 : ∀ a, a < 1 → ∀ b, b < 1 → a ≠ b → (TX24 a).2.1 ≠ (TX24 b).2.1 := by decide +kernel
theorem tyX24_ok : ∀ k, k < 1 → parseFieldDescriptor (TX24 k).2.2.1 = some (tyX24 k) := by decide +kernel
abbrev cX24_init : ByteArray := prog_10_method_1_code
def yX24_init : MethodName := ⟨RX24, "<init>", "(LHotIron$Test;)V"⟩
def dkwX24_init_0 : List UInt8 := [42, 183, 0, 1, 42, 43, 181, 0, 7, 177]
abbrev dktX24_init_0 : List UInt8 := dkwX24_init_0 ++ []
theorem dksX24_init_0 : cX24_init.data.toList.drop 0 = dktX24_init_0 := by decide +kernel
theorem dX24_init_0 : decode cX24_init 0 = .ok (.aload_n 0, 1) := dk_42 (dk_at dksX24_init_0 0 rfl rfl)
theorem dX24_init_1 : decode cX24_init 1 = .ok (.invokespecial 1, 3) := dk_183 0 1 (dk_at dksX24_init_0 1 rfl rfl)
theorem dX24_init_4 : decode cX24_init 4 = .ok (.aload_n 0, 1) := dk_42 (dk_at dksX24_init_0 4 rfl rfl)
theorem dX24_init_5 : decode cX24_init 5 = .ok (.aload_n 1, 1) := dk_43 (dk_at dksX24_init_0 5 rfl rfl)
theorem dX24_init_6 : decode cX24_init 6 = .ok (.putfield 7, 3) := dk_181 0 7 (dk_at dksX24_init_0 6 rfl rfl)
theorem dX24_init_9 : decode cX24_init 9 = .ok (.return_, 1) := dk_177 (dk_at dksX24_init_0 9 rfl rfl)
abbrev cX24_is : ByteArray := prog_10_method_2_code
def yX24_is : MethodName := ⟨RX24, "is", "(LHotIron$Work;)Z"⟩
def dkwX24_is_0 : List UInt8 := [42, 180, 0, 7, 43, 182, 0, 13, 154, 0, 7, 4, 167, 0, 4, 3, 172]
abbrev dktX24_is_0 : List UInt8 := dkwX24_is_0 ++ []
theorem dksX24_is_0 : cX24_is.data.toList.drop 0 = dktX24_is_0 := by decide +kernel
theorem dX24_is_0 : decode cX24_is 0 = .ok (.aload_n 0, 1) := dk_42 (dk_at dksX24_is_0 0 rfl rfl)
theorem dX24_is_1 : decode cX24_is 1 = .ok (.getfield 7, 3) := dk_180 0 7 (dk_at dksX24_is_0 1 rfl rfl)
theorem dX24_is_4 : decode cX24_is 4 = .ok (.aload_n 1, 1) := dk_43 (dk_at dksX24_is_0 4 rfl rfl)
theorem dX24_is_5 : decode cX24_is 5 = .ok (.invokevirtual 13, 3) := dk_182 0 13 (dk_at dksX24_is_0 5 rfl rfl)
theorem dX24_is_8 : decode cX24_is 8 = .ok (.ifCond .ne 7, 3) := dk_154 0 7 (dk_at dksX24_is_0 8 rfl rfl)
theorem dX24_is_11 : decode cX24_is 11 = .ok (.iconst 1, 1) := dk_4 (dk_at dksX24_is_0 11 rfl rfl)
theorem dX24_is_12 : decode cX24_is 12 = .ok (.goto 4, 3) := dk_167 0 4 (dk_at dksX24_is_0 12 rfl rfl)
theorem dX24_is_15 : decode cX24_is 15 = .ok (.iconst 0, 1) := dk_3 (dk_at dksX24_is_0 15 rfl rfl)
theorem dX24_is_16 : decode cX24_is 16 = .ok (.ireturn, 1) := dk_172 (dk_at dksX24_is_0 16 rfl rfl)
theorem q142 : (Jvm.Cond.initialized "HotIron$Not") ∈ lw_all := lw_g (lw_at lw_m1 38 rfl) rfl
theorem q551 : (Jvm.Cond.selects "HotIron$Not" ({ cls := "java/lang/Object", name := "getClass", desc := "()Ljava/lang/Class;" } : Jvm.MethodName) ({ cls := "java/lang/Object", name := "getClass", desc := "()Ljava/lang/Class;" } : Jvm.MethodName)) ∈ lw_all := lw_g (lw_at lw_m2 207 rfl) rfl
theorem q1106 : (Jvm.Cond.instantiable "HotIron$Not" (1 : Nat)) ∈ lw_all := lw_g (lw_at lw_m5 42 rfl) rfl
theorem q1108 : (Jvm.Cond.instanceMethod ({ cls := "HotIron$Not", name := "<init>", desc := "(LHotIron$Test;)V" } : Jvm.MethodName)) ∈ lw_all := lw_g (lw_at lw_m5 44 rfl) rfl
theorem q1109 : (Jvm.Cond.code ({ cls := "HotIron$Not", name := "<init>", desc := "(LHotIron$Test;)V" } : Jvm.MethodName) prog_10_method_1_code (2 : Nat) (Option.none : Option Jvm.ClassFile.FieldType)) ∈ lw_all := lw_g (lw_at lw_m5 45 rfl) rfl
theorem q1110 : (Jvm.Cond.methodLinkNest "HotIron$Not" (1 : Nat) ({ cls := "HotIron$Test", name := "<init>", desc := "()V" } : Jvm.MethodName) "HotIron") ∈ lw_tbl := lw_at lw_m5 46 rfl
theorem q1111 : (Jvm.Cond.fieldLink "HotIron$Not" (7 : Nat) "HotIron$Not" "of" "LHotIron$Test;") ∈ lw_all := lw_g (lw_at lw_m5 47 rfl) rfl
theorem q1112 : (Jvm.Cond.laysFinal "HotIron$Not" "HotIron$Not" "of" "LHotIron$Test;") ∈ lw_all := lw_g (lw_at lw_m5 48 rfl) rfl
theorem q1113 : (Jvm.Cond.soleField "HotIron$Not" "of") ∈ lw_all := lw_g (lw_at lw_m5 49 rfl) rfl
theorem q1114 : (Jvm.Cond.superclass "HotIron$Not" "HotIron$Test") ∈ lw_all := lw_g (lw_at lw_m5 50 rfl) rfl
theorem q1235 : (Jvm.Cond.selects "HotIron$Not" ({ cls := "HotIron$Test", name := "is", desc := "(LHotIron$Work;)Z" } : Jvm.MethodName) ({ cls := "HotIron$Not", name := "is", desc := "(LHotIron$Work;)Z" } : Jvm.MethodName)) ∈ lw_all := lw_g (lw_at lw_m5 171 rfl) rfl
theorem q1236 : (Jvm.Cond.instanceMethod ({ cls := "HotIron$Not", name := "is", desc := "(LHotIron$Work;)Z" } : Jvm.MethodName)) ∈ lw_all := lw_g (lw_at lw_m5 172 rfl) rfl
theorem q1237 : (Jvm.Cond.code ({ cls := "HotIron$Not", name := "is", desc := "(LHotIron$Work;)Z" } : Jvm.MethodName) prog_10_method_2_code (2 : Nat) (Option.some Jvm.ClassFile.FieldType.boolean)) ∈ lw_all := lw_g (lw_at lw_m5 173 rfl) rfl
theorem q1238 : (Jvm.Cond.methodLink "HotIron$Not" (13 : Nat) ({ cls := "HotIron$Test", name := "is", desc := "(LHotIron$Work;)Z" } : Jvm.MethodName)) ∈ lw_all := lw_g (lw_at lw_m5 174 rfl) rfl
theorem q2126 : (Jvm.Cond.castable "HotIron$Not" "HotIron$Test") ∈ lw_tbl := lw_at lw_m9 102 rfl
theorem q2151 : (Jvm.Cond.castable "HotIron$Not" "java/lang/Object") ∈ lw_tbl := lw_at lw_m9 127 rfl
theorem in_X24 : ∀ w ∈ wsX240, w ∈ lw_all := lw_in wsX240 [1112] (by decide +kernel) (by decide +kernel)
/-! HotIron$Several -/
set_option maxRecDepth 100000
def RX25 : String := "HotIron$Several"
def TX25 : u_T := fun k => match k with
  | 0 => ("HotIron$Several", "all", "Z", true)
  | _ => ("HotIron$Several", "of", "Ljava/util/ArrayList;", true)
def tyX25 : Nat → FieldType := fun k => match k with
  | 0 => .boolean
  | _ => .object "java/util/ArrayList"
abbrev wsX250 : List Cond := u_ws RX25 TX25 2
theorem nmX25 : ∀ a, a < 2 → ∀ b, b < 2 → a ≠ b → (TX25 a).2.1 ≠ (TX25 b).2.1 := by decide +kernel
theorem tyX25_ok : ∀ k, k < 2 → parseFieldDescriptor (TX25 k).2.2.1 = some (tyX25 k) := by decide +kernel
abbrev cX25_init : ByteArray := prog_16_method_1_code
def yX25_init : MethodName := ⟨RX25, "<init>", "(Z)V"⟩
def dkwX25_init_0 : List UInt8 := [42, 183, 0, 1, 42, 187, 0, 7, 89, 5, 183, 0, 9, 181, 0, 12, 42, 27, 181, 0, 18, 177]
abbrev dktX25_init_0 : List UInt8 := dkwX25_init_0 ++ []
theorem dksX25_init_0 : cX25_init.data.toList.drop 0 = dktX25_init_0 := by decide +kernel
theorem dX25_init_0 : decode cX25_init 0 = .ok (.aload_n 0, 1) := dk_42 (dk_at dksX25_init_0 0 rfl rfl)
theorem dX25_init_1 : decode cX25_init 1 = .ok (.invokespecial 1, 3) := dk_183 0 1 (dk_at dksX25_init_0 1 rfl rfl)
theorem dX25_init_4 : decode cX25_init 4 = .ok (.aload_n 0, 1) := dk_42 (dk_at dksX25_init_0 4 rfl rfl)
theorem dX25_init_5 : decode cX25_init 5 = .ok (.new 7, 3) := dk_187 0 7 (dk_at dksX25_init_0 5 rfl rfl)
theorem dX25_init_8 : decode cX25_init 8 = .ok (.dup, 1) := dk_89 (dk_at dksX25_init_0 8 rfl rfl)
theorem dX25_init_9 : decode cX25_init 9 = .ok (.iconst 2, 1) := dk_5 (dk_at dksX25_init_0 9 rfl rfl)
theorem dX25_init_10 : decode cX25_init 10 = .ok (.invokespecial 9, 3) := dk_183 0 9 (dk_at dksX25_init_0 10 rfl rfl)
theorem dX25_init_13 : decode cX25_init 13 = .ok (.putfield 12, 3) := dk_181 0 12 (dk_at dksX25_init_0 13 rfl rfl)
theorem dX25_init_16 : decode cX25_init 16 = .ok (.aload_n 0, 1) := dk_42 (dk_at dksX25_init_0 16 rfl rfl)
theorem dX25_init_17 : decode cX25_init 17 = .ok (.iload_n 1, 1) := dk_27 (dk_at dksX25_init_0 17 rfl rfl)
theorem dX25_init_18 : decode cX25_init 18 = .ok (.putfield 18, 3) := dk_181 0 18 (dk_at dksX25_init_0 18 rfl rfl)
theorem dX25_init_21 : decode cX25_init 21 = .ok (.return_, 1) := dk_177 (dk_at dksX25_init_0 21 rfl rfl)
abbrev cX25_is : ByteArray := prog_16_method_2_code
def yX25_is : MethodName := ⟨RX25, "is", "(LHotIron$Work;)Z"⟩
def dkwX25_is_2 : List UInt8 := [132, 2, 1, 167, 255, 207, 42, 180, 0, 18, 172]
abbrev dktX25_is_2 : List UInt8 := dkwX25_is_2 ++ []
def dkwX25_is_1 : List UInt8 := [43, 182, 0, 30, 42, 180, 0, 18, 159, 0, 16, 42, 180, 0, 18, 154, 0, 7, 4, 167, 0, 4, 3, 172]
abbrev dktX25_is_1 : List UInt8 := dkwX25_is_1 ++ dktX25_is_2
def dkwX25_is_0 : List UInt8 := [3, 61, 28, 42, 180, 0, 12, 182, 0, 22, 162, 0, 44, 42, 180, 0, 12, 28, 182, 0, 26, 192, 0, 2]
abbrev dktX25_is_0 : List UInt8 := dkwX25_is_0 ++ dktX25_is_1
theorem dksX25_is_0 : cX25_is.data.toList.drop 0 = dktX25_is_0 := by decide +kernel
theorem dksX25_is_1 : cX25_is.data.toList.drop 24 = dktX25_is_1 := dk_seg dksX25_is_0 24 rfl rfl
theorem dksX25_is_2 : cX25_is.data.toList.drop 48 = dktX25_is_2 := dk_seg dksX25_is_1 24 rfl rfl
theorem dX25_is_0 : decode cX25_is 0 = .ok (.iconst 0, 1) := dk_3 (dk_at dksX25_is_0 0 rfl rfl)
theorem dX25_is_1 : decode cX25_is 1 = .ok (.istore_n 2, 1) := dk_61 (dk_at dksX25_is_0 1 rfl rfl)
theorem dX25_is_2 : decode cX25_is 2 = .ok (.iload_n 2, 1) := dk_28 (dk_at dksX25_is_0 2 rfl rfl)
theorem dX25_is_3 : decode cX25_is 3 = .ok (.aload_n 0, 1) := dk_42 (dk_at dksX25_is_0 3 rfl rfl)
theorem dX25_is_4 : decode cX25_is 4 = .ok (.getfield 12, 3) := dk_180 0 12 (dk_at dksX25_is_0 4 rfl rfl)
theorem dX25_is_7 : decode cX25_is 7 = .ok (.invokevirtual 22, 3) := dk_182 0 22 (dk_at dksX25_is_0 7 rfl rfl)
theorem dX25_is_10 : decode cX25_is 10 = .ok (.if_icmp .ge 44, 3) := dk_162 0 44 (dk_at dksX25_is_0 10 rfl rfl)
theorem dX25_is_13 : decode cX25_is 13 = .ok (.aload_n 0, 1) := dk_42 (dk_at dksX25_is_0 13 rfl rfl)
theorem dX25_is_14 : decode cX25_is 14 = .ok (.getfield 12, 3) := dk_180 0 12 (dk_at dksX25_is_0 14 rfl rfl)
theorem dX25_is_17 : decode cX25_is 17 = .ok (.iload_n 2, 1) := dk_28 (dk_at dksX25_is_0 17 rfl rfl)
theorem dX25_is_18 : decode cX25_is 18 = .ok (.invokevirtual 26, 3) := dk_182 0 26 (dk_at dksX25_is_0 18 rfl rfl)
theorem dX25_is_21 : decode cX25_is 21 = .ok (.checkcast 2, 3) := dk_192 0 2 (dk_at dksX25_is_0 21 rfl rfl)
theorem dX25_is_24 : decode cX25_is 24 = .ok (.aload_n 1, 1) := dk_43 (dk_at dksX25_is_1 0 rfl rfl)
theorem dX25_is_25 : decode cX25_is 25 = .ok (.invokevirtual 30, 3) := dk_182 0 30 (dk_at dksX25_is_1 1 rfl rfl)
theorem dX25_is_28 : decode cX25_is 28 = .ok (.aload_n 0, 1) := dk_42 (dk_at dksX25_is_1 4 rfl rfl)
theorem dX25_is_29 : decode cX25_is 29 = .ok (.getfield 18, 3) := dk_180 0 18 (dk_at dksX25_is_1 5 rfl rfl)
theorem dX25_is_32 : decode cX25_is 32 = .ok (.if_icmp .eq 16, 3) := dk_159 0 16 (dk_at dksX25_is_1 8 rfl rfl)
theorem dX25_is_35 : decode cX25_is 35 = .ok (.aload_n 0, 1) := dk_42 (dk_at dksX25_is_1 11 rfl rfl)
theorem dX25_is_36 : decode cX25_is 36 = .ok (.getfield 18, 3) := dk_180 0 18 (dk_at dksX25_is_1 12 rfl rfl)
theorem dX25_is_39 : decode cX25_is 39 = .ok (.ifCond .ne 7, 3) := dk_154 0 7 (dk_at dksX25_is_1 15 rfl rfl)
theorem dX25_is_42 : decode cX25_is 42 = .ok (.iconst 1, 1) := dk_4 (dk_at dksX25_is_1 18 rfl rfl)
theorem dX25_is_43 : decode cX25_is 43 = .ok (.goto 4, 3) := dk_167 0 4 (dk_at dksX25_is_1 19 rfl rfl)
theorem dX25_is_46 : decode cX25_is 46 = .ok (.iconst 0, 1) := dk_3 (dk_at dksX25_is_1 22 rfl rfl)
theorem dX25_is_47 : decode cX25_is 47 = .ok (.ireturn, 1) := dk_172 (dk_at dksX25_is_1 23 rfl rfl)
theorem dX25_is_48 : decode cX25_is 48 = .ok (.iinc 2 1, 3) := dk_132 2 1 (dk_at dksX25_is_2 0 rfl rfl)
theorem dX25_is_51 : decode cX25_is 51 = .ok (.goto (-49), 3) := dk_167 255 207 (dk_at dksX25_is_2 3 rfl rfl)
theorem dX25_is_54 : decode cX25_is 54 = .ok (.aload_n 0, 1) := dk_42 (dk_at dksX25_is_2 6 rfl rfl)
theorem dX25_is_55 : decode cX25_is 55 = .ok (.getfield 18, 3) := dk_180 0 18 (dk_at dksX25_is_2 7 rfl rfl)
theorem dX25_is_58 : decode cX25_is 58 = .ok (.ireturn, 1) := dk_172 (dk_at dksX25_is_2 10 rfl rfl)
theorem q143 : (Jvm.Cond.initialized "HotIron$Several") ∈ lw_all := lw_g (lw_at lw_m1 39 rfl) rfl
theorem q557 : (Jvm.Cond.selects "HotIron$Several" ({ cls := "java/lang/Object", name := "getClass", desc := "()Ljava/lang/Class;" } : Jvm.MethodName) ({ cls := "java/lang/Object", name := "getClass", desc := "()Ljava/lang/Class;" } : Jvm.MethodName)) ∈ lw_all := lw_g (lw_at lw_m2 213 rfl) rfl
theorem q1117 : (Jvm.Cond.instantiable "HotIron$Several" (2 : Nat)) ∈ lw_all := lw_g (lw_at lw_m5 53 rfl) rfl
theorem q1119 : (Jvm.Cond.instanceMethod ({ cls := "HotIron$Several", name := "<init>", desc := "(Z)V" } : Jvm.MethodName)) ∈ lw_all := lw_g (lw_at lw_m5 55 rfl) rfl
theorem q1120 : (Jvm.Cond.code ({ cls := "HotIron$Several", name := "<init>", desc := "(Z)V" } : Jvm.MethodName) prog_16_method_1_code (2 : Nat) (Option.none : Option Jvm.ClassFile.FieldType)) ∈ lw_all := lw_g (lw_at lw_m5 56 rfl) rfl
theorem q1121 : (Jvm.Cond.methodLinkNest "HotIron$Several" (1 : Nat) ({ cls := "HotIron$Test", name := "<init>", desc := "()V" } : Jvm.MethodName) "HotIron") ∈ lw_tbl := lw_at lw_m5 57 rfl
theorem q1122 : (Jvm.Cond.classLink "HotIron$Several" (7 : Nat) "java/util/ArrayList") ∈ lw_all := lw_g (lw_at lw_m5 58 rfl) rfl
theorem q1123 : (Jvm.Cond.methodLink "HotIron$Several" (9 : Nat) ({ cls := "java/util/ArrayList", name := "<init>", desc := "(I)V" } : Jvm.MethodName)) ∈ lw_all := lw_g (lw_at lw_m5 59 rfl) rfl
theorem q1124 : (Jvm.Cond.fieldLink "HotIron$Several" (18 : Nat) "HotIron$Several" "all" "Z") ∈ lw_all := lw_g (lw_at lw_m5 60 rfl) rfl
theorem q1125 : (Jvm.Cond.fieldLink "HotIron$Several" (12 : Nat) "HotIron$Several" "of" "Ljava/util/ArrayList;") ∈ lw_all := lw_g (lw_at lw_m5 61 rfl) rfl
theorem q1127 : (Jvm.Cond.laysFinal "HotIron$Several" "HotIron$Several" "all" "Z") ∈ lw_all := lw_g (lw_at lw_m5 63 rfl) rfl
theorem q1128 : (Jvm.Cond.soleField "HotIron$Several" "all") ∈ lw_all := lw_g (lw_at lw_m5 64 rfl) rfl
theorem q1129 : (Jvm.Cond.laysFinal "HotIron$Several" "HotIron$Several" "of" "Ljava/util/ArrayList;") ∈ lw_all := lw_g (lw_at lw_m5 65 rfl) rfl
theorem q1130 : (Jvm.Cond.soleField "HotIron$Several" "of") ∈ lw_all := lw_g (lw_at lw_m5 66 rfl) rfl
theorem q1131 : (Jvm.Cond.superclass "HotIron$Several" "HotIron$Test") ∈ lw_all := lw_g (lw_at lw_m5 67 rfl) rfl
theorem q1239 : (Jvm.Cond.instanceMethod ({ cls := "HotIron$Several", name := "is", desc := "(LHotIron$Work;)Z" } : Jvm.MethodName)) ∈ lw_all := lw_g (lw_at lw_m5 175 rfl) rfl
theorem q1240 : (Jvm.Cond.code ({ cls := "HotIron$Several", name := "is", desc := "(LHotIron$Work;)Z" } : Jvm.MethodName) prog_16_method_2_code (3 : Nat) (Option.some Jvm.ClassFile.FieldType.boolean)) ∈ lw_all := lw_g (lw_at lw_m5 176 rfl) rfl
theorem q1241 : (Jvm.Cond.methodLink "HotIron$Several" (22 : Nat) ({ cls := "java/util/ArrayList", name := "size", desc := "()I" } : Jvm.MethodName)) ∈ lw_all := lw_g (lw_at lw_m5 177 rfl) rfl
theorem q1242 : (Jvm.Cond.methodLink "HotIron$Several" (26 : Nat) ({ cls := "java/util/ArrayList", name := "get", desc := "(I)Ljava/lang/Object;" } : Jvm.MethodName)) ∈ lw_all := lw_g (lw_at lw_m5 178 rfl) rfl
theorem q1243 : (Jvm.Cond.classLink "HotIron$Several" (2 : Nat) "HotIron$Test") ∈ lw_all := lw_g (lw_at lw_m5 179 rfl) rfl
theorem q1244 : (Jvm.Cond.methodLink "HotIron$Several" (30 : Nat) ({ cls := "HotIron$Test", name := "is", desc := "(LHotIron$Work;)Z" } : Jvm.MethodName)) ∈ lw_all := lw_g (lw_at lw_m5 180 rfl) rfl
theorem q1245 : (Jvm.Cond.selects "HotIron$Several" ({ cls := "HotIron$Test", name := "is", desc := "(LHotIron$Work;)Z" } : Jvm.MethodName) ({ cls := "HotIron$Several", name := "is", desc := "(LHotIron$Work;)Z" } : Jvm.MethodName)) ∈ lw_all := lw_g (lw_at lw_m5 181 rfl) rfl
theorem q2127 : (Jvm.Cond.castable "HotIron$Several" "HotIron$Test") ∈ lw_tbl := lw_at lw_m9 103 rfl
theorem q2152 : (Jvm.Cond.castable "HotIron$Several" "java/lang/Object") ∈ lw_tbl := lw_at lw_m9 128 rfl
theorem in_X25 : ∀ w ∈ wsX250, w ∈ lw_all := lw_in wsX250 [1127, 1129] (by decide +kernel) (by decide +kernel)
/-! HotIron$Piece -/
set_option maxRecDepth 100000
def RX26 : String := "HotIron$Piece"
def TX26 : u_T := fun k => match k with
  | 0 => ("HotIron$Piece", "minutes", "I", true)
  | _ => ("HotIron$Piece", "need", "I", true)
def tyX26 : Nat → FieldType := fun k => match k with
  | 0 => .int
  | _ => .int
abbrev wsX260 : List Cond := u_ws RX26 TX26 2
theorem nmX26 : ∀ a, a < 2 → ∀ b, b < 2 → a ≠ b → (TX26 a).2.1 ≠ (TX26 b).2.1 := by decide +kernel
theorem tyX26_ok : ∀ k, k < 2 → parseFieldDescriptor (TX26 k).2.2.1 = some (tyX26 k) := by decide +kernel
abbrev cX26_init : ByteArray := prog_12_method_1_code
def yX26_init : MethodName := ⟨RX26, "<init>", "(II)V"⟩
def dkwX26_init_0 : List UInt8 := [42, 183, 0, 1, 42, 27, 181, 0, 7, 42, 28, 181, 0, 13, 177]
abbrev dktX26_init_0 : List UInt8 := dkwX26_init_0 ++ []
theorem dksX26_init_0 : cX26_init.data.toList.drop 0 = dktX26_init_0 := by decide +kernel
theorem dX26_init_0 : decode cX26_init 0 = .ok (.aload_n 0, 1) := dk_42 (dk_at dksX26_init_0 0 rfl rfl)
theorem dX26_init_1 : decode cX26_init 1 = .ok (.invokespecial 1, 3) := dk_183 0 1 (dk_at dksX26_init_0 1 rfl rfl)
theorem dX26_init_4 : decode cX26_init 4 = .ok (.aload_n 0, 1) := dk_42 (dk_at dksX26_init_0 4 rfl rfl)
theorem dX26_init_5 : decode cX26_init 5 = .ok (.iload_n 1, 1) := dk_27 (dk_at dksX26_init_0 5 rfl rfl)
theorem dX26_init_6 : decode cX26_init 6 = .ok (.putfield 7, 3) := dk_181 0 7 (dk_at dksX26_init_0 6 rfl rfl)
theorem dX26_init_9 : decode cX26_init 9 = .ok (.aload_n 0, 1) := dk_42 (dk_at dksX26_init_0 9 rfl rfl)
theorem dX26_init_10 : decode cX26_init 10 = .ok (.iload_n 2, 1) := dk_28 (dk_at dksX26_init_0 10 rfl rfl)
theorem dX26_init_11 : decode cX26_init 11 = .ok (.putfield 13, 3) := dk_181 0 13 (dk_at dksX26_init_0 11 rfl rfl)
theorem dX26_init_14 : decode cX26_init 14 = .ok (.return_, 1) := dk_177 (dk_at dksX26_init_0 14 rfl rfl)
theorem q148 : (Jvm.Cond.initialized "HotIron$Piece") ∈ lw_all := lw_g (lw_at lw_m1 44 rfl) rfl
theorem q553 : (Jvm.Cond.selects "HotIron$Piece" ({ cls := "java/lang/Object", name := "getClass", desc := "()Ljava/lang/Class;" } : Jvm.MethodName) ({ cls := "java/lang/Object", name := "getClass", desc := "()Ljava/lang/Class;" } : Jvm.MethodName)) ∈ lw_all := lw_g (lw_at lw_m2 209 rfl) rfl
theorem q1467 : (Jvm.Cond.instantiable "HotIron$Piece" (2 : Nat)) ∈ lw_all := lw_g (lw_at lw_m6 163 rfl) rfl
theorem q1469 : (Jvm.Cond.instanceMethod ({ cls := "HotIron$Piece", name := "<init>", desc := "(II)V" } : Jvm.MethodName)) ∈ lw_all := lw_g (lw_at lw_m6 165 rfl) rfl
theorem q1470 : (Jvm.Cond.code ({ cls := "HotIron$Piece", name := "<init>", desc := "(II)V" } : Jvm.MethodName) prog_12_method_1_code (3 : Nat) (Option.none : Option Jvm.ClassFile.FieldType)) ∈ lw_all := lw_g (lw_at lw_m6 166 rfl) rfl
theorem q1471 : (Jvm.Cond.methodLink "HotIron$Piece" (1 : Nat) ({ cls := "java/lang/Object", name := "<init>", desc := "()V" } : Jvm.MethodName)) ∈ lw_all := lw_g (lw_at lw_m6 167 rfl) rfl
theorem q1472 : (Jvm.Cond.fieldLink "HotIron$Piece" (7 : Nat) "HotIron$Piece" "minutes" "I") ∈ lw_all := lw_g (lw_at lw_m6 168 rfl) rfl
theorem q1474 : (Jvm.Cond.fieldLink "HotIron$Piece" (13 : Nat) "HotIron$Piece" "need" "I") ∈ lw_all := lw_g (lw_at lw_m6 170 rfl) rfl
theorem q1476 : (Jvm.Cond.laysFinal "HotIron$Piece" "HotIron$Piece" "minutes" "I") ∈ lw_all := lw_g (lw_at lw_m6 172 rfl) rfl
theorem q1477 : (Jvm.Cond.soleField "HotIron$Piece" "minutes") ∈ lw_all := lw_g (lw_at lw_m6 173 rfl) rfl
theorem q1478 : (Jvm.Cond.laysFinal "HotIron$Piece" "HotIron$Piece" "need" "I") ∈ lw_all := lw_g (lw_at lw_m6 174 rfl) rfl
theorem q1479 : (Jvm.Cond.soleField "HotIron$Piece" "need") ∈ lw_all := lw_g (lw_at lw_m6 175 rfl) rfl
theorem q1480 : (Jvm.Cond.superclass "HotIron$Piece" "java/lang/Object") ∈ lw_all := lw_g (lw_at lw_m6 176 rfl) rfl
theorem q2153 : (Jvm.Cond.castable "HotIron$Piece" "java/lang/Object") ∈ lw_tbl := lw_at lw_m9 129 rfl
theorem in_X26 : ∀ w ∈ wsX260, w ∈ lw_all := lw_in wsX260 [1476, 1478] (by decide +kernel) (by decide +kernel)
