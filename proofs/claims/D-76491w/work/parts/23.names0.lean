/-! GeeseKeys -/
set_option maxRecDepth 100000
def RX0 : String := "GeeseKeys"
def TX0 : u_T := fun k => match k with
  | 0 => ("GeeseKeys", "geese", "[LGeeseKeys$Goose;", true)
  | 1 => ("GeeseKeys", "rows", "[I", true)
  | 2 => ("GeeseKeys", "now", "LGeeseKeys$Time;", true)
  | 3 => ("GeeseKeys", "tried", "LGeeseKeys$Time;", true)
  | 4 => ("GeeseKeys", "text", "[B", true)
  | 5 => ("GeeseKeys", "texted", "I", false)
  | 6 => ("GeeseKeys", "fortressMany", "I", false)
  | 7 => ("GeeseKeys", "held", "LGeeseKeys$Fortress;", false)
  | 8 => ("GeeseKeys", "look", "LGeeseKeys$Look;", true)
  | 9 => ("GeeseKeys", "trace", "LGeeseKeys$Trace;", true)
  | 10 => ("GeeseKeys", "seenGeese", "[I", true)
  | 11 => ("GeeseKeys", "seenHours", "[I", true)
  | 12 => ("GeeseKeys", "seenCourts", "[I", true)
  | 13 => ("GeeseKeys", "planWhat", "[I", true)
  | 14 => ("GeeseKeys", "planNumbers", "[I", true)
  | 15 => ("GeeseKeys", "bookCourts", "[I", true)
  | 16 => ("GeeseKeys", "bookGrains", "[I", true)
  | 17 => ("GeeseKeys", "seenMany", "I", false)
  | 18 => ("GeeseKeys", "planMany", "I", false)
  | 19 => ("GeeseKeys", "bookMany", "I", false)
  | 20 => ("GeeseKeys", "tapes", "[LGeeseKeys$Tape;", true)
  | 21 => ("GeeseKeys", "imageNow", "LGeeseKeys$Time;", true)
  | 22 => ("GeeseKeys", "imageGeese", "[LGeeseKeys$Goose;", true)
  | 23 => ("GeeseKeys", "imageRows", "[I", true)
  | 24 => ("GeeseKeys", "imageSeenGeese", "[I", true)
  | 25 => ("GeeseKeys", "imageSeenHours", "[I", true)
  | 26 => ("GeeseKeys", "imageSeenCourts", "[I", true)
  | 27 => ("GeeseKeys", "imagePlanWhat", "[I", true)
  | 28 => ("GeeseKeys", "imagePlanNumbers", "[I", true)
  | 29 => ("GeeseKeys", "imageBookCourts", "[I", true)
  | 30 => ("GeeseKeys", "imageBookGrains", "[I", true)
  | 31 => ("GeeseKeys", "imageSeen", "I", false)
  | 32 => ("GeeseKeys", "imagePlanned", "I", false)
  | 33 => ("GeeseKeys", "imageBooked", "I", false)
  | _ => ("GeeseKeys", "imageHeld", "LGeeseKeys$Fortress;", false)
def tyX0 : Nat → FieldType := fun k => match k with
  | 0 => .array (.object "GeeseKeys$Goose")
  | 1 => .array .int
  | 2 => .object "GeeseKeys$Time"
  | 3 => .object "GeeseKeys$Time"
  | 4 => .array .byte
  | 5 => .int
  | 6 => .int
  | 7 => .object "GeeseKeys$Fortress"
  | 8 => .object "GeeseKeys$Look"
  | 9 => .object "GeeseKeys$Trace"
  | 10 => .array .int
  | 11 => .array .int
  | 12 => .array .int
  | 13 => .array .int
  | 14 => .array .int
  | 15 => .array .int
  | 16 => .array .int
  | 17 => .int
  | 18 => .int
  | 19 => .int
  | 20 => .array (.object "GeeseKeys$Tape")
  | 21 => .object "GeeseKeys$Time"
  | 22 => .array (.object "GeeseKeys$Goose")
  | 23 => .array .int
  | 24 => .array .int
  | 25 => .array .int
  | 26 => .array .int
  | 27 => .array .int
  | 28 => .array .int
  | 29 => .array .int
  | 30 => .array .int
  | 31 => .int
  | 32 => .int
  | 33 => .int
  | _ => .object "GeeseKeys$Fortress"
abbrev wsX00 : List Cond := u_ws RX0 TX0 35
set_option maxRecDepth 100000 in
theorem nmX0 : ∀ a, a < 35 → ∀ b, b < 35 → a ≠ b → (TX0 a).2.1 ≠ (TX0 b).2.1 := by decide +kernel
set_option maxRecDepth 100000 in
theorem tyX0_ok : ∀ k, k < 35 → parseFieldDescriptor (TX0 k).2.2.1 = some (tyX0 k) := by decide +kernel
abbrev cX0_init : ByteArray := prog_1_method_7_code
def yX0_init : MethodName := ⟨RX0, "<init>", "()V"⟩
def dkwX0_init_10 : List UInt8 := [162, 0, 22, 42, 180, 0, 83, 27, 187, 0, 81, 89, 183, 0, 117, 83, 132, 1, 1, 167, 255, 234, 177]
abbrev dktX0_init_10 : List UInt8 := dkwX0_init_10 ++ []
def dkwX0_init_9 : List UInt8 := [181, 0, 108, 42, 16, 8, 188, 10, 181, 0, 111, 42, 16, 8, 188, 10, 181, 0, 114, 3, 60, 27, 16, 6]
abbrev dktX0_init_9 : List UInt8 := dkwX0_init_9 ++ dktX0_init_10
def dkwX0_init_8 : List UInt8 := [181, 0, 99, 42, 8, 188, 10, 181, 0, 102, 42, 16, 10, 188, 10, 181, 0, 105, 42, 16, 10, 188, 10]
abbrev dktX0_init_8 : List UInt8 := dkwX0_init_8 ++ dktX0_init_9
def dkwX0_init_7 : List UInt8 := [181, 0, 90, 42, 16, 24, 188, 10, 181, 0, 93, 42, 8, 188, 10, 181, 0, 96, 42, 8, 188, 10]
abbrev dktX0_init_7 : List UInt8 := dkwX0_init_7 ++ dktX0_init_8
def dkwX0_init_6 : List UInt8 := [189, 0, 81, 181, 0, 83, 42, 187, 0, 25, 89, 183, 0, 27, 181, 0, 87, 42, 16, 6, 189, 0, 15]
abbrev dktX0_init_6 : List UInt8 := dkwX0_init_6 ++ dktX0_init_7
def dkwX0_init_5 : List UInt8 := [188, 10, 181, 0, 72, 42, 16, 8, 188, 10, 181, 0, 75, 42, 16, 8, 188, 10, 181, 0, 78, 42, 16, 6]
abbrev dktX0_init_5 : List UInt8 := dkwX0_init_5 ++ dktX0_init_6
def dkwX0_init_4 : List UInt8 := [188, 10, 181, 0, 63, 42, 8, 188, 10, 181, 0, 66, 42, 16, 10, 188, 10, 181, 0, 69, 42, 16, 10]
abbrev dktX0_init_4 : List UInt8 := dkwX0_init_4 ++ dktX0_init_5
def dkwX0_init_3 : List UInt8 := [181, 0, 49, 42, 187, 0, 53, 89, 183, 0, 55, 181, 0, 56, 42, 8, 188, 10, 181, 0, 60, 42, 8]
abbrev dktX0_init_3 : List UInt8 := dkwX0_init_3 ++ dktX0_init_4
def dkwX0_init_2 : List UInt8 := [188, 8, 181, 0, 35, 42, 187, 0, 39, 89, 183, 0, 41, 181, 0, 42, 42, 187, 0, 46, 89, 183, 0, 48]
abbrev dktX0_init_2 : List UInt8 := dkwX0_init_2 ++ dktX0_init_3
def dkwX0_init_1 : List UInt8 := [187, 0, 25, 89, 183, 0, 27, 181, 0, 28, 42, 187, 0, 25, 89, 183, 0, 27, 181, 0, 32, 42, 16, 100]
abbrev dktX0_init_1 : List UInt8 := dkwX0_init_1 ++ dktX0_init_2
def dkwX0_init_0 : List UInt8 := [42, 183, 0, 9, 42, 16, 6, 189, 0, 15, 181, 0, 17, 42, 16, 24, 188, 10, 181, 0, 21, 42]
abbrev dktX0_init_0 : List UInt8 := dkwX0_init_0 ++ dktX0_init_1
theorem dksX0_init_0 : cX0_init.data.toList.drop 0 = dktX0_init_0 := by decide +kernel
theorem dksX0_init_1 : cX0_init.data.toList.drop 22 = dktX0_init_1 := dk_seg dksX0_init_0 22 rfl rfl
theorem dksX0_init_2 : cX0_init.data.toList.drop 46 = dktX0_init_2 := dk_seg dksX0_init_1 24 rfl rfl
theorem dksX0_init_3 : cX0_init.data.toList.drop 70 = dktX0_init_3 := dk_seg dksX0_init_2 24 rfl rfl
theorem dksX0_init_4 : cX0_init.data.toList.drop 93 = dktX0_init_4 := dk_seg dksX0_init_3 23 rfl rfl
theorem dksX0_init_5 : cX0_init.data.toList.drop 116 = dktX0_init_5 := dk_seg dksX0_init_4 23 rfl rfl
theorem dksX0_init_6 : cX0_init.data.toList.drop 140 = dktX0_init_6 := dk_seg dksX0_init_5 24 rfl rfl
theorem dksX0_init_7 : cX0_init.data.toList.drop 163 = dktX0_init_7 := dk_seg dksX0_init_6 23 rfl rfl
theorem dksX0_init_8 : cX0_init.data.toList.drop 185 = dktX0_init_8 := dk_seg dksX0_init_7 22 rfl rfl
theorem dksX0_init_9 : cX0_init.data.toList.drop 208 = dktX0_init_9 := dk_seg dksX0_init_8 23 rfl rfl
theorem dksX0_init_10 : cX0_init.data.toList.drop 232 = dktX0_init_10 := dk_seg dksX0_init_9 24 rfl rfl
theorem dX0_init_0 : decode cX0_init 0 = .ok (.aload_n 0, 1) := dk_42 (dk_at dksX0_init_0 0 rfl rfl)
theorem dX0_init_1 : decode cX0_init 1 = .ok (.invokespecial 9, 3) := dk_183 0 9 (dk_at dksX0_init_0 1 rfl rfl)
theorem dX0_init_4 : decode cX0_init 4 = .ok (.aload_n 0, 1) := dk_42 (dk_at dksX0_init_0 4 rfl rfl)
theorem dX0_init_5 : decode cX0_init 5 = .ok (.bipush 6, 2) := dk_16 6 (dk_at dksX0_init_0 5 rfl rfl)
theorem dX0_init_7 : decode cX0_init 7 = .ok (.anewarray 15, 3) := dk_189 0 15 (dk_at dksX0_init_0 7 rfl rfl)
theorem dX0_init_10 : decode cX0_init 10 = .ok (.putfield 17, 3) := dk_181 0 17 (dk_at dksX0_init_0 10 rfl rfl)
theorem dX0_init_13 : decode cX0_init 13 = .ok (.aload_n 0, 1) := dk_42 (dk_at dksX0_init_0 13 rfl rfl)
theorem dX0_init_14 : decode cX0_init 14 = .ok (.bipush 24, 2) := dk_16 24 (dk_at dksX0_init_0 14 rfl rfl)
theorem dX0_init_16 : decode cX0_init 16 = .ok (.newarray .int, 2) := dk_188_10 (dk_at dksX0_init_0 16 rfl rfl)
theorem dX0_init_18 : decode cX0_init 18 = .ok (.putfield 21, 3) := dk_181 0 21 (dk_at dksX0_init_0 18 rfl rfl)
theorem dX0_init_21 : decode cX0_init 21 = .ok (.aload_n 0, 1) := dk_42 (dk_at dksX0_init_0 21 rfl rfl)
theorem dX0_init_22 : decode cX0_init 22 = .ok (.new 25, 3) := dk_187 0 25 (dk_at dksX0_init_1 0 rfl rfl)
theorem dX0_init_25 : decode cX0_init 25 = .ok (.dup, 1) := dk_89 (dk_at dksX0_init_1 3 rfl rfl)
theorem dX0_init_26 : decode cX0_init 26 = .ok (.invokespecial 27, 3) := dk_183 0 27 (dk_at dksX0_init_1 4 rfl rfl)
theorem dX0_init_29 : decode cX0_init 29 = .ok (.putfield 28, 3) := dk_181 0 28 (dk_at dksX0_init_1 7 rfl rfl)
theorem dX0_init_32 : decode cX0_init 32 = .ok (.aload_n 0, 1) := dk_42 (dk_at dksX0_init_1 10 rfl rfl)
theorem dX0_init_33 : decode cX0_init 33 = .ok (.new 25, 3) := dk_187 0 25 (dk_at dksX0_init_1 11 rfl rfl)
theorem dX0_init_36 : decode cX0_init 36 = .ok (.dup, 1) := dk_89 (dk_at dksX0_init_1 14 rfl rfl)
theorem dX0_init_37 : decode cX0_init 37 = .ok (.invokespecial 27, 3) := dk_183 0 27 (dk_at dksX0_init_1 15 rfl rfl)
theorem dX0_init_40 : decode cX0_init 40 = .ok (.putfield 32, 3) := dk_181 0 32 (dk_at dksX0_init_1 18 rfl rfl)
theorem dX0_init_43 : decode cX0_init 43 = .ok (.aload_n 0, 1) := dk_42 (dk_at dksX0_init_1 21 rfl rfl)
theorem dX0_init_44 : decode cX0_init 44 = .ok (.bipush 100, 2) := dk_16 100 (dk_at dksX0_init_1 22 rfl rfl)
theorem dX0_init_46 : decode cX0_init 46 = .ok (.newarray .byte, 2) := dk_188_8 (dk_at dksX0_init_2 0 rfl rfl)
theorem dX0_init_48 : decode cX0_init 48 = .ok (.putfield 35, 3) := dk_181 0 35 (dk_at dksX0_init_2 2 rfl rfl)
theorem dX0_init_51 : decode cX0_init 51 = .ok (.aload_n 0, 1) := dk_42 (dk_at dksX0_init_2 5 rfl rfl)
theorem dX0_init_52 : decode cX0_init 52 = .ok (.new 39, 3) := dk_187 0 39 (dk_at dksX0_init_2 6 rfl rfl)
theorem dX0_init_55 : decode cX0_init 55 = .ok (.dup, 1) := dk_89 (dk_at dksX0_init_2 9 rfl rfl)
theorem dX0_init_56 : decode cX0_init 56 = .ok (.invokespecial 41, 3) := dk_183 0 41 (dk_at dksX0_init_2 10 rfl rfl)
theorem dX0_init_59 : decode cX0_init 59 = .ok (.putfield 42, 3) := dk_181 0 42 (dk_at dksX0_init_2 13 rfl rfl)
theorem dX0_init_62 : decode cX0_init 62 = .ok (.aload_n 0, 1) := dk_42 (dk_at dksX0_init_2 16 rfl rfl)
theorem dX0_init_63 : decode cX0_init 63 = .ok (.new 46, 3) := dk_187 0 46 (dk_at dksX0_init_2 17 rfl rfl)
theorem dX0_init_66 : decode cX0_init 66 = .ok (.dup, 1) := dk_89 (dk_at dksX0_init_2 20 rfl rfl)
theorem dX0_init_67 : decode cX0_init 67 = .ok (.invokespecial 48, 3) := dk_183 0 48 (dk_at dksX0_init_2 21 rfl rfl)
theorem dX0_init_70 : decode cX0_init 70 = .ok (.putfield 49, 3) := dk_181 0 49 (dk_at dksX0_init_3 0 rfl rfl)
theorem dX0_init_73 : decode cX0_init 73 = .ok (.aload_n 0, 1) := dk_42 (dk_at dksX0_init_3 3 rfl rfl)
theorem dX0_init_74 : decode cX0_init 74 = .ok (.new 53, 3) := dk_187 0 53 (dk_at dksX0_init_3 4 rfl rfl)
theorem dX0_init_77 : decode cX0_init 77 = .ok (.dup, 1) := dk_89 (dk_at dksX0_init_3 7 rfl rfl)
theorem dX0_init_78 : decode cX0_init 78 = .ok (.invokespecial 55, 3) := dk_183 0 55 (dk_at dksX0_init_3 8 rfl rfl)
theorem dX0_init_81 : decode cX0_init 81 = .ok (.putfield 56, 3) := dk_181 0 56 (dk_at dksX0_init_3 11 rfl rfl)
theorem dX0_init_84 : decode cX0_init 84 = .ok (.aload_n 0, 1) := dk_42 (dk_at dksX0_init_3 14 rfl rfl)
theorem dX0_init_85 : decode cX0_init 85 = .ok (.iconst 5, 1) := dk_8 (dk_at dksX0_init_3 15 rfl rfl)
theorem dX0_init_86 : decode cX0_init 86 = .ok (.newarray .int, 2) := dk_188_10 (dk_at dksX0_init_3 16 rfl rfl)
theorem dX0_init_88 : decode cX0_init 88 = .ok (.putfield 60, 3) := dk_181 0 60 (dk_at dksX0_init_3 18 rfl rfl)
theorem dX0_init_91 : decode cX0_init 91 = .ok (.aload_n 0, 1) := dk_42 (dk_at dksX0_init_3 21 rfl rfl)
theorem dX0_init_92 : decode cX0_init 92 = .ok (.iconst 5, 1) := dk_8 (dk_at dksX0_init_3 22 rfl rfl)
theorem dX0_init_93 : decode cX0_init 93 = .ok (.newarray .int, 2) := dk_188_10 (dk_at dksX0_init_4 0 rfl rfl)
theorem dX0_init_95 : decode cX0_init 95 = .ok (.putfield 63, 3) := dk_181 0 63 (dk_at dksX0_init_4 2 rfl rfl)
theorem dX0_init_98 : decode cX0_init 98 = .ok (.aload_n 0, 1) := dk_42 (dk_at dksX0_init_4 5 rfl rfl)
theorem dX0_init_99 : decode cX0_init 99 = .ok (.iconst 5, 1) := dk_8 (dk_at dksX0_init_4 6 rfl rfl)
theorem dX0_init_100 : decode cX0_init 100 = .ok (.newarray .int, 2) := dk_188_10 (dk_at dksX0_init_4 7 rfl rfl)
theorem dX0_init_102 : decode cX0_init 102 = .ok (.putfield 66, 3) := dk_181 0 66 (dk_at dksX0_init_4 9 rfl rfl)
theorem dX0_init_105 : decode cX0_init 105 = .ok (.aload_n 0, 1) := dk_42 (dk_at dksX0_init_4 12 rfl rfl)
theorem dX0_init_106 : decode cX0_init 106 = .ok (.bipush 10, 2) := dk_16 10 (dk_at dksX0_init_4 13 rfl rfl)
theorem dX0_init_108 : decode cX0_init 108 = .ok (.newarray .int, 2) := dk_188_10 (dk_at dksX0_init_4 15 rfl rfl)
theorem dX0_init_110 : decode cX0_init 110 = .ok (.putfield 69, 3) := dk_181 0 69 (dk_at dksX0_init_4 17 rfl rfl)
theorem dX0_init_113 : decode cX0_init 113 = .ok (.aload_n 0, 1) := dk_42 (dk_at dksX0_init_4 20 rfl rfl)
theorem dX0_init_114 : decode cX0_init 114 = .ok (.bipush 10, 2) := dk_16 10 (dk_at dksX0_init_4 21 rfl rfl)
theorem dX0_init_116 : decode cX0_init 116 = .ok (.newarray .int, 2) := dk_188_10 (dk_at dksX0_init_5 0 rfl rfl)
theorem dX0_init_118 : decode cX0_init 118 = .ok (.putfield 72, 3) := dk_181 0 72 (dk_at dksX0_init_5 2 rfl rfl)
theorem dX0_init_121 : decode cX0_init 121 = .ok (.aload_n 0, 1) := dk_42 (dk_at dksX0_init_5 5 rfl rfl)
theorem dX0_init_122 : decode cX0_init 122 = .ok (.bipush 8, 2) := dk_16 8 (dk_at dksX0_init_5 6 rfl rfl)
theorem dX0_init_124 : decode cX0_init 124 = .ok (.newarray .int, 2) := dk_188_10 (dk_at dksX0_init_5 8 rfl rfl)
theorem dX0_init_126 : decode cX0_init 126 = .ok (.putfield 75, 3) := dk_181 0 75 (dk_at dksX0_init_5 10 rfl rfl)
theorem dX0_init_129 : decode cX0_init 129 = .ok (.aload_n 0, 1) := dk_42 (dk_at dksX0_init_5 13 rfl rfl)
theorem dX0_init_130 : decode cX0_init 130 = .ok (.bipush 8, 2) := dk_16 8 (dk_at dksX0_init_5 14 rfl rfl)
theorem dX0_init_132 : decode cX0_init 132 = .ok (.newarray .int, 2) := dk_188_10 (dk_at dksX0_init_5 16 rfl rfl)
theorem dX0_init_134 : decode cX0_init 134 = .ok (.putfield 78, 3) := dk_181 0 78 (dk_at dksX0_init_5 18 rfl rfl)
theorem dX0_init_137 : decode cX0_init 137 = .ok (.aload_n 0, 1) := dk_42 (dk_at dksX0_init_5 21 rfl rfl)
theorem dX0_init_138 : decode cX0_init 138 = .ok (.bipush 6, 2) := dk_16 6 (dk_at dksX0_init_5 22 rfl rfl)
theorem dX0_init_140 : decode cX0_init 140 = .ok (.anewarray 81, 3) := dk_189 0 81 (dk_at dksX0_init_6 0 rfl rfl)
theorem dX0_init_143 : decode cX0_init 143 = .ok (.putfield 83, 3) := dk_181 0 83 (dk_at dksX0_init_6 3 rfl rfl)
theorem dX0_init_146 : decode cX0_init 146 = .ok (.aload_n 0, 1) := dk_42 (dk_at dksX0_init_6 6 rfl rfl)
theorem dX0_init_147 : decode cX0_init 147 = .ok (.new 25, 3) := dk_187 0 25 (dk_at dksX0_init_6 7 rfl rfl)
theorem dX0_init_150 : decode cX0_init 150 = .ok (.dup, 1) := dk_89 (dk_at dksX0_init_6 10 rfl rfl)
theorem dX0_init_151 : decode cX0_init 151 = .ok (.invokespecial 27, 3) := dk_183 0 27 (dk_at dksX0_init_6 11 rfl rfl)
theorem dX0_init_154 : decode cX0_init 154 = .ok (.putfield 87, 3) := dk_181 0 87 (dk_at dksX0_init_6 14 rfl rfl)
theorem dX0_init_157 : decode cX0_init 157 = .ok (.aload_n 0, 1) := dk_42 (dk_at dksX0_init_6 17 rfl rfl)
theorem dX0_init_158 : decode cX0_init 158 = .ok (.bipush 6, 2) := dk_16 6 (dk_at dksX0_init_6 18 rfl rfl)
theorem dX0_init_160 : decode cX0_init 160 = .ok (.anewarray 15, 3) := dk_189 0 15 (dk_at dksX0_init_6 20 rfl rfl)
theorem dX0_init_163 : decode cX0_init 163 = .ok (.putfield 90, 3) := dk_181 0 90 (dk_at dksX0_init_7 0 rfl rfl)
theorem dX0_init_166 : decode cX0_init 166 = .ok (.aload_n 0, 1) := dk_42 (dk_at dksX0_init_7 3 rfl rfl)
theorem dX0_init_167 : decode cX0_init 167 = .ok (.bipush 24, 2) := dk_16 24 (dk_at dksX0_init_7 4 rfl rfl)
theorem dX0_init_169 : decode cX0_init 169 = .ok (.newarray .int, 2) := dk_188_10 (dk_at dksX0_init_7 6 rfl rfl)
theorem dX0_init_171 : decode cX0_init 171 = .ok (.putfield 93, 3) := dk_181 0 93 (dk_at dksX0_init_7 8 rfl rfl)
theorem dX0_init_174 : decode cX0_init 174 = .ok (.aload_n 0, 1) := dk_42 (dk_at dksX0_init_7 11 rfl rfl)
theorem dX0_init_175 : decode cX0_init 175 = .ok (.iconst 5, 1) := dk_8 (dk_at dksX0_init_7 12 rfl rfl)
theorem dX0_init_176 : decode cX0_init 176 = .ok (.newarray .int, 2) := dk_188_10 (dk_at dksX0_init_7 13 rfl rfl)
theorem dX0_init_178 : decode cX0_init 178 = .ok (.putfield 96, 3) := dk_181 0 96 (dk_at dksX0_init_7 15 rfl rfl)
theorem dX0_init_181 : decode cX0_init 181 = .ok (.aload_n 0, 1) := dk_42 (dk_at dksX0_init_7 18 rfl rfl)
theorem dX0_init_182 : decode cX0_init 182 = .ok (.iconst 5, 1) := dk_8 (dk_at dksX0_init_7 19 rfl rfl)
theorem dX0_init_183 : decode cX0_init 183 = .ok (.newarray .int, 2) := dk_188_10 (dk_at dksX0_init_7 20 rfl rfl)
theorem dX0_init_185 : decode cX0_init 185 = .ok (.putfield 99, 3) := dk_181 0 99 (dk_at dksX0_init_8 0 rfl rfl)
theorem dX0_init_188 : decode cX0_init 188 = .ok (.aload_n 0, 1) := dk_42 (dk_at dksX0_init_8 3 rfl rfl)
theorem dX0_init_189 : decode cX0_init 189 = .ok (.iconst 5, 1) := dk_8 (dk_at dksX0_init_8 4 rfl rfl)
theorem dX0_init_190 : decode cX0_init 190 = .ok (.newarray .int, 2) := dk_188_10 (dk_at dksX0_init_8 5 rfl rfl)
theorem dX0_init_192 : decode cX0_init 192 = .ok (.putfield 102, 3) := dk_181 0 102 (dk_at dksX0_init_8 7 rfl rfl)
theorem dX0_init_195 : decode cX0_init 195 = .ok (.aload_n 0, 1) := dk_42 (dk_at dksX0_init_8 10 rfl rfl)
theorem dX0_init_196 : decode cX0_init 196 = .ok (.bipush 10, 2) := dk_16 10 (dk_at dksX0_init_8 11 rfl rfl)
theorem dX0_init_198 : decode cX0_init 198 = .ok (.newarray .int, 2) := dk_188_10 (dk_at dksX0_init_8 13 rfl rfl)
theorem dX0_init_200 : decode cX0_init 200 = .ok (.putfield 105, 3) := dk_181 0 105 (dk_at dksX0_init_8 15 rfl rfl)
theorem dX0_init_203 : decode cX0_init 203 = .ok (.aload_n 0, 1) := dk_42 (dk_at dksX0_init_8 18 rfl rfl)
theorem dX0_init_204 : decode cX0_init 204 = .ok (.bipush 10, 2) := dk_16 10 (dk_at dksX0_init_8 19 rfl rfl)
theorem dX0_init_206 : decode cX0_init 206 = .ok (.newarray .int, 2) := dk_188_10 (dk_at dksX0_init_8 21 rfl rfl)
theorem dX0_init_208 : decode cX0_init 208 = .ok (.putfield 108, 3) := dk_181 0 108 (dk_at dksX0_init_9 0 rfl rfl)
theorem dX0_init_211 : decode cX0_init 211 = .ok (.aload_n 0, 1) := dk_42 (dk_at dksX0_init_9 3 rfl rfl)
theorem dX0_init_212 : decode cX0_init 212 = .ok (.bipush 8, 2) := dk_16 8 (dk_at dksX0_init_9 4 rfl rfl)
theorem dX0_init_214 : decode cX0_init 214 = .ok (.newarray .int, 2) := dk_188_10 (dk_at dksX0_init_9 6 rfl rfl)
theorem dX0_init_216 : decode cX0_init 216 = .ok (.putfield 111, 3) := dk_181 0 111 (dk_at dksX0_init_9 8 rfl rfl)
theorem dX0_init_219 : decode cX0_init 219 = .ok (.aload_n 0, 1) := dk_42 (dk_at dksX0_init_9 11 rfl rfl)
theorem dX0_init_220 : decode cX0_init 220 = .ok (.bipush 8, 2) := dk_16 8 (dk_at dksX0_init_9 12 rfl rfl)
theorem dX0_init_222 : decode cX0_init 222 = .ok (.newarray .int, 2) := dk_188_10 (dk_at dksX0_init_9 14 rfl rfl)
theorem dX0_init_224 : decode cX0_init 224 = .ok (.putfield 114, 3) := dk_181 0 114 (dk_at dksX0_init_9 16 rfl rfl)
theorem dX0_init_227 : decode cX0_init 227 = .ok (.iconst 0, 1) := dk_3 (dk_at dksX0_init_9 19 rfl rfl)
theorem dX0_init_228 : decode cX0_init 228 = .ok (.istore_n 1, 1) := dk_60 (dk_at dksX0_init_9 20 rfl rfl)
theorem dX0_init_229 : decode cX0_init 229 = .ok (.iload_n 1, 1) := dk_27 (dk_at dksX0_init_9 21 rfl rfl)
theorem dX0_init_230 : decode cX0_init 230 = .ok (.bipush 6, 2) := dk_16 6 (dk_at dksX0_init_9 22 rfl rfl)
theorem dX0_init_232 : decode cX0_init 232 = .ok (.if_icmp .ge 22, 3) := dk_162 0 22 (dk_at dksX0_init_10 0 rfl rfl)
theorem dX0_init_235 : decode cX0_init 235 = .ok (.aload_n 0, 1) := dk_42 (dk_at dksX0_init_10 3 rfl rfl)
theorem dX0_init_236 : decode cX0_init 236 = .ok (.getfield 83, 3) := dk_180 0 83 (dk_at dksX0_init_10 4 rfl rfl)
theorem dX0_init_239 : decode cX0_init 239 = .ok (.iload_n 1, 1) := dk_27 (dk_at dksX0_init_10 7 rfl rfl)
theorem dX0_init_240 : decode cX0_init 240 = .ok (.new 81, 3) := dk_187 0 81 (dk_at dksX0_init_10 8 rfl rfl)
theorem dX0_init_243 : decode cX0_init 243 = .ok (.dup, 1) := dk_89 (dk_at dksX0_init_10 11 rfl rfl)
theorem dX0_init_244 : decode cX0_init 244 = .ok (.invokespecial 117, 3) := dk_183 0 117 (dk_at dksX0_init_10 12 rfl rfl)
theorem dX0_init_247 : decode cX0_init 247 = .ok (.aastore, 1) := dk_83 (dk_at dksX0_init_10 15 rfl rfl)
theorem dX0_init_248 : decode cX0_init 248 = .ok (.iinc 1 1, 3) := dk_132 1 1 (dk_at dksX0_init_10 16 rfl rfl)
theorem dX0_init_251 : decode cX0_init 251 = .ok (.goto (-22), 3) := dk_167 255 234 (dk_at dksX0_init_10 19 rfl rfl)
theorem dX0_init_254 : decode cX0_init 254 = .ok (.return_, 1) := dk_177 (dk_at dksX0_init_10 22 rfl rfl)
abbrev cX0_gate : ByteArray := prog_1_method_11_code
def yX0_gate : MethodName := ⟨RX0, "gate", "(II)I"⟩
def dkwX0_gate_3 : List UInt8 := [145, 84, 42, 180, 0, 28, 89, 180, 0, 122, 90, 4, 96, 181, 0, 122, 172]
abbrev dktX0_gate_3 : List UInt8 := dkwX0_gate_3 ++ []
def dkwX0_gate_2 : List UInt8 := [180, 0, 28, 180, 0, 122, 27, 145, 84, 42, 180, 0, 28, 180, 0, 155, 42, 180, 0, 28, 180, 0, 122, 28]
abbrev dktX0_gate_2 : List UInt8 := dkwX0_gate_2 ++ dktX0_gate_3
def dkwX0_gate_1 : List UInt8 := [42, 180, 0, 28, 180, 0, 122, 16, 9, 160, 0, 6, 16, 252, 172, 42, 180, 0, 28, 180, 0, 152, 42]
abbrev dktX0_gate_1 : List UInt8 := dkwX0_gate_1 ++ dktX0_gate_2
def dkwX0_gate_0 : List UInt8 := [27, 184, 0, 148, 153, 0, 10, 28, 184, 0, 148, 154, 0, 5, 2, 172, 27, 28, 160, 0, 6, 16, 254, 172]
abbrev dktX0_gate_0 : List UInt8 := dkwX0_gate_0 ++ dktX0_gate_1
theorem dksX0_gate_0 : cX0_gate.data.toList.drop 0 = dktX0_gate_0 := by decide +kernel
theorem dksX0_gate_1 : cX0_gate.data.toList.drop 24 = dktX0_gate_1 := dk_seg dksX0_gate_0 24 rfl rfl
theorem dksX0_gate_2 : cX0_gate.data.toList.drop 47 = dktX0_gate_2 := dk_seg dksX0_gate_1 23 rfl rfl
theorem dksX0_gate_3 : cX0_gate.data.toList.drop 71 = dktX0_gate_3 := dk_seg dksX0_gate_2 24 rfl rfl
theorem dX0_gate_0 : decode cX0_gate 0 = .ok (.iload_n 1, 1) := dk_27 (dk_at dksX0_gate_0 0 rfl rfl)
theorem dX0_gate_1 : decode cX0_gate 1 = .ok (.invokestatic 148, 3) := dk_184 0 148 (dk_at dksX0_gate_0 1 rfl rfl)
theorem dX0_gate_4 : decode cX0_gate 4 = .ok (.ifCond .eq 10, 3) := dk_153 0 10 (dk_at dksX0_gate_0 4 rfl rfl)
theorem dX0_gate_7 : decode cX0_gate 7 = .ok (.iload_n 2, 1) := dk_28 (dk_at dksX0_gate_0 7 rfl rfl)
theorem dX0_gate_8 : decode cX0_gate 8 = .ok (.invokestatic 148, 3) := dk_184 0 148 (dk_at dksX0_gate_0 8 rfl rfl)
theorem dX0_gate_11 : decode cX0_gate 11 = .ok (.ifCond .ne 5, 3) := dk_154 0 5 (dk_at dksX0_gate_0 11 rfl rfl)
theorem dX0_gate_14 : decode cX0_gate 14 = .ok (.iconst (-1), 1) := dk_2 (dk_at dksX0_gate_0 14 rfl rfl)
theorem dX0_gate_15 : decode cX0_gate 15 = .ok (.ireturn, 1) := dk_172 (dk_at dksX0_gate_0 15 rfl rfl)
theorem dX0_gate_16 : decode cX0_gate 16 = .ok (.iload_n 1, 1) := dk_27 (dk_at dksX0_gate_0 16 rfl rfl)
theorem dX0_gate_17 : decode cX0_gate 17 = .ok (.iload_n 2, 1) := dk_28 (dk_at dksX0_gate_0 17 rfl rfl)
theorem dX0_gate_18 : decode cX0_gate 18 = .ok (.if_icmp .ne 6, 3) := dk_160 0 6 (dk_at dksX0_gate_0 18 rfl rfl)
theorem dX0_gate_21 : decode cX0_gate 21 = .ok (.bipush (-2), 2) := dk_16 254 (dk_at dksX0_gate_0 21 rfl rfl)
theorem dX0_gate_23 : decode cX0_gate 23 = .ok (.ireturn, 1) := dk_172 (dk_at dksX0_gate_0 23 rfl rfl)
theorem dX0_gate_24 : decode cX0_gate 24 = .ok (.aload_n 0, 1) := dk_42 (dk_at dksX0_gate_1 0 rfl rfl)
theorem dX0_gate_25 : decode cX0_gate 25 = .ok (.getfield 28, 3) := dk_180 0 28 (dk_at dksX0_gate_1 1 rfl rfl)
theorem dX0_gate_28 : decode cX0_gate 28 = .ok (.getfield 122, 3) := dk_180 0 122 (dk_at dksX0_gate_1 4 rfl rfl)
theorem dX0_gate_31 : decode cX0_gate 31 = .ok (.bipush 9, 2) := dk_16 9 (dk_at dksX0_gate_1 7 rfl rfl)
theorem dX0_gate_33 : decode cX0_gate 33 = .ok (.if_icmp .ne 6, 3) := dk_160 0 6 (dk_at dksX0_gate_1 9 rfl rfl)
theorem dX0_gate_36 : decode cX0_gate 36 = .ok (.bipush (-4), 2) := dk_16 252 (dk_at dksX0_gate_1 12 rfl rfl)
theorem dX0_gate_38 : decode cX0_gate 38 = .ok (.ireturn, 1) := dk_172 (dk_at dksX0_gate_1 14 rfl rfl)
theorem dX0_gate_39 : decode cX0_gate 39 = .ok (.aload_n 0, 1) := dk_42 (dk_at dksX0_gate_1 15 rfl rfl)
theorem dX0_gate_40 : decode cX0_gate 40 = .ok (.getfield 28, 3) := dk_180 0 28 (dk_at dksX0_gate_1 16 rfl rfl)
theorem dX0_gate_43 : decode cX0_gate 43 = .ok (.getfield 152, 3) := dk_180 0 152 (dk_at dksX0_gate_1 19 rfl rfl)
theorem dX0_gate_46 : decode cX0_gate 46 = .ok (.aload_n 0, 1) := dk_42 (dk_at dksX0_gate_1 22 rfl rfl)
theorem dX0_gate_47 : decode cX0_gate 47 = .ok (.getfield 28, 3) := dk_180 0 28 (dk_at dksX0_gate_2 0 rfl rfl)
theorem dX0_gate_50 : decode cX0_gate 50 = .ok (.getfield 122, 3) := dk_180 0 122 (dk_at dksX0_gate_2 3 rfl rfl)
theorem dX0_gate_53 : decode cX0_gate 53 = .ok (.iload_n 1, 1) := dk_27 (dk_at dksX0_gate_2 6 rfl rfl)
theorem dX0_gate_54 : decode cX0_gate 54 = .ok (.i2b, 1) := dk_145 (dk_at dksX0_gate_2 7 rfl rfl)
theorem dX0_gate_55 : decode cX0_gate 55 = .ok (.bastore, 1) := dk_84 (dk_at dksX0_gate_2 8 rfl rfl)
theorem dX0_gate_56 : decode cX0_gate 56 = .ok (.aload_n 0, 1) := dk_42 (dk_at dksX0_gate_2 9 rfl rfl)
theorem dX0_gate_57 : decode cX0_gate 57 = .ok (.getfield 28, 3) := dk_180 0 28 (dk_at dksX0_gate_2 10 rfl rfl)
theorem dX0_gate_60 : decode cX0_gate 60 = .ok (.getfield 155, 3) := dk_180 0 155 (dk_at dksX0_gate_2 13 rfl rfl)
theorem dX0_gate_63 : decode cX0_gate 63 = .ok (.aload_n 0, 1) := dk_42 (dk_at dksX0_gate_2 16 rfl rfl)
theorem dX0_gate_64 : decode cX0_gate 64 = .ok (.getfield 28, 3) := dk_180 0 28 (dk_at dksX0_gate_2 17 rfl rfl)
theorem dX0_gate_67 : decode cX0_gate 67 = .ok (.getfield 122, 3) := dk_180 0 122 (dk_at dksX0_gate_2 20 rfl rfl)
theorem dX0_gate_70 : decode cX0_gate 70 = .ok (.iload_n 2, 1) := dk_28 (dk_at dksX0_gate_2 23 rfl rfl)
theorem dX0_gate_71 : decode cX0_gate 71 = .ok (.i2b, 1) := dk_145 (dk_at dksX0_gate_3 0 rfl rfl)
theorem dX0_gate_72 : decode cX0_gate 72 = .ok (.bastore, 1) := dk_84 (dk_at dksX0_gate_3 1 rfl rfl)
theorem dX0_gate_73 : decode cX0_gate 73 = .ok (.aload_n 0, 1) := dk_42 (dk_at dksX0_gate_3 2 rfl rfl)
theorem dX0_gate_74 : decode cX0_gate 74 = .ok (.getfield 28, 3) := dk_180 0 28 (dk_at dksX0_gate_3 3 rfl rfl)
theorem dX0_gate_77 : decode cX0_gate 77 = .ok (.dup, 1) := dk_89 (dk_at dksX0_gate_3 6 rfl rfl)
theorem dX0_gate_78 : decode cX0_gate 78 = .ok (.getfield 122, 3) := dk_180 0 122 (dk_at dksX0_gate_3 7 rfl rfl)
theorem dX0_gate_81 : decode cX0_gate 81 = .ok (.dup_x1, 1) := dk_90 (dk_at dksX0_gate_3 10 rfl rfl)
theorem dX0_gate_82 : decode cX0_gate 82 = .ok (.iconst 1, 1) := dk_4 (dk_at dksX0_gate_3 11 rfl rfl)
theorem dX0_gate_83 : decode cX0_gate 83 = .ok (.iadd, 1) := dk_96 (dk_at dksX0_gate_3 12 rfl rfl)
theorem dX0_gate_84 : decode cX0_gate 84 = .ok (.putfield 122, 3) := dk_181 0 122 (dk_at dksX0_gate_3 13 rfl rfl)
theorem dX0_gate_87 : decode cX0_gate 87 = .ok (.ireturn, 1) := dk_172 (dk_at dksX0_gate_3 16 rfl rfl)
abbrev cX0_isCourt : ByteArray := prog_1_method_3_code
def yX0_isCourt : MethodName := ⟨RX0, "isCourt", "(I)Z"⟩
def dkwX0_isCourt_0 : List UInt8 := [26, 3, 16, 7, 184, 0, 5, 172]
abbrev dktX0_isCourt_0 : List UInt8 := dkwX0_isCourt_0 ++ []
theorem dksX0_isCourt_0 : cX0_isCourt.data.toList.drop 0 = dktX0_isCourt_0 := by decide +kernel
theorem dX0_isCourt_0 : decode cX0_isCourt 0 = .ok (.iload_n 0, 1) := dk_26 (dk_at dksX0_isCourt_0 0 rfl rfl)
theorem dX0_isCourt_1 : decode cX0_isCourt 1 = .ok (.iconst 0, 1) := dk_3 (dk_at dksX0_isCourt_0 1 rfl rfl)
theorem dX0_isCourt_2 : decode cX0_isCourt 2 = .ok (.bipush 7, 2) := dk_16 7 (dk_at dksX0_isCourt_0 2 rfl rfl)
theorem dX0_isCourt_4 : decode cX0_isCourt 4 = .ok (.invokestatic 5, 3) := dk_184 0 5 (dk_at dksX0_isCourt_0 4 rfl rfl)
theorem dX0_isCourt_7 : decode cX0_isCourt 7 = .ok (.ireturn, 1) := dk_172 (dk_at dksX0_isCourt_0 7 rfl rfl)
abbrev cX0_in : ByteArray := prog_1_method_1_code
def yX0_in : MethodName := ⟨RX0, "in", "(III)Z"⟩
def dkwX0_in_0 : List UInt8 := [26, 27, 161, 0, 12, 26, 28, 163, 0, 7, 4, 167, 0, 4, 3, 172]
abbrev dktX0_in_0 : List UInt8 := dkwX0_in_0 ++ []
theorem dksX0_in_0 : cX0_in.data.toList.drop 0 = dktX0_in_0 := by decide +kernel
theorem dX0_in_0 : decode cX0_in 0 = .ok (.iload_n 0, 1) := dk_26 (dk_at dksX0_in_0 0 rfl rfl)
theorem dX0_in_1 : decode cX0_in 1 = .ok (.iload_n 1, 1) := dk_27 (dk_at dksX0_in_0 1 rfl rfl)
theorem dX0_in_2 : decode cX0_in 2 = .ok (.if_icmp .lt 12, 3) := dk_161 0 12 (dk_at dksX0_in_0 2 rfl rfl)
theorem dX0_in_5 : decode cX0_in 5 = .ok (.iload_n 0, 1) := dk_26 (dk_at dksX0_in_0 5 rfl rfl)
theorem dX0_in_6 : decode cX0_in 6 = .ok (.iload_n 2, 1) := dk_28 (dk_at dksX0_in_0 6 rfl rfl)
theorem dX0_in_7 : decode cX0_in 7 = .ok (.if_icmp .gt 7, 3) := dk_163 0 7 (dk_at dksX0_in_0 7 rfl rfl)
theorem dX0_in_10 : decode cX0_in 10 = .ok (.iconst 1, 1) := dk_4 (dk_at dksX0_in_0 10 rfl rfl)
theorem dX0_in_11 : decode cX0_in 11 = .ok (.goto 4, 3) := dk_167 0 4 (dk_at dksX0_in_0 11 rfl rfl)
theorem dX0_in_14 : decode cX0_in 14 = .ok (.iconst 0, 1) := dk_3 (dk_at dksX0_in_0 14 rfl rfl)
theorem dX0_in_15 : decode cX0_in 15 = .ok (.ireturn, 1) := dk_172 (dk_at dksX0_in_0 15 rfl rfl)
abbrev cX0_goose : ByteArray := prog_1_method_13_code
def yX0_goose : MethodName := ⟨RX0, "goose", "(IIII)I"⟩
def dkwX0_goose_7 : List UInt8 := [181, 0, 118, 21, 5, 172]
abbrev dktX0_goose_7 : List UInt8 := dkwX0_goose_7 ++ []
def dkwX0_goose_6 : List UInt8 := [21, 5, 104, 21, 6, 96, 3, 79, 132, 6, 1, 167, 255, 234, 42, 180, 0, 28, 89, 180, 0, 118, 4, 96]
abbrev dktX0_goose_6 : List UInt8 := dkwX0_goose_6 ++ dktX0_goose_7
def dkwX0_goose_5 : List UInt8 := [21, 5, 120, 2, 130, 126, 181, 0, 175, 3, 54, 6, 21, 6, 7, 162, 0, 22, 42, 180, 0, 21, 7]
abbrev dktX0_goose_5 : List UInt8 := dkwX0_goose_5 ++ dktX0_goose_6
def dkwX0_goose_4 : List UInt8 := [180, 0, 28, 180, 0, 168, 21, 5, 21, 4, 184, 0, 171, 84, 42, 180, 0, 28, 89, 180, 0, 175, 4]
abbrev dktX0_goose_4 : List UInt8 := dkwX0_goose_4 ++ dktX0_goose_5
def dkwX0_goose_3 : List UInt8 := [21, 5, 42, 27, 28, 182, 0, 161, 83, 42, 180, 0, 28, 180, 0, 165, 21, 5, 29, 145, 84, 42]
abbrev dktX0_goose_3 : List UInt8 := dkwX0_goose_3 ++ dktX0_goose_4
def dkwX0_goose_2 : List UInt8 := [180, 0, 118, 16, 6, 160, 0, 6, 16, 252, 172, 42, 180, 0, 28, 180, 0, 118, 54, 5, 42, 180, 0, 17]
abbrev dktX0_goose_2 : List UInt8 := dkwX0_goose_2 ++ dktX0_goose_3
def dkwX0_goose_1 : List UInt8 := [154, 0, 5, 2, 172, 28, 3, 16, 9, 184, 0, 5, 154, 0, 6, 16, 254, 172, 42, 180, 0, 28]
abbrev dktX0_goose_1 : List UInt8 := dkwX0_goose_1 ++ dktX0_goose_2
def dkwX0_goose_0 : List UInt8 := [27, 3, 16, 6, 184, 0, 5, 153, 0, 18, 29, 184, 0, 148, 153, 0, 11, 21, 4, 184, 0, 158]
abbrev dktX0_goose_0 : List UInt8 := dkwX0_goose_0 ++ dktX0_goose_1
theorem dksX0_goose_0 : cX0_goose.data.toList.drop 0 = dktX0_goose_0 := by decide +kernel
theorem dksX0_goose_1 : cX0_goose.data.toList.drop 22 = dktX0_goose_1 := dk_seg dksX0_goose_0 22 rfl rfl
theorem dksX0_goose_2 : cX0_goose.data.toList.drop 44 = dktX0_goose_2 := dk_seg dksX0_goose_1 22 rfl rfl
theorem dksX0_goose_3 : cX0_goose.data.toList.drop 68 = dktX0_goose_3 := dk_seg dksX0_goose_2 24 rfl rfl
theorem dksX0_goose_4 : cX0_goose.data.toList.drop 90 = dktX0_goose_4 := dk_seg dksX0_goose_3 22 rfl rfl
theorem dksX0_goose_5 : cX0_goose.data.toList.drop 113 = dktX0_goose_5 := dk_seg dksX0_goose_4 23 rfl rfl
theorem dksX0_goose_6 : cX0_goose.data.toList.drop 136 = dktX0_goose_6 := dk_seg dksX0_goose_5 23 rfl rfl
theorem dksX0_goose_7 : cX0_goose.data.toList.drop 160 = dktX0_goose_7 := dk_seg dksX0_goose_6 24 rfl rfl
theorem dX0_goose_0 : decode cX0_goose 0 = .ok (.iload_n 1, 1) := dk_27 (dk_at dksX0_goose_0 0 rfl rfl)
theorem dX0_goose_1 : decode cX0_goose 1 = .ok (.iconst 0, 1) := dk_3 (dk_at dksX0_goose_0 1 rfl rfl)
theorem dX0_goose_2 : decode cX0_goose 2 = .ok (.bipush 6, 2) := dk_16 6 (dk_at dksX0_goose_0 2 rfl rfl)
theorem dX0_goose_4 : decode cX0_goose 4 = .ok (.invokestatic 5, 3) := dk_184 0 5 (dk_at dksX0_goose_0 4 rfl rfl)
theorem dX0_goose_7 : decode cX0_goose 7 = .ok (.ifCond .eq 18, 3) := dk_153 0 18 (dk_at dksX0_goose_0 7 rfl rfl)
theorem dX0_goose_10 : decode cX0_goose 10 = .ok (.iload_n 3, 1) := dk_29 (dk_at dksX0_goose_0 10 rfl rfl)
theorem dX0_goose_11 : decode cX0_goose 11 = .ok (.invokestatic 148, 3) := dk_184 0 148 (dk_at dksX0_goose_0 11 rfl rfl)
theorem dX0_goose_14 : decode cX0_goose 14 = .ok (.ifCond .eq 11, 3) := dk_153 0 11 (dk_at dksX0_goose_0 14 rfl rfl)
theorem dX0_goose_17 : decode cX0_goose 17 = .ok (.iload 4, 2) := dk_21 4 (dk_at dksX0_goose_0 17 rfl rfl)
theorem dX0_goose_19 : decode cX0_goose 19 = .ok (.invokestatic 158, 3) := dk_184 0 158 (dk_at dksX0_goose_0 19 rfl rfl)
theorem dX0_goose_22 : decode cX0_goose 22 = .ok (.ifCond .ne 5, 3) := dk_154 0 5 (dk_at dksX0_goose_1 0 rfl rfl)
theorem dX0_goose_25 : decode cX0_goose 25 = .ok (.iconst (-1), 1) := dk_2 (dk_at dksX0_goose_1 3 rfl rfl)
theorem dX0_goose_26 : decode cX0_goose 26 = .ok (.ireturn, 1) := dk_172 (dk_at dksX0_goose_1 4 rfl rfl)
theorem dX0_goose_27 : decode cX0_goose 27 = .ok (.iload_n 2, 1) := dk_28 (dk_at dksX0_goose_1 5 rfl rfl)
theorem dX0_goose_28 : decode cX0_goose 28 = .ok (.iconst 0, 1) := dk_3 (dk_at dksX0_goose_1 6 rfl rfl)
theorem dX0_goose_29 : decode cX0_goose 29 = .ok (.bipush 9, 2) := dk_16 9 (dk_at dksX0_goose_1 7 rfl rfl)
theorem dX0_goose_31 : decode cX0_goose 31 = .ok (.invokestatic 5, 3) := dk_184 0 5 (dk_at dksX0_goose_1 9 rfl rfl)
theorem dX0_goose_34 : decode cX0_goose 34 = .ok (.ifCond .ne 6, 3) := dk_154 0 6 (dk_at dksX0_goose_1 12 rfl rfl)
theorem dX0_goose_37 : decode cX0_goose 37 = .ok (.bipush (-2), 2) := dk_16 254 (dk_at dksX0_goose_1 15 rfl rfl)
theorem dX0_goose_39 : decode cX0_goose 39 = .ok (.ireturn, 1) := dk_172 (dk_at dksX0_goose_1 17 rfl rfl)
theorem dX0_goose_40 : decode cX0_goose 40 = .ok (.aload_n 0, 1) := dk_42 (dk_at dksX0_goose_1 18 rfl rfl)
theorem dX0_goose_41 : decode cX0_goose 41 = .ok (.getfield 28, 3) := dk_180 0 28 (dk_at dksX0_goose_1 19 rfl rfl)
theorem dX0_goose_44 : decode cX0_goose 44 = .ok (.getfield 118, 3) := dk_180 0 118 (dk_at dksX0_goose_2 0 rfl rfl)
theorem dX0_goose_47 : decode cX0_goose 47 = .ok (.bipush 6, 2) := dk_16 6 (dk_at dksX0_goose_2 3 rfl rfl)
theorem dX0_goose_49 : decode cX0_goose 49 = .ok (.if_icmp .ne 6, 3) := dk_160 0 6 (dk_at dksX0_goose_2 5 rfl rfl)
theorem dX0_goose_52 : decode cX0_goose 52 = .ok (.bipush (-4), 2) := dk_16 252 (dk_at dksX0_goose_2 8 rfl rfl)
theorem dX0_goose_54 : decode cX0_goose 54 = .ok (.ireturn, 1) := dk_172 (dk_at dksX0_goose_2 10 rfl rfl)
theorem dX0_goose_55 : decode cX0_goose 55 = .ok (.aload_n 0, 1) := dk_42 (dk_at dksX0_goose_2 11 rfl rfl)
theorem dX0_goose_56 : decode cX0_goose 56 = .ok (.getfield 28, 3) := dk_180 0 28 (dk_at dksX0_goose_2 12 rfl rfl)
theorem dX0_goose_59 : decode cX0_goose 59 = .ok (.getfield 118, 3) := dk_180 0 118 (dk_at dksX0_goose_2 15 rfl rfl)
theorem dX0_goose_62 : decode cX0_goose 62 = .ok (.istore 5, 2) := dk_54 5 (dk_at dksX0_goose_2 18 rfl rfl)
theorem dX0_goose_64 : decode cX0_goose 64 = .ok (.aload_n 0, 1) := dk_42 (dk_at dksX0_goose_2 20 rfl rfl)
theorem dX0_goose_65 : decode cX0_goose 65 = .ok (.getfield 17, 3) := dk_180 0 17 (dk_at dksX0_goose_2 21 rfl rfl)
theorem dX0_goose_68 : decode cX0_goose 68 = .ok (.iload 5, 2) := dk_21 5 (dk_at dksX0_goose_3 0 rfl rfl)
theorem dX0_goose_70 : decode cX0_goose 70 = .ok (.aload_n 0, 1) := dk_42 (dk_at dksX0_goose_3 2 rfl rfl)
theorem dX0_goose_71 : decode cX0_goose 71 = .ok (.iload_n 1, 1) := dk_27 (dk_at dksX0_goose_3 3 rfl rfl)
theorem dX0_goose_72 : decode cX0_goose 72 = .ok (.iload_n 2, 1) := dk_28 (dk_at dksX0_goose_3 4 rfl rfl)
theorem dX0_goose_73 : decode cX0_goose 73 = .ok (.invokevirtual 161, 3) := dk_182 0 161 (dk_at dksX0_goose_3 5 rfl rfl)
theorem dX0_goose_76 : decode cX0_goose 76 = .ok (.aastore, 1) := dk_83 (dk_at dksX0_goose_3 8 rfl rfl)
theorem dX0_goose_77 : decode cX0_goose 77 = .ok (.aload_n 0, 1) := dk_42 (dk_at dksX0_goose_3 9 rfl rfl)
theorem dX0_goose_78 : decode cX0_goose 78 = .ok (.getfield 28, 3) := dk_180 0 28 (dk_at dksX0_goose_3 10 rfl rfl)
theorem dX0_goose_81 : decode cX0_goose 81 = .ok (.getfield 165, 3) := dk_180 0 165 (dk_at dksX0_goose_3 13 rfl rfl)
theorem dX0_goose_84 : decode cX0_goose 84 = .ok (.iload 5, 2) := dk_21 5 (dk_at dksX0_goose_3 16 rfl rfl)
theorem dX0_goose_86 : decode cX0_goose 86 = .ok (.iload_n 3, 1) := dk_29 (dk_at dksX0_goose_3 18 rfl rfl)
theorem dX0_goose_87 : decode cX0_goose 87 = .ok (.i2b, 1) := dk_145 (dk_at dksX0_goose_3 19 rfl rfl)
theorem dX0_goose_88 : decode cX0_goose 88 = .ok (.bastore, 1) := dk_84 (dk_at dksX0_goose_3 20 rfl rfl)
theorem dX0_goose_89 : decode cX0_goose 89 = .ok (.aload_n 0, 1) := dk_42 (dk_at dksX0_goose_3 21 rfl rfl)
theorem dX0_goose_90 : decode cX0_goose 90 = .ok (.getfield 28, 3) := dk_180 0 28 (dk_at dksX0_goose_4 0 rfl rfl)
theorem dX0_goose_93 : decode cX0_goose 93 = .ok (.getfield 168, 3) := dk_180 0 168 (dk_at dksX0_goose_4 3 rfl rfl)
theorem dX0_goose_96 : decode cX0_goose 96 = .ok (.iload 5, 2) := dk_21 5 (dk_at dksX0_goose_4 6 rfl rfl)
theorem dX0_goose_98 : decode cX0_goose 98 = .ok (.iload 4, 2) := dk_21 4 (dk_at dksX0_goose_4 8 rfl rfl)
theorem dX0_goose_100 : decode cX0_goose 100 = .ok (.invokestatic 171, 3) := dk_184 0 171 (dk_at dksX0_goose_4 10 rfl rfl)
theorem dX0_goose_103 : decode cX0_goose 103 = .ok (.bastore, 1) := dk_84 (dk_at dksX0_goose_4 13 rfl rfl)
theorem dX0_goose_104 : decode cX0_goose 104 = .ok (.aload_n 0, 1) := dk_42 (dk_at dksX0_goose_4 14 rfl rfl)
theorem dX0_goose_105 : decode cX0_goose 105 = .ok (.getfield 28, 3) := dk_180 0 28 (dk_at dksX0_goose_4 15 rfl rfl)
theorem dX0_goose_108 : decode cX0_goose 108 = .ok (.dup, 1) := dk_89 (dk_at dksX0_goose_4 18 rfl rfl)
theorem dX0_goose_109 : decode cX0_goose 109 = .ok (.getfield 175, 3) := dk_180 0 175 (dk_at dksX0_goose_4 19 rfl rfl)
theorem dX0_goose_112 : decode cX0_goose 112 = .ok (.iconst 1, 1) := dk_4 (dk_at dksX0_goose_4 22 rfl rfl)
theorem dX0_goose_113 : decode cX0_goose 113 = .ok (.iload 5, 2) := dk_21 5 (dk_at dksX0_goose_5 0 rfl rfl)
theorem dX0_goose_115 : decode cX0_goose 115 = .ok (.ishl, 1) := dk_120 (dk_at dksX0_goose_5 2 rfl rfl)
theorem dX0_goose_116 : decode cX0_goose 116 = .ok (.iconst (-1), 1) := dk_2 (dk_at dksX0_goose_5 3 rfl rfl)
theorem dX0_goose_117 : decode cX0_goose 117 = .ok (.ixor, 1) := dk_130 (dk_at dksX0_goose_5 4 rfl rfl)
theorem dX0_goose_118 : decode cX0_goose 118 = .ok (.iand, 1) := dk_126 (dk_at dksX0_goose_5 5 rfl rfl)
theorem dX0_goose_119 : decode cX0_goose 119 = .ok (.putfield 175, 3) := dk_181 0 175 (dk_at dksX0_goose_5 6 rfl rfl)
theorem dX0_goose_122 : decode cX0_goose 122 = .ok (.iconst 0, 1) := dk_3 (dk_at dksX0_goose_5 9 rfl rfl)
theorem dX0_goose_123 : decode cX0_goose 123 = .ok (.istore 6, 2) := dk_54 6 (dk_at dksX0_goose_5 10 rfl rfl)
theorem dX0_goose_125 : decode cX0_goose 125 = .ok (.iload 6, 2) := dk_21 6 (dk_at dksX0_goose_5 12 rfl rfl)
theorem dX0_goose_127 : decode cX0_goose 127 = .ok (.iconst 4, 1) := dk_7 (dk_at dksX0_goose_5 14 rfl rfl)
theorem dX0_goose_128 : decode cX0_goose 128 = .ok (.if_icmp .ge 22, 3) := dk_162 0 22 (dk_at dksX0_goose_5 15 rfl rfl)
theorem dX0_goose_131 : decode cX0_goose 131 = .ok (.aload_n 0, 1) := dk_42 (dk_at dksX0_goose_5 18 rfl rfl)
theorem dX0_goose_132 : decode cX0_goose 132 = .ok (.getfield 21, 3) := dk_180 0 21 (dk_at dksX0_goose_5 19 rfl rfl)
theorem dX0_goose_135 : decode cX0_goose 135 = .ok (.iconst 4, 1) := dk_7 (dk_at dksX0_goose_5 22 rfl rfl)
theorem dX0_goose_136 : decode cX0_goose 136 = .ok (.iload 5, 2) := dk_21 5 (dk_at dksX0_goose_6 0 rfl rfl)
theorem dX0_goose_138 : decode cX0_goose 138 = .ok (.imul, 1) := dk_104 (dk_at dksX0_goose_6 2 rfl rfl)
theorem dX0_goose_139 : decode cX0_goose 139 = .ok (.iload 6, 2) := dk_21 6 (dk_at dksX0_goose_6 3 rfl rfl)
theorem dX0_goose_141 : decode cX0_goose 141 = .ok (.iadd, 1) := dk_96 (dk_at dksX0_goose_6 5 rfl rfl)
theorem dX0_goose_142 : decode cX0_goose 142 = .ok (.iconst 0, 1) := dk_3 (dk_at dksX0_goose_6 6 rfl rfl)
theorem dX0_goose_143 : decode cX0_goose 143 = .ok (.iastore, 1) := dk_79 (dk_at dksX0_goose_6 7 rfl rfl)
theorem dX0_goose_144 : decode cX0_goose 144 = .ok (.iinc 6 1, 3) := dk_132 6 1 (dk_at dksX0_goose_6 8 rfl rfl)
theorem dX0_goose_147 : decode cX0_goose 147 = .ok (.goto (-22), 3) := dk_167 255 234 (dk_at dksX0_goose_6 11 rfl rfl)
theorem dX0_goose_150 : decode cX0_goose 150 = .ok (.aload_n 0, 1) := dk_42 (dk_at dksX0_goose_6 14 rfl rfl)
theorem dX0_goose_151 : decode cX0_goose 151 = .ok (.getfield 28, 3) := dk_180 0 28 (dk_at dksX0_goose_6 15 rfl rfl)
theorem dX0_goose_154 : decode cX0_goose 154 = .ok (.dup, 1) := dk_89 (dk_at dksX0_goose_6 18 rfl rfl)
theorem dX0_goose_155 : decode cX0_goose 155 = .ok (.getfield 118, 3) := dk_180 0 118 (dk_at dksX0_goose_6 19 rfl rfl)
theorem dX0_goose_158 : decode cX0_goose 158 = .ok (.iconst 1, 1) := dk_4 (dk_at dksX0_goose_6 22 rfl rfl)
theorem dX0_goose_159 : decode cX0_goose 159 = .ok (.iadd, 1) := dk_96 (dk_at dksX0_goose_6 23 rfl rfl)
theorem dX0_goose_160 : decode cX0_goose 160 = .ok (.putfield 118, 3) := dk_181 0 118 (dk_at dksX0_goose_7 0 rfl rfl)
theorem dX0_goose_163 : decode cX0_goose 163 = .ok (.iload 5, 2) := dk_21 5 (dk_at dksX0_goose_7 3 rfl rfl)
theorem dX0_goose_165 : decode cX0_goose 165 = .ok (.ireturn, 1) := dk_172 (dk_at dksX0_goose_7 5 rfl rfl)
abbrev cX0_isKey : ByteArray := prog_1_method_4_code
def yX0_isKey : MethodName := ⟨RX0, "isKey", "(I)Z"⟩
def dkwX0_isKey_0 : List UInt8 := [26, 2, 16, 8, 184, 0, 5, 172]
abbrev dktX0_isKey_0 : List UInt8 := dkwX0_isKey_0 ++ []
theorem dksX0_isKey_0 : cX0_isKey.data.toList.drop 0 = dktX0_isKey_0 := by decide +kernel
theorem dX0_isKey_0 : decode cX0_isKey 0 = .ok (.iload_n 0, 1) := dk_26 (dk_at dksX0_isKey_0 0 rfl rfl)
theorem dX0_isKey_1 : decode cX0_isKey 1 = .ok (.iconst (-1), 1) := dk_2 (dk_at dksX0_isKey_0 1 rfl rfl)
theorem dX0_isKey_2 : decode cX0_isKey 2 = .ok (.bipush 8, 2) := dk_16 8 (dk_at dksX0_isKey_0 2 rfl rfl)
theorem dX0_isKey_4 : decode cX0_isKey 4 = .ok (.invokestatic 5, 3) := dk_184 0 5 (dk_at dksX0_isKey_0 4 rfl rfl)
theorem dX0_isKey_7 : decode cX0_isKey 7 = .ok (.ireturn, 1) := dk_172 (dk_at dksX0_isKey_0 7 rfl rfl)
abbrev cX0_gooseOf : ByteArray := prog_1_method_10_code
def yX0_gooseOf : MethodName := ⟨RX0, "gooseOf", "(II)LGeeseKeys$Goose;"⟩
def dkwX0_gooseOf_7 : List UInt8 := [183, 0, 144, 176, 187, 0, 15, 89, 42, 180, 0, 56, 42, 180, 0, 28, 180, 0, 118, 28, 183, 0, 147, 176]
abbrev dktX0_gooseOf_7 : List UInt8 := dkwX0_gooseOf_7 ++ []
def dkwX0_gooseOf_6 : List UInt8 := [183, 0, 141, 176, 187, 0, 142, 89, 42, 180, 0, 56, 42, 180, 0, 28, 180, 0, 118, 28, 42, 180, 0, 21]
abbrev dktX0_gooseOf_6 : List UInt8 := dkwX0_gooseOf_6 ++ dktX0_gooseOf_7
def dkwX0_gooseOf_5 : List UInt8 := [180, 0, 118, 28, 183, 0, 138, 176, 187, 0, 139, 89, 42, 180, 0, 56, 42, 180, 0, 28, 180, 0, 118, 28]
abbrev dktX0_gooseOf_5 : List UInt8 := dkwX0_gooseOf_5 ++ dktX0_gooseOf_6
def dkwX0_gooseOf_4 : List UInt8 := [42, 180, 0, 28, 180, 0, 118, 28, 183, 0, 135, 176, 187, 0, 136, 89, 42, 180, 0, 56, 42, 180, 0, 28]
abbrev dktX0_gooseOf_4 : List UInt8 := dkwX0_gooseOf_4 ++ dktX0_gooseOf_5
def dkwX0_gooseOf_3 : List UInt8 := [42, 180, 0, 56, 42, 180, 0, 28, 180, 0, 118, 28, 183, 0, 132, 176, 187, 0, 133, 89, 42, 180, 0, 56]
abbrev dktX0_gooseOf_3 : List UInt8 := dkwX0_gooseOf_3 ++ dktX0_gooseOf_4
def dkwX0_gooseOf_2 : List UInt8 := [187, 0, 125, 89, 42, 180, 0, 56, 42, 180, 0, 28, 180, 0, 118, 28, 183, 0, 127, 176, 187, 0, 130, 89]
abbrev dktX0_gooseOf_2 : List UInt8 := dkwX0_gooseOf_2 ++ dktX0_gooseOf_3
def dkwX0_gooseOf_1 : List UInt8 := [170, 0, 0, 0, 0, 0, 163, 0, 0, 0, 1, 0, 0, 0, 6, 0, 0, 0, 39, 0, 0, 0, 59, 0, 0, 0, 79, 0, 0, 0, 99, 0, 0, 0, 119, 0, 0, 0, 139]
abbrev dktX0_gooseOf_1 : List UInt8 := dkwX0_gooseOf_1 ++ dktX0_gooseOf_2
def dkwX0_gooseOf_0 : List UInt8 := [27]
abbrev dktX0_gooseOf_0 : List UInt8 := dkwX0_gooseOf_0 ++ dktX0_gooseOf_1
theorem dksX0_gooseOf_0 : cX0_gooseOf.data.toList.drop 0 = dktX0_gooseOf_0 := by decide +kernel
theorem dksX0_gooseOf_1 : cX0_gooseOf.data.toList.drop 1 = dktX0_gooseOf_1 := dk_seg dksX0_gooseOf_0 1 rfl rfl
theorem dksX0_gooseOf_2 : cX0_gooseOf.data.toList.drop 40 = dktX0_gooseOf_2 := dk_seg dksX0_gooseOf_1 39 rfl rfl
theorem dksX0_gooseOf_3 : cX0_gooseOf.data.toList.drop 64 = dktX0_gooseOf_3 := dk_seg dksX0_gooseOf_2 24 rfl rfl
theorem dksX0_gooseOf_4 : cX0_gooseOf.data.toList.drop 88 = dktX0_gooseOf_4 := dk_seg dksX0_gooseOf_3 24 rfl rfl
theorem dksX0_gooseOf_5 : cX0_gooseOf.data.toList.drop 112 = dktX0_gooseOf_5 := dk_seg dksX0_gooseOf_4 24 rfl rfl
theorem dksX0_gooseOf_6 : cX0_gooseOf.data.toList.drop 136 = dktX0_gooseOf_6 := dk_seg dksX0_gooseOf_5 24 rfl rfl
theorem dksX0_gooseOf_7 : cX0_gooseOf.data.toList.drop 160 = dktX0_gooseOf_7 := dk_seg dksX0_gooseOf_6 24 rfl rfl
theorem dX0_gooseOf_0 : decode cX0_gooseOf 0 = .ok (.iload_n 1, 1) := dk_27 (dk_at dksX0_gooseOf_0 0 rfl rfl)
theorem dX0_gooseOf_1 : decode cX0_gooseOf 1 = .ok (.tableswitch 163 1 6 #[39, 59, 79, 99, 119, 139], 39) := by decide +kernel
theorem dX0_gooseOf_40 : decode cX0_gooseOf 40 = .ok (.new 125, 3) := dk_187 0 125 (dk_at dksX0_gooseOf_2 0 rfl rfl)
theorem dX0_gooseOf_43 : decode cX0_gooseOf 43 = .ok (.dup, 1) := dk_89 (dk_at dksX0_gooseOf_2 3 rfl rfl)
theorem dX0_gooseOf_44 : decode cX0_gooseOf 44 = .ok (.aload_n 0, 1) := dk_42 (dk_at dksX0_gooseOf_2 4 rfl rfl)
theorem dX0_gooseOf_45 : decode cX0_gooseOf 45 = .ok (.getfield 56, 3) := dk_180 0 56 (dk_at dksX0_gooseOf_2 5 rfl rfl)
theorem dX0_gooseOf_48 : decode cX0_gooseOf 48 = .ok (.aload_n 0, 1) := dk_42 (dk_at dksX0_gooseOf_2 8 rfl rfl)
theorem dX0_gooseOf_49 : decode cX0_gooseOf 49 = .ok (.getfield 28, 3) := dk_180 0 28 (dk_at dksX0_gooseOf_2 9 rfl rfl)
theorem dX0_gooseOf_52 : decode cX0_gooseOf 52 = .ok (.getfield 118, 3) := dk_180 0 118 (dk_at dksX0_gooseOf_2 12 rfl rfl)
theorem dX0_gooseOf_55 : decode cX0_gooseOf 55 = .ok (.iload_n 2, 1) := dk_28 (dk_at dksX0_gooseOf_2 15 rfl rfl)
theorem dX0_gooseOf_56 : decode cX0_gooseOf 56 = .ok (.invokespecial 127, 3) := dk_183 0 127 (dk_at dksX0_gooseOf_2 16 rfl rfl)
theorem dX0_gooseOf_59 : decode cX0_gooseOf 59 = .ok (.areturn, 1) := dk_176 (dk_at dksX0_gooseOf_2 19 rfl rfl)
theorem dX0_gooseOf_60 : decode cX0_gooseOf 60 = .ok (.new 130, 3) := dk_187 0 130 (dk_at dksX0_gooseOf_2 20 rfl rfl)
theorem dX0_gooseOf_63 : decode cX0_gooseOf 63 = .ok (.dup, 1) := dk_89 (dk_at dksX0_gooseOf_2 23 rfl rfl)
theorem dX0_gooseOf_64 : decode cX0_gooseOf 64 = .ok (.aload_n 0, 1) := dk_42 (dk_at dksX0_gooseOf_3 0 rfl rfl)
theorem dX0_gooseOf_65 : decode cX0_gooseOf 65 = .ok (.getfield 56, 3) := dk_180 0 56 (dk_at dksX0_gooseOf_3 1 rfl rfl)
theorem dX0_gooseOf_68 : decode cX0_gooseOf 68 = .ok (.aload_n 0, 1) := dk_42 (dk_at dksX0_gooseOf_3 4 rfl rfl)
theorem dX0_gooseOf_69 : decode cX0_gooseOf 69 = .ok (.getfield 28, 3) := dk_180 0 28 (dk_at dksX0_gooseOf_3 5 rfl rfl)
theorem dX0_gooseOf_72 : decode cX0_gooseOf 72 = .ok (.getfield 118, 3) := dk_180 0 118 (dk_at dksX0_gooseOf_3 8 rfl rfl)
theorem dX0_gooseOf_75 : decode cX0_gooseOf 75 = .ok (.iload_n 2, 1) := dk_28 (dk_at dksX0_gooseOf_3 11 rfl rfl)
theorem dX0_gooseOf_76 : decode cX0_gooseOf 76 = .ok (.invokespecial 132, 3) := dk_183 0 132 (dk_at dksX0_gooseOf_3 12 rfl rfl)
theorem dX0_gooseOf_79 : decode cX0_gooseOf 79 = .ok (.areturn, 1) := dk_176 (dk_at dksX0_gooseOf_3 15 rfl rfl)
theorem dX0_gooseOf_80 : decode cX0_gooseOf 80 = .ok (.new 133, 3) := dk_187 0 133 (dk_at dksX0_gooseOf_3 16 rfl rfl)
theorem dX0_gooseOf_83 : decode cX0_gooseOf 83 = .ok (.dup, 1) := dk_89 (dk_at dksX0_gooseOf_3 19 rfl rfl)
theorem dX0_gooseOf_84 : decode cX0_gooseOf 84 = .ok (.aload_n 0, 1) := dk_42 (dk_at dksX0_gooseOf_3 20 rfl rfl)
theorem dX0_gooseOf_85 : decode cX0_gooseOf 85 = .ok (.getfield 56, 3) := dk_180 0 56 (dk_at dksX0_gooseOf_3 21 rfl rfl)
theorem dX0_gooseOf_88 : decode cX0_gooseOf 88 = .ok (.aload_n 0, 1) := dk_42 (dk_at dksX0_gooseOf_4 0 rfl rfl)
theorem dX0_gooseOf_89 : decode cX0_gooseOf 89 = .ok (.getfield 28, 3) := dk_180 0 28 (dk_at dksX0_gooseOf_4 1 rfl rfl)
theorem dX0_gooseOf_92 : decode cX0_gooseOf 92 = .ok (.getfield 118, 3) := dk_180 0 118 (dk_at dksX0_gooseOf_4 4 rfl rfl)
theorem dX0_gooseOf_95 : decode cX0_gooseOf 95 = .ok (.iload_n 2, 1) := dk_28 (dk_at dksX0_gooseOf_4 7 rfl rfl)
theorem dX0_gooseOf_96 : decode cX0_gooseOf 96 = .ok (.invokespecial 135, 3) := dk_183 0 135 (dk_at dksX0_gooseOf_4 8 rfl rfl)
theorem dX0_gooseOf_99 : decode cX0_gooseOf 99 = .ok (.areturn, 1) := dk_176 (dk_at dksX0_gooseOf_4 11 rfl rfl)
theorem dX0_gooseOf_100 : decode cX0_gooseOf 100 = .ok (.new 136, 3) := dk_187 0 136 (dk_at dksX0_gooseOf_4 12 rfl rfl)
theorem dX0_gooseOf_103 : decode cX0_gooseOf 103 = .ok (.dup, 1) := dk_89 (dk_at dksX0_gooseOf_4 15 rfl rfl)
theorem dX0_gooseOf_104 : decode cX0_gooseOf 104 = .ok (.aload_n 0, 1) := dk_42 (dk_at dksX0_gooseOf_4 16 rfl rfl)
theorem dX0_gooseOf_105 : decode cX0_gooseOf 105 = .ok (.getfield 56, 3) := dk_180 0 56 (dk_at dksX0_gooseOf_4 17 rfl rfl)
theorem dX0_gooseOf_108 : decode cX0_gooseOf 108 = .ok (.aload_n 0, 1) := dk_42 (dk_at dksX0_gooseOf_4 20 rfl rfl)
theorem dX0_gooseOf_109 : decode cX0_gooseOf 109 = .ok (.getfield 28, 3) := dk_180 0 28 (dk_at dksX0_gooseOf_4 21 rfl rfl)
theorem dX0_gooseOf_112 : decode cX0_gooseOf 112 = .ok (.getfield 118, 3) := dk_180 0 118 (dk_at dksX0_gooseOf_5 0 rfl rfl)
theorem dX0_gooseOf_115 : decode cX0_gooseOf 115 = .ok (.iload_n 2, 1) := dk_28 (dk_at dksX0_gooseOf_5 3 rfl rfl)
theorem dX0_gooseOf_116 : decode cX0_gooseOf 116 = .ok (.invokespecial 138, 3) := dk_183 0 138 (dk_at dksX0_gooseOf_5 4 rfl rfl)
theorem dX0_gooseOf_119 : decode cX0_gooseOf 119 = .ok (.areturn, 1) := dk_176 (dk_at dksX0_gooseOf_5 7 rfl rfl)
theorem dX0_gooseOf_120 : decode cX0_gooseOf 120 = .ok (.new 139, 3) := dk_187 0 139 (dk_at dksX0_gooseOf_5 8 rfl rfl)
theorem dX0_gooseOf_123 : decode cX0_gooseOf 123 = .ok (.dup, 1) := dk_89 (dk_at dksX0_gooseOf_5 11 rfl rfl)
theorem dX0_gooseOf_124 : decode cX0_gooseOf 124 = .ok (.aload_n 0, 1) := dk_42 (dk_at dksX0_gooseOf_5 12 rfl rfl)
theorem dX0_gooseOf_125 : decode cX0_gooseOf 125 = .ok (.getfield 56, 3) := dk_180 0 56 (dk_at dksX0_gooseOf_5 13 rfl rfl)
theorem dX0_gooseOf_128 : decode cX0_gooseOf 128 = .ok (.aload_n 0, 1) := dk_42 (dk_at dksX0_gooseOf_5 16 rfl rfl)
theorem dX0_gooseOf_129 : decode cX0_gooseOf 129 = .ok (.getfield 28, 3) := dk_180 0 28 (dk_at dksX0_gooseOf_5 17 rfl rfl)
theorem dX0_gooseOf_132 : decode cX0_gooseOf 132 = .ok (.getfield 118, 3) := dk_180 0 118 (dk_at dksX0_gooseOf_5 20 rfl rfl)
theorem dX0_gooseOf_135 : decode cX0_gooseOf 135 = .ok (.iload_n 2, 1) := dk_28 (dk_at dksX0_gooseOf_5 23 rfl rfl)
theorem dX0_gooseOf_136 : decode cX0_gooseOf 136 = .ok (.invokespecial 141, 3) := dk_183 0 141 (dk_at dksX0_gooseOf_6 0 rfl rfl)
theorem dX0_gooseOf_139 : decode cX0_gooseOf 139 = .ok (.areturn, 1) := dk_176 (dk_at dksX0_gooseOf_6 3 rfl rfl)
theorem dX0_gooseOf_140 : decode cX0_gooseOf 140 = .ok (.new 142, 3) := dk_187 0 142 (dk_at dksX0_gooseOf_6 4 rfl rfl)
theorem dX0_gooseOf_143 : decode cX0_gooseOf 143 = .ok (.dup, 1) := dk_89 (dk_at dksX0_gooseOf_6 7 rfl rfl)
theorem dX0_gooseOf_144 : decode cX0_gooseOf 144 = .ok (.aload_n 0, 1) := dk_42 (dk_at dksX0_gooseOf_6 8 rfl rfl)
theorem dX0_gooseOf_145 : decode cX0_gooseOf 145 = .ok (.getfield 56, 3) := dk_180 0 56 (dk_at dksX0_gooseOf_6 9 rfl rfl)
theorem dX0_gooseOf_148 : decode cX0_gooseOf 148 = .ok (.aload_n 0, 1) := dk_42 (dk_at dksX0_gooseOf_6 12 rfl rfl)
theorem dX0_gooseOf_149 : decode cX0_gooseOf 149 = .ok (.getfield 28, 3) := dk_180 0 28 (dk_at dksX0_gooseOf_6 13 rfl rfl)
theorem dX0_gooseOf_152 : decode cX0_gooseOf 152 = .ok (.getfield 118, 3) := dk_180 0 118 (dk_at dksX0_gooseOf_6 16 rfl rfl)
theorem dX0_gooseOf_155 : decode cX0_gooseOf 155 = .ok (.iload_n 2, 1) := dk_28 (dk_at dksX0_gooseOf_6 19 rfl rfl)
theorem dX0_gooseOf_156 : decode cX0_gooseOf 156 = .ok (.aload_n 0, 1) := dk_42 (dk_at dksX0_gooseOf_6 20 rfl rfl)
theorem dX0_gooseOf_157 : decode cX0_gooseOf 157 = .ok (.getfield 21, 3) := dk_180 0 21 (dk_at dksX0_gooseOf_6 21 rfl rfl)
theorem dX0_gooseOf_160 : decode cX0_gooseOf 160 = .ok (.invokespecial 144, 3) := dk_183 0 144 (dk_at dksX0_gooseOf_7 0 rfl rfl)
theorem dX0_gooseOf_163 : decode cX0_gooseOf 163 = .ok (.areturn, 1) := dk_176 (dk_at dksX0_gooseOf_7 3 rfl rfl)
theorem dX0_gooseOf_164 : decode cX0_gooseOf 164 = .ok (.new 15, 3) := dk_187 0 15 (dk_at dksX0_gooseOf_7 4 rfl rfl)
theorem dX0_gooseOf_167 : decode cX0_gooseOf 167 = .ok (.dup, 1) := dk_89 (dk_at dksX0_gooseOf_7 7 rfl rfl)
theorem dX0_gooseOf_168 : decode cX0_gooseOf 168 = .ok (.aload_n 0, 1) := dk_42 (dk_at dksX0_gooseOf_7 8 rfl rfl)
theorem dX0_gooseOf_169 : decode cX0_gooseOf 169 = .ok (.getfield 56, 3) := dk_180 0 56 (dk_at dksX0_gooseOf_7 9 rfl rfl)
theorem dX0_gooseOf_172 : decode cX0_gooseOf 172 = .ok (.aload_n 0, 1) := dk_42 (dk_at dksX0_gooseOf_7 12 rfl rfl)
theorem dX0_gooseOf_173 : decode cX0_gooseOf 173 = .ok (.getfield 28, 3) := dk_180 0 28 (dk_at dksX0_gooseOf_7 13 rfl rfl)
theorem dX0_gooseOf_176 : decode cX0_gooseOf 176 = .ok (.getfield 118, 3) := dk_180 0 118 (dk_at dksX0_gooseOf_7 16 rfl rfl)
theorem dX0_gooseOf_179 : decode cX0_gooseOf 179 = .ok (.iload_n 2, 1) := dk_28 (dk_at dksX0_gooseOf_7 19 rfl rfl)
theorem dX0_gooseOf_180 : decode cX0_gooseOf 180 = .ok (.invokespecial 147, 3) := dk_183 0 147 (dk_at dksX0_gooseOf_7 20 rfl rfl)
theorem dX0_gooseOf_183 : decode cX0_gooseOf 183 = .ok (.areturn, 1) := dk_176 (dk_at dksX0_gooseOf_7 23 rfl rfl)
abbrev cX0_keyOf : ByteArray := prog_1_method_12_code
def yX0_keyOf : MethodName := ⟨RX0, "keyOf", "(I)B"⟩
def dkwX0_keyOf_0 : List UInt8 := [26, 2, 160, 0, 8, 16, 251, 167, 0, 4, 26, 145, 172]
abbrev dktX0_keyOf_0 : List UInt8 := dkwX0_keyOf_0 ++ []
theorem dksX0_keyOf_0 : cX0_keyOf.data.toList.drop 0 = dktX0_keyOf_0 := by decide +kernel
theorem dX0_keyOf_0 : decode cX0_keyOf 0 = .ok (.iload_n 0, 1) := dk_26 (dk_at dksX0_keyOf_0 0 rfl rfl)
theorem dX0_keyOf_1 : decode cX0_keyOf 1 = .ok (.iconst (-1), 1) := dk_2 (dk_at dksX0_keyOf_0 1 rfl rfl)
theorem dX0_keyOf_2 : decode cX0_keyOf 2 = .ok (.if_icmp .ne 8, 3) := dk_160 0 8 (dk_at dksX0_keyOf_0 2 rfl rfl)
theorem dX0_keyOf_5 : decode cX0_keyOf 5 = .ok (.bipush (-5), 2) := dk_16 251 (dk_at dksX0_keyOf_0 5 rfl rfl)
theorem dX0_keyOf_7 : decode cX0_keyOf 7 = .ok (.goto 4, 3) := dk_167 0 4 (dk_at dksX0_keyOf_0 7 rfl rfl)
theorem dX0_keyOf_10 : decode cX0_keyOf 10 = .ok (.iload_n 0, 1) := dk_26 (dk_at dksX0_keyOf_0 10 rfl rfl)
theorem dX0_keyOf_11 : decode cX0_keyOf 11 = .ok (.i2b, 1) := dk_145 (dk_at dksX0_keyOf_0 11 rfl rfl)
theorem dX0_keyOf_12 : decode cX0_keyOf 12 = .ok (.ireturn, 1) := dk_172 (dk_at dksX0_keyOf_0 12 rfl rfl)
abbrev cX0_of : ByteArray := prog_1_method_16_code
def yX0_of : MethodName := ⟨RX0, "of", "(II)I"⟩
def dkwX0_of_6 : List UInt8 := [17, 216, 239, 172]
abbrev dktX0_of_6 : List UInt8 := dkwX0_of_6 ++ []
def dkwX0_of_5 : List UInt8 := [184, 0, 148, 153, 0, 19, 42, 42, 180, 0, 28, 27, 28, 16, 10, 100, 182, 0, 218, 167, 0, 6]
abbrev dktX0_of_5 : List UInt8 := dkwX0_of_5 ++ dktX0_of_6
def dkwX0_of_4 : List UInt8 := [153, 0, 7, 4, 167, 0, 4, 3, 172, 42, 42, 180, 0, 28, 27, 182, 0, 235, 172, 28, 16, 10, 100]
abbrev dktX0_of_4 : List UInt8 := dkwX0_of_4 ++ dktX0_of_5
def dkwX0_of_3 : List UInt8 := [180, 0, 165, 27, 51, 172, 42, 180, 0, 28, 180, 0, 168, 27, 51, 172, 42, 180, 0, 28, 27, 182, 0, 232]
abbrev dktX0_of_3 : List UInt8 := dkwX0_of_3 ++ dktX0_of_4
def dkwX0_of_2 : List UInt8 := [42, 180, 0, 17, 27, 50, 182, 0, 181, 172, 42, 180, 0, 17, 27, 50, 180, 0, 187, 172, 42, 180, 0, 28]
abbrev dktX0_of_2 : List UInt8 := dkwX0_of_2 ++ dktX0_of_3
def dkwX0_of_1 : List UInt8 := [170, 0, 0, 0, 0, 0, 106, 0, 0, 0, 0, 0, 0, 0, 5, 0, 0, 0, 39, 0, 0, 0, 49, 0, 0, 0, 59, 0, 0, 0, 69, 0, 0, 0, 79, 0, 0, 0, 96]
abbrev dktX0_of_1 : List UInt8 := dkwX0_of_1 ++ dktX0_of_2
def dkwX0_of_0 : List UInt8 := [42, 27, 182, 0, 229, 154, 0, 7, 17, 216, 239, 172, 28]
abbrev dktX0_of_0 : List UInt8 := dkwX0_of_0 ++ dktX0_of_1
theorem dksX0_of_0 : cX0_of.data.toList.drop 0 = dktX0_of_0 := by decide +kernel
theorem dksX0_of_1 : cX0_of.data.toList.drop 13 = dktX0_of_1 := dk_seg dksX0_of_0 13 rfl rfl
theorem dksX0_of_2 : cX0_of.data.toList.drop 52 = dktX0_of_2 := dk_seg dksX0_of_1 39 rfl rfl
theorem dksX0_of_3 : cX0_of.data.toList.drop 76 = dktX0_of_3 := dk_seg dksX0_of_2 24 rfl rfl
theorem dksX0_of_4 : cX0_of.data.toList.drop 100 = dktX0_of_4 := dk_seg dksX0_of_3 24 rfl rfl
theorem dksX0_of_5 : cX0_of.data.toList.drop 123 = dktX0_of_5 := dk_seg dksX0_of_4 23 rfl rfl
theorem dksX0_of_6 : cX0_of.data.toList.drop 145 = dktX0_of_6 := dk_seg dksX0_of_5 22 rfl rfl
theorem dX0_of_0 : decode cX0_of 0 = .ok (.aload_n 0, 1) := dk_42 (dk_at dksX0_of_0 0 rfl rfl)
theorem dX0_of_1 : decode cX0_of 1 = .ok (.iload_n 1, 1) := dk_27 (dk_at dksX0_of_0 1 rfl rfl)
theorem dX0_of_2 : decode cX0_of 2 = .ok (.invokevirtual 229, 3) := dk_182 0 229 (dk_at dksX0_of_0 2 rfl rfl)
theorem dX0_of_5 : decode cX0_of 5 = .ok (.ifCond .ne 7, 3) := dk_154 0 7 (dk_at dksX0_of_0 5 rfl rfl)
theorem dX0_of_8 : decode cX0_of 8 = .ok (.sipush (-10001), 3) := dk_17 216 239 (dk_at dksX0_of_0 8 rfl rfl)
theorem dX0_of_11 : decode cX0_of 11 = .ok (.ireturn, 1) := dk_172 (dk_at dksX0_of_0 11 rfl rfl)
theorem dX0_of_12 : decode cX0_of 12 = .ok (.iload_n 2, 1) := dk_28 (dk_at dksX0_of_0 12 rfl rfl)
theorem dX0_of_13 : decode cX0_of 13 = .ok (.tableswitch 106 0 5 #[39, 49, 59, 69, 79, 96], 39) := by decide +kernel
theorem dX0_of_52 : decode cX0_of 52 = .ok (.aload_n 0, 1) := dk_42 (dk_at dksX0_of_2 0 rfl rfl)
theorem dX0_of_53 : decode cX0_of 53 = .ok (.getfield 17, 3) := dk_180 0 17 (dk_at dksX0_of_2 1 rfl rfl)
theorem dX0_of_56 : decode cX0_of 56 = .ok (.iload_n 1, 1) := dk_27 (dk_at dksX0_of_2 4 rfl rfl)
theorem dX0_of_57 : decode cX0_of 57 = .ok (.aaload, 1) := dk_50 (dk_at dksX0_of_2 5 rfl rfl)
theorem dX0_of_58 : decode cX0_of 58 = .ok (.invokevirtual 181, 3) := dk_182 0 181 (dk_at dksX0_of_2 6 rfl rfl)
theorem dX0_of_61 : decode cX0_of 61 = .ok (.ireturn, 1) := dk_172 (dk_at dksX0_of_2 9 rfl rfl)
theorem dX0_of_62 : decode cX0_of 62 = .ok (.aload_n 0, 1) := dk_42 (dk_at dksX0_of_2 10 rfl rfl)
theorem dX0_of_63 : decode cX0_of 63 = .ok (.getfield 17, 3) := dk_180 0 17 (dk_at dksX0_of_2 11 rfl rfl)
theorem dX0_of_66 : decode cX0_of 66 = .ok (.iload_n 1, 1) := dk_27 (dk_at dksX0_of_2 14 rfl rfl)
theorem dX0_of_67 : decode cX0_of 67 = .ok (.aaload, 1) := dk_50 (dk_at dksX0_of_2 15 rfl rfl)
theorem dX0_of_68 : decode cX0_of 68 = .ok (.getfield 187, 3) := dk_180 0 187 (dk_at dksX0_of_2 16 rfl rfl)
theorem dX0_of_71 : decode cX0_of 71 = .ok (.ireturn, 1) := dk_172 (dk_at dksX0_of_2 19 rfl rfl)
theorem dX0_of_72 : decode cX0_of 72 = .ok (.aload_n 0, 1) := dk_42 (dk_at dksX0_of_2 20 rfl rfl)
theorem dX0_of_73 : decode cX0_of 73 = .ok (.getfield 28, 3) := dk_180 0 28 (dk_at dksX0_of_2 21 rfl rfl)
theorem dX0_of_76 : decode cX0_of 76 = .ok (.getfield 165, 3) := dk_180 0 165 (dk_at dksX0_of_3 0 rfl rfl)
theorem dX0_of_79 : decode cX0_of 79 = .ok (.iload_n 1, 1) := dk_27 (dk_at dksX0_of_3 3 rfl rfl)
theorem dX0_of_80 : decode cX0_of 80 = .ok (.baload, 1) := dk_51 (dk_at dksX0_of_3 4 rfl rfl)
theorem dX0_of_81 : decode cX0_of 81 = .ok (.ireturn, 1) := dk_172 (dk_at dksX0_of_3 5 rfl rfl)
theorem dX0_of_82 : decode cX0_of 82 = .ok (.aload_n 0, 1) := dk_42 (dk_at dksX0_of_3 6 rfl rfl)
theorem dX0_of_83 : decode cX0_of 83 = .ok (.getfield 28, 3) := dk_180 0 28 (dk_at dksX0_of_3 7 rfl rfl)
theorem dX0_of_86 : decode cX0_of 86 = .ok (.getfield 168, 3) := dk_180 0 168 (dk_at dksX0_of_3 10 rfl rfl)
theorem dX0_of_89 : decode cX0_of 89 = .ok (.iload_n 1, 1) := dk_27 (dk_at dksX0_of_3 13 rfl rfl)
theorem dX0_of_90 : decode cX0_of 90 = .ok (.baload, 1) := dk_51 (dk_at dksX0_of_3 14 rfl rfl)
theorem dX0_of_91 : decode cX0_of 91 = .ok (.ireturn, 1) := dk_172 (dk_at dksX0_of_3 15 rfl rfl)
theorem dX0_of_92 : decode cX0_of 92 = .ok (.aload_n 0, 1) := dk_42 (dk_at dksX0_of_3 16 rfl rfl)
theorem dX0_of_93 : decode cX0_of 93 = .ok (.getfield 28, 3) := dk_180 0 28 (dk_at dksX0_of_3 17 rfl rfl)
theorem dX0_of_96 : decode cX0_of 96 = .ok (.iload_n 1, 1) := dk_27 (dk_at dksX0_of_3 20 rfl rfl)
theorem dX0_of_97 : decode cX0_of 97 = .ok (.invokevirtual 232, 3) := dk_182 0 232 (dk_at dksX0_of_3 21 rfl rfl)
theorem dX0_of_100 : decode cX0_of 100 = .ok (.ifCond .eq 7, 3) := dk_153 0 7 (dk_at dksX0_of_4 0 rfl rfl)
theorem dX0_of_103 : decode cX0_of 103 = .ok (.iconst 1, 1) := dk_4 (dk_at dksX0_of_4 3 rfl rfl)
theorem dX0_of_104 : decode cX0_of 104 = .ok (.goto 4, 3) := dk_167 0 4 (dk_at dksX0_of_4 4 rfl rfl)
theorem dX0_of_107 : decode cX0_of 107 = .ok (.iconst 0, 1) := dk_3 (dk_at dksX0_of_4 7 rfl rfl)
theorem dX0_of_108 : decode cX0_of 108 = .ok (.ireturn, 1) := dk_172 (dk_at dksX0_of_4 8 rfl rfl)
theorem dX0_of_109 : decode cX0_of 109 = .ok (.aload_n 0, 1) := dk_42 (dk_at dksX0_of_4 9 rfl rfl)
theorem dX0_of_110 : decode cX0_of 110 = .ok (.aload_n 0, 1) := dk_42 (dk_at dksX0_of_4 10 rfl rfl)
theorem dX0_of_111 : decode cX0_of 111 = .ok (.getfield 28, 3) := dk_180 0 28 (dk_at dksX0_of_4 11 rfl rfl)
theorem dX0_of_114 : decode cX0_of 114 = .ok (.iload_n 1, 1) := dk_27 (dk_at dksX0_of_4 14 rfl rfl)
theorem dX0_of_115 : decode cX0_of 115 = .ok (.invokevirtual 235, 3) := dk_182 0 235 (dk_at dksX0_of_4 15 rfl rfl)
theorem dX0_of_118 : decode cX0_of 118 = .ok (.ireturn, 1) := dk_172 (dk_at dksX0_of_4 18 rfl rfl)
theorem dX0_of_119 : decode cX0_of 119 = .ok (.iload_n 2, 1) := dk_28 (dk_at dksX0_of_4 19 rfl rfl)
theorem dX0_of_120 : decode cX0_of 120 = .ok (.bipush 10, 2) := dk_16 10 (dk_at dksX0_of_4 20 rfl rfl)
theorem dX0_of_122 : decode cX0_of 122 = .ok (.isub, 1) := dk_100 (dk_at dksX0_of_4 22 rfl rfl)
theorem dX0_of_123 : decode cX0_of 123 = .ok (.invokestatic 148, 3) := dk_184 0 148 (dk_at dksX0_of_5 0 rfl rfl)
theorem dX0_of_126 : decode cX0_of 126 = .ok (.ifCond .eq 19, 3) := dk_153 0 19 (dk_at dksX0_of_5 3 rfl rfl)
theorem dX0_of_129 : decode cX0_of 129 = .ok (.aload_n 0, 1) := dk_42 (dk_at dksX0_of_5 6 rfl rfl)
theorem dX0_of_130 : decode cX0_of 130 = .ok (.aload_n 0, 1) := dk_42 (dk_at dksX0_of_5 7 rfl rfl)
theorem dX0_of_131 : decode cX0_of 131 = .ok (.getfield 28, 3) := dk_180 0 28 (dk_at dksX0_of_5 8 rfl rfl)
theorem dX0_of_134 : decode cX0_of 134 = .ok (.iload_n 1, 1) := dk_27 (dk_at dksX0_of_5 11 rfl rfl)
theorem dX0_of_135 : decode cX0_of 135 = .ok (.iload_n 2, 1) := dk_28 (dk_at dksX0_of_5 12 rfl rfl)
theorem dX0_of_136 : decode cX0_of 136 = .ok (.bipush 10, 2) := dk_16 10 (dk_at dksX0_of_5 13 rfl rfl)
theorem dX0_of_138 : decode cX0_of 138 = .ok (.isub, 1) := dk_100 (dk_at dksX0_of_5 15 rfl rfl)
theorem dX0_of_139 : decode cX0_of 139 = .ok (.invokevirtual 218, 3) := dk_182 0 218 (dk_at dksX0_of_5 16 rfl rfl)
theorem dX0_of_142 : decode cX0_of 142 = .ok (.goto 6, 3) := dk_167 0 6 (dk_at dksX0_of_5 19 rfl rfl)
theorem dX0_of_145 : decode cX0_of 145 = .ok (.sipush (-10001), 3) := dk_17 216 239 (dk_at dksX0_of_6 0 rfl rfl)
theorem dX0_of_148 : decode cX0_of 148 = .ok (.ireturn, 1) := dk_172 (dk_at dksX0_of_6 3 rfl rfl)
abbrev cX0_isGoose : ByteArray := prog_1_method_8_code
def yX0_isGoose : MethodName := ⟨RX0, "isGoose", "(I)Z"⟩
def dkwX0_isGoose_0 : List UInt8 := [27, 3, 42, 180, 0, 28, 180, 0, 118, 4, 100, 184, 0, 5, 172]
abbrev dktX0_isGoose_0 : List UInt8 := dkwX0_isGoose_0 ++ []
theorem dksX0_isGoose_0 : cX0_isGoose.data.toList.drop 0 = dktX0_isGoose_0 := by decide +kernel
theorem dX0_isGoose_0 : decode cX0_isGoose 0 = .ok (.iload_n 1, 1) := dk_27 (dk_at dksX0_isGoose_0 0 rfl rfl)
theorem dX0_isGoose_1 : decode cX0_isGoose 1 = .ok (.iconst 0, 1) := dk_3 (dk_at dksX0_isGoose_0 1 rfl rfl)
theorem dX0_isGoose_2 : decode cX0_isGoose 2 = .ok (.aload_n 0, 1) := dk_42 (dk_at dksX0_isGoose_0 2 rfl rfl)
theorem dX0_isGoose_3 : decode cX0_isGoose 3 = .ok (.getfield 28, 3) := dk_180 0 28 (dk_at dksX0_isGoose_0 3 rfl rfl)
theorem dX0_isGoose_6 : decode cX0_isGoose 6 = .ok (.getfield 118, 3) := dk_180 0 118 (dk_at dksX0_isGoose_0 6 rfl rfl)
theorem dX0_isGoose_9 : decode cX0_isGoose 9 = .ok (.iconst 1, 1) := dk_4 (dk_at dksX0_isGoose_0 9 rfl rfl)
theorem dX0_isGoose_10 : decode cX0_isGoose 10 = .ok (.isub, 1) := dk_100 (dk_at dksX0_isGoose_0 10 rfl rfl)
theorem dX0_isGoose_11 : decode cX0_isGoose 11 = .ok (.invokestatic 5, 3) := dk_184 0 5 (dk_at dksX0_isGoose_0 11 rfl rfl)
theorem dX0_isGoose_14 : decode cX0_isGoose 14 = .ok (.ireturn, 1) := dk_172 (dk_at dksX0_isGoose_0 14 rfl rfl)
abbrev cX0_isIn : ByteArray := prog_1_method_2_code
def yX0_isIn : MethodName := ⟨RX0, "isIn", "(II)Z"⟩
def dkwX0_isIn_0 : List UInt8 := [26, 27, 122, 4, 126, 4, 160, 0, 7, 4, 167, 0, 4, 3, 172]
abbrev dktX0_isIn_0 : List UInt8 := dkwX0_isIn_0 ++ []
theorem dksX0_isIn_0 : cX0_isIn.data.toList.drop 0 = dktX0_isIn_0 := by decide +kernel
theorem dX0_isIn_0 : decode cX0_isIn 0 = .ok (.iload_n 0, 1) := dk_26 (dk_at dksX0_isIn_0 0 rfl rfl)
theorem dX0_isIn_1 : decode cX0_isIn 1 = .ok (.iload_n 1, 1) := dk_27 (dk_at dksX0_isIn_0 1 rfl rfl)
theorem dX0_isIn_2 : decode cX0_isIn 2 = .ok (.ishr, 1) := dk_122 (dk_at dksX0_isIn_0 2 rfl rfl)
theorem dX0_isIn_3 : decode cX0_isIn 3 = .ok (.iconst 1, 1) := dk_4 (dk_at dksX0_isIn_0 3 rfl rfl)
theorem dX0_isIn_4 : decode cX0_isIn 4 = .ok (.iand, 1) := dk_126 (dk_at dksX0_isIn_0 4 rfl rfl)
theorem dX0_isIn_5 : decode cX0_isIn 5 = .ok (.iconst 1, 1) := dk_4 (dk_at dksX0_isIn_0 5 rfl rfl)
theorem dX0_isIn_6 : decode cX0_isIn 6 = .ok (.if_icmp .ne 7, 3) := dk_160 0 7 (dk_at dksX0_isIn_0 6 rfl rfl)
theorem dX0_isIn_9 : decode cX0_isIn 9 = .ok (.iconst 1, 1) := dk_4 (dk_at dksX0_isIn_0 9 rfl rfl)
theorem dX0_isIn_10 : decode cX0_isIn 10 = .ok (.goto 4, 3) := dk_167 0 4 (dk_at dksX0_isIn_0 10 rfl rfl)
theorem dX0_isIn_13 : decode cX0_isIn 13 = .ok (.iconst 0, 1) := dk_3 (dk_at dksX0_isIn_0 13 rfl rfl)
theorem dX0_isIn_14 : decode cX0_isIn 14 = .ok (.ireturn, 1) := dk_172 (dk_at dksX0_isIn_0 14 rfl rfl)
abbrev cX0_whereTo : ByteArray := prog_1_method_15_code
def yX0_whereTo : MethodName := ⟨RX0, "whereTo", "(LGeeseKeys$Time;I)I"⟩
def dkwX0_whereTo_3 : List UInt8 := [167, 0, 10, 21, 7, 54, 4, 21, 6, 62, 132, 6, 1, 167, 255, 206, 29, 172]
abbrev dktX0_whereTo_3 : List UInt8 := dkwX0_whereTo_3 ++ []
def dkwX0_whereTo_2 : List UInt8 := [154, 0, 6, 167, 0, 30, 42, 43, 28, 21, 6, 182, 0, 218, 54, 7, 21, 7, 21, 4, 163, 0, 6]
abbrev dktX0_whereTo_2 : List UInt8 := dkwX0_whereTo_2 ++ dktX0_whereTo_3
def dkwX0_whereTo_1 : List UInt8 := [182, 0, 222, 54, 5, 3, 54, 6, 21, 6, 16, 8, 162, 0, 49, 21, 5, 21, 6, 184, 0, 226]
abbrev dktX0_whereTo_1 : List UInt8 := dkwX0_whereTo_1 ++ dktX0_whereTo_2
def dkwX0_whereTo_0 : List UInt8 := [43, 180, 0, 165, 28, 51, 62, 42, 43, 28, 29, 182, 0, 218, 54, 4, 43, 43, 180, 0, 165, 28, 51]
abbrev dktX0_whereTo_0 : List UInt8 := dkwX0_whereTo_0 ++ dktX0_whereTo_1
theorem dksX0_whereTo_0 : cX0_whereTo.data.toList.drop 0 = dktX0_whereTo_0 := by decide +kernel
theorem dksX0_whereTo_1 : cX0_whereTo.data.toList.drop 23 = dktX0_whereTo_1 := dk_seg dksX0_whereTo_0 23 rfl rfl
theorem dksX0_whereTo_2 : cX0_whereTo.data.toList.drop 45 = dktX0_whereTo_2 := dk_seg dksX0_whereTo_1 22 rfl rfl
theorem dksX0_whereTo_3 : cX0_whereTo.data.toList.drop 68 = dktX0_whereTo_3 := dk_seg dksX0_whereTo_2 23 rfl rfl
theorem dX0_whereTo_0 : decode cX0_whereTo 0 = .ok (.aload_n 1, 1) := dk_43 (dk_at dksX0_whereTo_0 0 rfl rfl)
theorem dX0_whereTo_1 : decode cX0_whereTo 1 = .ok (.getfield 165, 3) := dk_180 0 165 (dk_at dksX0_whereTo_0 1 rfl rfl)
theorem dX0_whereTo_4 : decode cX0_whereTo 4 = .ok (.iload_n 2, 1) := dk_28 (dk_at dksX0_whereTo_0 4 rfl rfl)
theorem dX0_whereTo_5 : decode cX0_whereTo 5 = .ok (.baload, 1) := dk_51 (dk_at dksX0_whereTo_0 5 rfl rfl)
theorem dX0_whereTo_6 : decode cX0_whereTo 6 = .ok (.istore_n 3, 1) := dk_62 (dk_at dksX0_whereTo_0 6 rfl rfl)
theorem dX0_whereTo_7 : decode cX0_whereTo 7 = .ok (.aload_n 0, 1) := dk_42 (dk_at dksX0_whereTo_0 7 rfl rfl)
theorem dX0_whereTo_8 : decode cX0_whereTo 8 = .ok (.aload_n 1, 1) := dk_43 (dk_at dksX0_whereTo_0 8 rfl rfl)
theorem dX0_whereTo_9 : decode cX0_whereTo 9 = .ok (.iload_n 2, 1) := dk_28 (dk_at dksX0_whereTo_0 9 rfl rfl)
theorem dX0_whereTo_10 : decode cX0_whereTo 10 = .ok (.iload_n 3, 1) := dk_29 (dk_at dksX0_whereTo_0 10 rfl rfl)
theorem dX0_whereTo_11 : decode cX0_whereTo 11 = .ok (.invokevirtual 218, 3) := dk_182 0 218 (dk_at dksX0_whereTo_0 11 rfl rfl)
theorem dX0_whereTo_14 : decode cX0_whereTo 14 = .ok (.istore 4, 2) := dk_54 4 (dk_at dksX0_whereTo_0 14 rfl rfl)
theorem dX0_whereTo_16 : decode cX0_whereTo 16 = .ok (.aload_n 1, 1) := dk_43 (dk_at dksX0_whereTo_0 16 rfl rfl)
theorem dX0_whereTo_17 : decode cX0_whereTo 17 = .ok (.aload_n 1, 1) := dk_43 (dk_at dksX0_whereTo_0 17 rfl rfl)
theorem dX0_whereTo_18 : decode cX0_whereTo 18 = .ok (.getfield 165, 3) := dk_180 0 165 (dk_at dksX0_whereTo_0 18 rfl rfl)
theorem dX0_whereTo_21 : decode cX0_whereTo 21 = .ok (.iload_n 2, 1) := dk_28 (dk_at dksX0_whereTo_0 21 rfl rfl)
theorem dX0_whereTo_22 : decode cX0_whereTo 22 = .ok (.baload, 1) := dk_51 (dk_at dksX0_whereTo_0 22 rfl rfl)
theorem dX0_whereTo_23 : decode cX0_whereTo 23 = .ok (.invokevirtual 222, 3) := dk_182 0 222 (dk_at dksX0_whereTo_1 0 rfl rfl)
theorem dX0_whereTo_26 : decode cX0_whereTo 26 = .ok (.istore 5, 2) := dk_54 5 (dk_at dksX0_whereTo_1 3 rfl rfl)
theorem dX0_whereTo_28 : decode cX0_whereTo 28 = .ok (.iconst 0, 1) := dk_3 (dk_at dksX0_whereTo_1 5 rfl rfl)
theorem dX0_whereTo_29 : decode cX0_whereTo 29 = .ok (.istore 6, 2) := dk_54 6 (dk_at dksX0_whereTo_1 6 rfl rfl)
theorem dX0_whereTo_31 : decode cX0_whereTo 31 = .ok (.iload 6, 2) := dk_21 6 (dk_at dksX0_whereTo_1 8 rfl rfl)
theorem dX0_whereTo_33 : decode cX0_whereTo 33 = .ok (.bipush 8, 2) := dk_16 8 (dk_at dksX0_whereTo_1 10 rfl rfl)
theorem dX0_whereTo_35 : decode cX0_whereTo 35 = .ok (.if_icmp .ge 49, 3) := dk_162 0 49 (dk_at dksX0_whereTo_1 12 rfl rfl)
theorem dX0_whereTo_38 : decode cX0_whereTo 38 = .ok (.iload 5, 2) := dk_21 5 (dk_at dksX0_whereTo_1 15 rfl rfl)
theorem dX0_whereTo_40 : decode cX0_whereTo 40 = .ok (.iload 6, 2) := dk_21 6 (dk_at dksX0_whereTo_1 17 rfl rfl)
theorem dX0_whereTo_42 : decode cX0_whereTo 42 = .ok (.invokestatic 226, 3) := dk_184 0 226 (dk_at dksX0_whereTo_1 19 rfl rfl)
theorem dX0_whereTo_45 : decode cX0_whereTo 45 = .ok (.ifCond .ne 6, 3) := dk_154 0 6 (dk_at dksX0_whereTo_2 0 rfl rfl)
theorem dX0_whereTo_48 : decode cX0_whereTo 48 = .ok (.goto 30, 3) := dk_167 0 30 (dk_at dksX0_whereTo_2 3 rfl rfl)
theorem dX0_whereTo_51 : decode cX0_whereTo 51 = .ok (.aload_n 0, 1) := dk_42 (dk_at dksX0_whereTo_2 6 rfl rfl)
theorem dX0_whereTo_52 : decode cX0_whereTo 52 = .ok (.aload_n 1, 1) := dk_43 (dk_at dksX0_whereTo_2 7 rfl rfl)
theorem dX0_whereTo_53 : decode cX0_whereTo 53 = .ok (.iload_n 2, 1) := dk_28 (dk_at dksX0_whereTo_2 8 rfl rfl)
theorem dX0_whereTo_54 : decode cX0_whereTo 54 = .ok (.iload 6, 2) := dk_21 6 (dk_at dksX0_whereTo_2 9 rfl rfl)
theorem dX0_whereTo_56 : decode cX0_whereTo 56 = .ok (.invokevirtual 218, 3) := dk_182 0 218 (dk_at dksX0_whereTo_2 11 rfl rfl)
theorem dX0_whereTo_59 : decode cX0_whereTo 59 = .ok (.istore 7, 2) := dk_54 7 (dk_at dksX0_whereTo_2 14 rfl rfl)
theorem dX0_whereTo_61 : decode cX0_whereTo 61 = .ok (.iload 7, 2) := dk_21 7 (dk_at dksX0_whereTo_2 16 rfl rfl)
theorem dX0_whereTo_63 : decode cX0_whereTo 63 = .ok (.iload 4, 2) := dk_21 4 (dk_at dksX0_whereTo_2 18 rfl rfl)
theorem dX0_whereTo_65 : decode cX0_whereTo 65 = .ok (.if_icmp .gt 6, 3) := dk_163 0 6 (dk_at dksX0_whereTo_2 20 rfl rfl)
theorem dX0_whereTo_68 : decode cX0_whereTo 68 = .ok (.goto 10, 3) := dk_167 0 10 (dk_at dksX0_whereTo_3 0 rfl rfl)
theorem dX0_whereTo_71 : decode cX0_whereTo 71 = .ok (.iload 7, 2) := dk_21 7 (dk_at dksX0_whereTo_3 3 rfl rfl)
theorem dX0_whereTo_73 : decode cX0_whereTo 73 = .ok (.istore 4, 2) := dk_54 4 (dk_at dksX0_whereTo_3 5 rfl rfl)
theorem dX0_whereTo_75 : decode cX0_whereTo 75 = .ok (.iload 6, 2) := dk_21 6 (dk_at dksX0_whereTo_3 7 rfl rfl)
theorem dX0_whereTo_77 : decode cX0_whereTo 77 = .ok (.istore_n 3, 1) := dk_62 (dk_at dksX0_whereTo_3 9 rfl rfl)
theorem dX0_whereTo_78 : decode cX0_whereTo 78 = .ok (.iinc 6 1, 3) := dk_132 6 1 (dk_at dksX0_whereTo_3 10 rfl rfl)
theorem dX0_whereTo_81 : decode cX0_whereTo 81 = .ok (.goto (-50), 3) := dk_167 255 206 (dk_at dksX0_whereTo_3 13 rfl rfl)
theorem dX0_whereTo_84 : decode cX0_whereTo 84 = .ok (.iload_n 3, 1) := dk_29 (dk_at dksX0_whereTo_3 16 rfl rfl)
theorem dX0_whereTo_85 : decode cX0_whereTo 85 = .ok (.ireturn, 1) := dk_172 (dk_at dksX0_whereTo_3 17 rfl rfl)
abbrev cX0_pullOf : ByteArray := prog_1_method_14_code
def yX0_pullOf : MethodName := ⟨RX0, "pullOf", "(LGeeseKeys$Time;II)I"⟩
def dkwX0_pullOf_5 : List UInt8 := [182, 0, 207, 43, 28, 29, 182, 0, 211, 182, 0, 214, 172]
abbrev dktX0_pullOf_5 : List UInt8 := dkwX0_pullOf_5 ++ []
def dkwX0_pullOf_4 : List UInt8 := [182, 0, 203, 96, 29, 29, 43, 180, 0, 165, 28, 51, 160, 0, 7, 4, 167, 0, 4, 3, 43, 28, 29]
abbrev dktX0_pullOf_4 : List UInt8 := dkwX0_pullOf_4 ++ dktX0_pullOf_5
def dkwX0_pullOf_3 : List UInt8 := [181, 0, 202, 42, 180, 0, 17, 28, 50, 43, 180, 0, 194, 29, 51, 42, 180, 0, 42, 42, 180, 0, 49]
abbrev dktX0_pullOf_3 : List UInt8 := dkwX0_pullOf_3 ++ dktX0_pullOf_4
def dkwX0_pullOf_2 : List UInt8 := [42, 180, 0, 49, 43, 180, 0, 194, 29, 51, 181, 0, 197, 42, 180, 0, 49, 43, 180, 0, 199, 16, 10, 112]
abbrev dktX0_pullOf_2 : List UInt8 := dkwX0_pullOf_2 ++ dktX0_pullOf_3
def dkwX0_pullOf_1 : List UInt8 := [42, 180, 0, 49, 42, 180, 0, 17, 28, 50, 180, 0, 187, 181, 0, 190, 42, 180, 0, 49, 29, 181, 0, 191]
abbrev dktX0_pullOf_1 : List UInt8 := dkwX0_pullOf_1 ++ dktX0_pullOf_2
def dkwX0_pullOf_0 : List UInt8 := [42, 180, 0, 49, 28, 181, 0, 178, 42, 180, 0, 49, 42, 180, 0, 17, 28, 50, 182, 0, 181, 181, 0, 185]
abbrev dktX0_pullOf_0 : List UInt8 := dkwX0_pullOf_0 ++ dktX0_pullOf_1
theorem dksX0_pullOf_0 : cX0_pullOf.data.toList.drop 0 = dktX0_pullOf_0 := by decide +kernel
theorem dksX0_pullOf_1 : cX0_pullOf.data.toList.drop 24 = dktX0_pullOf_1 := dk_seg dksX0_pullOf_0 24 rfl rfl
theorem dksX0_pullOf_2 : cX0_pullOf.data.toList.drop 48 = dktX0_pullOf_2 := dk_seg dksX0_pullOf_1 24 rfl rfl
theorem dksX0_pullOf_3 : cX0_pullOf.data.toList.drop 72 = dktX0_pullOf_3 := dk_seg dksX0_pullOf_2 24 rfl rfl
theorem dksX0_pullOf_4 : cX0_pullOf.data.toList.drop 95 = dktX0_pullOf_4 := dk_seg dksX0_pullOf_3 23 rfl rfl
theorem dksX0_pullOf_5 : cX0_pullOf.data.toList.drop 118 = dktX0_pullOf_5 := dk_seg dksX0_pullOf_4 23 rfl rfl
theorem dX0_pullOf_0 : decode cX0_pullOf 0 = .ok (.aload_n 0, 1) := dk_42 (dk_at dksX0_pullOf_0 0 rfl rfl)
theorem dX0_pullOf_1 : decode cX0_pullOf 1 = .ok (.getfield 49, 3) := dk_180 0 49 (dk_at dksX0_pullOf_0 1 rfl rfl)
theorem dX0_pullOf_4 : decode cX0_pullOf 4 = .ok (.iload_n 2, 1) := dk_28 (dk_at dksX0_pullOf_0 4 rfl rfl)
theorem dX0_pullOf_5 : decode cX0_pullOf 5 = .ok (.putfield 178, 3) := dk_181 0 178 (dk_at dksX0_pullOf_0 5 rfl rfl)
theorem dX0_pullOf_8 : decode cX0_pullOf 8 = .ok (.aload_n 0, 1) := dk_42 (dk_at dksX0_pullOf_0 8 rfl rfl)
theorem dX0_pullOf_9 : decode cX0_pullOf 9 = .ok (.getfield 49, 3) := dk_180 0 49 (dk_at dksX0_pullOf_0 9 rfl rfl)
theorem dX0_pullOf_12 : decode cX0_pullOf 12 = .ok (.aload_n 0, 1) := dk_42 (dk_at dksX0_pullOf_0 12 rfl rfl)
theorem dX0_pullOf_13 : decode cX0_pullOf 13 = .ok (.getfield 17, 3) := dk_180 0 17 (dk_at dksX0_pullOf_0 13 rfl rfl)
theorem dX0_pullOf_16 : decode cX0_pullOf 16 = .ok (.iload_n 2, 1) := dk_28 (dk_at dksX0_pullOf_0 16 rfl rfl)
theorem dX0_pullOf_17 : decode cX0_pullOf 17 = .ok (.aaload, 1) := dk_50 (dk_at dksX0_pullOf_0 17 rfl rfl)
theorem dX0_pullOf_18 : decode cX0_pullOf 18 = .ok (.invokevirtual 181, 3) := dk_182 0 181 (dk_at dksX0_pullOf_0 18 rfl rfl)
theorem dX0_pullOf_21 : decode cX0_pullOf 21 = .ok (.putfield 185, 3) := dk_181 0 185 (dk_at dksX0_pullOf_0 21 rfl rfl)
theorem dX0_pullOf_24 : decode cX0_pullOf 24 = .ok (.aload_n 0, 1) := dk_42 (dk_at dksX0_pullOf_1 0 rfl rfl)
theorem dX0_pullOf_25 : decode cX0_pullOf 25 = .ok (.getfield 49, 3) := dk_180 0 49 (dk_at dksX0_pullOf_1 1 rfl rfl)
theorem dX0_pullOf_28 : decode cX0_pullOf 28 = .ok (.aload_n 0, 1) := dk_42 (dk_at dksX0_pullOf_1 4 rfl rfl)
theorem dX0_pullOf_29 : decode cX0_pullOf 29 = .ok (.getfield 17, 3) := dk_180 0 17 (dk_at dksX0_pullOf_1 5 rfl rfl)
theorem dX0_pullOf_32 : decode cX0_pullOf 32 = .ok (.iload_n 2, 1) := dk_28 (dk_at dksX0_pullOf_1 8 rfl rfl)
theorem dX0_pullOf_33 : decode cX0_pullOf 33 = .ok (.aaload, 1) := dk_50 (dk_at dksX0_pullOf_1 9 rfl rfl)
theorem dX0_pullOf_34 : decode cX0_pullOf 34 = .ok (.getfield 187, 3) := dk_180 0 187 (dk_at dksX0_pullOf_1 10 rfl rfl)
theorem dX0_pullOf_37 : decode cX0_pullOf 37 = .ok (.putfield 190, 3) := dk_181 0 190 (dk_at dksX0_pullOf_1 13 rfl rfl)
theorem dX0_pullOf_40 : decode cX0_pullOf 40 = .ok (.aload_n 0, 1) := dk_42 (dk_at dksX0_pullOf_1 16 rfl rfl)
theorem dX0_pullOf_41 : decode cX0_pullOf 41 = .ok (.getfield 49, 3) := dk_180 0 49 (dk_at dksX0_pullOf_1 17 rfl rfl)
theorem dX0_pullOf_44 : decode cX0_pullOf 44 = .ok (.iload_n 3, 1) := dk_29 (dk_at dksX0_pullOf_1 20 rfl rfl)
theorem dX0_pullOf_45 : decode cX0_pullOf 45 = .ok (.putfield 191, 3) := dk_181 0 191 (dk_at dksX0_pullOf_1 21 rfl rfl)
theorem dX0_pullOf_48 : decode cX0_pullOf 48 = .ok (.aload_n 0, 1) := dk_42 (dk_at dksX0_pullOf_2 0 rfl rfl)
theorem dX0_pullOf_49 : decode cX0_pullOf 49 = .ok (.getfield 49, 3) := dk_180 0 49 (dk_at dksX0_pullOf_2 1 rfl rfl)
theorem dX0_pullOf_52 : decode cX0_pullOf 52 = .ok (.aload_n 1, 1) := dk_43 (dk_at dksX0_pullOf_2 4 rfl rfl)
theorem dX0_pullOf_53 : decode cX0_pullOf 53 = .ok (.getfield 194, 3) := dk_180 0 194 (dk_at dksX0_pullOf_2 5 rfl rfl)
theorem dX0_pullOf_56 : decode cX0_pullOf 56 = .ok (.iload_n 3, 1) := dk_29 (dk_at dksX0_pullOf_2 8 rfl rfl)
theorem dX0_pullOf_57 : decode cX0_pullOf 57 = .ok (.baload, 1) := dk_51 (dk_at dksX0_pullOf_2 9 rfl rfl)
theorem dX0_pullOf_58 : decode cX0_pullOf 58 = .ok (.putfield 197, 3) := dk_181 0 197 (dk_at dksX0_pullOf_2 10 rfl rfl)
theorem dX0_pullOf_61 : decode cX0_pullOf 61 = .ok (.aload_n 0, 1) := dk_42 (dk_at dksX0_pullOf_2 13 rfl rfl)
theorem dX0_pullOf_62 : decode cX0_pullOf 62 = .ok (.getfield 49, 3) := dk_180 0 49 (dk_at dksX0_pullOf_2 14 rfl rfl)
theorem dX0_pullOf_65 : decode cX0_pullOf 65 = .ok (.aload_n 1, 1) := dk_43 (dk_at dksX0_pullOf_2 17 rfl rfl)
theorem dX0_pullOf_66 : decode cX0_pullOf 66 = .ok (.getfield 199, 3) := dk_180 0 199 (dk_at dksX0_pullOf_2 18 rfl rfl)
theorem dX0_pullOf_69 : decode cX0_pullOf 69 = .ok (.bipush 10, 2) := dk_16 10 (dk_at dksX0_pullOf_2 21 rfl rfl)
theorem dX0_pullOf_71 : decode cX0_pullOf 71 = .ok (.irem, 1) := dk_112 (dk_at dksX0_pullOf_2 23 rfl rfl)
theorem dX0_pullOf_72 : decode cX0_pullOf 72 = .ok (.putfield 202, 3) := dk_181 0 202 (dk_at dksX0_pullOf_3 0 rfl rfl)
theorem dX0_pullOf_75 : decode cX0_pullOf 75 = .ok (.aload_n 0, 1) := dk_42 (dk_at dksX0_pullOf_3 3 rfl rfl)
theorem dX0_pullOf_76 : decode cX0_pullOf 76 = .ok (.getfield 17, 3) := dk_180 0 17 (dk_at dksX0_pullOf_3 4 rfl rfl)
theorem dX0_pullOf_79 : decode cX0_pullOf 79 = .ok (.iload_n 2, 1) := dk_28 (dk_at dksX0_pullOf_3 7 rfl rfl)
theorem dX0_pullOf_80 : decode cX0_pullOf 80 = .ok (.aaload, 1) := dk_50 (dk_at dksX0_pullOf_3 8 rfl rfl)
theorem dX0_pullOf_81 : decode cX0_pullOf 81 = .ok (.aload_n 1, 1) := dk_43 (dk_at dksX0_pullOf_3 9 rfl rfl)
theorem dX0_pullOf_82 : decode cX0_pullOf 82 = .ok (.getfield 194, 3) := dk_180 0 194 (dk_at dksX0_pullOf_3 10 rfl rfl)
theorem dX0_pullOf_85 : decode cX0_pullOf 85 = .ok (.iload_n 3, 1) := dk_29 (dk_at dksX0_pullOf_3 13 rfl rfl)
theorem dX0_pullOf_86 : decode cX0_pullOf 86 = .ok (.baload, 1) := dk_51 (dk_at dksX0_pullOf_3 14 rfl rfl)
theorem dX0_pullOf_87 : decode cX0_pullOf 87 = .ok (.aload_n 0, 1) := dk_42 (dk_at dksX0_pullOf_3 15 rfl rfl)
theorem dX0_pullOf_88 : decode cX0_pullOf 88 = .ok (.getfield 42, 3) := dk_180 0 42 (dk_at dksX0_pullOf_3 16 rfl rfl)
theorem dX0_pullOf_91 : decode cX0_pullOf 91 = .ok (.aload_n 0, 1) := dk_42 (dk_at dksX0_pullOf_3 19 rfl rfl)
theorem dX0_pullOf_92 : decode cX0_pullOf 92 = .ok (.getfield 49, 3) := dk_180 0 49 (dk_at dksX0_pullOf_3 20 rfl rfl)
theorem dX0_pullOf_95 : decode cX0_pullOf 95 = .ok (.invokevirtual 203, 3) := dk_182 0 203 (dk_at dksX0_pullOf_4 0 rfl rfl)
theorem dX0_pullOf_98 : decode cX0_pullOf 98 = .ok (.iadd, 1) := dk_96 (dk_at dksX0_pullOf_4 3 rfl rfl)
theorem dX0_pullOf_99 : decode cX0_pullOf 99 = .ok (.iload_n 3, 1) := dk_29 (dk_at dksX0_pullOf_4 4 rfl rfl)
theorem dX0_pullOf_100 : decode cX0_pullOf 100 = .ok (.iload_n 3, 1) := dk_29 (dk_at dksX0_pullOf_4 5 rfl rfl)
theorem dX0_pullOf_101 : decode cX0_pullOf 101 = .ok (.aload_n 1, 1) := dk_43 (dk_at dksX0_pullOf_4 6 rfl rfl)
theorem dX0_pullOf_102 : decode cX0_pullOf 102 = .ok (.getfield 165, 3) := dk_180 0 165 (dk_at dksX0_pullOf_4 7 rfl rfl)
theorem dX0_pullOf_105 : decode cX0_pullOf 105 = .ok (.iload_n 2, 1) := dk_28 (dk_at dksX0_pullOf_4 10 rfl rfl)
theorem dX0_pullOf_106 : decode cX0_pullOf 106 = .ok (.baload, 1) := dk_51 (dk_at dksX0_pullOf_4 11 rfl rfl)
theorem dX0_pullOf_107 : decode cX0_pullOf 107 = .ok (.if_icmp .ne 7, 3) := dk_160 0 7 (dk_at dksX0_pullOf_4 12 rfl rfl)
theorem dX0_pullOf_110 : decode cX0_pullOf 110 = .ok (.iconst 1, 1) := dk_4 (dk_at dksX0_pullOf_4 15 rfl rfl)
theorem dX0_pullOf_111 : decode cX0_pullOf 111 = .ok (.goto 4, 3) := dk_167 0 4 (dk_at dksX0_pullOf_4 16 rfl rfl)
theorem dX0_pullOf_114 : decode cX0_pullOf 114 = .ok (.iconst 0, 1) := dk_3 (dk_at dksX0_pullOf_4 19 rfl rfl)
theorem dX0_pullOf_115 : decode cX0_pullOf 115 = .ok (.aload_n 1, 1) := dk_43 (dk_at dksX0_pullOf_4 20 rfl rfl)
theorem dX0_pullOf_116 : decode cX0_pullOf 116 = .ok (.iload_n 2, 1) := dk_28 (dk_at dksX0_pullOf_4 21 rfl rfl)
theorem dX0_pullOf_117 : decode cX0_pullOf 117 = .ok (.iload_n 3, 1) := dk_29 (dk_at dksX0_pullOf_4 22 rfl rfl)
theorem dX0_pullOf_118 : decode cX0_pullOf 118 = .ok (.invokevirtual 207, 3) := dk_182 0 207 (dk_at dksX0_pullOf_5 0 rfl rfl)
theorem dX0_pullOf_121 : decode cX0_pullOf 121 = .ok (.aload_n 1, 1) := dk_43 (dk_at dksX0_pullOf_5 3 rfl rfl)
theorem dX0_pullOf_122 : decode cX0_pullOf 122 = .ok (.iload_n 2, 1) := dk_28 (dk_at dksX0_pullOf_5 4 rfl rfl)
theorem dX0_pullOf_123 : decode cX0_pullOf 123 = .ok (.iload_n 3, 1) := dk_29 (dk_at dksX0_pullOf_5 5 rfl rfl)
theorem dX0_pullOf_124 : decode cX0_pullOf 124 = .ok (.invokevirtual 211, 3) := dk_182 0 211 (dk_at dksX0_pullOf_5 6 rfl rfl)
theorem dX0_pullOf_127 : decode cX0_pullOf 127 = .ok (.invokevirtual 214, 3) := dk_182 0 214 (dk_at dksX0_pullOf_5 9 rfl rfl)
theorem dX0_pullOf_130 : decode cX0_pullOf 130 = .ok (.ireturn, 1) := dk_172 (dk_at dksX0_pullOf_5 12 rfl rfl)
abbrev cX0_key : ByteArray := prog_1_method_17_code
def yX0_key : MethodName := ⟨RX0, "key", "(II)I"⟩
def dkwX0_key_1 : List UInt8 := [27, 51, 62, 42, 180, 0, 28, 180, 0, 168, 27, 28, 184, 0, 171, 84, 29, 172]
abbrev dktX0_key_1 : List UInt8 := dkwX0_key_1 ++ []
def dkwX0_key_0 : List UInt8 := [42, 27, 182, 0, 229, 153, 0, 10, 28, 184, 0, 158, 154, 0, 5, 2, 172, 42, 180, 0, 28, 180, 0, 168]
abbrev dktX0_key_0 : List UInt8 := dkwX0_key_0 ++ dktX0_key_1
theorem dksX0_key_0 : cX0_key.data.toList.drop 0 = dktX0_key_0 := by decide +kernel
theorem dksX0_key_1 : cX0_key.data.toList.drop 24 = dktX0_key_1 := dk_seg dksX0_key_0 24 rfl rfl
theorem dX0_key_0 : decode cX0_key 0 = .ok (.aload_n 0, 1) := dk_42 (dk_at dksX0_key_0 0 rfl rfl)
theorem dX0_key_1 : decode cX0_key 1 = .ok (.iload_n 1, 1) := dk_27 (dk_at dksX0_key_0 1 rfl rfl)
theorem dX0_key_2 : decode cX0_key 2 = .ok (.invokevirtual 229, 3) := dk_182 0 229 (dk_at dksX0_key_0 2 rfl rfl)
theorem dX0_key_5 : decode cX0_key 5 = .ok (.ifCond .eq 10, 3) := dk_153 0 10 (dk_at dksX0_key_0 5 rfl rfl)
theorem dX0_key_8 : decode cX0_key 8 = .ok (.iload_n 2, 1) := dk_28 (dk_at dksX0_key_0 8 rfl rfl)
theorem dX0_key_9 : decode cX0_key 9 = .ok (.invokestatic 158, 3) := dk_184 0 158 (dk_at dksX0_key_0 9 rfl rfl)
theorem dX0_key_12 : decode cX0_key 12 = .ok (.ifCond .ne 5, 3) := dk_154 0 5 (dk_at dksX0_key_0 12 rfl rfl)
theorem dX0_key_15 : decode cX0_key 15 = .ok (.iconst (-1), 1) := dk_2 (dk_at dksX0_key_0 15 rfl rfl)
theorem dX0_key_16 : decode cX0_key 16 = .ok (.ireturn, 1) := dk_172 (dk_at dksX0_key_0 16 rfl rfl)
theorem dX0_key_17 : decode cX0_key 17 = .ok (.aload_n 0, 1) := dk_42 (dk_at dksX0_key_0 17 rfl rfl)
theorem dX0_key_18 : decode cX0_key 18 = .ok (.getfield 28, 3) := dk_180 0 28 (dk_at dksX0_key_0 18 rfl rfl)
theorem dX0_key_21 : decode cX0_key 21 = .ok (.getfield 168, 3) := dk_180 0 168 (dk_at dksX0_key_0 21 rfl rfl)
theorem dX0_key_24 : decode cX0_key 24 = .ok (.iload_n 1, 1) := dk_27 (dk_at dksX0_key_1 0 rfl rfl)
theorem dX0_key_25 : decode cX0_key 25 = .ok (.baload, 1) := dk_51 (dk_at dksX0_key_1 1 rfl rfl)
theorem dX0_key_26 : decode cX0_key 26 = .ok (.istore_n 3, 1) := dk_62 (dk_at dksX0_key_1 2 rfl rfl)
theorem dX0_key_27 : decode cX0_key 27 = .ok (.aload_n 0, 1) := dk_42 (dk_at dksX0_key_1 3 rfl rfl)
theorem dX0_key_28 : decode cX0_key 28 = .ok (.getfield 28, 3) := dk_180 0 28 (dk_at dksX0_key_1 4 rfl rfl)
theorem dX0_key_31 : decode cX0_key 31 = .ok (.getfield 168, 3) := dk_180 0 168 (dk_at dksX0_key_1 7 rfl rfl)
theorem dX0_key_34 : decode cX0_key 34 = .ok (.iload_n 1, 1) := dk_27 (dk_at dksX0_key_1 10 rfl rfl)
theorem dX0_key_35 : decode cX0_key 35 = .ok (.iload_n 2, 1) := dk_28 (dk_at dksX0_key_1 11 rfl rfl)
theorem dX0_key_36 : decode cX0_key 36 = .ok (.invokestatic 171, 3) := dk_184 0 171 (dk_at dksX0_key_1 12 rfl rfl)
theorem dX0_key_39 : decode cX0_key 39 = .ok (.bastore, 1) := dk_84 (dk_at dksX0_key_1 15 rfl rfl)
theorem dX0_key_40 : decode cX0_key 40 = .ok (.iload_n 3, 1) := dk_29 (dk_at dksX0_key_1 16 rfl rfl)
theorem dX0_key_41 : decode cX0_key 41 = .ok (.ireturn, 1) := dk_172 (dk_at dksX0_key_1 17 rfl rfl)
abbrev cX0_put : ByteArray := prog_1_method_18_code
def yX0_put : MethodName := ⟨RX0, "put", "(II)I"⟩
def dkwX0_put_1 : List UInt8 := [27, 51, 62, 42, 180, 0, 28, 180, 0, 165, 27, 28, 145, 84, 29, 172]
abbrev dktX0_put_1 : List UInt8 := dkwX0_put_1 ++ []
def dkwX0_put_0 : List UInt8 := [42, 27, 182, 0, 229, 153, 0, 10, 28, 184, 0, 148, 154, 0, 5, 2, 172, 42, 180, 0, 28, 180, 0, 165]
abbrev dktX0_put_0 : List UInt8 := dkwX0_put_0 ++ dktX0_put_1
theorem dksX0_put_0 : cX0_put.data.toList.drop 0 = dktX0_put_0 := by decide +kernel
theorem dksX0_put_1 : cX0_put.data.toList.drop 24 = dktX0_put_1 := dk_seg dksX0_put_0 24 rfl rfl
theorem dX0_put_0 : decode cX0_put 0 = .ok (.aload_n 0, 1) := dk_42 (dk_at dksX0_put_0 0 rfl rfl)
theorem dX0_put_1 : decode cX0_put 1 = .ok (.iload_n 1, 1) := dk_27 (dk_at dksX0_put_0 1 rfl rfl)
theorem dX0_put_2 : decode cX0_put 2 = .ok (.invokevirtual 229, 3) := dk_182 0 229 (dk_at dksX0_put_0 2 rfl rfl)
theorem dX0_put_5 : decode cX0_put 5 = .ok (.ifCond .eq 10, 3) := dk_153 0 10 (dk_at dksX0_put_0 5 rfl rfl)
theorem dX0_put_8 : decode cX0_put 8 = .ok (.iload_n 2, 1) := dk_28 (dk_at dksX0_put_0 8 rfl rfl)
theorem dX0_put_9 : decode cX0_put 9 = .ok (.invokestatic 148, 3) := dk_184 0 148 (dk_at dksX0_put_0 9 rfl rfl)
theorem dX0_put_12 : decode cX0_put 12 = .ok (.ifCond .ne 5, 3) := dk_154 0 5 (dk_at dksX0_put_0 12 rfl rfl)
theorem dX0_put_15 : decode cX0_put 15 = .ok (.iconst (-1), 1) := dk_2 (dk_at dksX0_put_0 15 rfl rfl)
theorem dX0_put_16 : decode cX0_put 16 = .ok (.ireturn, 1) := dk_172 (dk_at dksX0_put_0 16 rfl rfl)
theorem dX0_put_17 : decode cX0_put 17 = .ok (.aload_n 0, 1) := dk_42 (dk_at dksX0_put_0 17 rfl rfl)
theorem dX0_put_18 : decode cX0_put 18 = .ok (.getfield 28, 3) := dk_180 0 28 (dk_at dksX0_put_0 18 rfl rfl)
theorem dX0_put_21 : decode cX0_put 21 = .ok (.getfield 165, 3) := dk_180 0 165 (dk_at dksX0_put_0 21 rfl rfl)
theorem dX0_put_24 : decode cX0_put 24 = .ok (.iload_n 1, 1) := dk_27 (dk_at dksX0_put_1 0 rfl rfl)
theorem dX0_put_25 : decode cX0_put 25 = .ok (.baload, 1) := dk_51 (dk_at dksX0_put_1 1 rfl rfl)
theorem dX0_put_26 : decode cX0_put 26 = .ok (.istore_n 3, 1) := dk_62 (dk_at dksX0_put_1 2 rfl rfl)
theorem dX0_put_27 : decode cX0_put 27 = .ok (.aload_n 0, 1) := dk_42 (dk_at dksX0_put_1 3 rfl rfl)
theorem dX0_put_28 : decode cX0_put 28 = .ok (.getfield 28, 3) := dk_180 0 28 (dk_at dksX0_put_1 4 rfl rfl)
theorem dX0_put_31 : decode cX0_put 31 = .ok (.getfield 165, 3) := dk_180 0 165 (dk_at dksX0_put_1 7 rfl rfl)
theorem dX0_put_34 : decode cX0_put 34 = .ok (.iload_n 1, 1) := dk_27 (dk_at dksX0_put_1 10 rfl rfl)
theorem dX0_put_35 : decode cX0_put 35 = .ok (.iload_n 2, 1) := dk_28 (dk_at dksX0_put_1 11 rfl rfl)
theorem dX0_put_36 : decode cX0_put 36 = .ok (.i2b, 1) := dk_145 (dk_at dksX0_put_1 12 rfl rfl)
theorem dX0_put_37 : decode cX0_put 37 = .ok (.bastore, 1) := dk_84 (dk_at dksX0_put_1 13 rfl rfl)
theorem dX0_put_38 : decode cX0_put 38 = .ok (.iload_n 3, 1) := dk_29 (dk_at dksX0_put_1 14 rfl rfl)
theorem dX0_put_39 : decode cX0_put 39 = .ok (.ireturn, 1) := dk_172 (dk_at dksX0_put_1 15 rfl rfl)
abbrev cX0_take : ByteArray := prog_1_method_19_code
def yX0_take : MethodName := ⟨RX0, "take", "(IZ)I"⟩
def dkwX0_take_2 : List UInt8 := [153, 0, 9, 4, 27, 120, 167, 0, 4, 3, 128, 181, 0, 175, 29, 172]
abbrev dktX0_take_2 : List UInt8 := dkwX0_take_2 ++ []
def dkwX0_take_1 : List UInt8 := [167, 0, 4, 3, 62, 42, 180, 0, 28, 42, 180, 0, 28, 180, 0, 175, 4, 27, 120, 2, 130, 126, 28]
abbrev dktX0_take_1 : List UInt8 := dkwX0_take_1 ++ dktX0_take_2
def dkwX0_take_0 : List UInt8 := [42, 27, 182, 0, 229, 154, 0, 5, 2, 172, 42, 180, 0, 28, 27, 182, 0, 232, 153, 0, 7, 4]
abbrev dktX0_take_0 : List UInt8 := dkwX0_take_0 ++ dktX0_take_1
theorem dksX0_take_0 : cX0_take.data.toList.drop 0 = dktX0_take_0 := by decide +kernel
theorem dksX0_take_1 : cX0_take.data.toList.drop 22 = dktX0_take_1 := dk_seg dksX0_take_0 22 rfl rfl
theorem dksX0_take_2 : cX0_take.data.toList.drop 45 = dktX0_take_2 := dk_seg dksX0_take_1 23 rfl rfl
theorem dX0_take_0 : decode cX0_take 0 = .ok (.aload_n 0, 1) := dk_42 (dk_at dksX0_take_0 0 rfl rfl)
theorem dX0_take_1 : decode cX0_take 1 = .ok (.iload_n 1, 1) := dk_27 (dk_at dksX0_take_0 1 rfl rfl)
theorem dX0_take_2 : decode cX0_take 2 = .ok (.invokevirtual 229, 3) := dk_182 0 229 (dk_at dksX0_take_0 2 rfl rfl)
theorem dX0_take_5 : decode cX0_take 5 = .ok (.ifCond .ne 5, 3) := dk_154 0 5 (dk_at dksX0_take_0 5 rfl rfl)
theorem dX0_take_8 : decode cX0_take 8 = .ok (.iconst (-1), 1) := dk_2 (dk_at dksX0_take_0 8 rfl rfl)
theorem dX0_take_9 : decode cX0_take 9 = .ok (.ireturn, 1) := dk_172 (dk_at dksX0_take_0 9 rfl rfl)
theorem dX0_take_10 : decode cX0_take 10 = .ok (.aload_n 0, 1) := dk_42 (dk_at dksX0_take_0 10 rfl rfl)
theorem dX0_take_11 : decode cX0_take 11 = .ok (.getfield 28, 3) := dk_180 0 28 (dk_at dksX0_take_0 11 rfl rfl)
theorem dX0_take_14 : decode cX0_take 14 = .ok (.iload_n 1, 1) := dk_27 (dk_at dksX0_take_0 14 rfl rfl)
theorem dX0_take_15 : decode cX0_take 15 = .ok (.invokevirtual 232, 3) := dk_182 0 232 (dk_at dksX0_take_0 15 rfl rfl)
theorem dX0_take_18 : decode cX0_take 18 = .ok (.ifCond .eq 7, 3) := dk_153 0 7 (dk_at dksX0_take_0 18 rfl rfl)
theorem dX0_take_21 : decode cX0_take 21 = .ok (.iconst 1, 1) := dk_4 (dk_at dksX0_take_0 21 rfl rfl)
theorem dX0_take_22 : decode cX0_take 22 = .ok (.goto 4, 3) := dk_167 0 4 (dk_at dksX0_take_1 0 rfl rfl)
theorem dX0_take_25 : decode cX0_take 25 = .ok (.iconst 0, 1) := dk_3 (dk_at dksX0_take_1 3 rfl rfl)
theorem dX0_take_26 : decode cX0_take 26 = .ok (.istore_n 3, 1) := dk_62 (dk_at dksX0_take_1 4 rfl rfl)
theorem dX0_take_27 : decode cX0_take 27 = .ok (.aload_n 0, 1) := dk_42 (dk_at dksX0_take_1 5 rfl rfl)
theorem dX0_take_28 : decode cX0_take 28 = .ok (.getfield 28, 3) := dk_180 0 28 (dk_at dksX0_take_1 6 rfl rfl)
theorem dX0_take_31 : decode cX0_take 31 = .ok (.aload_n 0, 1) := dk_42 (dk_at dksX0_take_1 9 rfl rfl)
theorem dX0_take_32 : decode cX0_take 32 = .ok (.getfield 28, 3) := dk_180 0 28 (dk_at dksX0_take_1 10 rfl rfl)
theorem dX0_take_35 : decode cX0_take 35 = .ok (.getfield 175, 3) := dk_180 0 175 (dk_at dksX0_take_1 13 rfl rfl)
theorem dX0_take_38 : decode cX0_take 38 = .ok (.iconst 1, 1) := dk_4 (dk_at dksX0_take_1 16 rfl rfl)
theorem dX0_take_39 : decode cX0_take 39 = .ok (.iload_n 1, 1) := dk_27 (dk_at dksX0_take_1 17 rfl rfl)
theorem dX0_take_40 : decode cX0_take 40 = .ok (.ishl, 1) := dk_120 (dk_at dksX0_take_1 18 rfl rfl)
theorem dX0_take_41 : decode cX0_take 41 = .ok (.iconst (-1), 1) := dk_2 (dk_at dksX0_take_1 19 rfl rfl)
theorem dX0_take_42 : decode cX0_take 42 = .ok (.ixor, 1) := dk_130 (dk_at dksX0_take_1 20 rfl rfl)
theorem dX0_take_43 : decode cX0_take 43 = .ok (.iand, 1) := dk_126 (dk_at dksX0_take_1 21 rfl rfl)
theorem dX0_take_44 : decode cX0_take 44 = .ok (.iload_n 2, 1) := dk_28 (dk_at dksX0_take_1 22 rfl rfl)
theorem dX0_take_45 : decode cX0_take 45 = .ok (.ifCond .eq 9, 3) := dk_153 0 9 (dk_at dksX0_take_2 0 rfl rfl)
theorem dX0_take_48 : decode cX0_take 48 = .ok (.iconst 1, 1) := dk_4 (dk_at dksX0_take_2 3 rfl rfl)
theorem dX0_take_49 : decode cX0_take 49 = .ok (.iload_n 1, 1) := dk_27 (dk_at dksX0_take_2 4 rfl rfl)
theorem dX0_take_50 : decode cX0_take 50 = .ok (.ishl, 1) := dk_120 (dk_at dksX0_take_2 5 rfl rfl)
theorem dX0_take_51 : decode cX0_take 51 = .ok (.goto 4, 3) := dk_167 0 4 (dk_at dksX0_take_2 6 rfl rfl)
theorem dX0_take_54 : decode cX0_take 54 = .ok (.iconst 0, 1) := dk_3 (dk_at dksX0_take_2 9 rfl rfl)
theorem dX0_take_55 : decode cX0_take 55 = .ok (.ior, 1) := dk_128 (dk_at dksX0_take_2 10 rfl rfl)
theorem dX0_take_56 : decode cX0_take 56 = .ok (.putfield 175, 3) := dk_181 0 175 (dk_at dksX0_take_2 11 rfl rfl)
theorem dX0_take_59 : decode cX0_take 59 = .ok (.iload_n 3, 1) := dk_29 (dk_at dksX0_take_2 14 rfl rfl)
theorem dX0_take_60 : decode cX0_take 60 = .ok (.ireturn, 1) := dk_172 (dk_at dksX0_take_2 15 rfl rfl)
abbrev cX0_grain : ByteArray := prog_1_method_20_code
def yX0_grain : MethodName := ⟨RX0, "grain", "(II)I"⟩
def dkwX0_grain_1 : List UInt8 := [180, 0, 194, 27, 51, 62, 42, 180, 0, 28, 180, 0, 194, 27, 28, 145, 84, 29, 172]
abbrev dktX0_grain_1 : List UInt8 := dkwX0_grain_1 ++ []
def dkwX0_grain_0 : List UInt8 := [27, 184, 0, 148, 154, 0, 5, 2, 172, 28, 184, 0, 239, 154, 0, 6, 16, 254, 172, 42, 180, 0, 28]
abbrev dktX0_grain_0 : List UInt8 := dkwX0_grain_0 ++ dktX0_grain_1
theorem dksX0_grain_0 : cX0_grain.data.toList.drop 0 = dktX0_grain_0 := by decide +kernel
theorem dksX0_grain_1 : cX0_grain.data.toList.drop 23 = dktX0_grain_1 := dk_seg dksX0_grain_0 23 rfl rfl
theorem dX0_grain_0 : decode cX0_grain 0 = .ok (.iload_n 1, 1) := dk_27 (dk_at dksX0_grain_0 0 rfl rfl)
theorem dX0_grain_1 : decode cX0_grain 1 = .ok (.invokestatic 148, 3) := dk_184 0 148 (dk_at dksX0_grain_0 1 rfl rfl)
theorem dX0_grain_4 : decode cX0_grain 4 = .ok (.ifCond .ne 5, 3) := dk_154 0 5 (dk_at dksX0_grain_0 4 rfl rfl)
theorem dX0_grain_7 : decode cX0_grain 7 = .ok (.iconst (-1), 1) := dk_2 (dk_at dksX0_grain_0 7 rfl rfl)
theorem dX0_grain_8 : decode cX0_grain 8 = .ok (.ireturn, 1) := dk_172 (dk_at dksX0_grain_0 8 rfl rfl)
theorem dX0_grain_9 : decode cX0_grain 9 = .ok (.iload_n 2, 1) := dk_28 (dk_at dksX0_grain_0 9 rfl rfl)
theorem dX0_grain_10 : decode cX0_grain 10 = .ok (.invokestatic 239, 3) := dk_184 0 239 (dk_at dksX0_grain_0 10 rfl rfl)
theorem dX0_grain_13 : decode cX0_grain 13 = .ok (.ifCond .ne 6, 3) := dk_154 0 6 (dk_at dksX0_grain_0 13 rfl rfl)
theorem dX0_grain_16 : decode cX0_grain 16 = .ok (.bipush (-2), 2) := dk_16 254 (dk_at dksX0_grain_0 16 rfl rfl)
theorem dX0_grain_18 : decode cX0_grain 18 = .ok (.ireturn, 1) := dk_172 (dk_at dksX0_grain_0 18 rfl rfl)
theorem dX0_grain_19 : decode cX0_grain 19 = .ok (.aload_n 0, 1) := dk_42 (dk_at dksX0_grain_0 19 rfl rfl)
theorem dX0_grain_20 : decode cX0_grain 20 = .ok (.getfield 28, 3) := dk_180 0 28 (dk_at dksX0_grain_0 20 rfl rfl)
theorem dX0_grain_23 : decode cX0_grain 23 = .ok (.getfield 194, 3) := dk_180 0 194 (dk_at dksX0_grain_1 0 rfl rfl)
theorem dX0_grain_26 : decode cX0_grain 26 = .ok (.iload_n 1, 1) := dk_27 (dk_at dksX0_grain_1 3 rfl rfl)
theorem dX0_grain_27 : decode cX0_grain 27 = .ok (.baload, 1) := dk_51 (dk_at dksX0_grain_1 4 rfl rfl)
theorem dX0_grain_28 : decode cX0_grain 28 = .ok (.istore_n 3, 1) := dk_62 (dk_at dksX0_grain_1 5 rfl rfl)
theorem dX0_grain_29 : decode cX0_grain 29 = .ok (.aload_n 0, 1) := dk_42 (dk_at dksX0_grain_1 6 rfl rfl)
theorem dX0_grain_30 : decode cX0_grain 30 = .ok (.getfield 28, 3) := dk_180 0 28 (dk_at dksX0_grain_1 7 rfl rfl)
theorem dX0_grain_33 : decode cX0_grain 33 = .ok (.getfield 194, 3) := dk_180 0 194 (dk_at dksX0_grain_1 10 rfl rfl)
theorem dX0_grain_36 : decode cX0_grain 36 = .ok (.iload_n 1, 1) := dk_27 (dk_at dksX0_grain_1 13 rfl rfl)
theorem dX0_grain_37 : decode cX0_grain 37 = .ok (.iload_n 2, 1) := dk_28 (dk_at dksX0_grain_1 14 rfl rfl)
theorem dX0_grain_38 : decode cX0_grain 38 = .ok (.i2b, 1) := dk_145 (dk_at dksX0_grain_1 15 rfl rfl)
theorem dX0_grain_39 : decode cX0_grain 39 = .ok (.bastore, 1) := dk_84 (dk_at dksX0_grain_1 16 rfl rfl)
theorem dX0_grain_40 : decode cX0_grain 40 = .ok (.iload_n 3, 1) := dk_29 (dk_at dksX0_grain_1 17 rfl rfl)
theorem dX0_grain_41 : decode cX0_grain 41 = .ok (.ireturn, 1) := dk_172 (dk_at dksX0_grain_1 18 rfl rfl)
abbrev cX0_isGrain : ByteArray := prog_1_method_5_code
def yX0_isGrain : MethodName := ⟨RX0, "isGrain", "(I)Z"⟩
def dkwX0_isGrain_0 : List UInt8 := [26, 3, 16, 99, 184, 0, 5, 172]
abbrev dktX0_isGrain_0 : List UInt8 := dkwX0_isGrain_0 ++ []
theorem dksX0_isGrain_0 : cX0_isGrain.data.toList.drop 0 = dktX0_isGrain_0 := by decide +kernel
theorem dX0_isGrain_0 : decode cX0_isGrain 0 = .ok (.iload_n 0, 1) := dk_26 (dk_at dksX0_isGrain_0 0 rfl rfl)
theorem dX0_isGrain_1 : decode cX0_isGrain 1 = .ok (.iconst 0, 1) := dk_3 (dk_at dksX0_isGrain_0 1 rfl rfl)
theorem dX0_isGrain_2 : decode cX0_isGrain 2 = .ok (.bipush 99, 2) := dk_16 99 (dk_at dksX0_isGrain_0 2 rfl rfl)
theorem dX0_isGrain_4 : decode cX0_isGrain 4 = .ok (.invokestatic 5, 3) := dk_184 0 5 (dk_at dksX0_isGrain_0 4 rfl rfl)
theorem dX0_isGrain_7 : decode cX0_isGrain 7 = .ok (.ireturn, 1) := dk_172 (dk_at dksX0_isGrain_0 7 rfl rfl)
abbrev cX0_row : ByteArray := prog_1_method_21_code
def yX0_row : MethodName := ⟨RX0, "row", "(III)I"⟩
def dkwX0_row_3 : List UInt8 := [29, 79, 21, 4, 172]
abbrev dktX0_row_3 : List UInt8 := dkwX0_row_3 ++ []
def dkwX0_row_2 : List UInt8 := [16, 253, 172, 42, 180, 0, 21, 7, 27, 104, 28, 96, 46, 54, 4, 42, 180, 0, 21, 7, 27, 104, 28, 96]
abbrev dktX0_row_2 : List UInt8 := dkwX0_row_2 ++ dktX0_row_3
def dkwX0_row_1 : List UInt8 := [184, 0, 5, 154, 0, 6, 16, 254, 172, 42, 180, 0, 17, 27, 50, 182, 0, 181, 16, 6, 159, 0, 6]
abbrev dktX0_row_1 : List UInt8 := dkwX0_row_1 ++ dktX0_row_2
def dkwX0_row_0 : List UInt8 := [42, 27, 182, 0, 229, 153, 0, 12, 28, 3, 6, 184, 0, 5, 154, 0, 5, 2, 172, 29, 3, 16, 9]
abbrev dktX0_row_0 : List UInt8 := dkwX0_row_0 ++ dktX0_row_1
theorem dksX0_row_0 : cX0_row.data.toList.drop 0 = dktX0_row_0 := by decide +kernel
theorem dksX0_row_1 : cX0_row.data.toList.drop 23 = dktX0_row_1 := dk_seg dksX0_row_0 23 rfl rfl
theorem dksX0_row_2 : cX0_row.data.toList.drop 46 = dktX0_row_2 := dk_seg dksX0_row_1 23 rfl rfl
theorem dksX0_row_3 : cX0_row.data.toList.drop 70 = dktX0_row_3 := dk_seg dksX0_row_2 24 rfl rfl
theorem dX0_row_0 : decode cX0_row 0 = .ok (.aload_n 0, 1) := dk_42 (dk_at dksX0_row_0 0 rfl rfl)
theorem dX0_row_1 : decode cX0_row 1 = .ok (.iload_n 1, 1) := dk_27 (dk_at dksX0_row_0 1 rfl rfl)
theorem dX0_row_2 : decode cX0_row 2 = .ok (.invokevirtual 229, 3) := dk_182 0 229 (dk_at dksX0_row_0 2 rfl rfl)
theorem dX0_row_5 : decode cX0_row 5 = .ok (.ifCond .eq 12, 3) := dk_153 0 12 (dk_at dksX0_row_0 5 rfl rfl)
theorem dX0_row_8 : decode cX0_row 8 = .ok (.iload_n 2, 1) := dk_28 (dk_at dksX0_row_0 8 rfl rfl)
theorem dX0_row_9 : decode cX0_row 9 = .ok (.iconst 0, 1) := dk_3 (dk_at dksX0_row_0 9 rfl rfl)
theorem dX0_row_10 : decode cX0_row 10 = .ok (.iconst 3, 1) := dk_6 (dk_at dksX0_row_0 10 rfl rfl)
theorem dX0_row_11 : decode cX0_row 11 = .ok (.invokestatic 5, 3) := dk_184 0 5 (dk_at dksX0_row_0 11 rfl rfl)
theorem dX0_row_14 : decode cX0_row 14 = .ok (.ifCond .ne 5, 3) := dk_154 0 5 (dk_at dksX0_row_0 14 rfl rfl)
theorem dX0_row_17 : decode cX0_row 17 = .ok (.iconst (-1), 1) := dk_2 (dk_at dksX0_row_0 17 rfl rfl)
theorem dX0_row_18 : decode cX0_row 18 = .ok (.ireturn, 1) := dk_172 (dk_at dksX0_row_0 18 rfl rfl)
theorem dX0_row_19 : decode cX0_row 19 = .ok (.iload_n 3, 1) := dk_29 (dk_at dksX0_row_0 19 rfl rfl)
theorem dX0_row_20 : decode cX0_row 20 = .ok (.iconst 0, 1) := dk_3 (dk_at dksX0_row_0 20 rfl rfl)
theorem dX0_row_21 : decode cX0_row 21 = .ok (.bipush 9, 2) := dk_16 9 (dk_at dksX0_row_0 21 rfl rfl)
theorem dX0_row_23 : decode cX0_row 23 = .ok (.invokestatic 5, 3) := dk_184 0 5 (dk_at dksX0_row_1 0 rfl rfl)
theorem dX0_row_26 : decode cX0_row 26 = .ok (.ifCond .ne 6, 3) := dk_154 0 6 (dk_at dksX0_row_1 3 rfl rfl)
theorem dX0_row_29 : decode cX0_row 29 = .ok (.bipush (-2), 2) := dk_16 254 (dk_at dksX0_row_1 6 rfl rfl)
theorem dX0_row_31 : decode cX0_row 31 = .ok (.ireturn, 1) := dk_172 (dk_at dksX0_row_1 8 rfl rfl)
theorem dX0_row_32 : decode cX0_row 32 = .ok (.aload_n 0, 1) := dk_42 (dk_at dksX0_row_1 9 rfl rfl)
theorem dX0_row_33 : decode cX0_row 33 = .ok (.getfield 17, 3) := dk_180 0 17 (dk_at dksX0_row_1 10 rfl rfl)
theorem dX0_row_36 : decode cX0_row 36 = .ok (.iload_n 1, 1) := dk_27 (dk_at dksX0_row_1 13 rfl rfl)
theorem dX0_row_37 : decode cX0_row 37 = .ok (.aaload, 1) := dk_50 (dk_at dksX0_row_1 14 rfl rfl)
theorem dX0_row_38 : decode cX0_row 38 = .ok (.invokevirtual 181, 3) := dk_182 0 181 (dk_at dksX0_row_1 15 rfl rfl)
theorem dX0_row_41 : decode cX0_row 41 = .ok (.bipush 6, 2) := dk_16 6 (dk_at dksX0_row_1 18 rfl rfl)
theorem dX0_row_43 : decode cX0_row 43 = .ok (.if_icmp .eq 6, 3) := dk_159 0 6 (dk_at dksX0_row_1 20 rfl rfl)
theorem dX0_row_46 : decode cX0_row 46 = .ok (.bipush (-3), 2) := dk_16 253 (dk_at dksX0_row_2 0 rfl rfl)
theorem dX0_row_48 : decode cX0_row 48 = .ok (.ireturn, 1) := dk_172 (dk_at dksX0_row_2 2 rfl rfl)
theorem dX0_row_49 : decode cX0_row 49 = .ok (.aload_n 0, 1) := dk_42 (dk_at dksX0_row_2 3 rfl rfl)
theorem dX0_row_50 : decode cX0_row 50 = .ok (.getfield 21, 3) := dk_180 0 21 (dk_at dksX0_row_2 4 rfl rfl)
theorem dX0_row_53 : decode cX0_row 53 = .ok (.iconst 4, 1) := dk_7 (dk_at dksX0_row_2 7 rfl rfl)
theorem dX0_row_54 : decode cX0_row 54 = .ok (.iload_n 1, 1) := dk_27 (dk_at dksX0_row_2 8 rfl rfl)
theorem dX0_row_55 : decode cX0_row 55 = .ok (.imul, 1) := dk_104 (dk_at dksX0_row_2 9 rfl rfl)
theorem dX0_row_56 : decode cX0_row 56 = .ok (.iload_n 2, 1) := dk_28 (dk_at dksX0_row_2 10 rfl rfl)
theorem dX0_row_57 : decode cX0_row 57 = .ok (.iadd, 1) := dk_96 (dk_at dksX0_row_2 11 rfl rfl)
theorem dX0_row_58 : decode cX0_row 58 = .ok (.iaload, 1) := dk_46 (dk_at dksX0_row_2 12 rfl rfl)
theorem dX0_row_59 : decode cX0_row 59 = .ok (.istore 4, 2) := dk_54 4 (dk_at dksX0_row_2 13 rfl rfl)
theorem dX0_row_61 : decode cX0_row 61 = .ok (.aload_n 0, 1) := dk_42 (dk_at dksX0_row_2 15 rfl rfl)
theorem dX0_row_62 : decode cX0_row 62 = .ok (.getfield 21, 3) := dk_180 0 21 (dk_at dksX0_row_2 16 rfl rfl)
theorem dX0_row_65 : decode cX0_row 65 = .ok (.iconst 4, 1) := dk_7 (dk_at dksX0_row_2 19 rfl rfl)
theorem dX0_row_66 : decode cX0_row 66 = .ok (.iload_n 1, 1) := dk_27 (dk_at dksX0_row_2 20 rfl rfl)
theorem dX0_row_67 : decode cX0_row 67 = .ok (.imul, 1) := dk_104 (dk_at dksX0_row_2 21 rfl rfl)
theorem dX0_row_68 : decode cX0_row 68 = .ok (.iload_n 2, 1) := dk_28 (dk_at dksX0_row_2 22 rfl rfl)
theorem dX0_row_69 : decode cX0_row 69 = .ok (.iadd, 1) := dk_96 (dk_at dksX0_row_2 23 rfl rfl)
theorem dX0_row_70 : decode cX0_row 70 = .ok (.iload_n 3, 1) := dk_29 (dk_at dksX0_row_3 0 rfl rfl)
theorem dX0_row_71 : decode cX0_row 71 = .ok (.iastore, 1) := dk_79 (dk_at dksX0_row_3 1 rfl rfl)
theorem dX0_row_72 : decode cX0_row 72 = .ok (.iload 4, 2) := dk_21 4 (dk_at dksX0_row_3 2 rfl rfl)
theorem dX0_row_74 : decode cX0_row 74 = .ok (.ireturn, 1) := dk_172 (dk_at dksX0_row_3 4 rfl rfl)
abbrev cX0_feed : ByteArray := prog_1_method_22_code
def yX0_feed : MethodName := ⟨RX0, "feed", "(I)I"⟩
def dkwX0_feed_1 : List UInt8 := [172, 42, 180, 0, 35, 42, 89, 180, 0, 242, 90, 4, 96, 181, 0, 242, 27, 145, 84, 42, 180, 0, 242, 172]
abbrev dktX0_feed_1 : List UInt8 := dkwX0_feed_1 ++ []
def dkwX0_feed_0 : List UInt8 := [27, 3, 16, 127, 184, 0, 5, 154, 0, 6, 16, 254, 172, 42, 180, 0, 242, 16, 100, 160, 0, 6, 16, 252]
abbrev dktX0_feed_0 : List UInt8 := dkwX0_feed_0 ++ dktX0_feed_1
theorem dksX0_feed_0 : cX0_feed.data.toList.drop 0 = dktX0_feed_0 := by decide +kernel
theorem dksX0_feed_1 : cX0_feed.data.toList.drop 24 = dktX0_feed_1 := dk_seg dksX0_feed_0 24 rfl rfl
theorem dX0_feed_0 : decode cX0_feed 0 = .ok (.iload_n 1, 1) := dk_27 (dk_at dksX0_feed_0 0 rfl rfl)
theorem dX0_feed_1 : decode cX0_feed 1 = .ok (.iconst 0, 1) := dk_3 (dk_at dksX0_feed_0 1 rfl rfl)
theorem dX0_feed_2 : decode cX0_feed 2 = .ok (.bipush 127, 2) := dk_16 127 (dk_at dksX0_feed_0 2 rfl rfl)
theorem dX0_feed_4 : decode cX0_feed 4 = .ok (.invokestatic 5, 3) := dk_184 0 5 (dk_at dksX0_feed_0 4 rfl rfl)
theorem dX0_feed_7 : decode cX0_feed 7 = .ok (.ifCond .ne 6, 3) := dk_154 0 6 (dk_at dksX0_feed_0 7 rfl rfl)
theorem dX0_feed_10 : decode cX0_feed 10 = .ok (.bipush (-2), 2) := dk_16 254 (dk_at dksX0_feed_0 10 rfl rfl)
theorem dX0_feed_12 : decode cX0_feed 12 = .ok (.ireturn, 1) := dk_172 (dk_at dksX0_feed_0 12 rfl rfl)
theorem dX0_feed_13 : decode cX0_feed 13 = .ok (.aload_n 0, 1) := dk_42 (dk_at dksX0_feed_0 13 rfl rfl)
theorem dX0_feed_14 : decode cX0_feed 14 = .ok (.getfield 242, 3) := dk_180 0 242 (dk_at dksX0_feed_0 14 rfl rfl)
theorem dX0_feed_17 : decode cX0_feed 17 = .ok (.bipush 100, 2) := dk_16 100 (dk_at dksX0_feed_0 17 rfl rfl)
theorem dX0_feed_19 : decode cX0_feed 19 = .ok (.if_icmp .ne 6, 3) := dk_160 0 6 (dk_at dksX0_feed_0 19 rfl rfl)
theorem dX0_feed_22 : decode cX0_feed 22 = .ok (.bipush (-4), 2) := dk_16 252 (dk_at dksX0_feed_0 22 rfl rfl)
theorem dX0_feed_24 : decode cX0_feed 24 = .ok (.ireturn, 1) := dk_172 (dk_at dksX0_feed_1 0 rfl rfl)
theorem dX0_feed_25 : decode cX0_feed 25 = .ok (.aload_n 0, 1) := dk_42 (dk_at dksX0_feed_1 1 rfl rfl)
theorem dX0_feed_26 : decode cX0_feed 26 = .ok (.getfield 35, 3) := dk_180 0 35 (dk_at dksX0_feed_1 2 rfl rfl)
theorem dX0_feed_29 : decode cX0_feed 29 = .ok (.aload_n 0, 1) := dk_42 (dk_at dksX0_feed_1 5 rfl rfl)
theorem dX0_feed_30 : decode cX0_feed 30 = .ok (.dup, 1) := dk_89 (dk_at dksX0_feed_1 6 rfl rfl)
theorem dX0_feed_31 : decode cX0_feed 31 = .ok (.getfield 242, 3) := dk_180 0 242 (dk_at dksX0_feed_1 7 rfl rfl)
theorem dX0_feed_34 : decode cX0_feed 34 = .ok (.dup_x1, 1) := dk_90 (dk_at dksX0_feed_1 10 rfl rfl)
theorem dX0_feed_35 : decode cX0_feed 35 = .ok (.iconst 1, 1) := dk_4 (dk_at dksX0_feed_1 11 rfl rfl)
theorem dX0_feed_36 : decode cX0_feed 36 = .ok (.iadd, 1) := dk_96 (dk_at dksX0_feed_1 12 rfl rfl)
theorem dX0_feed_37 : decode cX0_feed 37 = .ok (.putfield 242, 3) := dk_181 0 242 (dk_at dksX0_feed_1 13 rfl rfl)
theorem dX0_feed_40 : decode cX0_feed 40 = .ok (.iload_n 1, 1) := dk_27 (dk_at dksX0_feed_1 16 rfl rfl)
theorem dX0_feed_41 : decode cX0_feed 41 = .ok (.i2b, 1) := dk_145 (dk_at dksX0_feed_1 17 rfl rfl)
theorem dX0_feed_42 : decode cX0_feed 42 = .ok (.bastore, 1) := dk_84 (dk_at dksX0_feed_1 18 rfl rfl)
theorem dX0_feed_43 : decode cX0_feed 43 = .ok (.aload_n 0, 1) := dk_42 (dk_at dksX0_feed_1 19 rfl rfl)
theorem dX0_feed_44 : decode cX0_feed 44 = .ok (.getfield 242, 3) := dk_180 0 242 (dk_at dksX0_feed_1 20 rfl rfl)
theorem dX0_feed_47 : decode cX0_feed 47 = .ok (.ireturn, 1) := dk_172 (dk_at dksX0_feed_1 23 rfl rfl)
abbrev cX0_fortress : ByteArray := prog_1_method_23_code
def yX0_fortress : MethodName := ⟨RX0, "fortress", "()I"⟩
def dkwX0_fortress_2 : List UInt8 := [4, 96, 181, 0, 245, 172, 77, 16, 246, 44, 180, 1, 3, 100, 172]
abbrev dktX0_fortress_2 : List UInt8 := dkwX0_fortress_2 ++ []
def dkwX0_fortress_1 : List UInt8 := [187, 0, 248, 89, 42, 180, 0, 35, 27, 183, 0, 250, 182, 0, 253, 181, 0, 42, 42, 89, 180, 0, 245, 90]
abbrev dktX0_fortress_1 : List UInt8 := dkwX0_fortress_1 ++ dktX0_fortress_2
def dkwX0_fortress_0 : List UInt8 := [42, 180, 0, 245, 16, 6, 160, 0, 6, 16, 252, 172, 42, 180, 0, 242, 60, 42, 3, 181, 0, 242, 42]
abbrev dktX0_fortress_0 : List UInt8 := dkwX0_fortress_0 ++ dktX0_fortress_1
theorem dksX0_fortress_0 : cX0_fortress.data.toList.drop 0 = dktX0_fortress_0 := by decide +kernel
theorem dksX0_fortress_1 : cX0_fortress.data.toList.drop 23 = dktX0_fortress_1 := dk_seg dksX0_fortress_0 23 rfl rfl
theorem dksX0_fortress_2 : cX0_fortress.data.toList.drop 47 = dktX0_fortress_2 := dk_seg dksX0_fortress_1 24 rfl rfl
theorem dX0_fortress_0 : decode cX0_fortress 0 = .ok (.aload_n 0, 1) := dk_42 (dk_at dksX0_fortress_0 0 rfl rfl)
theorem dX0_fortress_1 : decode cX0_fortress 1 = .ok (.getfield 245, 3) := dk_180 0 245 (dk_at dksX0_fortress_0 1 rfl rfl)
theorem dX0_fortress_4 : decode cX0_fortress 4 = .ok (.bipush 6, 2) := dk_16 6 (dk_at dksX0_fortress_0 4 rfl rfl)
theorem dX0_fortress_6 : decode cX0_fortress 6 = .ok (.if_icmp .ne 6, 3) := dk_160 0 6 (dk_at dksX0_fortress_0 6 rfl rfl)
theorem dX0_fortress_9 : decode cX0_fortress 9 = .ok (.bipush (-4), 2) := dk_16 252 (dk_at dksX0_fortress_0 9 rfl rfl)
theorem dX0_fortress_11 : decode cX0_fortress 11 = .ok (.ireturn, 1) := dk_172 (dk_at dksX0_fortress_0 11 rfl rfl)
theorem dX0_fortress_12 : decode cX0_fortress 12 = .ok (.aload_n 0, 1) := dk_42 (dk_at dksX0_fortress_0 12 rfl rfl)
theorem dX0_fortress_13 : decode cX0_fortress 13 = .ok (.getfield 242, 3) := dk_180 0 242 (dk_at dksX0_fortress_0 13 rfl rfl)
theorem dX0_fortress_16 : decode cX0_fortress 16 = .ok (.istore_n 1, 1) := dk_60 (dk_at dksX0_fortress_0 16 rfl rfl)
theorem dX0_fortress_17 : decode cX0_fortress 17 = .ok (.aload_n 0, 1) := dk_42 (dk_at dksX0_fortress_0 17 rfl rfl)
theorem dX0_fortress_18 : decode cX0_fortress 18 = .ok (.iconst 0, 1) := dk_3 (dk_at dksX0_fortress_0 18 rfl rfl)
theorem dX0_fortress_19 : decode cX0_fortress 19 = .ok (.putfield 242, 3) := dk_181 0 242 (dk_at dksX0_fortress_0 19 rfl rfl)
theorem dX0_fortress_22 : decode cX0_fortress 22 = .ok (.aload_n 0, 1) := dk_42 (dk_at dksX0_fortress_0 22 rfl rfl)
theorem dX0_fortress_23 : decode cX0_fortress 23 = .ok (.new 248, 3) := dk_187 0 248 (dk_at dksX0_fortress_1 0 rfl rfl)
theorem dX0_fortress_26 : decode cX0_fortress 26 = .ok (.dup, 1) := dk_89 (dk_at dksX0_fortress_1 3 rfl rfl)
theorem dX0_fortress_27 : decode cX0_fortress 27 = .ok (.aload_n 0, 1) := dk_42 (dk_at dksX0_fortress_1 4 rfl rfl)
theorem dX0_fortress_28 : decode cX0_fortress 28 = .ok (.getfield 35, 3) := dk_180 0 35 (dk_at dksX0_fortress_1 5 rfl rfl)
theorem dX0_fortress_31 : decode cX0_fortress 31 = .ok (.iload_n 1, 1) := dk_27 (dk_at dksX0_fortress_1 8 rfl rfl)
theorem dX0_fortress_32 : decode cX0_fortress 32 = .ok (.invokespecial 250, 3) := dk_183 0 250 (dk_at dksX0_fortress_1 9 rfl rfl)
theorem dX0_fortress_35 : decode cX0_fortress 35 = .ok (.invokevirtual 253, 3) := dk_182 0 253 (dk_at dksX0_fortress_1 12 rfl rfl)
theorem dX0_fortress_38 : decode cX0_fortress 38 = .ok (.putfield 42, 3) := dk_181 0 42 (dk_at dksX0_fortress_1 15 rfl rfl)
theorem dX0_fortress_41 : decode cX0_fortress 41 = .ok (.aload_n 0, 1) := dk_42 (dk_at dksX0_fortress_1 18 rfl rfl)
theorem dX0_fortress_42 : decode cX0_fortress 42 = .ok (.dup, 1) := dk_89 (dk_at dksX0_fortress_1 19 rfl rfl)
theorem dX0_fortress_43 : decode cX0_fortress 43 = .ok (.getfield 245, 3) := dk_180 0 245 (dk_at dksX0_fortress_1 20 rfl rfl)
theorem dX0_fortress_46 : decode cX0_fortress 46 = .ok (.dup_x1, 1) := dk_90 (dk_at dksX0_fortress_1 23 rfl rfl)
theorem dX0_fortress_47 : decode cX0_fortress 47 = .ok (.iconst 1, 1) := dk_4 (dk_at dksX0_fortress_2 0 rfl rfl)
theorem dX0_fortress_48 : decode cX0_fortress 48 = .ok (.iadd, 1) := dk_96 (dk_at dksX0_fortress_2 1 rfl rfl)
theorem dX0_fortress_49 : decode cX0_fortress 49 = .ok (.putfield 245, 3) := dk_181 0 245 (dk_at dksX0_fortress_2 2 rfl rfl)
theorem dX0_fortress_52 : decode cX0_fortress 52 = .ok (.ireturn, 1) := dk_172 (dk_at dksX0_fortress_2 5 rfl rfl)
theorem dX0_fortress_53 : decode cX0_fortress 53 = .ok (.astore_n 2, 1) := dk_77 (dk_at dksX0_fortress_2 6 rfl rfl)
theorem dX0_fortress_54 : decode cX0_fortress 54 = .ok (.bipush (-10), 2) := dk_16 246 (dk_at dksX0_fortress_2 7 rfl rfl)
theorem dX0_fortress_56 : decode cX0_fortress 56 = .ok (.aload_n 2, 1) := dk_44 (dk_at dksX0_fortress_2 9 rfl rfl)
theorem dX0_fortress_57 : decode cX0_fortress 57 = .ok (.getfield 259, 3) := dk_180 1 3 (dk_at dksX0_fortress_2 10 rfl rfl)
theorem dX0_fortress_60 : decode cX0_fortress 60 = .ok (.isub, 1) := dk_100 (dk_at dksX0_fortress_2 13 rfl rfl)
theorem dX0_fortress_61 : decode cX0_fortress 61 = .ok (.ireturn, 1) := dk_172 (dk_at dksX0_fortress_2 14 rfl rfl)
abbrev cX0_pass : ByteArray := prog_1_method_25_code
def yX0_pass : MethodName := ⟨RX0, "pass", "(I)I"⟩
def dkwX0_pass_2 : List UInt8 := [167, 255, 240, 42, 180, 0, 28, 180, 0, 199, 172]
abbrev dktX0_pass_2 : List UInt8 := dkwX0_pass_2 ++ []
def dkwX0_pass_1 : List UInt8 := [164, 0, 6, 16, 253, 172, 3, 61, 28, 27, 162, 0, 17, 42, 42, 180, 0, 28, 182, 1, 16, 132, 2, 1]
abbrev dktX0_pass_1 : List UInt8 := dkwX0_pass_1 ++ dktX0_pass_2
def dkwX0_pass_0 : List UInt8 := [27, 184, 1, 13, 154, 0, 6, 16, 254, 172, 42, 180, 0, 28, 180, 0, 199, 27, 96, 17, 39, 15]
abbrev dktX0_pass_0 : List UInt8 := dkwX0_pass_0 ++ dktX0_pass_1
theorem dksX0_pass_0 : cX0_pass.data.toList.drop 0 = dktX0_pass_0 := by decide +kernel
theorem dksX0_pass_1 : cX0_pass.data.toList.drop 22 = dktX0_pass_1 := dk_seg dksX0_pass_0 22 rfl rfl
theorem dksX0_pass_2 : cX0_pass.data.toList.drop 46 = dktX0_pass_2 := dk_seg dksX0_pass_1 24 rfl rfl
theorem dX0_pass_0 : decode cX0_pass 0 = .ok (.iload_n 1, 1) := dk_27 (dk_at dksX0_pass_0 0 rfl rfl)
theorem dX0_pass_1 : decode cX0_pass 1 = .ok (.invokestatic 269, 3) := dk_184 1 13 (dk_at dksX0_pass_0 1 rfl rfl)
theorem dX0_pass_4 : decode cX0_pass 4 = .ok (.ifCond .ne 6, 3) := dk_154 0 6 (dk_at dksX0_pass_0 4 rfl rfl)
theorem dX0_pass_7 : decode cX0_pass 7 = .ok (.bipush (-2), 2) := dk_16 254 (dk_at dksX0_pass_0 7 rfl rfl)
theorem dX0_pass_9 : decode cX0_pass 9 = .ok (.ireturn, 1) := dk_172 (dk_at dksX0_pass_0 9 rfl rfl)
theorem dX0_pass_10 : decode cX0_pass 10 = .ok (.aload_n 0, 1) := dk_42 (dk_at dksX0_pass_0 10 rfl rfl)
theorem dX0_pass_11 : decode cX0_pass 11 = .ok (.getfield 28, 3) := dk_180 0 28 (dk_at dksX0_pass_0 11 rfl rfl)
theorem dX0_pass_14 : decode cX0_pass 14 = .ok (.getfield 199, 3) := dk_180 0 199 (dk_at dksX0_pass_0 14 rfl rfl)
theorem dX0_pass_17 : decode cX0_pass 17 = .ok (.iload_n 1, 1) := dk_27 (dk_at dksX0_pass_0 17 rfl rfl)
theorem dX0_pass_18 : decode cX0_pass 18 = .ok (.iadd, 1) := dk_96 (dk_at dksX0_pass_0 18 rfl rfl)
theorem dX0_pass_19 : decode cX0_pass 19 = .ok (.sipush 9999, 3) := dk_17 39 15 (dk_at dksX0_pass_0 19 rfl rfl)
theorem dX0_pass_22 : decode cX0_pass 22 = .ok (.if_icmp .le 6, 3) := dk_164 0 6 (dk_at dksX0_pass_1 0 rfl rfl)
theorem dX0_pass_25 : decode cX0_pass 25 = .ok (.bipush (-3), 2) := dk_16 253 (dk_at dksX0_pass_1 3 rfl rfl)
theorem dX0_pass_27 : decode cX0_pass 27 = .ok (.ireturn, 1) := dk_172 (dk_at dksX0_pass_1 5 rfl rfl)
theorem dX0_pass_28 : decode cX0_pass 28 = .ok (.iconst 0, 1) := dk_3 (dk_at dksX0_pass_1 6 rfl rfl)
theorem dX0_pass_29 : decode cX0_pass 29 = .ok (.istore_n 2, 1) := dk_61 (dk_at dksX0_pass_1 7 rfl rfl)
theorem dX0_pass_30 : decode cX0_pass 30 = .ok (.iload_n 2, 1) := dk_28 (dk_at dksX0_pass_1 8 rfl rfl)
theorem dX0_pass_31 : decode cX0_pass 31 = .ok (.iload_n 1, 1) := dk_27 (dk_at dksX0_pass_1 9 rfl rfl)
theorem dX0_pass_32 : decode cX0_pass 32 = .ok (.if_icmp .ge 17, 3) := dk_162 0 17 (dk_at dksX0_pass_1 10 rfl rfl)
theorem dX0_pass_35 : decode cX0_pass 35 = .ok (.aload_n 0, 1) := dk_42 (dk_at dksX0_pass_1 13 rfl rfl)
theorem dX0_pass_36 : decode cX0_pass 36 = .ok (.aload_n 0, 1) := dk_42 (dk_at dksX0_pass_1 14 rfl rfl)
theorem dX0_pass_37 : decode cX0_pass 37 = .ok (.getfield 28, 3) := dk_180 0 28 (dk_at dksX0_pass_1 15 rfl rfl)
theorem dX0_pass_40 : decode cX0_pass 40 = .ok (.invokevirtual 272, 3) := dk_182 1 16 (dk_at dksX0_pass_1 18 rfl rfl)
theorem dX0_pass_43 : decode cX0_pass 43 = .ok (.iinc 2 1, 3) := dk_132 2 1 (dk_at dksX0_pass_1 21 rfl rfl)
theorem dX0_pass_46 : decode cX0_pass 46 = .ok (.goto (-16), 3) := dk_167 255 240 (dk_at dksX0_pass_2 0 rfl rfl)
theorem dX0_pass_49 : decode cX0_pass 49 = .ok (.aload_n 0, 1) := dk_42 (dk_at dksX0_pass_2 3 rfl rfl)
theorem dX0_pass_50 : decode cX0_pass 50 = .ok (.getfield 28, 3) := dk_180 0 28 (dk_at dksX0_pass_2 4 rfl rfl)
theorem dX0_pass_53 : decode cX0_pass 53 = .ok (.getfield 199, 3) := dk_180 0 199 (dk_at dksX0_pass_2 7 rfl rfl)
theorem dX0_pass_56 : decode cX0_pass 56 = .ok (.ireturn, 1) := dk_172 (dk_at dksX0_pass_2 10 rfl rfl)
abbrev cX0_isOn : ByteArray := prog_1_method_6_code
def yX0_isOn : MethodName := ⟨RX0, "isOn", "(I)Z"⟩
def dkwX0_isOn_0 : List UInt8 := [26, 3, 16, 60, 184, 0, 5, 172]
abbrev dktX0_isOn_0 : List UInt8 := dkwX0_isOn_0 ++ []
theorem dksX0_isOn_0 : cX0_isOn.data.toList.drop 0 = dktX0_isOn_0 := by decide +kernel
theorem dX0_isOn_0 : decode cX0_isOn 0 = .ok (.iload_n 0, 1) := dk_26 (dk_at dksX0_isOn_0 0 rfl rfl)
theorem dX0_isOn_1 : decode cX0_isOn 1 = .ok (.iconst 0, 1) := dk_3 (dk_at dksX0_isOn_0 1 rfl rfl)
theorem dX0_isOn_2 : decode cX0_isOn 2 = .ok (.bipush 60, 2) := dk_16 60 (dk_at dksX0_isOn_0 2 rfl rfl)
theorem dX0_isOn_4 : decode cX0_isOn 4 = .ok (.invokestatic 5, 3) := dk_184 0 5 (dk_at dksX0_isOn_0 4 rfl rfl)
theorem dX0_isOn_7 : decode cX0_isOn 7 = .ok (.ireturn, 1) := dk_172 (dk_at dksX0_isOn_0 7 rfl rfl)
abbrev cX0_goes : ByteArray := prog_1_method_24_code
def yX0_goes : MethodName := ⟨RX0, "goes", "(LGeeseKeys$Time;)V"⟩
def dkwX0_goes_2 : List UInt8 := [180, 1, 6, 116, 182, 1, 9, 132, 2, 1, 167, 255, 203, 43, 89, 180, 0, 199, 4, 96, 181, 0, 199, 177]
abbrev dktX0_goes_2 : List UInt8 := dkwX0_goes_2 ++ []
def dkwX0_goes_1 : List UInt8 := [180, 0, 165, 28, 42, 43, 28, 182, 0, 235, 145, 84, 43, 43, 180, 0, 165, 28, 51, 42, 180, 0, 42]
abbrev dktX0_goes_1 : List UInt8 := dkwX0_goes_1 ++ dktX0_goes_2
def dkwX0_goes_0 : List UInt8 := [3, 61, 28, 43, 180, 0, 118, 162, 0, 51, 43, 28, 182, 0, 232, 153, 0, 6, 167, 0, 34, 43]
abbrev dktX0_goes_0 : List UInt8 := dkwX0_goes_0 ++ dktX0_goes_1
theorem dksX0_goes_0 : cX0_goes.data.toList.drop 0 = dktX0_goes_0 := by decide +kernel
theorem dksX0_goes_1 : cX0_goes.data.toList.drop 22 = dktX0_goes_1 := dk_seg dksX0_goes_0 22 rfl rfl
theorem dksX0_goes_2 : cX0_goes.data.toList.drop 45 = dktX0_goes_2 := dk_seg dksX0_goes_1 23 rfl rfl
theorem dX0_goes_0 : decode cX0_goes 0 = .ok (.iconst 0, 1) := dk_3 (dk_at dksX0_goes_0 0 rfl rfl)
theorem dX0_goes_1 : decode cX0_goes 1 = .ok (.istore_n 2, 1) := dk_61 (dk_at dksX0_goes_0 1 rfl rfl)
theorem dX0_goes_2 : decode cX0_goes 2 = .ok (.iload_n 2, 1) := dk_28 (dk_at dksX0_goes_0 2 rfl rfl)
theorem dX0_goes_3 : decode cX0_goes 3 = .ok (.aload_n 1, 1) := dk_43 (dk_at dksX0_goes_0 3 rfl rfl)
theorem dX0_goes_4 : decode cX0_goes 4 = .ok (.getfield 118, 3) := dk_180 0 118 (dk_at dksX0_goes_0 4 rfl rfl)
theorem dX0_goes_7 : decode cX0_goes 7 = .ok (.if_icmp .ge 51, 3) := dk_162 0 51 (dk_at dksX0_goes_0 7 rfl rfl)
theorem dX0_goes_10 : decode cX0_goes 10 = .ok (.aload_n 1, 1) := dk_43 (dk_at dksX0_goes_0 10 rfl rfl)
theorem dX0_goes_11 : decode cX0_goes 11 = .ok (.iload_n 2, 1) := dk_28 (dk_at dksX0_goes_0 11 rfl rfl)
theorem dX0_goes_12 : decode cX0_goes 12 = .ok (.invokevirtual 232, 3) := dk_182 0 232 (dk_at dksX0_goes_0 12 rfl rfl)
theorem dX0_goes_15 : decode cX0_goes 15 = .ok (.ifCond .eq 6, 3) := dk_153 0 6 (dk_at dksX0_goes_0 15 rfl rfl)
theorem dX0_goes_18 : decode cX0_goes 18 = .ok (.goto 34, 3) := dk_167 0 34 (dk_at dksX0_goes_0 18 rfl rfl)
theorem dX0_goes_21 : decode cX0_goes 21 = .ok (.aload_n 1, 1) := dk_43 (dk_at dksX0_goes_0 21 rfl rfl)
theorem dX0_goes_22 : decode cX0_goes 22 = .ok (.getfield 165, 3) := dk_180 0 165 (dk_at dksX0_goes_1 0 rfl rfl)
theorem dX0_goes_25 : decode cX0_goes 25 = .ok (.iload_n 2, 1) := dk_28 (dk_at dksX0_goes_1 3 rfl rfl)
theorem dX0_goes_26 : decode cX0_goes 26 = .ok (.aload_n 0, 1) := dk_42 (dk_at dksX0_goes_1 4 rfl rfl)
theorem dX0_goes_27 : decode cX0_goes 27 = .ok (.aload_n 1, 1) := dk_43 (dk_at dksX0_goes_1 5 rfl rfl)
theorem dX0_goes_28 : decode cX0_goes 28 = .ok (.iload_n 2, 1) := dk_28 (dk_at dksX0_goes_1 6 rfl rfl)
theorem dX0_goes_29 : decode cX0_goes 29 = .ok (.invokevirtual 235, 3) := dk_182 0 235 (dk_at dksX0_goes_1 7 rfl rfl)
theorem dX0_goes_32 : decode cX0_goes 32 = .ok (.i2b, 1) := dk_145 (dk_at dksX0_goes_1 10 rfl rfl)
theorem dX0_goes_33 : decode cX0_goes 33 = .ok (.bastore, 1) := dk_84 (dk_at dksX0_goes_1 11 rfl rfl)
theorem dX0_goes_34 : decode cX0_goes 34 = .ok (.aload_n 1, 1) := dk_43 (dk_at dksX0_goes_1 12 rfl rfl)
theorem dX0_goes_35 : decode cX0_goes 35 = .ok (.aload_n 1, 1) := dk_43 (dk_at dksX0_goes_1 13 rfl rfl)
theorem dX0_goes_36 : decode cX0_goes 36 = .ok (.getfield 165, 3) := dk_180 0 165 (dk_at dksX0_goes_1 14 rfl rfl)
theorem dX0_goes_39 : decode cX0_goes 39 = .ok (.iload_n 2, 1) := dk_28 (dk_at dksX0_goes_1 17 rfl rfl)
theorem dX0_goes_40 : decode cX0_goes 40 = .ok (.baload, 1) := dk_51 (dk_at dksX0_goes_1 18 rfl rfl)
theorem dX0_goes_41 : decode cX0_goes 41 = .ok (.aload_n 0, 1) := dk_42 (dk_at dksX0_goes_1 19 rfl rfl)
theorem dX0_goes_42 : decode cX0_goes 42 = .ok (.getfield 42, 3) := dk_180 0 42 (dk_at dksX0_goes_1 20 rfl rfl)
theorem dX0_goes_45 : decode cX0_goes 45 = .ok (.getfield 262, 3) := dk_180 1 6 (dk_at dksX0_goes_2 0 rfl rfl)
theorem dX0_goes_48 : decode cX0_goes 48 = .ok (.ineg, 1) := dk_116 (dk_at dksX0_goes_2 3 rfl rfl)
theorem dX0_goes_49 : decode cX0_goes 49 = .ok (.invokevirtual 265, 3) := dk_182 1 9 (dk_at dksX0_goes_2 4 rfl rfl)
theorem dX0_goes_52 : decode cX0_goes 52 = .ok (.iinc 2 1, 3) := dk_132 2 1 (dk_at dksX0_goes_2 7 rfl rfl)
theorem dX0_goes_55 : decode cX0_goes 55 = .ok (.goto (-53), 3) := dk_167 255 203 (dk_at dksX0_goes_2 10 rfl rfl)
theorem dX0_goes_58 : decode cX0_goes 58 = .ok (.aload_n 1, 1) := dk_43 (dk_at dksX0_goes_2 13 rfl rfl)
theorem dX0_goes_59 : decode cX0_goes 59 = .ok (.dup, 1) := dk_89 (dk_at dksX0_goes_2 14 rfl rfl)
theorem dX0_goes_60 : decode cX0_goes 60 = .ok (.getfield 199, 3) := dk_180 0 199 (dk_at dksX0_goes_2 15 rfl rfl)
theorem dX0_goes_63 : decode cX0_goes 63 = .ok (.iconst 1, 1) := dk_4 (dk_at dksX0_goes_2 18 rfl rfl)
theorem dX0_goes_64 : decode cX0_goes 64 = .ok (.iadd, 1) := dk_96 (dk_at dksX0_goes_2 19 rfl rfl)
theorem dX0_goes_65 : decode cX0_goes 65 = .ok (.putfield 199, 3) := dk_181 0 199 (dk_at dksX0_goes_2 20 rfl rfl)
theorem dX0_goes_68 : decode cX0_goes 68 = .ok (.return_, 1) := dk_177 (dk_at dksX0_goes_2 23 rfl rfl)
abbrev cX0_on : ByteArray := prog_1_method_28_code
def yX0_on : MethodName := ⟨RX0, "on", "(II)I"⟩
def dkwX0_on_3 : List UInt8 := [16, 10, 100, 51, 167, 0, 15, 42, 180, 0, 32, 180, 0, 165, 28, 16, 20, 100, 51, 172]
abbrev dktX0_on_3 : List UInt8 := dkwX0_on_3 ++ []
def dkwX0_on_2 : List UInt8 := [42, 180, 0, 32, 182, 1, 30, 167, 0, 36, 28, 16, 20, 162, 0, 18, 42, 180, 0, 32, 180, 0, 194, 28]
abbrev dktX0_on_2 : List UInt8 := dkwX0_on_2 ++ dktX0_on_3
def dkwX0_on_1 : List UInt8 := [154, 0, 5, 2, 172, 27, 184, 1, 13, 154, 0, 6, 16, 254, 172, 42, 27, 182, 1, 27, 28, 154, 0, 13]
abbrev dktX0_on_1 : List UInt8 := dkwX0_on_1 ++ dktX0_on_2
def dkwX0_on_0 : List UInt8 := [28, 153, 0, 26, 28, 16, 10, 100, 184, 0, 148, 154, 0, 16, 42, 28, 16, 20, 100, 182, 0, 229]
abbrev dktX0_on_0 : List UInt8 := dkwX0_on_0 ++ dktX0_on_1
theorem dksX0_on_0 : cX0_on.data.toList.drop 0 = dktX0_on_0 := by decide +kernel
theorem dksX0_on_1 : cX0_on.data.toList.drop 22 = dktX0_on_1 := dk_seg dksX0_on_0 22 rfl rfl
theorem dksX0_on_2 : cX0_on.data.toList.drop 46 = dktX0_on_2 := dk_seg dksX0_on_1 24 rfl rfl
theorem dksX0_on_3 : cX0_on.data.toList.drop 70 = dktX0_on_3 := dk_seg dksX0_on_2 24 rfl rfl
theorem dX0_on_0 : decode cX0_on 0 = .ok (.iload_n 2, 1) := dk_28 (dk_at dksX0_on_0 0 rfl rfl)
theorem dX0_on_1 : decode cX0_on 1 = .ok (.ifCond .eq 26, 3) := dk_153 0 26 (dk_at dksX0_on_0 1 rfl rfl)
theorem dX0_on_4 : decode cX0_on 4 = .ok (.iload_n 2, 1) := dk_28 (dk_at dksX0_on_0 4 rfl rfl)
theorem dX0_on_5 : decode cX0_on 5 = .ok (.bipush 10, 2) := dk_16 10 (dk_at dksX0_on_0 5 rfl rfl)
theorem dX0_on_7 : decode cX0_on 7 = .ok (.isub, 1) := dk_100 (dk_at dksX0_on_0 7 rfl rfl)
theorem dX0_on_8 : decode cX0_on 8 = .ok (.invokestatic 148, 3) := dk_184 0 148 (dk_at dksX0_on_0 8 rfl rfl)
theorem dX0_on_11 : decode cX0_on 11 = .ok (.ifCond .ne 16, 3) := dk_154 0 16 (dk_at dksX0_on_0 11 rfl rfl)
theorem dX0_on_14 : decode cX0_on 14 = .ok (.aload_n 0, 1) := dk_42 (dk_at dksX0_on_0 14 rfl rfl)
theorem dX0_on_15 : decode cX0_on 15 = .ok (.iload_n 2, 1) := dk_28 (dk_at dksX0_on_0 15 rfl rfl)
theorem dX0_on_16 : decode cX0_on 16 = .ok (.bipush 20, 2) := dk_16 20 (dk_at dksX0_on_0 16 rfl rfl)
theorem dX0_on_18 : decode cX0_on 18 = .ok (.isub, 1) := dk_100 (dk_at dksX0_on_0 18 rfl rfl)
theorem dX0_on_19 : decode cX0_on 19 = .ok (.invokevirtual 229, 3) := dk_182 0 229 (dk_at dksX0_on_0 19 rfl rfl)
theorem dX0_on_22 : decode cX0_on 22 = .ok (.ifCond .ne 5, 3) := dk_154 0 5 (dk_at dksX0_on_1 0 rfl rfl)
theorem dX0_on_25 : decode cX0_on 25 = .ok (.iconst (-1), 1) := dk_2 (dk_at dksX0_on_1 3 rfl rfl)
theorem dX0_on_26 : decode cX0_on 26 = .ok (.ireturn, 1) := dk_172 (dk_at dksX0_on_1 4 rfl rfl)
theorem dX0_on_27 : decode cX0_on 27 = .ok (.iload_n 1, 1) := dk_27 (dk_at dksX0_on_1 5 rfl rfl)
theorem dX0_on_28 : decode cX0_on 28 = .ok (.invokestatic 269, 3) := dk_184 1 13 (dk_at dksX0_on_1 6 rfl rfl)
theorem dX0_on_31 : decode cX0_on 31 = .ok (.ifCond .ne 6, 3) := dk_154 0 6 (dk_at dksX0_on_1 9 rfl rfl)
theorem dX0_on_34 : decode cX0_on 34 = .ok (.bipush (-2), 2) := dk_16 254 (dk_at dksX0_on_1 12 rfl rfl)
theorem dX0_on_36 : decode cX0_on 36 = .ok (.ireturn, 1) := dk_172 (dk_at dksX0_on_1 14 rfl rfl)
theorem dX0_on_37 : decode cX0_on 37 = .ok (.aload_n 0, 1) := dk_42 (dk_at dksX0_on_1 15 rfl rfl)
theorem dX0_on_38 : decode cX0_on 38 = .ok (.iload_n 1, 1) := dk_27 (dk_at dksX0_on_1 16 rfl rfl)
theorem dX0_on_39 : decode cX0_on 39 = .ok (.invokevirtual 283, 3) := dk_182 1 27 (dk_at dksX0_on_1 17 rfl rfl)
theorem dX0_on_42 : decode cX0_on 42 = .ok (.iload_n 2, 1) := dk_28 (dk_at dksX0_on_1 20 rfl rfl)
theorem dX0_on_43 : decode cX0_on 43 = .ok (.ifCond .ne 13, 3) := dk_154 0 13 (dk_at dksX0_on_1 21 rfl rfl)
theorem dX0_on_46 : decode cX0_on 46 = .ok (.aload_n 0, 1) := dk_42 (dk_at dksX0_on_2 0 rfl rfl)
theorem dX0_on_47 : decode cX0_on 47 = .ok (.getfield 32, 3) := dk_180 0 32 (dk_at dksX0_on_2 1 rfl rfl)
theorem dX0_on_50 : decode cX0_on 50 = .ok (.invokevirtual 286, 3) := dk_182 1 30 (dk_at dksX0_on_2 4 rfl rfl)
theorem dX0_on_53 : decode cX0_on 53 = .ok (.goto 36, 3) := dk_167 0 36 (dk_at dksX0_on_2 7 rfl rfl)
theorem dX0_on_56 : decode cX0_on 56 = .ok (.iload_n 2, 1) := dk_28 (dk_at dksX0_on_2 10 rfl rfl)
theorem dX0_on_57 : decode cX0_on 57 = .ok (.bipush 20, 2) := dk_16 20 (dk_at dksX0_on_2 11 rfl rfl)
theorem dX0_on_59 : decode cX0_on 59 = .ok (.if_icmp .ge 18, 3) := dk_162 0 18 (dk_at dksX0_on_2 13 rfl rfl)
theorem dX0_on_62 : decode cX0_on 62 = .ok (.aload_n 0, 1) := dk_42 (dk_at dksX0_on_2 16 rfl rfl)
theorem dX0_on_63 : decode cX0_on 63 = .ok (.getfield 32, 3) := dk_180 0 32 (dk_at dksX0_on_2 17 rfl rfl)
theorem dX0_on_66 : decode cX0_on 66 = .ok (.getfield 194, 3) := dk_180 0 194 (dk_at dksX0_on_2 20 rfl rfl)
theorem dX0_on_69 : decode cX0_on 69 = .ok (.iload_n 2, 1) := dk_28 (dk_at dksX0_on_2 23 rfl rfl)
theorem dX0_on_70 : decode cX0_on 70 = .ok (.bipush 10, 2) := dk_16 10 (dk_at dksX0_on_3 0 rfl rfl)
theorem dX0_on_72 : decode cX0_on 72 = .ok (.isub, 1) := dk_100 (dk_at dksX0_on_3 2 rfl rfl)
theorem dX0_on_73 : decode cX0_on 73 = .ok (.baload, 1) := dk_51 (dk_at dksX0_on_3 3 rfl rfl)
theorem dX0_on_74 : decode cX0_on 74 = .ok (.goto 15, 3) := dk_167 0 15 (dk_at dksX0_on_3 4 rfl rfl)
theorem dX0_on_77 : decode cX0_on 77 = .ok (.aload_n 0, 1) := dk_42 (dk_at dksX0_on_3 7 rfl rfl)
theorem dX0_on_78 : decode cX0_on 78 = .ok (.getfield 32, 3) := dk_180 0 32 (dk_at dksX0_on_3 8 rfl rfl)
theorem dX0_on_81 : decode cX0_on 81 = .ok (.getfield 165, 3) := dk_180 0 165 (dk_at dksX0_on_3 11 rfl rfl)
theorem dX0_on_84 : decode cX0_on 84 = .ok (.iload_n 2, 1) := dk_28 (dk_at dksX0_on_3 14 rfl rfl)
theorem dX0_on_85 : decode cX0_on 85 = .ok (.bipush 20, 2) := dk_16 20 (dk_at dksX0_on_3 15 rfl rfl)
theorem dX0_on_87 : decode cX0_on 87 = .ok (.isub, 1) := dk_100 (dk_at dksX0_on_3 17 rfl rfl)
theorem dX0_on_88 : decode cX0_on 88 = .ok (.baload, 1) := dk_51 (dk_at dksX0_on_3 18 rfl rfl)
theorem dX0_on_89 : decode cX0_on 89 = .ok (.ireturn, 1) := dk_172 (dk_at dksX0_on_3 19 rfl rfl)
abbrev cX0_tries : ByteArray := prog_1_method_27_code
def yX0_tries : MethodName := ⟨RX0, "tries", "(I)V"⟩
def dkwX0_tries_0 : List UInt8 := [42, 180, 0, 32, 42, 180, 0, 28, 182, 1, 20, 42, 27, 182, 1, 23, 177]
abbrev dktX0_tries_0 : List UInt8 := dkwX0_tries_0 ++ []
theorem dksX0_tries_0 : cX0_tries.data.toList.drop 0 = dktX0_tries_0 := by decide +kernel
theorem dX0_tries_0 : decode cX0_tries 0 = .ok (.aload_n 0, 1) := dk_42 (dk_at dksX0_tries_0 0 rfl rfl)
theorem dX0_tries_1 : decode cX0_tries 1 = .ok (.getfield 32, 3) := dk_180 0 32 (dk_at dksX0_tries_0 1 rfl rfl)
theorem dX0_tries_4 : decode cX0_tries 4 = .ok (.aload_n 0, 1) := dk_42 (dk_at dksX0_tries_0 4 rfl rfl)
theorem dX0_tries_5 : decode cX0_tries 5 = .ok (.getfield 28, 3) := dk_180 0 28 (dk_at dksX0_tries_0 5 rfl rfl)
theorem dX0_tries_8 : decode cX0_tries 8 = .ok (.invokevirtual 276, 3) := dk_182 1 20 (dk_at dksX0_tries_0 8 rfl rfl)
theorem dX0_tries_11 : decode cX0_tries 11 = .ok (.aload_n 0, 1) := dk_42 (dk_at dksX0_tries_0 11 rfl rfl)
theorem dX0_tries_12 : decode cX0_tries 12 = .ok (.iload_n 1, 1) := dk_27 (dk_at dksX0_tries_0 12 rfl rfl)
theorem dX0_tries_13 : decode cX0_tries 13 = .ok (.invokevirtual 279, 3) := dk_182 1 23 (dk_at dksX0_tries_0 13 rfl rfl)
theorem dX0_tries_16 : decode cX0_tries 16 = .ok (.return_, 1) := dk_177 (dk_at dksX0_tries_0 16 rfl rfl)
abbrev cX0_goesOn : ByteArray := prog_1_method_26_code
def yX0_goesOn : MethodName := ⟨RX0, "goesOn", "(I)V"⟩
def dkwX0_goesOn_0 : List UInt8 := [3, 61, 28, 27, 162, 0, 17, 42, 42, 180, 0, 32, 182, 1, 16, 132, 2, 1, 167, 255, 240, 177]
abbrev dktX0_goesOn_0 : List UInt8 := dkwX0_goesOn_0 ++ []
theorem dksX0_goesOn_0 : cX0_goesOn.data.toList.drop 0 = dktX0_goesOn_0 := by decide +kernel
theorem dX0_goesOn_0 : decode cX0_goesOn 0 = .ok (.iconst 0, 1) := dk_3 (dk_at dksX0_goesOn_0 0 rfl rfl)
theorem dX0_goesOn_1 : decode cX0_goesOn 1 = .ok (.istore_n 2, 1) := dk_61 (dk_at dksX0_goesOn_0 1 rfl rfl)
theorem dX0_goesOn_2 : decode cX0_goesOn 2 = .ok (.iload_n 2, 1) := dk_28 (dk_at dksX0_goesOn_0 2 rfl rfl)
theorem dX0_goesOn_3 : decode cX0_goesOn 3 = .ok (.iload_n 1, 1) := dk_27 (dk_at dksX0_goesOn_0 3 rfl rfl)
theorem dX0_goesOn_4 : decode cX0_goesOn 4 = .ok (.if_icmp .ge 17, 3) := dk_162 0 17 (dk_at dksX0_goesOn_0 4 rfl rfl)
theorem dX0_goesOn_7 : decode cX0_goesOn 7 = .ok (.aload_n 0, 1) := dk_42 (dk_at dksX0_goesOn_0 7 rfl rfl)
theorem dX0_goesOn_8 : decode cX0_goesOn 8 = .ok (.aload_n 0, 1) := dk_42 (dk_at dksX0_goesOn_0 8 rfl rfl)
theorem dX0_goesOn_9 : decode cX0_goesOn 9 = .ok (.getfield 32, 3) := dk_180 0 32 (dk_at dksX0_goesOn_0 9 rfl rfl)
theorem dX0_goesOn_12 : decode cX0_goesOn 12 = .ok (.invokevirtual 272, 3) := dk_182 1 16 (dk_at dksX0_goesOn_0 12 rfl rfl)
theorem dX0_goesOn_15 : decode cX0_goesOn 15 = .ok (.iinc 2 1, 3) := dk_132 2 1 (dk_at dksX0_goesOn_0 15 rfl rfl)
theorem dX0_goesOn_18 : decode cX0_goesOn 18 = .ok (.goto (-16), 3) := dk_167 255 240 (dk_at dksX0_goesOn_0 18 rfl rfl)
theorem dX0_goesOn_21 : decode cX0_goesOn 21 = .ok (.return_, 1) := dk_177 (dk_at dksX0_goesOn_0 21 rfl rfl)
abbrev cX0_opens : ByteArray := prog_1_method_30_code
def yX0_opens : MethodName := ⟨RX0, "opens", "(I)I"⟩
def dkwX0_opens_1 : List UInt8 := [16, 20, 164, 0, 8, 16, 251, 167, 0, 4, 28, 172]
abbrev dktX0_opens_1 : List UInt8 := dkwX0_opens_1 ++ []
def dkwX0_opens_0 : List UInt8 := [42, 27, 182, 1, 36, 154, 0, 5, 2, 172, 42, 3, 182, 1, 27, 42, 27, 16, 21, 182, 1, 39, 61, 28]
abbrev dktX0_opens_0 : List UInt8 := dkwX0_opens_0 ++ dktX0_opens_1
theorem dksX0_opens_0 : cX0_opens.data.toList.drop 0 = dktX0_opens_0 := by decide +kernel
theorem dksX0_opens_1 : cX0_opens.data.toList.drop 24 = dktX0_opens_1 := dk_seg dksX0_opens_0 24 rfl rfl
theorem dX0_opens_0 : decode cX0_opens 0 = .ok (.aload_n 0, 1) := dk_42 (dk_at dksX0_opens_0 0 rfl rfl)
theorem dX0_opens_1 : decode cX0_opens 1 = .ok (.iload_n 1, 1) := dk_27 (dk_at dksX0_opens_0 1 rfl rfl)
theorem dX0_opens_2 : decode cX0_opens 2 = .ok (.invokevirtual 292, 3) := dk_182 1 36 (dk_at dksX0_opens_0 2 rfl rfl)
theorem dX0_opens_5 : decode cX0_opens 5 = .ok (.ifCond .ne 5, 3) := dk_154 0 5 (dk_at dksX0_opens_0 5 rfl rfl)
theorem dX0_opens_8 : decode cX0_opens 8 = .ok (.iconst (-1), 1) := dk_2 (dk_at dksX0_opens_0 8 rfl rfl)
theorem dX0_opens_9 : decode cX0_opens 9 = .ok (.ireturn, 1) := dk_172 (dk_at dksX0_opens_0 9 rfl rfl)
theorem dX0_opens_10 : decode cX0_opens 10 = .ok (.aload_n 0, 1) := dk_42 (dk_at dksX0_opens_0 10 rfl rfl)
theorem dX0_opens_11 : decode cX0_opens 11 = .ok (.iconst 0, 1) := dk_3 (dk_at dksX0_opens_0 11 rfl rfl)
theorem dX0_opens_12 : decode cX0_opens 12 = .ok (.invokevirtual 283, 3) := dk_182 1 27 (dk_at dksX0_opens_0 12 rfl rfl)
theorem dX0_opens_15 : decode cX0_opens 15 = .ok (.aload_n 0, 1) := dk_42 (dk_at dksX0_opens_0 15 rfl rfl)
theorem dX0_opens_16 : decode cX0_opens 16 = .ok (.iload_n 1, 1) := dk_27 (dk_at dksX0_opens_0 16 rfl rfl)
theorem dX0_opens_17 : decode cX0_opens 17 = .ok (.bipush 21, 2) := dk_16 21 (dk_at dksX0_opens_0 17 rfl rfl)
theorem dX0_opens_19 : decode cX0_opens 19 = .ok (.invokevirtual 295, 3) := dk_182 1 39 (dk_at dksX0_opens_0 19 rfl rfl)
theorem dX0_opens_22 : decode cX0_opens 22 = .ok (.istore_n 2, 1) := dk_61 (dk_at dksX0_opens_0 22 rfl rfl)
theorem dX0_opens_23 : decode cX0_opens 23 = .ok (.iload_n 2, 1) := dk_28 (dk_at dksX0_opens_0 23 rfl rfl)
theorem dX0_opens_24 : decode cX0_opens 24 = .ok (.bipush 20, 2) := dk_16 20 (dk_at dksX0_opens_1 0 rfl rfl)
theorem dX0_opens_26 : decode cX0_opens 26 = .ok (.if_icmp .le 8, 3) := dk_164 0 8 (dk_at dksX0_opens_1 2 rfl rfl)
theorem dX0_opens_29 : decode cX0_opens 29 = .ok (.bipush (-5), 2) := dk_16 251 (dk_at dksX0_opens_1 5 rfl rfl)
theorem dX0_opens_31 : decode cX0_opens 31 = .ok (.goto 4, 3) := dk_167 0 4 (dk_at dksX0_opens_1 7 rfl rfl)
theorem dX0_opens_34 : decode cX0_opens 34 = .ok (.iload_n 2, 1) := dk_28 (dk_at dksX0_opens_1 10 rfl rfl)
theorem dX0_opens_35 : decode cX0_opens 35 = .ok (.ireturn, 1) := dk_172 (dk_at dksX0_opens_1 11 rfl rfl)
abbrev cX0_isGate : ByteArray := prog_1_method_9_code
def yX0_isGate : MethodName := ⟨RX0, "isGate", "(I)Z"⟩
def dkwX0_isGate_0 : List UInt8 := [27, 3, 42, 180, 0, 28, 180, 0, 122, 4, 100, 184, 0, 5, 172]
abbrev dktX0_isGate_0 : List UInt8 := dkwX0_isGate_0 ++ []
theorem dksX0_isGate_0 : cX0_isGate.data.toList.drop 0 = dktX0_isGate_0 := by decide +kernel
theorem dX0_isGate_0 : decode cX0_isGate 0 = .ok (.iload_n 1, 1) := dk_27 (dk_at dksX0_isGate_0 0 rfl rfl)
theorem dX0_isGate_1 : decode cX0_isGate 1 = .ok (.iconst 0, 1) := dk_3 (dk_at dksX0_isGate_0 1 rfl rfl)
theorem dX0_isGate_2 : decode cX0_isGate 2 = .ok (.aload_n 0, 1) := dk_42 (dk_at dksX0_isGate_0 2 rfl rfl)
theorem dX0_isGate_3 : decode cX0_isGate 3 = .ok (.getfield 28, 3) := dk_180 0 28 (dk_at dksX0_isGate_0 3 rfl rfl)
theorem dX0_isGate_6 : decode cX0_isGate 6 = .ok (.getfield 122, 3) := dk_180 0 122 (dk_at dksX0_isGate_0 6 rfl rfl)
theorem dX0_isGate_9 : decode cX0_isGate 9 = .ok (.iconst 1, 1) := dk_4 (dk_at dksX0_isGate_0 9 rfl rfl)
theorem dX0_isGate_10 : decode cX0_isGate 10 = .ok (.isub, 1) := dk_100 (dk_at dksX0_isGate_0 10 rfl rfl)
theorem dX0_isGate_11 : decode cX0_isGate 11 = .ok (.invokestatic 5, 3) := dk_184 0 5 (dk_at dksX0_isGate_0 11 rfl rfl)
theorem dX0_isGate_14 : decode cX0_isGate 14 = .ok (.ireturn, 1) := dk_172 (dk_at dksX0_isGate_0 14 rfl rfl)
abbrev cX0_hoursTo : ByteArray := prog_1_method_29_code
def yX0_hoursTo : MethodName := ⟨RX0, "hoursTo", "(II)I"⟩
def dkwX0_hoursTo_1 : List UInt8 := [180, 0, 32, 182, 1, 16, 132, 3, 1, 167, 255, 227, 28, 172]
abbrev dktX0_hoursTo_1 : List UInt8 := dkwX0_hoursTo_1 ++ []
def dkwX0_hoursTo_0 : List UInt8 := [3, 62, 29, 28, 162, 0, 30, 42, 180, 0, 32, 27, 182, 1, 33, 153, 0, 5, 29, 172, 42, 42]
abbrev dktX0_hoursTo_0 : List UInt8 := dkwX0_hoursTo_0 ++ dktX0_hoursTo_1
theorem dksX0_hoursTo_0 : cX0_hoursTo.data.toList.drop 0 = dktX0_hoursTo_0 := by decide +kernel
theorem dksX0_hoursTo_1 : cX0_hoursTo.data.toList.drop 22 = dktX0_hoursTo_1 := dk_seg dksX0_hoursTo_0 22 rfl rfl
theorem dX0_hoursTo_0 : decode cX0_hoursTo 0 = .ok (.iconst 0, 1) := dk_3 (dk_at dksX0_hoursTo_0 0 rfl rfl)
theorem dX0_hoursTo_1 : decode cX0_hoursTo 1 = .ok (.istore_n 3, 1) := dk_62 (dk_at dksX0_hoursTo_0 1 rfl rfl)
theorem dX0_hoursTo_2 : decode cX0_hoursTo 2 = .ok (.iload_n 3, 1) := dk_29 (dk_at dksX0_hoursTo_0 2 rfl rfl)
theorem dX0_hoursTo_3 : decode cX0_hoursTo 3 = .ok (.iload_n 2, 1) := dk_28 (dk_at dksX0_hoursTo_0 3 rfl rfl)
theorem dX0_hoursTo_4 : decode cX0_hoursTo 4 = .ok (.if_icmp .ge 30, 3) := dk_162 0 30 (dk_at dksX0_hoursTo_0 4 rfl rfl)
theorem dX0_hoursTo_7 : decode cX0_hoursTo 7 = .ok (.aload_n 0, 1) := dk_42 (dk_at dksX0_hoursTo_0 7 rfl rfl)
theorem dX0_hoursTo_8 : decode cX0_hoursTo 8 = .ok (.getfield 32, 3) := dk_180 0 32 (dk_at dksX0_hoursTo_0 8 rfl rfl)
theorem dX0_hoursTo_11 : decode cX0_hoursTo 11 = .ok (.iload_n 1, 1) := dk_27 (dk_at dksX0_hoursTo_0 11 rfl rfl)
theorem dX0_hoursTo_12 : decode cX0_hoursTo 12 = .ok (.invokevirtual 289, 3) := dk_182 1 33 (dk_at dksX0_hoursTo_0 12 rfl rfl)
theorem dX0_hoursTo_15 : decode cX0_hoursTo 15 = .ok (.ifCond .eq 5, 3) := dk_153 0 5 (dk_at dksX0_hoursTo_0 15 rfl rfl)
theorem dX0_hoursTo_18 : decode cX0_hoursTo 18 = .ok (.iload_n 3, 1) := dk_29 (dk_at dksX0_hoursTo_0 18 rfl rfl)
theorem dX0_hoursTo_19 : decode cX0_hoursTo 19 = .ok (.ireturn, 1) := dk_172 (dk_at dksX0_hoursTo_0 19 rfl rfl)
theorem dX0_hoursTo_20 : decode cX0_hoursTo 20 = .ok (.aload_n 0, 1) := dk_42 (dk_at dksX0_hoursTo_0 20 rfl rfl)
theorem dX0_hoursTo_21 : decode cX0_hoursTo 21 = .ok (.aload_n 0, 1) := dk_42 (dk_at dksX0_hoursTo_0 21 rfl rfl)
theorem dX0_hoursTo_22 : decode cX0_hoursTo 22 = .ok (.getfield 32, 3) := dk_180 0 32 (dk_at dksX0_hoursTo_1 0 rfl rfl)
theorem dX0_hoursTo_25 : decode cX0_hoursTo 25 = .ok (.invokevirtual 272, 3) := dk_182 1 16 (dk_at dksX0_hoursTo_1 3 rfl rfl)
theorem dX0_hoursTo_28 : decode cX0_hoursTo 28 = .ok (.iinc 3 1, 3) := dk_132 3 1 (dk_at dksX0_hoursTo_1 6 rfl rfl)
theorem dX0_hoursTo_31 : decode cX0_hoursTo 31 = .ok (.goto (-29), 3) := dk_167 255 227 (dk_at dksX0_hoursTo_1 9 rfl rfl)
theorem dX0_hoursTo_34 : decode cX0_hoursTo 34 = .ok (.iload_n 2, 1) := dk_28 (dk_at dksX0_hoursTo_1 12 rfl rfl)
theorem dX0_hoursTo_35 : decode cX0_hoursTo 35 = .ok (.ireturn, 1) := dk_172 (dk_at dksX0_hoursTo_1 13 rfl rfl)
abbrev cX0_way : ByteArray := prog_1_method_36_code
def yX0_way : MethodName := ⟨RX0, "way", "(III)I"⟩
def dkwX0_way_1 : List UInt8 := [172, 29, 154, 0, 12, 42, 27, 28, 182, 1, 50, 167, 0, 9, 42, 27, 28, 182, 1, 53, 172]
abbrev dktX0_way_1 : List UInt8 := dkwX0_way_1 ++ []
def dkwX0_way_0 : List UInt8 := [27, 184, 0, 148, 153, 0, 19, 28, 184, 0, 148, 153, 0, 12, 29, 3, 4, 184, 0, 5, 154, 0, 5, 2]
abbrev dktX0_way_0 : List UInt8 := dkwX0_way_0 ++ dktX0_way_1
theorem dksX0_way_0 : cX0_way.data.toList.drop 0 = dktX0_way_0 := by decide +kernel
theorem dksX0_way_1 : cX0_way.data.toList.drop 24 = dktX0_way_1 := dk_seg dksX0_way_0 24 rfl rfl
theorem dX0_way_0 : decode cX0_way 0 = .ok (.iload_n 1, 1) := dk_27 (dk_at dksX0_way_0 0 rfl rfl)
theorem dX0_way_1 : decode cX0_way 1 = .ok (.invokestatic 148, 3) := dk_184 0 148 (dk_at dksX0_way_0 1 rfl rfl)
theorem dX0_way_4 : decode cX0_way 4 = .ok (.ifCond .eq 19, 3) := dk_153 0 19 (dk_at dksX0_way_0 4 rfl rfl)
theorem dX0_way_7 : decode cX0_way 7 = .ok (.iload_n 2, 1) := dk_28 (dk_at dksX0_way_0 7 rfl rfl)
theorem dX0_way_8 : decode cX0_way 8 = .ok (.invokestatic 148, 3) := dk_184 0 148 (dk_at dksX0_way_0 8 rfl rfl)
theorem dX0_way_11 : decode cX0_way 11 = .ok (.ifCond .eq 12, 3) := dk_153 0 12 (dk_at dksX0_way_0 11 rfl rfl)
theorem dX0_way_14 : decode cX0_way 14 = .ok (.iload_n 3, 1) := dk_29 (dk_at dksX0_way_0 14 rfl rfl)
theorem dX0_way_15 : decode cX0_way 15 = .ok (.iconst 0, 1) := dk_3 (dk_at dksX0_way_0 15 rfl rfl)
theorem dX0_way_16 : decode cX0_way 16 = .ok (.iconst 1, 1) := dk_4 (dk_at dksX0_way_0 16 rfl rfl)
theorem dX0_way_17 : decode cX0_way 17 = .ok (.invokestatic 5, 3) := dk_184 0 5 (dk_at dksX0_way_0 17 rfl rfl)
theorem dX0_way_20 : decode cX0_way 20 = .ok (.ifCond .ne 5, 3) := dk_154 0 5 (dk_at dksX0_way_0 20 rfl rfl)
theorem dX0_way_23 : decode cX0_way 23 = .ok (.iconst (-1), 1) := dk_2 (dk_at dksX0_way_0 23 rfl rfl)
theorem dX0_way_24 : decode cX0_way 24 = .ok (.ireturn, 1) := dk_172 (dk_at dksX0_way_1 0 rfl rfl)
theorem dX0_way_25 : decode cX0_way 25 = .ok (.iload_n 3, 1) := dk_29 (dk_at dksX0_way_1 1 rfl rfl)
theorem dX0_way_26 : decode cX0_way 26 = .ok (.ifCond .ne 12, 3) := dk_154 0 12 (dk_at dksX0_way_1 2 rfl rfl)
theorem dX0_way_29 : decode cX0_way 29 = .ok (.aload_n 0, 1) := dk_42 (dk_at dksX0_way_1 5 rfl rfl)
theorem dX0_way_30 : decode cX0_way 30 = .ok (.iload_n 1, 1) := dk_27 (dk_at dksX0_way_1 6 rfl rfl)
theorem dX0_way_31 : decode cX0_way 31 = .ok (.iload_n 2, 1) := dk_28 (dk_at dksX0_way_1 7 rfl rfl)
theorem dX0_way_32 : decode cX0_way 32 = .ok (.invokevirtual 306, 3) := dk_182 1 50 (dk_at dksX0_way_1 8 rfl rfl)
theorem dX0_way_35 : decode cX0_way 35 = .ok (.goto 9, 3) := dk_167 0 9 (dk_at dksX0_way_1 11 rfl rfl)
theorem dX0_way_38 : decode cX0_way 38 = .ok (.aload_n 0, 1) := dk_42 (dk_at dksX0_way_1 14 rfl rfl)
theorem dX0_way_39 : decode cX0_way 39 = .ok (.iload_n 1, 1) := dk_27 (dk_at dksX0_way_1 15 rfl rfl)
theorem dX0_way_40 : decode cX0_way 40 = .ok (.iload_n 2, 1) := dk_28 (dk_at dksX0_way_1 16 rfl rfl)
theorem dX0_way_41 : decode cX0_way 41 = .ok (.invokevirtual 309, 3) := dk_182 1 53 (dk_at dksX0_way_1 17 rfl rfl)
theorem dX0_way_44 : decode cX0_way 44 = .ok (.ireturn, 1) := dk_172 (dk_at dksX0_way_1 20 rfl rfl)
abbrev cX0_shortest : ByteArray := prog_1_method_35_code
def yX0_shortest : MethodName := ⟨RX0, "shortest", "(II)I"⟩
def dkwX0_shortest_1 : List UInt8 := [167, 0, 4, 29, 172]
abbrev dktX0_shortest_1 : List UInt8 := dkwX0_shortest_1 ++ []
def dkwX0_shortest_0 : List UInt8 := [42, 3, 182, 1, 27, 42, 27, 28, 16, 16, 182, 1, 46, 62, 29, 16, 15, 164, 0, 8, 16, 251]
abbrev dktX0_shortest_0 : List UInt8 := dkwX0_shortest_0 ++ dktX0_shortest_1
theorem dksX0_shortest_0 : cX0_shortest.data.toList.drop 0 = dktX0_shortest_0 := by decide +kernel
theorem dksX0_shortest_1 : cX0_shortest.data.toList.drop 22 = dktX0_shortest_1 := dk_seg dksX0_shortest_0 22 rfl rfl
theorem dX0_shortest_0 : decode cX0_shortest 0 = .ok (.aload_n 0, 1) := dk_42 (dk_at dksX0_shortest_0 0 rfl rfl)
theorem dX0_shortest_1 : decode cX0_shortest 1 = .ok (.iconst 0, 1) := dk_3 (dk_at dksX0_shortest_0 1 rfl rfl)
theorem dX0_shortest_2 : decode cX0_shortest 2 = .ok (.invokevirtual 283, 3) := dk_182 1 27 (dk_at dksX0_shortest_0 2 rfl rfl)
theorem dX0_shortest_5 : decode cX0_shortest 5 = .ok (.aload_n 0, 1) := dk_42 (dk_at dksX0_shortest_0 5 rfl rfl)
theorem dX0_shortest_6 : decode cX0_shortest 6 = .ok (.iload_n 1, 1) := dk_27 (dk_at dksX0_shortest_0 6 rfl rfl)
theorem dX0_shortest_7 : decode cX0_shortest 7 = .ok (.iload_n 2, 1) := dk_28 (dk_at dksX0_shortest_0 7 rfl rfl)
theorem dX0_shortest_8 : decode cX0_shortest 8 = .ok (.bipush 16, 2) := dk_16 16 (dk_at dksX0_shortest_0 8 rfl rfl)
theorem dX0_shortest_10 : decode cX0_shortest 10 = .ok (.invokevirtual 302, 3) := dk_182 1 46 (dk_at dksX0_shortest_0 10 rfl rfl)
theorem dX0_shortest_13 : decode cX0_shortest 13 = .ok (.istore_n 3, 1) := dk_62 (dk_at dksX0_shortest_0 13 rfl rfl)
theorem dX0_shortest_14 : decode cX0_shortest 14 = .ok (.iload_n 3, 1) := dk_29 (dk_at dksX0_shortest_0 14 rfl rfl)
theorem dX0_shortest_15 : decode cX0_shortest 15 = .ok (.bipush 15, 2) := dk_16 15 (dk_at dksX0_shortest_0 15 rfl rfl)
theorem dX0_shortest_17 : decode cX0_shortest 17 = .ok (.if_icmp .le 8, 3) := dk_164 0 8 (dk_at dksX0_shortest_0 17 rfl rfl)
theorem dX0_shortest_20 : decode cX0_shortest 20 = .ok (.bipush (-5), 2) := dk_16 251 (dk_at dksX0_shortest_0 20 rfl rfl)
theorem dX0_shortest_22 : decode cX0_shortest 22 = .ok (.goto 4, 3) := dk_167 0 4 (dk_at dksX0_shortest_1 0 rfl rfl)
theorem dX0_shortest_25 : decode cX0_shortest 25 = .ok (.iload_n 3, 1) := dk_29 (dk_at dksX0_shortest_1 3 rfl rfl)
theorem dX0_shortest_26 : decode cX0_shortest 26 = .ok (.ireturn, 1) := dk_172 (dk_at dksX0_shortest_1 4 rfl rfl)
abbrev cX0_wayTo : ByteArray := prog_1_method_33_code
def yX0_wayTo : MethodName := ⟨RX0, "wayTo", "(III)I"⟩
def dkwX0_wayTo_2 : List UInt8 := [132, 5, 1, 167, 255, 216, 29, 172]
abbrev dktX0_wayTo_2 : List UInt8 := dkwX0_wayTo_2 ++ []
def dkwX0_wayTo_1 : List UInt8 := [21, 5, 172, 42, 180, 0, 32, 21, 4, 182, 1, 43, 54, 4, 42, 42, 180, 0, 32, 182, 1, 16]
abbrev dktX0_wayTo_1 : List UInt8 := dkwX0_wayTo_1 ++ dktX0_wayTo_2
def dkwX0_wayTo_0 : List UInt8 := [4, 27, 120, 54, 4, 3, 54, 5, 21, 5, 29, 162, 0, 40, 21, 4, 28, 184, 0, 226, 153, 0, 6]
abbrev dktX0_wayTo_0 : List UInt8 := dkwX0_wayTo_0 ++ dktX0_wayTo_1
theorem dksX0_wayTo_0 : cX0_wayTo.data.toList.drop 0 = dktX0_wayTo_0 := by decide +kernel
theorem dksX0_wayTo_1 : cX0_wayTo.data.toList.drop 23 = dktX0_wayTo_1 := dk_seg dksX0_wayTo_0 23 rfl rfl
theorem dksX0_wayTo_2 : cX0_wayTo.data.toList.drop 45 = dktX0_wayTo_2 := dk_seg dksX0_wayTo_1 22 rfl rfl
theorem dX0_wayTo_0 : decode cX0_wayTo 0 = .ok (.iconst 1, 1) := dk_4 (dk_at dksX0_wayTo_0 0 rfl rfl)
theorem dX0_wayTo_1 : decode cX0_wayTo 1 = .ok (.iload_n 1, 1) := dk_27 (dk_at dksX0_wayTo_0 1 rfl rfl)
theorem dX0_wayTo_2 : decode cX0_wayTo 2 = .ok (.ishl, 1) := dk_120 (dk_at dksX0_wayTo_0 2 rfl rfl)
theorem dX0_wayTo_3 : decode cX0_wayTo 3 = .ok (.istore 4, 2) := dk_54 4 (dk_at dksX0_wayTo_0 3 rfl rfl)
theorem dX0_wayTo_5 : decode cX0_wayTo 5 = .ok (.iconst 0, 1) := dk_3 (dk_at dksX0_wayTo_0 5 rfl rfl)
theorem dX0_wayTo_6 : decode cX0_wayTo 6 = .ok (.istore 5, 2) := dk_54 5 (dk_at dksX0_wayTo_0 6 rfl rfl)
theorem dX0_wayTo_8 : decode cX0_wayTo 8 = .ok (.iload 5, 2) := dk_21 5 (dk_at dksX0_wayTo_0 8 rfl rfl)
theorem dX0_wayTo_10 : decode cX0_wayTo 10 = .ok (.iload_n 3, 1) := dk_29 (dk_at dksX0_wayTo_0 10 rfl rfl)
theorem dX0_wayTo_11 : decode cX0_wayTo 11 = .ok (.if_icmp .ge 40, 3) := dk_162 0 40 (dk_at dksX0_wayTo_0 11 rfl rfl)
theorem dX0_wayTo_14 : decode cX0_wayTo 14 = .ok (.iload 4, 2) := dk_21 4 (dk_at dksX0_wayTo_0 14 rfl rfl)
theorem dX0_wayTo_16 : decode cX0_wayTo 16 = .ok (.iload_n 2, 1) := dk_28 (dk_at dksX0_wayTo_0 16 rfl rfl)
theorem dX0_wayTo_17 : decode cX0_wayTo 17 = .ok (.invokestatic 226, 3) := dk_184 0 226 (dk_at dksX0_wayTo_0 17 rfl rfl)
theorem dX0_wayTo_20 : decode cX0_wayTo 20 = .ok (.ifCond .eq 6, 3) := dk_153 0 6 (dk_at dksX0_wayTo_0 20 rfl rfl)
theorem dX0_wayTo_23 : decode cX0_wayTo 23 = .ok (.iload 5, 2) := dk_21 5 (dk_at dksX0_wayTo_1 0 rfl rfl)
theorem dX0_wayTo_25 : decode cX0_wayTo 25 = .ok (.ireturn, 1) := dk_172 (dk_at dksX0_wayTo_1 2 rfl rfl)
theorem dX0_wayTo_26 : decode cX0_wayTo 26 = .ok (.aload_n 0, 1) := dk_42 (dk_at dksX0_wayTo_1 3 rfl rfl)
theorem dX0_wayTo_27 : decode cX0_wayTo 27 = .ok (.getfield 32, 3) := dk_180 0 32 (dk_at dksX0_wayTo_1 4 rfl rfl)
theorem dX0_wayTo_30 : decode cX0_wayTo 30 = .ok (.iload 4, 2) := dk_21 4 (dk_at dksX0_wayTo_1 7 rfl rfl)
theorem dX0_wayTo_32 : decode cX0_wayTo 32 = .ok (.invokevirtual 299, 3) := dk_182 1 43 (dk_at dksX0_wayTo_1 9 rfl rfl)
theorem dX0_wayTo_35 : decode cX0_wayTo 35 = .ok (.istore 4, 2) := dk_54 4 (dk_at dksX0_wayTo_1 12 rfl rfl)
theorem dX0_wayTo_37 : decode cX0_wayTo 37 = .ok (.aload_n 0, 1) := dk_42 (dk_at dksX0_wayTo_1 14 rfl rfl)
theorem dX0_wayTo_38 : decode cX0_wayTo 38 = .ok (.aload_n 0, 1) := dk_42 (dk_at dksX0_wayTo_1 15 rfl rfl)
theorem dX0_wayTo_39 : decode cX0_wayTo 39 = .ok (.getfield 32, 3) := dk_180 0 32 (dk_at dksX0_wayTo_1 16 rfl rfl)
theorem dX0_wayTo_42 : decode cX0_wayTo 42 = .ok (.invokevirtual 272, 3) := dk_182 1 16 (dk_at dksX0_wayTo_1 19 rfl rfl)
theorem dX0_wayTo_45 : decode cX0_wayTo 45 = .ok (.iinc 5 1, 3) := dk_132 5 1 (dk_at dksX0_wayTo_2 0 rfl rfl)
theorem dX0_wayTo_48 : decode cX0_wayTo 48 = .ok (.goto (-40), 3) := dk_167 255 216 (dk_at dksX0_wayTo_2 3 rfl rfl)
theorem dX0_wayTo_51 : decode cX0_wayTo 51 = .ok (.iload_n 3, 1) := dk_29 (dk_at dksX0_wayTo_2 6 rfl rfl)
theorem dX0_wayTo_52 : decode cX0_wayTo 52 = .ok (.ireturn, 1) := dk_172 (dk_at dksX0_wayTo_2 7 rfl rfl)
abbrev cX0_bestKeys : ByteArray := prog_1_method_34_code
def yX0_bestKeys : MethodName := ⟨RX0, "bestKeys", "(II)I"⟩
def dkwX0_bestKeys_5 : List UInt8 := [21, 5, 104, 21, 6, 96, 54, 4, 132, 6, 1, 167, 255, 165, 132, 5, 1, 167, 255, 141, 21, 4, 172]
abbrev dktX0_bestKeys_5 : List UInt8 := dkwX0_bestKeys_5 ++ []
def dkwX0_bestKeys_4 : List UInt8 := [42, 27, 28, 29, 182, 1, 46, 54, 7, 21, 7, 29, 160, 0, 6, 167, 0, 16, 21, 7, 62, 16, 10]
abbrev dktX0_bestKeys_4 : List UInt8 := dkwX0_bestKeys_4 ++ dktX0_bestKeys_5
def dkwX0_bestKeys_3 : List UInt8 := [21, 6, 51, 84, 42, 180, 0, 32, 180, 0, 168, 21, 6, 42, 180, 0, 28, 180, 0, 168, 21, 5, 51, 84]
abbrev dktX0_bestKeys_3 : List UInt8 := dkwX0_bestKeys_3 ++ dktX0_bestKeys_4
def dkwX0_bestKeys_2 : List UInt8 := [162, 0, 85, 42, 3, 182, 1, 27, 42, 180, 0, 32, 180, 0, 168, 21, 5, 42, 180, 0, 28, 180, 0, 168]
abbrev dktX0_bestKeys_2 : List UInt8 := dkwX0_bestKeys_2 ++ dktX0_bestKeys_3
def dkwX0_bestKeys_1 : List UInt8 := [180, 0, 28, 180, 0, 118, 162, 0, 109, 21, 5, 4, 96, 54, 6, 21, 6, 42, 180, 0, 28, 180, 0, 118]
abbrev dktX0_bestKeys_1 : List UInt8 := dkwX0_bestKeys_1 ++ dktX0_bestKeys_2
def dkwX0_bestKeys_0 : List UInt8 := [42, 3, 182, 1, 27, 42, 27, 28, 16, 16, 182, 1, 46, 62, 16, 251, 54, 4, 3, 54, 5, 21, 5, 42]
abbrev dktX0_bestKeys_0 : List UInt8 := dkwX0_bestKeys_0 ++ dktX0_bestKeys_1
theorem dksX0_bestKeys_0 : cX0_bestKeys.data.toList.drop 0 = dktX0_bestKeys_0 := by decide +kernel
theorem dksX0_bestKeys_1 : cX0_bestKeys.data.toList.drop 24 = dktX0_bestKeys_1 := dk_seg dksX0_bestKeys_0 24 rfl rfl
theorem dksX0_bestKeys_2 : cX0_bestKeys.data.toList.drop 48 = dktX0_bestKeys_2 := dk_seg dksX0_bestKeys_1 24 rfl rfl
theorem dksX0_bestKeys_3 : cX0_bestKeys.data.toList.drop 72 = dktX0_bestKeys_3 := dk_seg dksX0_bestKeys_2 24 rfl rfl
theorem dksX0_bestKeys_4 : cX0_bestKeys.data.toList.drop 96 = dktX0_bestKeys_4 := dk_seg dksX0_bestKeys_3 24 rfl rfl
theorem dksX0_bestKeys_5 : cX0_bestKeys.data.toList.drop 119 = dktX0_bestKeys_5 := dk_seg dksX0_bestKeys_4 23 rfl rfl
theorem dX0_bestKeys_0 : decode cX0_bestKeys 0 = .ok (.aload_n 0, 1) := dk_42 (dk_at dksX0_bestKeys_0 0 rfl rfl)
theorem dX0_bestKeys_1 : decode cX0_bestKeys 1 = .ok (.iconst 0, 1) := dk_3 (dk_at dksX0_bestKeys_0 1 rfl rfl)
theorem dX0_bestKeys_2 : decode cX0_bestKeys 2 = .ok (.invokevirtual 283, 3) := dk_182 1 27 (dk_at dksX0_bestKeys_0 2 rfl rfl)
theorem dX0_bestKeys_5 : decode cX0_bestKeys 5 = .ok (.aload_n 0, 1) := dk_42 (dk_at dksX0_bestKeys_0 5 rfl rfl)
theorem dX0_bestKeys_6 : decode cX0_bestKeys 6 = .ok (.iload_n 1, 1) := dk_27 (dk_at dksX0_bestKeys_0 6 rfl rfl)
theorem dX0_bestKeys_7 : decode cX0_bestKeys 7 = .ok (.iload_n 2, 1) := dk_28 (dk_at dksX0_bestKeys_0 7 rfl rfl)
theorem dX0_bestKeys_8 : decode cX0_bestKeys 8 = .ok (.bipush 16, 2) := dk_16 16 (dk_at dksX0_bestKeys_0 8 rfl rfl)
theorem dX0_bestKeys_10 : decode cX0_bestKeys 10 = .ok (.invokevirtual 302, 3) := dk_182 1 46 (dk_at dksX0_bestKeys_0 10 rfl rfl)
theorem dX0_bestKeys_13 : decode cX0_bestKeys 13 = .ok (.istore_n 3, 1) := dk_62 (dk_at dksX0_bestKeys_0 13 rfl rfl)
theorem dX0_bestKeys_14 : decode cX0_bestKeys 14 = .ok (.bipush (-5), 2) := dk_16 251 (dk_at dksX0_bestKeys_0 14 rfl rfl)
theorem dX0_bestKeys_16 : decode cX0_bestKeys 16 = .ok (.istore 4, 2) := dk_54 4 (dk_at dksX0_bestKeys_0 16 rfl rfl)
theorem dX0_bestKeys_18 : decode cX0_bestKeys 18 = .ok (.iconst 0, 1) := dk_3 (dk_at dksX0_bestKeys_0 18 rfl rfl)
theorem dX0_bestKeys_19 : decode cX0_bestKeys 19 = .ok (.istore 5, 2) := dk_54 5 (dk_at dksX0_bestKeys_0 19 rfl rfl)
theorem dX0_bestKeys_21 : decode cX0_bestKeys 21 = .ok (.iload 5, 2) := dk_21 5 (dk_at dksX0_bestKeys_0 21 rfl rfl)
theorem dX0_bestKeys_23 : decode cX0_bestKeys 23 = .ok (.aload_n 0, 1) := dk_42 (dk_at dksX0_bestKeys_0 23 rfl rfl)
theorem dX0_bestKeys_24 : decode cX0_bestKeys 24 = .ok (.getfield 28, 3) := dk_180 0 28 (dk_at dksX0_bestKeys_1 0 rfl rfl)
theorem dX0_bestKeys_27 : decode cX0_bestKeys 27 = .ok (.getfield 118, 3) := dk_180 0 118 (dk_at dksX0_bestKeys_1 3 rfl rfl)
theorem dX0_bestKeys_30 : decode cX0_bestKeys 30 = .ok (.if_icmp .ge 109, 3) := dk_162 0 109 (dk_at dksX0_bestKeys_1 6 rfl rfl)
theorem dX0_bestKeys_33 : decode cX0_bestKeys 33 = .ok (.iload 5, 2) := dk_21 5 (dk_at dksX0_bestKeys_1 9 rfl rfl)
theorem dX0_bestKeys_35 : decode cX0_bestKeys 35 = .ok (.iconst 1, 1) := dk_4 (dk_at dksX0_bestKeys_1 11 rfl rfl)
theorem dX0_bestKeys_36 : decode cX0_bestKeys 36 = .ok (.iadd, 1) := dk_96 (dk_at dksX0_bestKeys_1 12 rfl rfl)
theorem dX0_bestKeys_37 : decode cX0_bestKeys 37 = .ok (.istore 6, 2) := dk_54 6 (dk_at dksX0_bestKeys_1 13 rfl rfl)
theorem dX0_bestKeys_39 : decode cX0_bestKeys 39 = .ok (.iload 6, 2) := dk_21 6 (dk_at dksX0_bestKeys_1 15 rfl rfl)
theorem dX0_bestKeys_41 : decode cX0_bestKeys 41 = .ok (.aload_n 0, 1) := dk_42 (dk_at dksX0_bestKeys_1 17 rfl rfl)
theorem dX0_bestKeys_42 : decode cX0_bestKeys 42 = .ok (.getfield 28, 3) := dk_180 0 28 (dk_at dksX0_bestKeys_1 18 rfl rfl)
theorem dX0_bestKeys_45 : decode cX0_bestKeys 45 = .ok (.getfield 118, 3) := dk_180 0 118 (dk_at dksX0_bestKeys_1 21 rfl rfl)
theorem dX0_bestKeys_48 : decode cX0_bestKeys 48 = .ok (.if_icmp .ge 85, 3) := dk_162 0 85 (dk_at dksX0_bestKeys_2 0 rfl rfl)
theorem dX0_bestKeys_51 : decode cX0_bestKeys 51 = .ok (.aload_n 0, 1) := dk_42 (dk_at dksX0_bestKeys_2 3 rfl rfl)
theorem dX0_bestKeys_52 : decode cX0_bestKeys 52 = .ok (.iconst 0, 1) := dk_3 (dk_at dksX0_bestKeys_2 4 rfl rfl)
theorem dX0_bestKeys_53 : decode cX0_bestKeys 53 = .ok (.invokevirtual 283, 3) := dk_182 1 27 (dk_at dksX0_bestKeys_2 5 rfl rfl)
theorem dX0_bestKeys_56 : decode cX0_bestKeys 56 = .ok (.aload_n 0, 1) := dk_42 (dk_at dksX0_bestKeys_2 8 rfl rfl)
theorem dX0_bestKeys_57 : decode cX0_bestKeys 57 = .ok (.getfield 32, 3) := dk_180 0 32 (dk_at dksX0_bestKeys_2 9 rfl rfl)
theorem dX0_bestKeys_60 : decode cX0_bestKeys 60 = .ok (.getfield 168, 3) := dk_180 0 168 (dk_at dksX0_bestKeys_2 12 rfl rfl)
theorem dX0_bestKeys_63 : decode cX0_bestKeys 63 = .ok (.iload 5, 2) := dk_21 5 (dk_at dksX0_bestKeys_2 15 rfl rfl)
theorem dX0_bestKeys_65 : decode cX0_bestKeys 65 = .ok (.aload_n 0, 1) := dk_42 (dk_at dksX0_bestKeys_2 17 rfl rfl)
theorem dX0_bestKeys_66 : decode cX0_bestKeys 66 = .ok (.getfield 28, 3) := dk_180 0 28 (dk_at dksX0_bestKeys_2 18 rfl rfl)
theorem dX0_bestKeys_69 : decode cX0_bestKeys 69 = .ok (.getfield 168, 3) := dk_180 0 168 (dk_at dksX0_bestKeys_2 21 rfl rfl)
theorem dX0_bestKeys_72 : decode cX0_bestKeys 72 = .ok (.iload 6, 2) := dk_21 6 (dk_at dksX0_bestKeys_3 0 rfl rfl)
theorem dX0_bestKeys_74 : decode cX0_bestKeys 74 = .ok (.baload, 1) := dk_51 (dk_at dksX0_bestKeys_3 2 rfl rfl)
theorem dX0_bestKeys_75 : decode cX0_bestKeys 75 = .ok (.bastore, 1) := dk_84 (dk_at dksX0_bestKeys_3 3 rfl rfl)
theorem dX0_bestKeys_76 : decode cX0_bestKeys 76 = .ok (.aload_n 0, 1) := dk_42 (dk_at dksX0_bestKeys_3 4 rfl rfl)
theorem dX0_bestKeys_77 : decode cX0_bestKeys 77 = .ok (.getfield 32, 3) := dk_180 0 32 (dk_at dksX0_bestKeys_3 5 rfl rfl)
theorem dX0_bestKeys_80 : decode cX0_bestKeys 80 = .ok (.getfield 168, 3) := dk_180 0 168 (dk_at dksX0_bestKeys_3 8 rfl rfl)
theorem dX0_bestKeys_83 : decode cX0_bestKeys 83 = .ok (.iload 6, 2) := dk_21 6 (dk_at dksX0_bestKeys_3 11 rfl rfl)
theorem dX0_bestKeys_85 : decode cX0_bestKeys 85 = .ok (.aload_n 0, 1) := dk_42 (dk_at dksX0_bestKeys_3 13 rfl rfl)
theorem dX0_bestKeys_86 : decode cX0_bestKeys 86 = .ok (.getfield 28, 3) := dk_180 0 28 (dk_at dksX0_bestKeys_3 14 rfl rfl)
theorem dX0_bestKeys_89 : decode cX0_bestKeys 89 = .ok (.getfield 168, 3) := dk_180 0 168 (dk_at dksX0_bestKeys_3 17 rfl rfl)
theorem dX0_bestKeys_92 : decode cX0_bestKeys 92 = .ok (.iload 5, 2) := dk_21 5 (dk_at dksX0_bestKeys_3 20 rfl rfl)
theorem dX0_bestKeys_94 : decode cX0_bestKeys 94 = .ok (.baload, 1) := dk_51 (dk_at dksX0_bestKeys_3 22 rfl rfl)
theorem dX0_bestKeys_95 : decode cX0_bestKeys 95 = .ok (.bastore, 1) := dk_84 (dk_at dksX0_bestKeys_3 23 rfl rfl)
theorem dX0_bestKeys_96 : decode cX0_bestKeys 96 = .ok (.aload_n 0, 1) := dk_42 (dk_at dksX0_bestKeys_4 0 rfl rfl)
theorem dX0_bestKeys_97 : decode cX0_bestKeys 97 = .ok (.iload_n 1, 1) := dk_27 (dk_at dksX0_bestKeys_4 1 rfl rfl)
theorem dX0_bestKeys_98 : decode cX0_bestKeys 98 = .ok (.iload_n 2, 1) := dk_28 (dk_at dksX0_bestKeys_4 2 rfl rfl)
theorem dX0_bestKeys_99 : decode cX0_bestKeys 99 = .ok (.iload_n 3, 1) := dk_29 (dk_at dksX0_bestKeys_4 3 rfl rfl)
theorem dX0_bestKeys_100 : decode cX0_bestKeys 100 = .ok (.invokevirtual 302, 3) := dk_182 1 46 (dk_at dksX0_bestKeys_4 4 rfl rfl)
theorem dX0_bestKeys_103 : decode cX0_bestKeys 103 = .ok (.istore 7, 2) := dk_54 7 (dk_at dksX0_bestKeys_4 7 rfl rfl)
theorem dX0_bestKeys_105 : decode cX0_bestKeys 105 = .ok (.iload 7, 2) := dk_21 7 (dk_at dksX0_bestKeys_4 9 rfl rfl)
theorem dX0_bestKeys_107 : decode cX0_bestKeys 107 = .ok (.iload_n 3, 1) := dk_29 (dk_at dksX0_bestKeys_4 11 rfl rfl)
theorem dX0_bestKeys_108 : decode cX0_bestKeys 108 = .ok (.if_icmp .ne 6, 3) := dk_160 0 6 (dk_at dksX0_bestKeys_4 12 rfl rfl)
theorem dX0_bestKeys_111 : decode cX0_bestKeys 111 = .ok (.goto 16, 3) := dk_167 0 16 (dk_at dksX0_bestKeys_4 15 rfl rfl)
theorem dX0_bestKeys_114 : decode cX0_bestKeys 114 = .ok (.iload 7, 2) := dk_21 7 (dk_at dksX0_bestKeys_4 18 rfl rfl)
theorem dX0_bestKeys_116 : decode cX0_bestKeys 116 = .ok (.istore_n 3, 1) := dk_62 (dk_at dksX0_bestKeys_4 20 rfl rfl)
theorem dX0_bestKeys_117 : decode cX0_bestKeys 117 = .ok (.bipush 10, 2) := dk_16 10 (dk_at dksX0_bestKeys_4 21 rfl rfl)
theorem dX0_bestKeys_119 : decode cX0_bestKeys 119 = .ok (.iload 5, 2) := dk_21 5 (dk_at dksX0_bestKeys_5 0 rfl rfl)
theorem dX0_bestKeys_121 : decode cX0_bestKeys 121 = .ok (.imul, 1) := dk_104 (dk_at dksX0_bestKeys_5 2 rfl rfl)
theorem dX0_bestKeys_122 : decode cX0_bestKeys 122 = .ok (.iload 6, 2) := dk_21 6 (dk_at dksX0_bestKeys_5 3 rfl rfl)
theorem dX0_bestKeys_124 : decode cX0_bestKeys 124 = .ok (.iadd, 1) := dk_96 (dk_at dksX0_bestKeys_5 5 rfl rfl)
theorem dX0_bestKeys_125 : decode cX0_bestKeys 125 = .ok (.istore 4, 2) := dk_54 4 (dk_at dksX0_bestKeys_5 6 rfl rfl)
theorem dX0_bestKeys_127 : decode cX0_bestKeys 127 = .ok (.iinc 6 1, 3) := dk_132 6 1 (dk_at dksX0_bestKeys_5 8 rfl rfl)
theorem dX0_bestKeys_130 : decode cX0_bestKeys 130 = .ok (.goto (-91), 3) := dk_167 255 165 (dk_at dksX0_bestKeys_5 11 rfl rfl)
theorem dX0_bestKeys_133 : decode cX0_bestKeys 133 = .ok (.iinc 5 1, 3) := dk_132 5 1 (dk_at dksX0_bestKeys_5 14 rfl rfl)
theorem dX0_bestKeys_136 : decode cX0_bestKeys 136 = .ok (.goto (-115), 3) := dk_167 255 141 (dk_at dksX0_bestKeys_5 17 rfl rfl)
theorem dX0_bestKeys_139 : decode cX0_bestKeys 139 = .ok (.iload 4, 2) := dk_21 4 (dk_at dksX0_bestKeys_5 20 rfl rfl)
theorem dX0_bestKeys_141 : decode cX0_bestKeys 141 = .ok (.ireturn, 1) := dk_172 (dk_at dksX0_bestKeys_5 22 rfl rfl)
abbrev cX0_lead : ByteArray := prog_1_method_37_code
def yX0_lead : MethodName := ⟨RX0, "lead", "(II)I"⟩
def dkwX0_lead_4 : List UInt8 := [21, 4, 172]
abbrev dktX0_lead_4 : List UInt8 := dkwX0_lead_4 ++ []
def dkwX0_lead_3 : List UInt8 := [54, 6, 21, 6, 29, 160, 0, 6, 167, 0, 10, 21, 6, 62, 21, 5, 54, 4, 132, 5, 1, 167, 255, 207]
abbrev dktX0_lead_3 : List UInt8 := dkwX0_lead_3 ++ dktX0_lead_4
def dkwX0_lead_2 : List UInt8 := [162, 0, 48, 42, 3, 182, 1, 27, 42, 180, 0, 32, 21, 5, 28, 182, 1, 9, 42, 27, 29, 182, 1, 39]
abbrev dktX0_lead_2 : List UInt8 := dkwX0_lead_2 ++ dktX0_lead_3
def dkwX0_lead_1 : List UInt8 := [3, 182, 1, 27, 42, 27, 16, 21, 182, 1, 39, 62, 16, 251, 54, 4, 3, 54, 5, 21, 5, 16, 8]
abbrev dktX0_lead_1 : List UInt8 := dkwX0_lead_1 ++ dktX0_lead_2
def dkwX0_lead_0 : List UInt8 := [42, 27, 182, 1, 36, 154, 0, 5, 2, 172, 28, 4, 16, 99, 184, 0, 5, 154, 0, 6, 16, 254, 172, 42]
abbrev dktX0_lead_0 : List UInt8 := dkwX0_lead_0 ++ dktX0_lead_1
theorem dksX0_lead_0 : cX0_lead.data.toList.drop 0 = dktX0_lead_0 := by decide +kernel
theorem dksX0_lead_1 : cX0_lead.data.toList.drop 24 = dktX0_lead_1 := dk_seg dksX0_lead_0 24 rfl rfl
theorem dksX0_lead_2 : cX0_lead.data.toList.drop 47 = dktX0_lead_2 := dk_seg dksX0_lead_1 23 rfl rfl
theorem dksX0_lead_3 : cX0_lead.data.toList.drop 71 = dktX0_lead_3 := dk_seg dksX0_lead_2 24 rfl rfl
theorem dksX0_lead_4 : cX0_lead.data.toList.drop 95 = dktX0_lead_4 := dk_seg dksX0_lead_3 24 rfl rfl
theorem dX0_lead_0 : decode cX0_lead 0 = .ok (.aload_n 0, 1) := dk_42 (dk_at dksX0_lead_0 0 rfl rfl)
theorem dX0_lead_1 : decode cX0_lead 1 = .ok (.iload_n 1, 1) := dk_27 (dk_at dksX0_lead_0 1 rfl rfl)
theorem dX0_lead_2 : decode cX0_lead 2 = .ok (.invokevirtual 292, 3) := dk_182 1 36 (dk_at dksX0_lead_0 2 rfl rfl)
theorem dX0_lead_5 : decode cX0_lead 5 = .ok (.ifCond .ne 5, 3) := dk_154 0 5 (dk_at dksX0_lead_0 5 rfl rfl)
theorem dX0_lead_8 : decode cX0_lead 8 = .ok (.iconst (-1), 1) := dk_2 (dk_at dksX0_lead_0 8 rfl rfl)
theorem dX0_lead_9 : decode cX0_lead 9 = .ok (.ireturn, 1) := dk_172 (dk_at dksX0_lead_0 9 rfl rfl)
theorem dX0_lead_10 : decode cX0_lead 10 = .ok (.iload_n 2, 1) := dk_28 (dk_at dksX0_lead_0 10 rfl rfl)
theorem dX0_lead_11 : decode cX0_lead 11 = .ok (.iconst 1, 1) := dk_4 (dk_at dksX0_lead_0 11 rfl rfl)
theorem dX0_lead_12 : decode cX0_lead 12 = .ok (.bipush 99, 2) := dk_16 99 (dk_at dksX0_lead_0 12 rfl rfl)
theorem dX0_lead_14 : decode cX0_lead 14 = .ok (.invokestatic 5, 3) := dk_184 0 5 (dk_at dksX0_lead_0 14 rfl rfl)
theorem dX0_lead_17 : decode cX0_lead 17 = .ok (.ifCond .ne 6, 3) := dk_154 0 6 (dk_at dksX0_lead_0 17 rfl rfl)
theorem dX0_lead_20 : decode cX0_lead 20 = .ok (.bipush (-2), 2) := dk_16 254 (dk_at dksX0_lead_0 20 rfl rfl)
theorem dX0_lead_22 : decode cX0_lead 22 = .ok (.ireturn, 1) := dk_172 (dk_at dksX0_lead_0 22 rfl rfl)
theorem dX0_lead_23 : decode cX0_lead 23 = .ok (.aload_n 0, 1) := dk_42 (dk_at dksX0_lead_0 23 rfl rfl)
theorem dX0_lead_24 : decode cX0_lead 24 = .ok (.iconst 0, 1) := dk_3 (dk_at dksX0_lead_1 0 rfl rfl)
theorem dX0_lead_25 : decode cX0_lead 25 = .ok (.invokevirtual 283, 3) := dk_182 1 27 (dk_at dksX0_lead_1 1 rfl rfl)
theorem dX0_lead_28 : decode cX0_lead 28 = .ok (.aload_n 0, 1) := dk_42 (dk_at dksX0_lead_1 4 rfl rfl)
theorem dX0_lead_29 : decode cX0_lead 29 = .ok (.iload_n 1, 1) := dk_27 (dk_at dksX0_lead_1 5 rfl rfl)
theorem dX0_lead_30 : decode cX0_lead 30 = .ok (.bipush 21, 2) := dk_16 21 (dk_at dksX0_lead_1 6 rfl rfl)
theorem dX0_lead_32 : decode cX0_lead 32 = .ok (.invokevirtual 295, 3) := dk_182 1 39 (dk_at dksX0_lead_1 8 rfl rfl)
theorem dX0_lead_35 : decode cX0_lead 35 = .ok (.istore_n 3, 1) := dk_62 (dk_at dksX0_lead_1 11 rfl rfl)
theorem dX0_lead_36 : decode cX0_lead 36 = .ok (.bipush (-5), 2) := dk_16 251 (dk_at dksX0_lead_1 12 rfl rfl)
theorem dX0_lead_38 : decode cX0_lead 38 = .ok (.istore 4, 2) := dk_54 4 (dk_at dksX0_lead_1 14 rfl rfl)
theorem dX0_lead_40 : decode cX0_lead 40 = .ok (.iconst 0, 1) := dk_3 (dk_at dksX0_lead_1 16 rfl rfl)
theorem dX0_lead_41 : decode cX0_lead 41 = .ok (.istore 5, 2) := dk_54 5 (dk_at dksX0_lead_1 17 rfl rfl)
theorem dX0_lead_43 : decode cX0_lead 43 = .ok (.iload 5, 2) := dk_21 5 (dk_at dksX0_lead_1 19 rfl rfl)
theorem dX0_lead_45 : decode cX0_lead 45 = .ok (.bipush 8, 2) := dk_16 8 (dk_at dksX0_lead_1 21 rfl rfl)
theorem dX0_lead_47 : decode cX0_lead 47 = .ok (.if_icmp .ge 48, 3) := dk_162 0 48 (dk_at dksX0_lead_2 0 rfl rfl)
theorem dX0_lead_50 : decode cX0_lead 50 = .ok (.aload_n 0, 1) := dk_42 (dk_at dksX0_lead_2 3 rfl rfl)
theorem dX0_lead_51 : decode cX0_lead 51 = .ok (.iconst 0, 1) := dk_3 (dk_at dksX0_lead_2 4 rfl rfl)
theorem dX0_lead_52 : decode cX0_lead 52 = .ok (.invokevirtual 283, 3) := dk_182 1 27 (dk_at dksX0_lead_2 5 rfl rfl)
theorem dX0_lead_55 : decode cX0_lead 55 = .ok (.aload_n 0, 1) := dk_42 (dk_at dksX0_lead_2 8 rfl rfl)
theorem dX0_lead_56 : decode cX0_lead 56 = .ok (.getfield 32, 3) := dk_180 0 32 (dk_at dksX0_lead_2 9 rfl rfl)
theorem dX0_lead_59 : decode cX0_lead 59 = .ok (.iload 5, 2) := dk_21 5 (dk_at dksX0_lead_2 12 rfl rfl)
theorem dX0_lead_61 : decode cX0_lead 61 = .ok (.iload_n 2, 1) := dk_28 (dk_at dksX0_lead_2 14 rfl rfl)
theorem dX0_lead_62 : decode cX0_lead 62 = .ok (.invokevirtual 265, 3) := dk_182 1 9 (dk_at dksX0_lead_2 15 rfl rfl)
theorem dX0_lead_65 : decode cX0_lead 65 = .ok (.aload_n 0, 1) := dk_42 (dk_at dksX0_lead_2 18 rfl rfl)
theorem dX0_lead_66 : decode cX0_lead 66 = .ok (.iload_n 1, 1) := dk_27 (dk_at dksX0_lead_2 19 rfl rfl)
theorem dX0_lead_67 : decode cX0_lead 67 = .ok (.iload_n 3, 1) := dk_29 (dk_at dksX0_lead_2 20 rfl rfl)
theorem dX0_lead_68 : decode cX0_lead 68 = .ok (.invokevirtual 295, 3) := dk_182 1 39 (dk_at dksX0_lead_2 21 rfl rfl)
theorem dX0_lead_71 : decode cX0_lead 71 = .ok (.istore 6, 2) := dk_54 6 (dk_at dksX0_lead_3 0 rfl rfl)
theorem dX0_lead_73 : decode cX0_lead 73 = .ok (.iload 6, 2) := dk_21 6 (dk_at dksX0_lead_3 2 rfl rfl)
theorem dX0_lead_75 : decode cX0_lead 75 = .ok (.iload_n 3, 1) := dk_29 (dk_at dksX0_lead_3 4 rfl rfl)
theorem dX0_lead_76 : decode cX0_lead 76 = .ok (.if_icmp .ne 6, 3) := dk_160 0 6 (dk_at dksX0_lead_3 5 rfl rfl)
theorem dX0_lead_79 : decode cX0_lead 79 = .ok (.goto 10, 3) := dk_167 0 10 (dk_at dksX0_lead_3 8 rfl rfl)
theorem dX0_lead_82 : decode cX0_lead 82 = .ok (.iload 6, 2) := dk_21 6 (dk_at dksX0_lead_3 11 rfl rfl)
theorem dX0_lead_84 : decode cX0_lead 84 = .ok (.istore_n 3, 1) := dk_62 (dk_at dksX0_lead_3 13 rfl rfl)
theorem dX0_lead_85 : decode cX0_lead 85 = .ok (.iload 5, 2) := dk_21 5 (dk_at dksX0_lead_3 14 rfl rfl)
theorem dX0_lead_87 : decode cX0_lead 87 = .ok (.istore 4, 2) := dk_54 4 (dk_at dksX0_lead_3 16 rfl rfl)
theorem dX0_lead_89 : decode cX0_lead 89 = .ok (.iinc 5 1, 3) := dk_132 5 1 (dk_at dksX0_lead_3 18 rfl rfl)
theorem dX0_lead_92 : decode cX0_lead 92 = .ok (.goto (-49), 3) := dk_167 255 207 (dk_at dksX0_lead_3 21 rfl rfl)
theorem dX0_lead_95 : decode cX0_lead 95 = .ok (.iload 4, 2) := dk_21 4 (dk_at dksX0_lead_4 0 rfl rfl)
theorem dX0_lead_97 : decode cX0_lead 97 = .ok (.ireturn, 1) := dk_172 (dk_at dksX0_lead_4 2 rfl rfl)
abbrev cX0_told : ByteArray := prog_1_method_38_code
def yX0_told : MethodName := ⟨RX0, "told", "(I)I"⟩
def dkwX0_told_5 : List UInt8 := [42, 27, 16, 20, 100, 182, 1, 62, 167, 0, 4, 2, 172]
abbrev dktX0_told_5 : List UInt8 := dkwX0_told_5 ++ []
def dkwX0_told_4 : List UInt8 := [180, 0, 28, 180, 0, 194, 27, 16, 10, 100, 51, 167, 0, 25, 27, 16, 20, 100, 184, 0, 148, 153, 0, 14]
abbrev dktX0_told_4 : List UInt8 := dkwX0_told_4 ++ dktX0_told_5
def dkwX0_told_3 : List UInt8 := [42, 182, 1, 56, 172, 42, 180, 0, 28, 182, 1, 59, 172, 27, 16, 10, 100, 184, 0, 148, 153, 0, 18, 42]
abbrev dktX0_told_3 : List UInt8 := dkwX0_told_3 ++ dktX0_told_4
def dkwX0_told_2 : List UInt8 := [42, 180, 0, 28, 180, 0, 199, 172, 42, 180, 0, 42, 180, 1, 6, 172, 42, 180, 0, 28, 182, 1, 30, 172]
abbrev dktX0_told_2 : List UInt8 := dkwX0_told_2 ++ dktX0_told_3
def dkwX0_told_1 : List UInt8 := [170, 0, 0, 0, 0, 0, 72, 0, 0, 0, 0, 0, 0, 0, 4, 0, 0, 0, 35, 0, 0, 0, 43, 0, 0, 0, 51, 0, 0, 0, 59, 0, 0, 0, 64]
abbrev dktX0_told_1 : List UInt8 := dkwX0_told_1 ++ dktX0_told_2
def dkwX0_told_0 : List UInt8 := [27]
abbrev dktX0_told_0 : List UInt8 := dkwX0_told_0 ++ dktX0_told_1
theorem dksX0_told_0 : cX0_told.data.toList.drop 0 = dktX0_told_0 := by decide +kernel
theorem dksX0_told_1 : cX0_told.data.toList.drop 1 = dktX0_told_1 := dk_seg dksX0_told_0 1 rfl rfl
theorem dksX0_told_2 : cX0_told.data.toList.drop 36 = dktX0_told_2 := dk_seg dksX0_told_1 35 rfl rfl
theorem dksX0_told_3 : cX0_told.data.toList.drop 60 = dktX0_told_3 := dk_seg dksX0_told_2 24 rfl rfl
theorem dksX0_told_4 : cX0_told.data.toList.drop 84 = dktX0_told_4 := dk_seg dksX0_told_3 24 rfl rfl
theorem dksX0_told_5 : cX0_told.data.toList.drop 108 = dktX0_told_5 := dk_seg dksX0_told_4 24 rfl rfl
theorem dX0_told_0 : decode cX0_told 0 = .ok (.iload_n 1, 1) := dk_27 (dk_at dksX0_told_0 0 rfl rfl)
theorem dX0_told_1 : decode cX0_told 1 = .ok (.tableswitch 72 0 4 #[35, 43, 51, 59, 64], 35) := by decide +kernel
theorem dX0_told_36 : decode cX0_told 36 = .ok (.aload_n 0, 1) := dk_42 (dk_at dksX0_told_2 0 rfl rfl)
theorem dX0_told_37 : decode cX0_told 37 = .ok (.getfield 28, 3) := dk_180 0 28 (dk_at dksX0_told_2 1 rfl rfl)
theorem dX0_told_40 : decode cX0_told 40 = .ok (.getfield 199, 3) := dk_180 0 199 (dk_at dksX0_told_2 4 rfl rfl)
theorem dX0_told_43 : decode cX0_told 43 = .ok (.ireturn, 1) := dk_172 (dk_at dksX0_told_2 7 rfl rfl)
theorem dX0_told_44 : decode cX0_told 44 = .ok (.aload_n 0, 1) := dk_42 (dk_at dksX0_told_2 8 rfl rfl)
theorem dX0_told_45 : decode cX0_told 45 = .ok (.getfield 42, 3) := dk_180 0 42 (dk_at dksX0_told_2 9 rfl rfl)
theorem dX0_told_48 : decode cX0_told 48 = .ok (.getfield 262, 3) := dk_180 1 6 (dk_at dksX0_told_2 12 rfl rfl)
theorem dX0_told_51 : decode cX0_told 51 = .ok (.ireturn, 1) := dk_172 (dk_at dksX0_told_2 15 rfl rfl)
theorem dX0_told_52 : decode cX0_told 52 = .ok (.aload_n 0, 1) := dk_42 (dk_at dksX0_told_2 16 rfl rfl)
theorem dX0_told_53 : decode cX0_told 53 = .ok (.getfield 28, 3) := dk_180 0 28 (dk_at dksX0_told_2 17 rfl rfl)
theorem dX0_told_56 : decode cX0_told 56 = .ok (.invokevirtual 286, 3) := dk_182 1 30 (dk_at dksX0_told_2 20 rfl rfl)
theorem dX0_told_59 : decode cX0_told 59 = .ok (.ireturn, 1) := dk_172 (dk_at dksX0_told_2 23 rfl rfl)
theorem dX0_told_60 : decode cX0_told 60 = .ok (.aload_n 0, 1) := dk_42 (dk_at dksX0_told_3 0 rfl rfl)
theorem dX0_told_61 : decode cX0_told 61 = .ok (.invokevirtual 312, 3) := dk_182 1 56 (dk_at dksX0_told_3 1 rfl rfl)
theorem dX0_told_64 : decode cX0_told 64 = .ok (.ireturn, 1) := dk_172 (dk_at dksX0_told_3 4 rfl rfl)
theorem dX0_told_65 : decode cX0_told 65 = .ok (.aload_n 0, 1) := dk_42 (dk_at dksX0_told_3 5 rfl rfl)
theorem dX0_told_66 : decode cX0_told 66 = .ok (.getfield 28, 3) := dk_180 0 28 (dk_at dksX0_told_3 6 rfl rfl)
theorem dX0_told_69 : decode cX0_told 69 = .ok (.invokevirtual 315, 3) := dk_182 1 59 (dk_at dksX0_told_3 9 rfl rfl)
theorem dX0_told_72 : decode cX0_told 72 = .ok (.ireturn, 1) := dk_172 (dk_at dksX0_told_3 12 rfl rfl)
theorem dX0_told_73 : decode cX0_told 73 = .ok (.iload_n 1, 1) := dk_27 (dk_at dksX0_told_3 13 rfl rfl)
theorem dX0_told_74 : decode cX0_told 74 = .ok (.bipush 10, 2) := dk_16 10 (dk_at dksX0_told_3 14 rfl rfl)
theorem dX0_told_76 : decode cX0_told 76 = .ok (.isub, 1) := dk_100 (dk_at dksX0_told_3 16 rfl rfl)
theorem dX0_told_77 : decode cX0_told 77 = .ok (.invokestatic 148, 3) := dk_184 0 148 (dk_at dksX0_told_3 17 rfl rfl)
theorem dX0_told_80 : decode cX0_told 80 = .ok (.ifCond .eq 18, 3) := dk_153 0 18 (dk_at dksX0_told_3 20 rfl rfl)
theorem dX0_told_83 : decode cX0_told 83 = .ok (.aload_n 0, 1) := dk_42 (dk_at dksX0_told_3 23 rfl rfl)
theorem dX0_told_84 : decode cX0_told 84 = .ok (.getfield 28, 3) := dk_180 0 28 (dk_at dksX0_told_4 0 rfl rfl)
theorem dX0_told_87 : decode cX0_told 87 = .ok (.getfield 194, 3) := dk_180 0 194 (dk_at dksX0_told_4 3 rfl rfl)
theorem dX0_told_90 : decode cX0_told 90 = .ok (.iload_n 1, 1) := dk_27 (dk_at dksX0_told_4 6 rfl rfl)
theorem dX0_told_91 : decode cX0_told 91 = .ok (.bipush 10, 2) := dk_16 10 (dk_at dksX0_told_4 7 rfl rfl)
theorem dX0_told_93 : decode cX0_told 93 = .ok (.isub, 1) := dk_100 (dk_at dksX0_told_4 9 rfl rfl)
theorem dX0_told_94 : decode cX0_told 94 = .ok (.baload, 1) := dk_51 (dk_at dksX0_told_4 10 rfl rfl)
theorem dX0_told_95 : decode cX0_told 95 = .ok (.goto 25, 3) := dk_167 0 25 (dk_at dksX0_told_4 11 rfl rfl)
theorem dX0_told_98 : decode cX0_told 98 = .ok (.iload_n 1, 1) := dk_27 (dk_at dksX0_told_4 14 rfl rfl)
theorem dX0_told_99 : decode cX0_told 99 = .ok (.bipush 20, 2) := dk_16 20 (dk_at dksX0_told_4 15 rfl rfl)
theorem dX0_told_101 : decode cX0_told 101 = .ok (.isub, 1) := dk_100 (dk_at dksX0_told_4 17 rfl rfl)
theorem dX0_told_102 : decode cX0_told 102 = .ok (.invokestatic 148, 3) := dk_184 0 148 (dk_at dksX0_told_4 18 rfl rfl)
theorem dX0_told_105 : decode cX0_told 105 = .ok (.ifCond .eq 14, 3) := dk_153 0 14 (dk_at dksX0_told_4 21 rfl rfl)
theorem dX0_told_108 : decode cX0_told 108 = .ok (.aload_n 0, 1) := dk_42 (dk_at dksX0_told_5 0 rfl rfl)
theorem dX0_told_109 : decode cX0_told 109 = .ok (.iload_n 1, 1) := dk_27 (dk_at dksX0_told_5 1 rfl rfl)
theorem dX0_told_110 : decode cX0_told 110 = .ok (.bipush 20, 2) := dk_16 20 (dk_at dksX0_told_5 2 rfl rfl)
theorem dX0_told_112 : decode cX0_told 112 = .ok (.isub, 1) := dk_100 (dk_at dksX0_told_5 4 rfl rfl)
theorem dX0_told_113 : decode cX0_told 113 = .ok (.invokevirtual 318, 3) := dk_182 1 62 (dk_at dksX0_told_5 5 rfl rfl)
theorem dX0_told_116 : decode cX0_told 116 = .ok (.goto 4, 3) := dk_167 0 4 (dk_at dksX0_told_5 8 rfl rfl)
theorem dX0_told_119 : decode cX0_told 119 = .ok (.iconst (-1), 1) := dk_2 (dk_at dksX0_told_5 11 rfl rfl)
theorem dX0_told_120 : decode cX0_told 120 = .ok (.ireturn, 1) := dk_172 (dk_at dksX0_told_5 12 rfl rfl)
abbrev cX0_shutOnes : ByteArray := prog_1_method_31_code
def yX0_shutOnes : MethodName := ⟨RX0, "shutOnes", "()I"⟩
def dkwX0_shutOnes_2 : List UInt8 := [132, 2, 1, 167, 255, 227, 27, 172]
abbrev dktX0_shutOnes_2 : List UInt8 := dkwX0_shutOnes_2 ++ []
def dkwX0_shutOnes_1 : List UInt8 := [163, 0, 29, 27, 42, 180, 0, 32, 182, 1, 30, 2, 130, 126, 60, 42, 42, 180, 0, 32, 182, 1, 16]
abbrev dktX0_shutOnes_1 : List UInt8 := dkwX0_shutOnes_1 ++ dktX0_shutOnes_2
def dkwX0_shutOnes_0 : List UInt8 := [42, 3, 182, 1, 27, 4, 42, 180, 0, 28, 180, 0, 122, 120, 4, 100, 60, 3, 61, 28, 16, 20]
abbrev dktX0_shutOnes_0 : List UInt8 := dkwX0_shutOnes_0 ++ dktX0_shutOnes_1
theorem dksX0_shutOnes_0 : cX0_shutOnes.data.toList.drop 0 = dktX0_shutOnes_0 := by decide +kernel
theorem dksX0_shutOnes_1 : cX0_shutOnes.data.toList.drop 22 = dktX0_shutOnes_1 := dk_seg dksX0_shutOnes_0 22 rfl rfl
theorem dksX0_shutOnes_2 : cX0_shutOnes.data.toList.drop 45 = dktX0_shutOnes_2 := dk_seg dksX0_shutOnes_1 23 rfl rfl
theorem dX0_shutOnes_0 : decode cX0_shutOnes 0 = .ok (.aload_n 0, 1) := dk_42 (dk_at dksX0_shutOnes_0 0 rfl rfl)
theorem dX0_shutOnes_1 : decode cX0_shutOnes 1 = .ok (.iconst 0, 1) := dk_3 (dk_at dksX0_shutOnes_0 1 rfl rfl)
theorem dX0_shutOnes_2 : decode cX0_shutOnes 2 = .ok (.invokevirtual 283, 3) := dk_182 1 27 (dk_at dksX0_shutOnes_0 2 rfl rfl)
theorem dX0_shutOnes_5 : decode cX0_shutOnes 5 = .ok (.iconst 1, 1) := dk_4 (dk_at dksX0_shutOnes_0 5 rfl rfl)
theorem dX0_shutOnes_6 : decode cX0_shutOnes 6 = .ok (.aload_n 0, 1) := dk_42 (dk_at dksX0_shutOnes_0 6 rfl rfl)
theorem dX0_shutOnes_7 : decode cX0_shutOnes 7 = .ok (.getfield 28, 3) := dk_180 0 28 (dk_at dksX0_shutOnes_0 7 rfl rfl)
theorem dX0_shutOnes_10 : decode cX0_shutOnes 10 = .ok (.getfield 122, 3) := dk_180 0 122 (dk_at dksX0_shutOnes_0 10 rfl rfl)
theorem dX0_shutOnes_13 : decode cX0_shutOnes 13 = .ok (.ishl, 1) := dk_120 (dk_at dksX0_shutOnes_0 13 rfl rfl)
theorem dX0_shutOnes_14 : decode cX0_shutOnes 14 = .ok (.iconst 1, 1) := dk_4 (dk_at dksX0_shutOnes_0 14 rfl rfl)
theorem dX0_shutOnes_15 : decode cX0_shutOnes 15 = .ok (.isub, 1) := dk_100 (dk_at dksX0_shutOnes_0 15 rfl rfl)
theorem dX0_shutOnes_16 : decode cX0_shutOnes 16 = .ok (.istore_n 1, 1) := dk_60 (dk_at dksX0_shutOnes_0 16 rfl rfl)
theorem dX0_shutOnes_17 : decode cX0_shutOnes 17 = .ok (.iconst 0, 1) := dk_3 (dk_at dksX0_shutOnes_0 17 rfl rfl)
theorem dX0_shutOnes_18 : decode cX0_shutOnes 18 = .ok (.istore_n 2, 1) := dk_61 (dk_at dksX0_shutOnes_0 18 rfl rfl)
theorem dX0_shutOnes_19 : decode cX0_shutOnes 19 = .ok (.iload_n 2, 1) := dk_28 (dk_at dksX0_shutOnes_0 19 rfl rfl)
theorem dX0_shutOnes_20 : decode cX0_shutOnes 20 = .ok (.bipush 20, 2) := dk_16 20 (dk_at dksX0_shutOnes_0 20 rfl rfl)
theorem dX0_shutOnes_22 : decode cX0_shutOnes 22 = .ok (.if_icmp .gt 29, 3) := dk_163 0 29 (dk_at dksX0_shutOnes_1 0 rfl rfl)
theorem dX0_shutOnes_25 : decode cX0_shutOnes 25 = .ok (.iload_n 1, 1) := dk_27 (dk_at dksX0_shutOnes_1 3 rfl rfl)
theorem dX0_shutOnes_26 : decode cX0_shutOnes 26 = .ok (.aload_n 0, 1) := dk_42 (dk_at dksX0_shutOnes_1 4 rfl rfl)
theorem dX0_shutOnes_27 : decode cX0_shutOnes 27 = .ok (.getfield 32, 3) := dk_180 0 32 (dk_at dksX0_shutOnes_1 5 rfl rfl)
theorem dX0_shutOnes_30 : decode cX0_shutOnes 30 = .ok (.invokevirtual 286, 3) := dk_182 1 30 (dk_at dksX0_shutOnes_1 8 rfl rfl)
theorem dX0_shutOnes_33 : decode cX0_shutOnes 33 = .ok (.iconst (-1), 1) := dk_2 (dk_at dksX0_shutOnes_1 11 rfl rfl)
theorem dX0_shutOnes_34 : decode cX0_shutOnes 34 = .ok (.ixor, 1) := dk_130 (dk_at dksX0_shutOnes_1 12 rfl rfl)
theorem dX0_shutOnes_35 : decode cX0_shutOnes 35 = .ok (.iand, 1) := dk_126 (dk_at dksX0_shutOnes_1 13 rfl rfl)
theorem dX0_shutOnes_36 : decode cX0_shutOnes 36 = .ok (.istore_n 1, 1) := dk_60 (dk_at dksX0_shutOnes_1 14 rfl rfl)
theorem dX0_shutOnes_37 : decode cX0_shutOnes 37 = .ok (.aload_n 0, 1) := dk_42 (dk_at dksX0_shutOnes_1 15 rfl rfl)
theorem dX0_shutOnes_38 : decode cX0_shutOnes 38 = .ok (.aload_n 0, 1) := dk_42 (dk_at dksX0_shutOnes_1 16 rfl rfl)
theorem dX0_shutOnes_39 : decode cX0_shutOnes 39 = .ok (.getfield 32, 3) := dk_180 0 32 (dk_at dksX0_shutOnes_1 17 rfl rfl)
theorem dX0_shutOnes_42 : decode cX0_shutOnes 42 = .ok (.invokevirtual 272, 3) := dk_182 1 16 (dk_at dksX0_shutOnes_1 20 rfl rfl)
theorem dX0_shutOnes_45 : decode cX0_shutOnes 45 = .ok (.iinc 2 1, 3) := dk_132 2 1 (dk_at dksX0_shutOnes_2 0 rfl rfl)
theorem dX0_shutOnes_48 : decode cX0_shutOnes 48 = .ok (.goto (-29), 3) := dk_167 255 227 (dk_at dksX0_shutOnes_2 3 rfl rfl)
theorem dX0_shutOnes_51 : decode cX0_shutOnes 51 = .ok (.iload_n 1, 1) := dk_27 (dk_at dksX0_shutOnes_2 6 rfl rfl)
theorem dX0_shutOnes_52 : decode cX0_shutOnes 52 = .ok (.ireturn, 1) := dk_172 (dk_at dksX0_shutOnes_2 7 rfl rfl)
abbrev cX0_farFrom : ByteArray := prog_1_method_32_code
def yX0_farFrom : MethodName := ⟨RX0, "farFrom", "(I)I"⟩
def dkwX0_farFrom_1 : List UInt8 := [182, 1, 43, 61, 42, 42, 180, 0, 32, 182, 1, 16, 132, 3, 1, 167, 255, 230, 28, 172]
abbrev dktX0_farFrom_1 : List UInt8 := dkwX0_farFrom_1 ++ []
def dkwX0_farFrom_0 : List UInt8 := [42, 3, 182, 1, 27, 4, 27, 120, 61, 3, 62, 29, 16, 15, 162, 0, 26, 42, 180, 0, 32, 28]
abbrev dktX0_farFrom_0 : List UInt8 := dkwX0_farFrom_0 ++ dktX0_farFrom_1
theorem dksX0_farFrom_0 : cX0_farFrom.data.toList.drop 0 = dktX0_farFrom_0 := by decide +kernel
theorem dksX0_farFrom_1 : cX0_farFrom.data.toList.drop 22 = dktX0_farFrom_1 := dk_seg dksX0_farFrom_0 22 rfl rfl
theorem dX0_farFrom_0 : decode cX0_farFrom 0 = .ok (.aload_n 0, 1) := dk_42 (dk_at dksX0_farFrom_0 0 rfl rfl)
theorem dX0_farFrom_1 : decode cX0_farFrom 1 = .ok (.iconst 0, 1) := dk_3 (dk_at dksX0_farFrom_0 1 rfl rfl)
theorem dX0_farFrom_2 : decode cX0_farFrom 2 = .ok (.invokevirtual 283, 3) := dk_182 1 27 (dk_at dksX0_farFrom_0 2 rfl rfl)
theorem dX0_farFrom_5 : decode cX0_farFrom 5 = .ok (.iconst 1, 1) := dk_4 (dk_at dksX0_farFrom_0 5 rfl rfl)
theorem dX0_farFrom_6 : decode cX0_farFrom 6 = .ok (.iload_n 1, 1) := dk_27 (dk_at dksX0_farFrom_0 6 rfl rfl)
theorem dX0_farFrom_7 : decode cX0_farFrom 7 = .ok (.ishl, 1) := dk_120 (dk_at dksX0_farFrom_0 7 rfl rfl)
theorem dX0_farFrom_8 : decode cX0_farFrom 8 = .ok (.istore_n 2, 1) := dk_61 (dk_at dksX0_farFrom_0 8 rfl rfl)
theorem dX0_farFrom_9 : decode cX0_farFrom 9 = .ok (.iconst 0, 1) := dk_3 (dk_at dksX0_farFrom_0 9 rfl rfl)
theorem dX0_farFrom_10 : decode cX0_farFrom 10 = .ok (.istore_n 3, 1) := dk_62 (dk_at dksX0_farFrom_0 10 rfl rfl)
theorem dX0_farFrom_11 : decode cX0_farFrom 11 = .ok (.iload_n 3, 1) := dk_29 (dk_at dksX0_farFrom_0 11 rfl rfl)
theorem dX0_farFrom_12 : decode cX0_farFrom 12 = .ok (.bipush 15, 2) := dk_16 15 (dk_at dksX0_farFrom_0 12 rfl rfl)
theorem dX0_farFrom_14 : decode cX0_farFrom 14 = .ok (.if_icmp .ge 26, 3) := dk_162 0 26 (dk_at dksX0_farFrom_0 14 rfl rfl)
theorem dX0_farFrom_17 : decode cX0_farFrom 17 = .ok (.aload_n 0, 1) := dk_42 (dk_at dksX0_farFrom_0 17 rfl rfl)
theorem dX0_farFrom_18 : decode cX0_farFrom 18 = .ok (.getfield 32, 3) := dk_180 0 32 (dk_at dksX0_farFrom_0 18 rfl rfl)
theorem dX0_farFrom_21 : decode cX0_farFrom 21 = .ok (.iload_n 2, 1) := dk_28 (dk_at dksX0_farFrom_0 21 rfl rfl)
theorem dX0_farFrom_22 : decode cX0_farFrom 22 = .ok (.invokevirtual 299, 3) := dk_182 1 43 (dk_at dksX0_farFrom_1 0 rfl rfl)
theorem dX0_farFrom_25 : decode cX0_farFrom 25 = .ok (.istore_n 2, 1) := dk_61 (dk_at dksX0_farFrom_1 3 rfl rfl)
theorem dX0_farFrom_26 : decode cX0_farFrom 26 = .ok (.aload_n 0, 1) := dk_42 (dk_at dksX0_farFrom_1 4 rfl rfl)
theorem dX0_farFrom_27 : decode cX0_farFrom 27 = .ok (.aload_n 0, 1) := dk_42 (dk_at dksX0_farFrom_1 5 rfl rfl)
theorem dX0_farFrom_28 : decode cX0_farFrom 28 = .ok (.getfield 32, 3) := dk_180 0 32 (dk_at dksX0_farFrom_1 6 rfl rfl)
theorem dX0_farFrom_31 : decode cX0_farFrom 31 = .ok (.invokevirtual 272, 3) := dk_182 1 16 (dk_at dksX0_farFrom_1 9 rfl rfl)
theorem dX0_farFrom_34 : decode cX0_farFrom 34 = .ok (.iinc 3 1, 3) := dk_132 3 1 (dk_at dksX0_farFrom_1 12 rfl rfl)
theorem dX0_farFrom_37 : decode cX0_farFrom 37 = .ok (.goto (-26), 3) := dk_167 255 230 (dk_at dksX0_farFrom_1 15 rfl rfl)
theorem dX0_farFrom_40 : decode cX0_farFrom 40 = .ok (.iload_n 2, 1) := dk_28 (dk_at dksX0_farFrom_1 18 rfl rfl)
theorem dX0_farFrom_41 : decode cX0_farFrom 41 = .ok (.ireturn, 1) := dk_172 (dk_at dksX0_farFrom_1 19 rfl rfl)
abbrev cX0_see : ByteArray := prog_1_method_39_code
def yX0_see : MethodName := ⟨RX0, "see", "(III)I"⟩
def dkwX0_see_3 : List UInt8 := [28, 79, 42, 180, 0, 66, 42, 89, 180, 1, 65, 90, 4, 96, 181, 1, 65, 29, 79, 42, 180, 1, 65, 172]
abbrev dktX0_see_3 : List UInt8 := dkwX0_see_3 ++ []
def dkwX0_see_2 : List UInt8 := [160, 0, 6, 16, 252, 172, 42, 180, 0, 60, 42, 180, 1, 65, 27, 79, 42, 180, 0, 63, 42, 180, 1, 65]
abbrev dktX0_see_2 : List UInt8 := dkwX0_see_2 ++ dktX0_see_3
def dkwX0_see_1 : List UInt8 := [154, 0, 5, 2, 172, 28, 3, 16, 12, 184, 0, 5, 154, 0, 6, 16, 254, 172, 42, 180, 1, 65, 8]
abbrev dktX0_see_1 : List UInt8 := dkwX0_see_1 ++ dktX0_see_2
def dkwX0_see_0 : List UInt8 := [27, 2, 160, 0, 10, 42, 3, 181, 1, 65, 3, 172, 42, 27, 182, 0, 229, 153, 0, 10, 29, 184, 0, 148]
abbrev dktX0_see_0 : List UInt8 := dkwX0_see_0 ++ dktX0_see_1
theorem dksX0_see_0 : cX0_see.data.toList.drop 0 = dktX0_see_0 := by decide +kernel
theorem dksX0_see_1 : cX0_see.data.toList.drop 24 = dktX0_see_1 := dk_seg dksX0_see_0 24 rfl rfl
theorem dksX0_see_2 : cX0_see.data.toList.drop 47 = dktX0_see_2 := dk_seg dksX0_see_1 23 rfl rfl
theorem dksX0_see_3 : cX0_see.data.toList.drop 71 = dktX0_see_3 := dk_seg dksX0_see_2 24 rfl rfl
theorem dX0_see_0 : decode cX0_see 0 = .ok (.iload_n 1, 1) := dk_27 (dk_at dksX0_see_0 0 rfl rfl)
theorem dX0_see_1 : decode cX0_see 1 = .ok (.iconst (-1), 1) := dk_2 (dk_at dksX0_see_0 1 rfl rfl)
theorem dX0_see_2 : decode cX0_see 2 = .ok (.if_icmp .ne 10, 3) := dk_160 0 10 (dk_at dksX0_see_0 2 rfl rfl)
theorem dX0_see_5 : decode cX0_see 5 = .ok (.aload_n 0, 1) := dk_42 (dk_at dksX0_see_0 5 rfl rfl)
theorem dX0_see_6 : decode cX0_see 6 = .ok (.iconst 0, 1) := dk_3 (dk_at dksX0_see_0 6 rfl rfl)
theorem dX0_see_7 : decode cX0_see 7 = .ok (.putfield 321, 3) := dk_181 1 65 (dk_at dksX0_see_0 7 rfl rfl)
theorem dX0_see_10 : decode cX0_see 10 = .ok (.iconst 0, 1) := dk_3 (dk_at dksX0_see_0 10 rfl rfl)
theorem dX0_see_11 : decode cX0_see 11 = .ok (.ireturn, 1) := dk_172 (dk_at dksX0_see_0 11 rfl rfl)
theorem dX0_see_12 : decode cX0_see 12 = .ok (.aload_n 0, 1) := dk_42 (dk_at dksX0_see_0 12 rfl rfl)
theorem dX0_see_13 : decode cX0_see 13 = .ok (.iload_n 1, 1) := dk_27 (dk_at dksX0_see_0 13 rfl rfl)
theorem dX0_see_14 : decode cX0_see 14 = .ok (.invokevirtual 229, 3) := dk_182 0 229 (dk_at dksX0_see_0 14 rfl rfl)
theorem dX0_see_17 : decode cX0_see 17 = .ok (.ifCond .eq 10, 3) := dk_153 0 10 (dk_at dksX0_see_0 17 rfl rfl)
theorem dX0_see_20 : decode cX0_see 20 = .ok (.iload_n 3, 1) := dk_29 (dk_at dksX0_see_0 20 rfl rfl)
theorem dX0_see_21 : decode cX0_see 21 = .ok (.invokestatic 148, 3) := dk_184 0 148 (dk_at dksX0_see_0 21 rfl rfl)
theorem dX0_see_24 : decode cX0_see 24 = .ok (.ifCond .ne 5, 3) := dk_154 0 5 (dk_at dksX0_see_1 0 rfl rfl)
theorem dX0_see_27 : decode cX0_see 27 = .ok (.iconst (-1), 1) := dk_2 (dk_at dksX0_see_1 3 rfl rfl)
theorem dX0_see_28 : decode cX0_see 28 = .ok (.ireturn, 1) := dk_172 (dk_at dksX0_see_1 4 rfl rfl)
theorem dX0_see_29 : decode cX0_see 29 = .ok (.iload_n 2, 1) := dk_28 (dk_at dksX0_see_1 5 rfl rfl)
theorem dX0_see_30 : decode cX0_see 30 = .ok (.iconst 0, 1) := dk_3 (dk_at dksX0_see_1 6 rfl rfl)
theorem dX0_see_31 : decode cX0_see 31 = .ok (.bipush 12, 2) := dk_16 12 (dk_at dksX0_see_1 7 rfl rfl)
theorem dX0_see_33 : decode cX0_see 33 = .ok (.invokestatic 5, 3) := dk_184 0 5 (dk_at dksX0_see_1 9 rfl rfl)
theorem dX0_see_36 : decode cX0_see 36 = .ok (.ifCond .ne 6, 3) := dk_154 0 6 (dk_at dksX0_see_1 12 rfl rfl)
theorem dX0_see_39 : decode cX0_see 39 = .ok (.bipush (-2), 2) := dk_16 254 (dk_at dksX0_see_1 15 rfl rfl)
theorem dX0_see_41 : decode cX0_see 41 = .ok (.ireturn, 1) := dk_172 (dk_at dksX0_see_1 17 rfl rfl)
theorem dX0_see_42 : decode cX0_see 42 = .ok (.aload_n 0, 1) := dk_42 (dk_at dksX0_see_1 18 rfl rfl)
theorem dX0_see_43 : decode cX0_see 43 = .ok (.getfield 321, 3) := dk_180 1 65 (dk_at dksX0_see_1 19 rfl rfl)
theorem dX0_see_46 : decode cX0_see 46 = .ok (.iconst 5, 1) := dk_8 (dk_at dksX0_see_1 22 rfl rfl)
theorem dX0_see_47 : decode cX0_see 47 = .ok (.if_icmp .ne 6, 3) := dk_160 0 6 (dk_at dksX0_see_2 0 rfl rfl)
theorem dX0_see_50 : decode cX0_see 50 = .ok (.bipush (-4), 2) := dk_16 252 (dk_at dksX0_see_2 3 rfl rfl)
theorem dX0_see_52 : decode cX0_see 52 = .ok (.ireturn, 1) := dk_172 (dk_at dksX0_see_2 5 rfl rfl)
theorem dX0_see_53 : decode cX0_see 53 = .ok (.aload_n 0, 1) := dk_42 (dk_at dksX0_see_2 6 rfl rfl)
theorem dX0_see_54 : decode cX0_see 54 = .ok (.getfield 60, 3) := dk_180 0 60 (dk_at dksX0_see_2 7 rfl rfl)
theorem dX0_see_57 : decode cX0_see 57 = .ok (.aload_n 0, 1) := dk_42 (dk_at dksX0_see_2 10 rfl rfl)
theorem dX0_see_58 : decode cX0_see 58 = .ok (.getfield 321, 3) := dk_180 1 65 (dk_at dksX0_see_2 11 rfl rfl)
theorem dX0_see_61 : decode cX0_see 61 = .ok (.iload_n 1, 1) := dk_27 (dk_at dksX0_see_2 14 rfl rfl)
theorem dX0_see_62 : decode cX0_see 62 = .ok (.iastore, 1) := dk_79 (dk_at dksX0_see_2 15 rfl rfl)
theorem dX0_see_63 : decode cX0_see 63 = .ok (.aload_n 0, 1) := dk_42 (dk_at dksX0_see_2 16 rfl rfl)
theorem dX0_see_64 : decode cX0_see 64 = .ok (.getfield 63, 3) := dk_180 0 63 (dk_at dksX0_see_2 17 rfl rfl)
theorem dX0_see_67 : decode cX0_see 67 = .ok (.aload_n 0, 1) := dk_42 (dk_at dksX0_see_2 20 rfl rfl)
theorem dX0_see_68 : decode cX0_see 68 = .ok (.getfield 321, 3) := dk_180 1 65 (dk_at dksX0_see_2 21 rfl rfl)
theorem dX0_see_71 : decode cX0_see 71 = .ok (.iload_n 2, 1) := dk_28 (dk_at dksX0_see_3 0 rfl rfl)
theorem dX0_see_72 : decode cX0_see 72 = .ok (.iastore, 1) := dk_79 (dk_at dksX0_see_3 1 rfl rfl)
theorem dX0_see_73 : decode cX0_see 73 = .ok (.aload_n 0, 1) := dk_42 (dk_at dksX0_see_3 2 rfl rfl)
theorem dX0_see_74 : decode cX0_see 74 = .ok (.getfield 66, 3) := dk_180 0 66 (dk_at dksX0_see_3 3 rfl rfl)
theorem dX0_see_77 : decode cX0_see 77 = .ok (.aload_n 0, 1) := dk_42 (dk_at dksX0_see_3 6 rfl rfl)
theorem dX0_see_78 : decode cX0_see 78 = .ok (.dup, 1) := dk_89 (dk_at dksX0_see_3 7 rfl rfl)
theorem dX0_see_79 : decode cX0_see 79 = .ok (.getfield 321, 3) := dk_180 1 65 (dk_at dksX0_see_3 8 rfl rfl)
theorem dX0_see_82 : decode cX0_see 82 = .ok (.dup_x1, 1) := dk_90 (dk_at dksX0_see_3 11 rfl rfl)
theorem dX0_see_83 : decode cX0_see 83 = .ok (.iconst 1, 1) := dk_4 (dk_at dksX0_see_3 12 rfl rfl)
theorem dX0_see_84 : decode cX0_see 84 = .ok (.iadd, 1) := dk_96 (dk_at dksX0_see_3 13 rfl rfl)
theorem dX0_see_85 : decode cX0_see 85 = .ok (.putfield 321, 3) := dk_181 1 65 (dk_at dksX0_see_3 14 rfl rfl)
theorem dX0_see_88 : decode cX0_see 88 = .ok (.iload_n 3, 1) := dk_29 (dk_at dksX0_see_3 17 rfl rfl)
theorem dX0_see_89 : decode cX0_see 89 = .ok (.iastore, 1) := dk_79 (dk_at dksX0_see_3 18 rfl rfl)
theorem dX0_see_90 : decode cX0_see 90 = .ok (.aload_n 0, 1) := dk_42 (dk_at dksX0_see_3 19 rfl rfl)
theorem dX0_see_91 : decode cX0_see 91 = .ok (.getfield 321, 3) := dk_180 1 65 (dk_at dksX0_see_3 20 rfl rfl)
theorem dX0_see_94 : decode cX0_see 94 = .ok (.ireturn, 1) := dk_172 (dk_at dksX0_see_3 23 rfl rfl)
abbrev cX0_from : ByteArray := prog_1_method_42_code
def yX0_from : MethodName := ⟨RX0, "from", "(I)I"⟩
def dkwX0_from_2 : List UInt8 := [120, 128, 61, 132, 3, 1, 167, 255, 218, 28, 172]
abbrev dktX0_from_2 : List UInt8 := dkwX0_from_2 ++ []
def dkwX0_from_1 : List UInt8 := [182, 1, 27, 42, 180, 0, 32, 180, 0, 165, 27, 29, 145, 84, 42, 182, 1, 71, 153, 0, 9, 28, 4, 29]
abbrev dktX0_from_1 : List UInt8 := dkwX0_from_1 ++ dktX0_from_2
def dkwX0_from_0 : List UInt8 := [42, 27, 182, 0, 229, 154, 0, 5, 2, 172, 3, 61, 3, 62, 29, 16, 8, 162, 0, 38, 42, 3]
abbrev dktX0_from_0 : List UInt8 := dkwX0_from_0 ++ dktX0_from_1
theorem dksX0_from_0 : cX0_from.data.toList.drop 0 = dktX0_from_0 := by decide +kernel
theorem dksX0_from_1 : cX0_from.data.toList.drop 22 = dktX0_from_1 := dk_seg dksX0_from_0 22 rfl rfl
theorem dksX0_from_2 : cX0_from.data.toList.drop 46 = dktX0_from_2 := dk_seg dksX0_from_1 24 rfl rfl
theorem dX0_from_0 : decode cX0_from 0 = .ok (.aload_n 0, 1) := dk_42 (dk_at dksX0_from_0 0 rfl rfl)
theorem dX0_from_1 : decode cX0_from 1 = .ok (.iload_n 1, 1) := dk_27 (dk_at dksX0_from_0 1 rfl rfl)
theorem dX0_from_2 : decode cX0_from 2 = .ok (.invokevirtual 229, 3) := dk_182 0 229 (dk_at dksX0_from_0 2 rfl rfl)
theorem dX0_from_5 : decode cX0_from 5 = .ok (.ifCond .ne 5, 3) := dk_154 0 5 (dk_at dksX0_from_0 5 rfl rfl)
theorem dX0_from_8 : decode cX0_from 8 = .ok (.iconst (-1), 1) := dk_2 (dk_at dksX0_from_0 8 rfl rfl)
theorem dX0_from_9 : decode cX0_from 9 = .ok (.ireturn, 1) := dk_172 (dk_at dksX0_from_0 9 rfl rfl)
theorem dX0_from_10 : decode cX0_from 10 = .ok (.iconst 0, 1) := dk_3 (dk_at dksX0_from_0 10 rfl rfl)
theorem dX0_from_11 : decode cX0_from 11 = .ok (.istore_n 2, 1) := dk_61 (dk_at dksX0_from_0 11 rfl rfl)
theorem dX0_from_12 : decode cX0_from 12 = .ok (.iconst 0, 1) := dk_3 (dk_at dksX0_from_0 12 rfl rfl)
theorem dX0_from_13 : decode cX0_from 13 = .ok (.istore_n 3, 1) := dk_62 (dk_at dksX0_from_0 13 rfl rfl)
theorem dX0_from_14 : decode cX0_from 14 = .ok (.iload_n 3, 1) := dk_29 (dk_at dksX0_from_0 14 rfl rfl)
theorem dX0_from_15 : decode cX0_from 15 = .ok (.bipush 8, 2) := dk_16 8 (dk_at dksX0_from_0 15 rfl rfl)
theorem dX0_from_17 : decode cX0_from 17 = .ok (.if_icmp .ge 38, 3) := dk_162 0 38 (dk_at dksX0_from_0 17 rfl rfl)
theorem dX0_from_20 : decode cX0_from 20 = .ok (.aload_n 0, 1) := dk_42 (dk_at dksX0_from_0 20 rfl rfl)
theorem dX0_from_21 : decode cX0_from 21 = .ok (.iconst 0, 1) := dk_3 (dk_at dksX0_from_0 21 rfl rfl)
theorem dX0_from_22 : decode cX0_from 22 = .ok (.invokevirtual 283, 3) := dk_182 1 27 (dk_at dksX0_from_1 0 rfl rfl)
theorem dX0_from_25 : decode cX0_from 25 = .ok (.aload_n 0, 1) := dk_42 (dk_at dksX0_from_1 3 rfl rfl)
theorem dX0_from_26 : decode cX0_from 26 = .ok (.getfield 32, 3) := dk_180 0 32 (dk_at dksX0_from_1 4 rfl rfl)
theorem dX0_from_29 : decode cX0_from 29 = .ok (.getfield 165, 3) := dk_180 0 165 (dk_at dksX0_from_1 7 rfl rfl)
theorem dX0_from_32 : decode cX0_from 32 = .ok (.iload_n 1, 1) := dk_27 (dk_at dksX0_from_1 10 rfl rfl)
theorem dX0_from_33 : decode cX0_from 33 = .ok (.iload_n 3, 1) := dk_29 (dk_at dksX0_from_1 11 rfl rfl)
theorem dX0_from_34 : decode cX0_from 34 = .ok (.i2b, 1) := dk_145 (dk_at dksX0_from_1 12 rfl rfl)
theorem dX0_from_35 : decode cX0_from 35 = .ok (.bastore, 1) := dk_84 (dk_at dksX0_from_1 13 rfl rfl)
theorem dX0_from_36 : decode cX0_from 36 = .ok (.aload_n 0, 1) := dk_42 (dk_at dksX0_from_1 14 rfl rfl)
theorem dX0_from_37 : decode cX0_from 37 = .ok (.invokevirtual 327, 3) := dk_182 1 71 (dk_at dksX0_from_1 15 rfl rfl)
theorem dX0_from_40 : decode cX0_from 40 = .ok (.ifCond .eq 9, 3) := dk_153 0 9 (dk_at dksX0_from_1 18 rfl rfl)
theorem dX0_from_43 : decode cX0_from 43 = .ok (.iload_n 2, 1) := dk_28 (dk_at dksX0_from_1 21 rfl rfl)
theorem dX0_from_44 : decode cX0_from 44 = .ok (.iconst 1, 1) := dk_4 (dk_at dksX0_from_1 22 rfl rfl)
theorem dX0_from_45 : decode cX0_from 45 = .ok (.iload_n 3, 1) := dk_29 (dk_at dksX0_from_1 23 rfl rfl)
theorem dX0_from_46 : decode cX0_from 46 = .ok (.ishl, 1) := dk_120 (dk_at dksX0_from_2 0 rfl rfl)
theorem dX0_from_47 : decode cX0_from 47 = .ok (.ior, 1) := dk_128 (dk_at dksX0_from_2 1 rfl rfl)
theorem dX0_from_48 : decode cX0_from 48 = .ok (.istore_n 2, 1) := dk_61 (dk_at dksX0_from_2 2 rfl rfl)
theorem dX0_from_49 : decode cX0_from 49 = .ok (.iinc 3 1, 3) := dk_132 3 1 (dk_at dksX0_from_2 3 rfl rfl)
theorem dX0_from_52 : decode cX0_from 52 = .ok (.goto (-38), 3) := dk_167 255 218 (dk_at dksX0_from_2 6 rfl rfl)
theorem dX0_from_55 : decode cX0_from 55 = .ok (.iload_n 2, 1) := dk_28 (dk_at dksX0_from_2 9 rfl rfl)
theorem dX0_from_56 : decode cX0_from 56 = .ok (.ireturn, 1) := dk_172 (dk_at dksX0_from_2 10 rfl rfl)
abbrev cX0_areAsSeen : ByteArray := prog_1_method_41_code
def yX0_areAsSeen : MethodName := ⟨RX0, "areAsSeen", "()Z"⟩
def dkwX0_areAsSeen_1 : List UInt8 := [182, 1, 16, 132, 1, 1, 167, 255, 229, 4, 172]
abbrev dktX0_areAsSeen_1 : List UInt8 := dkwX0_areAsSeen_1 ++ []
def dkwX0_areAsSeen_0 : List UInt8 := [3, 60, 27, 16, 12, 163, 0, 27, 42, 27, 182, 1, 68, 154, 0, 5, 3, 172, 42, 42, 180, 0, 32]
abbrev dktX0_areAsSeen_0 : List UInt8 := dkwX0_areAsSeen_0 ++ dktX0_areAsSeen_1
theorem dksX0_areAsSeen_0 : cX0_areAsSeen.data.toList.drop 0 = dktX0_areAsSeen_0 := by decide +kernel
theorem dksX0_areAsSeen_1 : cX0_areAsSeen.data.toList.drop 23 = dktX0_areAsSeen_1 := dk_seg dksX0_areAsSeen_0 23 rfl rfl
theorem dX0_areAsSeen_0 : decode cX0_areAsSeen 0 = .ok (.iconst 0, 1) := dk_3 (dk_at dksX0_areAsSeen_0 0 rfl rfl)
theorem dX0_areAsSeen_1 : decode cX0_areAsSeen 1 = .ok (.istore_n 1, 1) := dk_60 (dk_at dksX0_areAsSeen_0 1 rfl rfl)
theorem dX0_areAsSeen_2 : decode cX0_areAsSeen 2 = .ok (.iload_n 1, 1) := dk_27 (dk_at dksX0_areAsSeen_0 2 rfl rfl)
theorem dX0_areAsSeen_3 : decode cX0_areAsSeen 3 = .ok (.bipush 12, 2) := dk_16 12 (dk_at dksX0_areAsSeen_0 3 rfl rfl)
theorem dX0_areAsSeen_5 : decode cX0_areAsSeen 5 = .ok (.if_icmp .gt 27, 3) := dk_163 0 27 (dk_at dksX0_areAsSeen_0 5 rfl rfl)
theorem dX0_areAsSeen_8 : decode cX0_areAsSeen 8 = .ok (.aload_n 0, 1) := dk_42 (dk_at dksX0_areAsSeen_0 8 rfl rfl)
theorem dX0_areAsSeen_9 : decode cX0_areAsSeen 9 = .ok (.iload_n 1, 1) := dk_27 (dk_at dksX0_areAsSeen_0 9 rfl rfl)
theorem dX0_areAsSeen_10 : decode cX0_areAsSeen 10 = .ok (.invokevirtual 324, 3) := dk_182 1 68 (dk_at dksX0_areAsSeen_0 10 rfl rfl)
theorem dX0_areAsSeen_13 : decode cX0_areAsSeen 13 = .ok (.ifCond .ne 5, 3) := dk_154 0 5 (dk_at dksX0_areAsSeen_0 13 rfl rfl)
theorem dX0_areAsSeen_16 : decode cX0_areAsSeen 16 = .ok (.iconst 0, 1) := dk_3 (dk_at dksX0_areAsSeen_0 16 rfl rfl)
theorem dX0_areAsSeen_17 : decode cX0_areAsSeen 17 = .ok (.ireturn, 1) := dk_172 (dk_at dksX0_areAsSeen_0 17 rfl rfl)
theorem dX0_areAsSeen_18 : decode cX0_areAsSeen 18 = .ok (.aload_n 0, 1) := dk_42 (dk_at dksX0_areAsSeen_0 18 rfl rfl)
theorem dX0_areAsSeen_19 : decode cX0_areAsSeen 19 = .ok (.aload_n 0, 1) := dk_42 (dk_at dksX0_areAsSeen_0 19 rfl rfl)
theorem dX0_areAsSeen_20 : decode cX0_areAsSeen 20 = .ok (.getfield 32, 3) := dk_180 0 32 (dk_at dksX0_areAsSeen_0 20 rfl rfl)
theorem dX0_areAsSeen_23 : decode cX0_areAsSeen 23 = .ok (.invokevirtual 272, 3) := dk_182 1 16 (dk_at dksX0_areAsSeen_1 0 rfl rfl)
theorem dX0_areAsSeen_26 : decode cX0_areAsSeen 26 = .ok (.iinc 1 1, 3) := dk_132 1 1 (dk_at dksX0_areAsSeen_1 3 rfl rfl)
theorem dX0_areAsSeen_29 : decode cX0_areAsSeen 29 = .ok (.goto (-27), 3) := dk_167 255 229 (dk_at dksX0_areAsSeen_1 6 rfl rfl)
theorem dX0_areAsSeen_32 : decode cX0_areAsSeen 32 = .ok (.iconst 1, 1) := dk_4 (dk_at dksX0_areAsSeen_1 9 rfl rfl)
theorem dX0_areAsSeen_33 : decode cX0_areAsSeen 33 = .ok (.ireturn, 1) := dk_172 (dk_at dksX0_areAsSeen_1 10 rfl rfl)
abbrev cX0_isAsSeen : ByteArray := prog_1_method_40_code
def yX0_isAsSeen : MethodName := ⟨RX0, "isAsSeen", "(I)Z"⟩
def dkwX0_isAsSeen_2 : List UInt8 := [167, 255, 210, 4, 172]
abbrev dktX0_isAsSeen_2 : List UInt8 := dkwX0_isAsSeen_2 ++ []
def dkwX0_isAsSeen_1 : List UInt8 := [180, 0, 165, 42, 180, 0, 60, 28, 46, 51, 42, 180, 0, 66, 28, 46, 159, 0, 5, 3, 172, 132, 2, 1]
abbrev dktX0_isAsSeen_1 : List UInt8 := dkwX0_isAsSeen_1 ++ dktX0_isAsSeen_2
def dkwX0_isAsSeen_0 : List UInt8 := [3, 61, 28, 42, 180, 1, 65, 162, 0, 44, 42, 180, 0, 63, 28, 46, 27, 160, 0, 28, 42, 180, 0, 32]
abbrev dktX0_isAsSeen_0 : List UInt8 := dkwX0_isAsSeen_0 ++ dktX0_isAsSeen_1
theorem dksX0_isAsSeen_0 : cX0_isAsSeen.data.toList.drop 0 = dktX0_isAsSeen_0 := by decide +kernel
theorem dksX0_isAsSeen_1 : cX0_isAsSeen.data.toList.drop 24 = dktX0_isAsSeen_1 := dk_seg dksX0_isAsSeen_0 24 rfl rfl
theorem dksX0_isAsSeen_2 : cX0_isAsSeen.data.toList.drop 48 = dktX0_isAsSeen_2 := dk_seg dksX0_isAsSeen_1 24 rfl rfl
theorem dX0_isAsSeen_0 : decode cX0_isAsSeen 0 = .ok (.iconst 0, 1) := dk_3 (dk_at dksX0_isAsSeen_0 0 rfl rfl)
theorem dX0_isAsSeen_1 : decode cX0_isAsSeen 1 = .ok (.istore_n 2, 1) := dk_61 (dk_at dksX0_isAsSeen_0 1 rfl rfl)
theorem dX0_isAsSeen_2 : decode cX0_isAsSeen 2 = .ok (.iload_n 2, 1) := dk_28 (dk_at dksX0_isAsSeen_0 2 rfl rfl)
theorem dX0_isAsSeen_3 : decode cX0_isAsSeen 3 = .ok (.aload_n 0, 1) := dk_42 (dk_at dksX0_isAsSeen_0 3 rfl rfl)
theorem dX0_isAsSeen_4 : decode cX0_isAsSeen 4 = .ok (.getfield 321, 3) := dk_180 1 65 (dk_at dksX0_isAsSeen_0 4 rfl rfl)
theorem dX0_isAsSeen_7 : decode cX0_isAsSeen 7 = .ok (.if_icmp .ge 44, 3) := dk_162 0 44 (dk_at dksX0_isAsSeen_0 7 rfl rfl)
theorem dX0_isAsSeen_10 : decode cX0_isAsSeen 10 = .ok (.aload_n 0, 1) := dk_42 (dk_at dksX0_isAsSeen_0 10 rfl rfl)
theorem dX0_isAsSeen_11 : decode cX0_isAsSeen 11 = .ok (.getfield 63, 3) := dk_180 0 63 (dk_at dksX0_isAsSeen_0 11 rfl rfl)
theorem dX0_isAsSeen_14 : decode cX0_isAsSeen 14 = .ok (.iload_n 2, 1) := dk_28 (dk_at dksX0_isAsSeen_0 14 rfl rfl)
theorem dX0_isAsSeen_15 : decode cX0_isAsSeen 15 = .ok (.iaload, 1) := dk_46 (dk_at dksX0_isAsSeen_0 15 rfl rfl)
theorem dX0_isAsSeen_16 : decode cX0_isAsSeen 16 = .ok (.iload_n 1, 1) := dk_27 (dk_at dksX0_isAsSeen_0 16 rfl rfl)
theorem dX0_isAsSeen_17 : decode cX0_isAsSeen 17 = .ok (.if_icmp .ne 28, 3) := dk_160 0 28 (dk_at dksX0_isAsSeen_0 17 rfl rfl)
theorem dX0_isAsSeen_20 : decode cX0_isAsSeen 20 = .ok (.aload_n 0, 1) := dk_42 (dk_at dksX0_isAsSeen_0 20 rfl rfl)
theorem dX0_isAsSeen_21 : decode cX0_isAsSeen 21 = .ok (.getfield 32, 3) := dk_180 0 32 (dk_at dksX0_isAsSeen_0 21 rfl rfl)
theorem dX0_isAsSeen_24 : decode cX0_isAsSeen 24 = .ok (.getfield 165, 3) := dk_180 0 165 (dk_at dksX0_isAsSeen_1 0 rfl rfl)
theorem dX0_isAsSeen_27 : decode cX0_isAsSeen 27 = .ok (.aload_n 0, 1) := dk_42 (dk_at dksX0_isAsSeen_1 3 rfl rfl)
theorem dX0_isAsSeen_28 : decode cX0_isAsSeen 28 = .ok (.getfield 60, 3) := dk_180 0 60 (dk_at dksX0_isAsSeen_1 4 rfl rfl)
theorem dX0_isAsSeen_31 : decode cX0_isAsSeen 31 = .ok (.iload_n 2, 1) := dk_28 (dk_at dksX0_isAsSeen_1 7 rfl rfl)
theorem dX0_isAsSeen_32 : decode cX0_isAsSeen 32 = .ok (.iaload, 1) := dk_46 (dk_at dksX0_isAsSeen_1 8 rfl rfl)
theorem dX0_isAsSeen_33 : decode cX0_isAsSeen 33 = .ok (.baload, 1) := dk_51 (dk_at dksX0_isAsSeen_1 9 rfl rfl)
theorem dX0_isAsSeen_34 : decode cX0_isAsSeen 34 = .ok (.aload_n 0, 1) := dk_42 (dk_at dksX0_isAsSeen_1 10 rfl rfl)
theorem dX0_isAsSeen_35 : decode cX0_isAsSeen 35 = .ok (.getfield 66, 3) := dk_180 0 66 (dk_at dksX0_isAsSeen_1 11 rfl rfl)
theorem dX0_isAsSeen_38 : decode cX0_isAsSeen 38 = .ok (.iload_n 2, 1) := dk_28 (dk_at dksX0_isAsSeen_1 14 rfl rfl)
theorem dX0_isAsSeen_39 : decode cX0_isAsSeen 39 = .ok (.iaload, 1) := dk_46 (dk_at dksX0_isAsSeen_1 15 rfl rfl)
theorem dX0_isAsSeen_40 : decode cX0_isAsSeen 40 = .ok (.if_icmp .eq 5, 3) := dk_159 0 5 (dk_at dksX0_isAsSeen_1 16 rfl rfl)
theorem dX0_isAsSeen_43 : decode cX0_isAsSeen 43 = .ok (.iconst 0, 1) := dk_3 (dk_at dksX0_isAsSeen_1 19 rfl rfl)
theorem dX0_isAsSeen_44 : decode cX0_isAsSeen 44 = .ok (.ireturn, 1) := dk_172 (dk_at dksX0_isAsSeen_1 20 rfl rfl)
theorem dX0_isAsSeen_45 : decode cX0_isAsSeen 45 = .ok (.iinc 2 1, 3) := dk_132 2 1 (dk_at dksX0_isAsSeen_1 21 rfl rfl)
theorem dX0_isAsSeen_48 : decode cX0_isAsSeen 48 = .ok (.goto (-46), 3) := dk_167 255 210 (dk_at dksX0_isAsSeen_2 0 rfl rfl)
theorem dX0_isAsSeen_51 : decode cX0_isAsSeen 51 = .ok (.iconst 1, 1) := dk_4 (dk_at dksX0_isAsSeen_2 3 rfl rfl)
theorem dX0_isAsSeen_52 : decode cX0_isAsSeen 52 = .ok (.ireturn, 1) := dk_172 (dk_at dksX0_isAsSeen_2 4 rfl rfl)
abbrev cX0_can : ByteArray := prog_1_method_43_code
def yX0_can : MethodName := ⟨RX0, "can", "(II)I"⟩
def dkwX0_can_5 : List UInt8 := [180, 0, 17, 27, 50, 29, 181, 0, 187, 25, 7, 191]
abbrev dktX0_can_5 : List UInt8 := dkwX0_can_5 ++ []
def dkwX0_can_4 : List UInt8 := [167, 0, 5, 21, 5, 54, 6, 42, 180, 0, 17, 27, 50, 29, 181, 0, 187, 21, 6, 172, 58, 7, 42]
abbrev dktX0_can_4 : List UInt8 := dkwX0_can_4 ++ dktX0_can_5
def dkwX0_can_3 : List UInt8 := [167, 0, 10, 132, 4, 1, 21, 6, 54, 5, 132, 6, 255, 167, 255, 215, 28, 154, 0, 8, 21, 4]
abbrev dktX0_can_3 : List UInt8 := dkwX0_can_3 ++ dktX0_can_4
def dkwX0_can_2 : List UInt8 := [180, 0, 17, 27, 50, 21, 6, 181, 0, 187, 42, 3, 182, 1, 27, 42, 182, 1, 71, 154, 0, 6]
abbrev dktX0_can_2 : List UInt8 := dkwX0_can_2 ++ dktX0_can_3
def dkwX0_can_1 : List UInt8 := [50, 180, 0, 187, 62, 3, 54, 4, 16, 251, 54, 5, 16, 9, 54, 6, 21, 6, 155, 0, 42, 42]
abbrev dktX0_can_1 : List UInt8 := dkwX0_can_1 ++ dktX0_can_2
def dkwX0_can_0 : List UInt8 := [42, 27, 182, 0, 229, 153, 0, 12, 28, 3, 4, 184, 0, 5, 154, 0, 5, 2, 172, 42, 180, 0, 17, 27]
abbrev dktX0_can_0 : List UInt8 := dkwX0_can_0 ++ dktX0_can_1
theorem dksX0_can_0 : cX0_can.data.toList.drop 0 = dktX0_can_0 := by decide +kernel
theorem dksX0_can_1 : cX0_can.data.toList.drop 24 = dktX0_can_1 := dk_seg dksX0_can_0 24 rfl rfl
theorem dksX0_can_2 : cX0_can.data.toList.drop 46 = dktX0_can_2 := dk_seg dksX0_can_1 22 rfl rfl
theorem dksX0_can_3 : cX0_can.data.toList.drop 68 = dktX0_can_3 := dk_seg dksX0_can_2 22 rfl rfl
theorem dksX0_can_4 : cX0_can.data.toList.drop 90 = dktX0_can_4 := dk_seg dksX0_can_3 22 rfl rfl
theorem dksX0_can_5 : cX0_can.data.toList.drop 113 = dktX0_can_5 := dk_seg dksX0_can_4 23 rfl rfl
theorem dX0_can_0 : decode cX0_can 0 = .ok (.aload_n 0, 1) := dk_42 (dk_at dksX0_can_0 0 rfl rfl)
theorem dX0_can_1 : decode cX0_can 1 = .ok (.iload_n 1, 1) := dk_27 (dk_at dksX0_can_0 1 rfl rfl)
theorem dX0_can_2 : decode cX0_can 2 = .ok (.invokevirtual 229, 3) := dk_182 0 229 (dk_at dksX0_can_0 2 rfl rfl)
theorem dX0_can_5 : decode cX0_can 5 = .ok (.ifCond .eq 12, 3) := dk_153 0 12 (dk_at dksX0_can_0 5 rfl rfl)
theorem dX0_can_8 : decode cX0_can 8 = .ok (.iload_n 2, 1) := dk_28 (dk_at dksX0_can_0 8 rfl rfl)
theorem dX0_can_9 : decode cX0_can 9 = .ok (.iconst 0, 1) := dk_3 (dk_at dksX0_can_0 9 rfl rfl)
theorem dX0_can_10 : decode cX0_can 10 = .ok (.iconst 1, 1) := dk_4 (dk_at dksX0_can_0 10 rfl rfl)
theorem dX0_can_11 : decode cX0_can 11 = .ok (.invokestatic 5, 3) := dk_184 0 5 (dk_at dksX0_can_0 11 rfl rfl)
theorem dX0_can_14 : decode cX0_can 14 = .ok (.ifCond .ne 5, 3) := dk_154 0 5 (dk_at dksX0_can_0 14 rfl rfl)
theorem dX0_can_17 : decode cX0_can 17 = .ok (.iconst (-1), 1) := dk_2 (dk_at dksX0_can_0 17 rfl rfl)
theorem dX0_can_18 : decode cX0_can 18 = .ok (.ireturn, 1) := dk_172 (dk_at dksX0_can_0 18 rfl rfl)
theorem dX0_can_19 : decode cX0_can 19 = .ok (.aload_n 0, 1) := dk_42 (dk_at dksX0_can_0 19 rfl rfl)
theorem dX0_can_20 : decode cX0_can 20 = .ok (.getfield 17, 3) := dk_180 0 17 (dk_at dksX0_can_0 20 rfl rfl)
theorem dX0_can_23 : decode cX0_can 23 = .ok (.iload_n 1, 1) := dk_27 (dk_at dksX0_can_0 23 rfl rfl)
theorem dX0_can_24 : decode cX0_can 24 = .ok (.aaload, 1) := dk_50 (dk_at dksX0_can_1 0 rfl rfl)
theorem dX0_can_25 : decode cX0_can 25 = .ok (.getfield 187, 3) := dk_180 0 187 (dk_at dksX0_can_1 1 rfl rfl)
theorem dX0_can_28 : decode cX0_can 28 = .ok (.istore_n 3, 1) := dk_62 (dk_at dksX0_can_1 4 rfl rfl)
theorem dX0_can_29 : decode cX0_can 29 = .ok (.iconst 0, 1) := dk_3 (dk_at dksX0_can_1 5 rfl rfl)
theorem dX0_can_30 : decode cX0_can 30 = .ok (.istore 4, 2) := dk_54 4 (dk_at dksX0_can_1 6 rfl rfl)
theorem dX0_can_32 : decode cX0_can 32 = .ok (.bipush (-5), 2) := dk_16 251 (dk_at dksX0_can_1 8 rfl rfl)
theorem dX0_can_34 : decode cX0_can 34 = .ok (.istore 5, 2) := dk_54 5 (dk_at dksX0_can_1 10 rfl rfl)
theorem dX0_can_36 : decode cX0_can 36 = .ok (.bipush 9, 2) := dk_16 9 (dk_at dksX0_can_1 12 rfl rfl)
theorem dX0_can_38 : decode cX0_can 38 = .ok (.istore 6, 2) := dk_54 6 (dk_at dksX0_can_1 14 rfl rfl)
theorem dX0_can_40 : decode cX0_can 40 = .ok (.iload 6, 2) := dk_21 6 (dk_at dksX0_can_1 16 rfl rfl)
theorem dX0_can_42 : decode cX0_can 42 = .ok (.ifCond .lt 42, 3) := dk_155 0 42 (dk_at dksX0_can_1 18 rfl rfl)
theorem dX0_can_45 : decode cX0_can 45 = .ok (.aload_n 0, 1) := dk_42 (dk_at dksX0_can_1 21 rfl rfl)
theorem dX0_can_46 : decode cX0_can 46 = .ok (.getfield 17, 3) := dk_180 0 17 (dk_at dksX0_can_2 0 rfl rfl)
theorem dX0_can_49 : decode cX0_can 49 = .ok (.iload_n 1, 1) := dk_27 (dk_at dksX0_can_2 3 rfl rfl)
theorem dX0_can_50 : decode cX0_can 50 = .ok (.aaload, 1) := dk_50 (dk_at dksX0_can_2 4 rfl rfl)
theorem dX0_can_51 : decode cX0_can 51 = .ok (.iload 6, 2) := dk_21 6 (dk_at dksX0_can_2 5 rfl rfl)
theorem dX0_can_53 : decode cX0_can 53 = .ok (.putfield 187, 3) := dk_181 0 187 (dk_at dksX0_can_2 7 rfl rfl)
theorem dX0_can_56 : decode cX0_can 56 = .ok (.aload_n 0, 1) := dk_42 (dk_at dksX0_can_2 10 rfl rfl)
theorem dX0_can_57 : decode cX0_can 57 = .ok (.iconst 0, 1) := dk_3 (dk_at dksX0_can_2 11 rfl rfl)
theorem dX0_can_58 : decode cX0_can 58 = .ok (.invokevirtual 283, 3) := dk_182 1 27 (dk_at dksX0_can_2 12 rfl rfl)
theorem dX0_can_61 : decode cX0_can 61 = .ok (.aload_n 0, 1) := dk_42 (dk_at dksX0_can_2 15 rfl rfl)
theorem dX0_can_62 : decode cX0_can 62 = .ok (.invokevirtual 327, 3) := dk_182 1 71 (dk_at dksX0_can_2 16 rfl rfl)
theorem dX0_can_65 : decode cX0_can 65 = .ok (.ifCond .ne 6, 3) := dk_154 0 6 (dk_at dksX0_can_2 19 rfl rfl)
theorem dX0_can_68 : decode cX0_can 68 = .ok (.goto 10, 3) := dk_167 0 10 (dk_at dksX0_can_3 0 rfl rfl)
theorem dX0_can_71 : decode cX0_can 71 = .ok (.iinc 4 1, 3) := dk_132 4 1 (dk_at dksX0_can_3 3 rfl rfl)
theorem dX0_can_74 : decode cX0_can 74 = .ok (.iload 6, 2) := dk_21 6 (dk_at dksX0_can_3 6 rfl rfl)
theorem dX0_can_76 : decode cX0_can 76 = .ok (.istore 5, 2) := dk_54 5 (dk_at dksX0_can_3 8 rfl rfl)
theorem dX0_can_78 : decode cX0_can 78 = .ok (.iinc 6 (-1), 3) := dk_132 6 255 (dk_at dksX0_can_3 10 rfl rfl)
theorem dX0_can_81 : decode cX0_can 81 = .ok (.goto (-41), 3) := dk_167 255 215 (dk_at dksX0_can_3 13 rfl rfl)
theorem dX0_can_84 : decode cX0_can 84 = .ok (.iload_n 2, 1) := dk_28 (dk_at dksX0_can_3 16 rfl rfl)
theorem dX0_can_85 : decode cX0_can 85 = .ok (.ifCond .ne 8, 3) := dk_154 0 8 (dk_at dksX0_can_3 17 rfl rfl)
theorem dX0_can_88 : decode cX0_can 88 = .ok (.iload 4, 2) := dk_21 4 (dk_at dksX0_can_3 20 rfl rfl)
theorem dX0_can_90 : decode cX0_can 90 = .ok (.goto 5, 3) := dk_167 0 5 (dk_at dksX0_can_4 0 rfl rfl)
theorem dX0_can_93 : decode cX0_can 93 = .ok (.iload 5, 2) := dk_21 5 (dk_at dksX0_can_4 3 rfl rfl)
theorem dX0_can_95 : decode cX0_can 95 = .ok (.istore 6, 2) := dk_54 6 (dk_at dksX0_can_4 5 rfl rfl)
theorem dX0_can_97 : decode cX0_can 97 = .ok (.aload_n 0, 1) := dk_42 (dk_at dksX0_can_4 7 rfl rfl)
theorem dX0_can_98 : decode cX0_can 98 = .ok (.getfield 17, 3) := dk_180 0 17 (dk_at dksX0_can_4 8 rfl rfl)
theorem dX0_can_101 : decode cX0_can 101 = .ok (.iload_n 1, 1) := dk_27 (dk_at dksX0_can_4 11 rfl rfl)
theorem dX0_can_102 : decode cX0_can 102 = .ok (.aaload, 1) := dk_50 (dk_at dksX0_can_4 12 rfl rfl)
theorem dX0_can_103 : decode cX0_can 103 = .ok (.iload_n 3, 1) := dk_29 (dk_at dksX0_can_4 13 rfl rfl)
theorem dX0_can_104 : decode cX0_can 104 = .ok (.putfield 187, 3) := dk_181 0 187 (dk_at dksX0_can_4 14 rfl rfl)
theorem dX0_can_107 : decode cX0_can 107 = .ok (.iload 6, 2) := dk_21 6 (dk_at dksX0_can_4 17 rfl rfl)
theorem dX0_can_109 : decode cX0_can 109 = .ok (.ireturn, 1) := dk_172 (dk_at dksX0_can_4 19 rfl rfl)
theorem dX0_can_110 : decode cX0_can 110 = .ok (.astore 7, 2) := dk_58 7 (dk_at dksX0_can_4 20 rfl rfl)
theorem dX0_can_112 : decode cX0_can 112 = .ok (.aload_n 0, 1) := dk_42 (dk_at dksX0_can_4 22 rfl rfl)
theorem dX0_can_113 : decode cX0_can 113 = .ok (.getfield 17, 3) := dk_180 0 17 (dk_at dksX0_can_5 0 rfl rfl)
theorem dX0_can_116 : decode cX0_can 116 = .ok (.iload_n 1, 1) := dk_27 (dk_at dksX0_can_5 3 rfl rfl)
theorem dX0_can_117 : decode cX0_can 117 = .ok (.aaload, 1) := dk_50 (dk_at dksX0_can_5 4 rfl rfl)
theorem dX0_can_118 : decode cX0_can 118 = .ok (.iload_n 3, 1) := dk_29 (dk_at dksX0_can_5 5 rfl rfl)
theorem dX0_can_119 : decode cX0_can 119 = .ok (.putfield 187, 3) := dk_181 0 187 (dk_at dksX0_can_5 6 rfl rfl)
theorem dX0_can_122 : decode cX0_can 122 = .ok (.aload 7, 2) := dk_25 7 (dk_at dksX0_can_5 9 rfl rfl)
theorem dX0_can_124 : decode cX0_can 124 = .ok (.athrow, 1) := dk_191 (dk_at dksX0_can_5 11 rfl rfl)
abbrev cX0_odds : ByteArray := prog_1_method_46_code
def yX0_odds : MethodName := ⟨RX0, "odds", "(III)J"⟩
def dkwX0_odds_4 : List UInt8 := [184, 1, 83, 173]
abbrev dktX0_odds_4 : List UInt8 := dkwX0_odds_4 ++ []
def dkwX0_odds_3 : List UInt8 := [182, 1, 33, 153, 0, 9, 22, 4, 10, 97, 55, 4, 132, 6, 1, 167, 255, 208, 22, 4, 20, 1, 81, 29]
abbrev dktX0_odds_3 : List UInt8 := dkwX0_odds_3 ++ dktX0_odds_4
def dkwX0_odds_2 : List UInt8 := [182, 1, 27, 42, 180, 0, 32, 21, 6, 16, 9, 182, 1, 9, 42, 28, 182, 1, 23, 42, 180, 0, 32, 27]
abbrev dktX0_odds_2 : List UInt8 := dkwX0_odds_2 ++ dktX0_odds_3
def dkwX0_odds_1 : List UInt8 := [154, 0, 7, 20, 1, 79, 173, 9, 55, 4, 3, 54, 6, 21, 6, 16, 8, 162, 0, 47, 42, 3]
abbrev dktX0_odds_1 : List UInt8 := dkwX0_odds_1 ++ dktX0_odds_2
def dkwX0_odds_0 : List UInt8 := [42, 27, 182, 1, 36, 153, 0, 22, 28, 3, 16, 20, 184, 0, 5, 153, 0, 12, 29, 3, 4, 184, 0, 5]
abbrev dktX0_odds_0 : List UInt8 := dkwX0_odds_0 ++ dktX0_odds_1
theorem dksX0_odds_0 : cX0_odds.data.toList.drop 0 = dktX0_odds_0 := by decide +kernel
theorem dksX0_odds_1 : cX0_odds.data.toList.drop 24 = dktX0_odds_1 := dk_seg dksX0_odds_0 24 rfl rfl
theorem dksX0_odds_2 : cX0_odds.data.toList.drop 46 = dktX0_odds_2 := dk_seg dksX0_odds_1 22 rfl rfl
theorem dksX0_odds_3 : cX0_odds.data.toList.drop 70 = dktX0_odds_3 := dk_seg dksX0_odds_2 24 rfl rfl
theorem dksX0_odds_4 : cX0_odds.data.toList.drop 94 = dktX0_odds_4 := dk_seg dksX0_odds_3 24 rfl rfl
theorem dX0_odds_0 : decode cX0_odds 0 = .ok (.aload_n 0, 1) := dk_42 (dk_at dksX0_odds_0 0 rfl rfl)
theorem dX0_odds_1 : decode cX0_odds 1 = .ok (.iload_n 1, 1) := dk_27 (dk_at dksX0_odds_0 1 rfl rfl)
theorem dX0_odds_2 : decode cX0_odds 2 = .ok (.invokevirtual 292, 3) := dk_182 1 36 (dk_at dksX0_odds_0 2 rfl rfl)
theorem dX0_odds_5 : decode cX0_odds 5 = .ok (.ifCond .eq 22, 3) := dk_153 0 22 (dk_at dksX0_odds_0 5 rfl rfl)
theorem dX0_odds_8 : decode cX0_odds 8 = .ok (.iload_n 2, 1) := dk_28 (dk_at dksX0_odds_0 8 rfl rfl)
theorem dX0_odds_9 : decode cX0_odds 9 = .ok (.iconst 0, 1) := dk_3 (dk_at dksX0_odds_0 9 rfl rfl)
theorem dX0_odds_10 : decode cX0_odds 10 = .ok (.bipush 20, 2) := dk_16 20 (dk_at dksX0_odds_0 10 rfl rfl)
theorem dX0_odds_12 : decode cX0_odds 12 = .ok (.invokestatic 5, 3) := dk_184 0 5 (dk_at dksX0_odds_0 12 rfl rfl)
theorem dX0_odds_15 : decode cX0_odds 15 = .ok (.ifCond .eq 12, 3) := dk_153 0 12 (dk_at dksX0_odds_0 15 rfl rfl)
theorem dX0_odds_18 : decode cX0_odds 18 = .ok (.iload_n 3, 1) := dk_29 (dk_at dksX0_odds_0 18 rfl rfl)
theorem dX0_odds_19 : decode cX0_odds 19 = .ok (.iconst 0, 1) := dk_3 (dk_at dksX0_odds_0 19 rfl rfl)
theorem dX0_odds_20 : decode cX0_odds 20 = .ok (.iconst 1, 1) := dk_4 (dk_at dksX0_odds_0 20 rfl rfl)
theorem dX0_odds_21 : decode cX0_odds 21 = .ok (.invokestatic 5, 3) := dk_184 0 5 (dk_at dksX0_odds_0 21 rfl rfl)
theorem dX0_odds_24 : decode cX0_odds 24 = .ok (.ifCond .ne 7, 3) := dk_154 0 7 (dk_at dksX0_odds_1 0 rfl rfl)
theorem dX0_odds_27 : decode cX0_odds 27 = .ok (.ldc2_w 335, 3) := dk_20 1 79 (dk_at dksX0_odds_1 3 rfl rfl)
theorem dX0_odds_30 : decode cX0_odds 30 = .ok (.lreturn, 1) := dk_173 (dk_at dksX0_odds_1 6 rfl rfl)
theorem dX0_odds_31 : decode cX0_odds 31 = .ok (.lconst 0, 1) := dk_9 (dk_at dksX0_odds_1 7 rfl rfl)
theorem dX0_odds_32 : decode cX0_odds 32 = .ok (.lstore 4, 2) := dk_55 4 (dk_at dksX0_odds_1 8 rfl rfl)
theorem dX0_odds_34 : decode cX0_odds 34 = .ok (.iconst 0, 1) := dk_3 (dk_at dksX0_odds_1 10 rfl rfl)
theorem dX0_odds_35 : decode cX0_odds 35 = .ok (.istore 6, 2) := dk_54 6 (dk_at dksX0_odds_1 11 rfl rfl)
theorem dX0_odds_37 : decode cX0_odds 37 = .ok (.iload 6, 2) := dk_21 6 (dk_at dksX0_odds_1 13 rfl rfl)
theorem dX0_odds_39 : decode cX0_odds 39 = .ok (.bipush 8, 2) := dk_16 8 (dk_at dksX0_odds_1 15 rfl rfl)
theorem dX0_odds_41 : decode cX0_odds 41 = .ok (.if_icmp .ge 47, 3) := dk_162 0 47 (dk_at dksX0_odds_1 17 rfl rfl)
theorem dX0_odds_44 : decode cX0_odds 44 = .ok (.aload_n 0, 1) := dk_42 (dk_at dksX0_odds_1 20 rfl rfl)
theorem dX0_odds_45 : decode cX0_odds 45 = .ok (.iconst 0, 1) := dk_3 (dk_at dksX0_odds_1 21 rfl rfl)
theorem dX0_odds_46 : decode cX0_odds 46 = .ok (.invokevirtual 283, 3) := dk_182 1 27 (dk_at dksX0_odds_2 0 rfl rfl)
theorem dX0_odds_49 : decode cX0_odds 49 = .ok (.aload_n 0, 1) := dk_42 (dk_at dksX0_odds_2 3 rfl rfl)
theorem dX0_odds_50 : decode cX0_odds 50 = .ok (.getfield 32, 3) := dk_180 0 32 (dk_at dksX0_odds_2 4 rfl rfl)
theorem dX0_odds_53 : decode cX0_odds 53 = .ok (.iload 6, 2) := dk_21 6 (dk_at dksX0_odds_2 7 rfl rfl)
theorem dX0_odds_55 : decode cX0_odds 55 = .ok (.bipush 9, 2) := dk_16 9 (dk_at dksX0_odds_2 9 rfl rfl)
theorem dX0_odds_57 : decode cX0_odds 57 = .ok (.invokevirtual 265, 3) := dk_182 1 9 (dk_at dksX0_odds_2 11 rfl rfl)
theorem dX0_odds_60 : decode cX0_odds 60 = .ok (.aload_n 0, 1) := dk_42 (dk_at dksX0_odds_2 14 rfl rfl)
theorem dX0_odds_61 : decode cX0_odds 61 = .ok (.iload_n 2, 1) := dk_28 (dk_at dksX0_odds_2 15 rfl rfl)
theorem dX0_odds_62 : decode cX0_odds 62 = .ok (.invokevirtual 279, 3) := dk_182 1 23 (dk_at dksX0_odds_2 16 rfl rfl)
theorem dX0_odds_65 : decode cX0_odds 65 = .ok (.aload_n 0, 1) := dk_42 (dk_at dksX0_odds_2 19 rfl rfl)
theorem dX0_odds_66 : decode cX0_odds 66 = .ok (.getfield 32, 3) := dk_180 0 32 (dk_at dksX0_odds_2 20 rfl rfl)
theorem dX0_odds_69 : decode cX0_odds 69 = .ok (.iload_n 1, 1) := dk_27 (dk_at dksX0_odds_2 23 rfl rfl)
theorem dX0_odds_70 : decode cX0_odds 70 = .ok (.invokevirtual 289, 3) := dk_182 1 33 (dk_at dksX0_odds_3 0 rfl rfl)
theorem dX0_odds_73 : decode cX0_odds 73 = .ok (.ifCond .eq 9, 3) := dk_153 0 9 (dk_at dksX0_odds_3 3 rfl rfl)
theorem dX0_odds_76 : decode cX0_odds 76 = .ok (.lload 4, 2) := dk_22 4 (dk_at dksX0_odds_3 6 rfl rfl)
theorem dX0_odds_78 : decode cX0_odds 78 = .ok (.lconst 1, 1) := dk_10 (dk_at dksX0_odds_3 8 rfl rfl)
theorem dX0_odds_79 : decode cX0_odds 79 = .ok (.ladd, 1) := dk_97 (dk_at dksX0_odds_3 9 rfl rfl)
theorem dX0_odds_80 : decode cX0_odds 80 = .ok (.lstore 4, 2) := dk_55 4 (dk_at dksX0_odds_3 10 rfl rfl)
theorem dX0_odds_82 : decode cX0_odds 82 = .ok (.iinc 6 1, 3) := dk_132 6 1 (dk_at dksX0_odds_3 12 rfl rfl)
theorem dX0_odds_85 : decode cX0_odds 85 = .ok (.goto (-48), 3) := dk_167 255 208 (dk_at dksX0_odds_3 15 rfl rfl)
theorem dX0_odds_88 : decode cX0_odds 88 = .ok (.lload 4, 2) := dk_22 4 (dk_at dksX0_odds_3 18 rfl rfl)
theorem dX0_odds_90 : decode cX0_odds 90 = .ok (.ldc2_w 337, 3) := dk_20 1 81 (dk_at dksX0_odds_3 20 rfl rfl)
theorem dX0_odds_93 : decode cX0_odds 93 = .ok (.iload_n 3, 1) := dk_29 (dk_at dksX0_odds_3 23 rfl rfl)
theorem dX0_odds_94 : decode cX0_odds 94 = .ok (.invokestatic 339, 3) := dk_184 1 83 (dk_at dksX0_odds_4 0 rfl rfl)
theorem dX0_odds_97 : decode cX0_odds 97 = .ok (.lreturn, 1) := dk_173 (dk_at dksX0_odds_4 3 rfl rfl)
abbrev cX0_lowest : ByteArray := prog_1_method_45_code
def yX0_lowest : MethodName := ⟨RX0, "lowest", "(JJI)J"⟩
def dkwX0_lowest_0 : List UInt8 := [21, 4, 154, 0, 7, 30, 167, 0, 4, 32, 30, 32, 184, 1, 75, 109, 173]
abbrev dktX0_lowest_0 : List UInt8 := dkwX0_lowest_0 ++ []
theorem dksX0_lowest_0 : cX0_lowest.data.toList.drop 0 = dktX0_lowest_0 := by decide +kernel
theorem dX0_lowest_0 : decode cX0_lowest 0 = .ok (.iload 4, 2) := dk_21 4 (dk_at dksX0_lowest_0 0 rfl rfl)
theorem dX0_lowest_2 : decode cX0_lowest 2 = .ok (.ifCond .ne 7, 3) := dk_154 0 7 (dk_at dksX0_lowest_0 2 rfl rfl)
theorem dX0_lowest_5 : decode cX0_lowest 5 = .ok (.lload_n 0, 1) := dk_30 (dk_at dksX0_lowest_0 5 rfl rfl)
theorem dX0_lowest_6 : decode cX0_lowest 6 = .ok (.goto 4, 3) := dk_167 0 4 (dk_at dksX0_lowest_0 6 rfl rfl)
theorem dX0_lowest_9 : decode cX0_lowest 9 = .ok (.lload_n 2, 1) := dk_32 (dk_at dksX0_lowest_0 9 rfl rfl)
theorem dX0_lowest_10 : decode cX0_lowest 10 = .ok (.lload_n 0, 1) := dk_30 (dk_at dksX0_lowest_0 10 rfl rfl)
theorem dX0_lowest_11 : decode cX0_lowest 11 = .ok (.lload_n 2, 1) := dk_32 (dk_at dksX0_lowest_0 11 rfl rfl)
theorem dX0_lowest_12 : decode cX0_lowest 12 = .ok (.invokestatic 331, 3) := dk_184 1 75 (dk_at dksX0_lowest_0 12 rfl rfl)
theorem dX0_lowest_15 : decode cX0_lowest 15 = .ok (.ldiv, 1) := dk_109 (dk_at dksX0_lowest_0 15 rfl rfl)
theorem dX0_lowest_16 : decode cX0_lowest 16 = .ok (.lreturn, 1) := dk_173 (dk_at dksX0_lowest_0 16 rfl rfl)
abbrev cX0_divisor : ByteArray := prog_1_method_44_code
def yX0_divisor : MethodName := ⟨RX0, "divisor", "(JJ)J"⟩
def dkwX0_divisor_1 : List UInt8 := [22, 4, 173]
abbrev dktX0_divisor_1 : List UInt8 := dkwX0_divisor_1 ++ []
def dkwX0_divisor_0 : List UInt8 := [30, 55, 4, 32, 9, 148, 153, 0, 18, 22, 4, 32, 113, 55, 6, 32, 55, 4, 22, 6, 65, 167, 255, 238]
abbrev dktX0_divisor_0 : List UInt8 := dkwX0_divisor_0 ++ dktX0_divisor_1
theorem dksX0_divisor_0 : cX0_divisor.data.toList.drop 0 = dktX0_divisor_0 := by decide +kernel
theorem dksX0_divisor_1 : cX0_divisor.data.toList.drop 24 = dktX0_divisor_1 := dk_seg dksX0_divisor_0 24 rfl rfl
theorem dX0_divisor_0 : decode cX0_divisor 0 = .ok (.lload_n 0, 1) := dk_30 (dk_at dksX0_divisor_0 0 rfl rfl)
theorem dX0_divisor_1 : decode cX0_divisor 1 = .ok (.lstore 4, 2) := dk_55 4 (dk_at dksX0_divisor_0 1 rfl rfl)
theorem dX0_divisor_3 : decode cX0_divisor 3 = .ok (.lload_n 2, 1) := dk_32 (dk_at dksX0_divisor_0 3 rfl rfl)
theorem dX0_divisor_4 : decode cX0_divisor 4 = .ok (.lconst 0, 1) := dk_9 (dk_at dksX0_divisor_0 4 rfl rfl)
theorem dX0_divisor_5 : decode cX0_divisor 5 = .ok (.lcmp, 1) := dk_148 (dk_at dksX0_divisor_0 5 rfl rfl)
theorem dX0_divisor_6 : decode cX0_divisor 6 = .ok (.ifCond .eq 18, 3) := dk_153 0 18 (dk_at dksX0_divisor_0 6 rfl rfl)
theorem dX0_divisor_9 : decode cX0_divisor 9 = .ok (.lload 4, 2) := dk_22 4 (dk_at dksX0_divisor_0 9 rfl rfl)
theorem dX0_divisor_11 : decode cX0_divisor 11 = .ok (.lload_n 2, 1) := dk_32 (dk_at dksX0_divisor_0 11 rfl rfl)
theorem dX0_divisor_12 : decode cX0_divisor 12 = .ok (.lrem, 1) := dk_113 (dk_at dksX0_divisor_0 12 rfl rfl)
theorem dX0_divisor_13 : decode cX0_divisor 13 = .ok (.lstore 6, 2) := dk_55 6 (dk_at dksX0_divisor_0 13 rfl rfl)
theorem dX0_divisor_15 : decode cX0_divisor 15 = .ok (.lload_n 2, 1) := dk_32 (dk_at dksX0_divisor_0 15 rfl rfl)
theorem dX0_divisor_16 : decode cX0_divisor 16 = .ok (.lstore 4, 2) := dk_55 4 (dk_at dksX0_divisor_0 16 rfl rfl)
theorem dX0_divisor_18 : decode cX0_divisor 18 = .ok (.lload 6, 2) := dk_22 6 (dk_at dksX0_divisor_0 18 rfl rfl)
theorem dX0_divisor_20 : decode cX0_divisor 20 = .ok (.lstore_n 2, 1) := dk_65 (dk_at dksX0_divisor_0 20 rfl rfl)
theorem dX0_divisor_21 : decode cX0_divisor 21 = .ok (.goto (-18), 3) := dk_167 255 238 (dk_at dksX0_divisor_0 21 rfl rfl)
theorem dX0_divisor_24 : decode cX0_divisor 24 = .ok (.lload 4, 2) := dk_22 4 (dk_at dksX0_divisor_1 0 rfl rfl)
theorem dX0_divisor_26 : decode cX0_divisor 26 = .ok (.lreturn, 1) := dk_173 (dk_at dksX0_divisor_1 2 rfl rfl)
abbrev cX0_mean : ByteArray := prog_1_method_47_code
def yX0_mean : MethodName := ⟨RX0, "mean", "(II)J"⟩
def dkwX0_mean_1 : List UInt8 := [182, 1, 27, 42, 180, 0, 32, 182, 1, 59, 133, 20, 1, 81, 28, 184, 1, 83, 173]
abbrev dktX0_mean_1 : List UInt8 := dkwX0_mean_1 ++ []
def dkwX0_mean_0 : List UInt8 := [27, 184, 1, 13, 153, 0, 12, 28, 3, 4, 184, 0, 5, 154, 0, 7, 20, 1, 79, 173, 42, 27]
abbrev dktX0_mean_0 : List UInt8 := dkwX0_mean_0 ++ dktX0_mean_1
theorem dksX0_mean_0 : cX0_mean.data.toList.drop 0 = dktX0_mean_0 := by decide +kernel
theorem dksX0_mean_1 : cX0_mean.data.toList.drop 22 = dktX0_mean_1 := dk_seg dksX0_mean_0 22 rfl rfl
theorem dX0_mean_0 : decode cX0_mean 0 = .ok (.iload_n 1, 1) := dk_27 (dk_at dksX0_mean_0 0 rfl rfl)
theorem dX0_mean_1 : decode cX0_mean 1 = .ok (.invokestatic 269, 3) := dk_184 1 13 (dk_at dksX0_mean_0 1 rfl rfl)
theorem dX0_mean_4 : decode cX0_mean 4 = .ok (.ifCond .eq 12, 3) := dk_153 0 12 (dk_at dksX0_mean_0 4 rfl rfl)
theorem dX0_mean_7 : decode cX0_mean 7 = .ok (.iload_n 2, 1) := dk_28 (dk_at dksX0_mean_0 7 rfl rfl)
theorem dX0_mean_8 : decode cX0_mean 8 = .ok (.iconst 0, 1) := dk_3 (dk_at dksX0_mean_0 8 rfl rfl)
theorem dX0_mean_9 : decode cX0_mean 9 = .ok (.iconst 1, 1) := dk_4 (dk_at dksX0_mean_0 9 rfl rfl)
theorem dX0_mean_10 : decode cX0_mean 10 = .ok (.invokestatic 5, 3) := dk_184 0 5 (dk_at dksX0_mean_0 10 rfl rfl)
theorem dX0_mean_13 : decode cX0_mean 13 = .ok (.ifCond .ne 7, 3) := dk_154 0 7 (dk_at dksX0_mean_0 13 rfl rfl)
theorem dX0_mean_16 : decode cX0_mean 16 = .ok (.ldc2_w 335, 3) := dk_20 1 79 (dk_at dksX0_mean_0 16 rfl rfl)
theorem dX0_mean_19 : decode cX0_mean 19 = .ok (.lreturn, 1) := dk_173 (dk_at dksX0_mean_0 19 rfl rfl)
theorem dX0_mean_20 : decode cX0_mean 20 = .ok (.aload_n 0, 1) := dk_42 (dk_at dksX0_mean_0 20 rfl rfl)
theorem dX0_mean_21 : decode cX0_mean 21 = .ok (.iload_n 1, 1) := dk_27 (dk_at dksX0_mean_0 21 rfl rfl)
theorem dX0_mean_22 : decode cX0_mean 22 = .ok (.invokevirtual 283, 3) := dk_182 1 27 (dk_at dksX0_mean_1 0 rfl rfl)
theorem dX0_mean_25 : decode cX0_mean 25 = .ok (.aload_n 0, 1) := dk_42 (dk_at dksX0_mean_1 3 rfl rfl)
theorem dX0_mean_26 : decode cX0_mean 26 = .ok (.getfield 32, 3) := dk_180 0 32 (dk_at dksX0_mean_1 4 rfl rfl)
theorem dX0_mean_29 : decode cX0_mean 29 = .ok (.invokevirtual 315, 3) := dk_182 1 59 (dk_at dksX0_mean_1 7 rfl rfl)
theorem dX0_mean_32 : decode cX0_mean 32 = .ok (.i2l, 1) := dk_133 (dk_at dksX0_mean_1 10 rfl rfl)
theorem dX0_mean_33 : decode cX0_mean 33 = .ok (.ldc2_w 337, 3) := dk_20 1 81 (dk_at dksX0_mean_1 11 rfl rfl)
theorem dX0_mean_36 : decode cX0_mean 36 = .ok (.iload_n 2, 1) := dk_28 (dk_at dksX0_mean_1 14 rfl rfl)
theorem dX0_mean_37 : decode cX0_mean 37 = .ok (.invokestatic 339, 3) := dk_184 1 83 (dk_at dksX0_mean_1 15 rfl rfl)
theorem dX0_mean_40 : decode cX0_mean 40 = .ok (.lreturn, 1) := dk_173 (dk_at dksX0_mean_1 18 rfl rfl)
abbrev cX0_plan : ByteArray := prog_1_method_49_code
def yX0_plan : MethodName := ⟨RX0, "plan", "(II)I"⟩
def dkwX0_plan_2 : List UInt8 := [180, 0, 72, 42, 89, 180, 1, 87, 90, 4, 96, 181, 1, 87, 28, 79, 42, 180, 1, 87, 172]
abbrev dktX0_plan_2 : List UInt8 := dkwX0_plan_2 ++ []
def dkwX0_plan_1 : List UInt8 := [180, 1, 87, 16, 10, 160, 0, 6, 16, 252, 172, 42, 180, 0, 69, 42, 180, 1, 87, 27, 79, 42]
abbrev dktX0_plan_1 : List UInt8 := dkwX0_plan_1 ++ dktX0_plan_2
def dkwX0_plan_0 : List UInt8 := [27, 2, 160, 0, 10, 42, 3, 181, 1, 87, 3, 172, 42, 27, 28, 182, 1, 90, 154, 0, 5, 2, 172, 42]
abbrev dktX0_plan_0 : List UInt8 := dkwX0_plan_0 ++ dktX0_plan_1
theorem dksX0_plan_0 : cX0_plan.data.toList.drop 0 = dktX0_plan_0 := by decide +kernel
theorem dksX0_plan_1 : cX0_plan.data.toList.drop 24 = dktX0_plan_1 := dk_seg dksX0_plan_0 24 rfl rfl
theorem dksX0_plan_2 : cX0_plan.data.toList.drop 46 = dktX0_plan_2 := dk_seg dksX0_plan_1 22 rfl rfl
theorem dX0_plan_0 : decode cX0_plan 0 = .ok (.iload_n 1, 1) := dk_27 (dk_at dksX0_plan_0 0 rfl rfl)
theorem dX0_plan_1 : decode cX0_plan 1 = .ok (.iconst (-1), 1) := dk_2 (dk_at dksX0_plan_0 1 rfl rfl)
theorem dX0_plan_2 : decode cX0_plan 2 = .ok (.if_icmp .ne 10, 3) := dk_160 0 10 (dk_at dksX0_plan_0 2 rfl rfl)
theorem dX0_plan_5 : decode cX0_plan 5 = .ok (.aload_n 0, 1) := dk_42 (dk_at dksX0_plan_0 5 rfl rfl)
theorem dX0_plan_6 : decode cX0_plan 6 = .ok (.iconst 0, 1) := dk_3 (dk_at dksX0_plan_0 6 rfl rfl)
theorem dX0_plan_7 : decode cX0_plan 7 = .ok (.putfield 343, 3) := dk_181 1 87 (dk_at dksX0_plan_0 7 rfl rfl)
theorem dX0_plan_10 : decode cX0_plan 10 = .ok (.iconst 0, 1) := dk_3 (dk_at dksX0_plan_0 10 rfl rfl)
theorem dX0_plan_11 : decode cX0_plan 11 = .ok (.ireturn, 1) := dk_172 (dk_at dksX0_plan_0 11 rfl rfl)
theorem dX0_plan_12 : decode cX0_plan 12 = .ok (.aload_n 0, 1) := dk_42 (dk_at dksX0_plan_0 12 rfl rfl)
theorem dX0_plan_13 : decode cX0_plan 13 = .ok (.iload_n 1, 1) := dk_27 (dk_at dksX0_plan_0 13 rfl rfl)
theorem dX0_plan_14 : decode cX0_plan 14 = .ok (.iload_n 2, 1) := dk_28 (dk_at dksX0_plan_0 14 rfl rfl)
theorem dX0_plan_15 : decode cX0_plan 15 = .ok (.invokevirtual 346, 3) := dk_182 1 90 (dk_at dksX0_plan_0 15 rfl rfl)
theorem dX0_plan_18 : decode cX0_plan 18 = .ok (.ifCond .ne 5, 3) := dk_154 0 5 (dk_at dksX0_plan_0 18 rfl rfl)
theorem dX0_plan_21 : decode cX0_plan 21 = .ok (.iconst (-1), 1) := dk_2 (dk_at dksX0_plan_0 21 rfl rfl)
theorem dX0_plan_22 : decode cX0_plan 22 = .ok (.ireturn, 1) := dk_172 (dk_at dksX0_plan_0 22 rfl rfl)
theorem dX0_plan_23 : decode cX0_plan 23 = .ok (.aload_n 0, 1) := dk_42 (dk_at dksX0_plan_0 23 rfl rfl)
theorem dX0_plan_24 : decode cX0_plan 24 = .ok (.getfield 343, 3) := dk_180 1 87 (dk_at dksX0_plan_1 0 rfl rfl)
theorem dX0_plan_27 : decode cX0_plan 27 = .ok (.bipush 10, 2) := dk_16 10 (dk_at dksX0_plan_1 3 rfl rfl)
theorem dX0_plan_29 : decode cX0_plan 29 = .ok (.if_icmp .ne 6, 3) := dk_160 0 6 (dk_at dksX0_plan_1 5 rfl rfl)
theorem dX0_plan_32 : decode cX0_plan 32 = .ok (.bipush (-4), 2) := dk_16 252 (dk_at dksX0_plan_1 8 rfl rfl)
theorem dX0_plan_34 : decode cX0_plan 34 = .ok (.ireturn, 1) := dk_172 (dk_at dksX0_plan_1 10 rfl rfl)
theorem dX0_plan_35 : decode cX0_plan 35 = .ok (.aload_n 0, 1) := dk_42 (dk_at dksX0_plan_1 11 rfl rfl)
theorem dX0_plan_36 : decode cX0_plan 36 = .ok (.getfield 69, 3) := dk_180 0 69 (dk_at dksX0_plan_1 12 rfl rfl)
theorem dX0_plan_39 : decode cX0_plan 39 = .ok (.aload_n 0, 1) := dk_42 (dk_at dksX0_plan_1 15 rfl rfl)
theorem dX0_plan_40 : decode cX0_plan 40 = .ok (.getfield 343, 3) := dk_180 1 87 (dk_at dksX0_plan_1 16 rfl rfl)
theorem dX0_plan_43 : decode cX0_plan 43 = .ok (.iload_n 1, 1) := dk_27 (dk_at dksX0_plan_1 19 rfl rfl)
theorem dX0_plan_44 : decode cX0_plan 44 = .ok (.iastore, 1) := dk_79 (dk_at dksX0_plan_1 20 rfl rfl)
theorem dX0_plan_45 : decode cX0_plan 45 = .ok (.aload_n 0, 1) := dk_42 (dk_at dksX0_plan_1 21 rfl rfl)
theorem dX0_plan_46 : decode cX0_plan 46 = .ok (.getfield 72, 3) := dk_180 0 72 (dk_at dksX0_plan_2 0 rfl rfl)
theorem dX0_plan_49 : decode cX0_plan 49 = .ok (.aload_n 0, 1) := dk_42 (dk_at dksX0_plan_2 3 rfl rfl)
theorem dX0_plan_50 : decode cX0_plan 50 = .ok (.dup, 1) := dk_89 (dk_at dksX0_plan_2 4 rfl rfl)
theorem dX0_plan_51 : decode cX0_plan 51 = .ok (.getfield 343, 3) := dk_180 1 87 (dk_at dksX0_plan_2 5 rfl rfl)
theorem dX0_plan_54 : decode cX0_plan 54 = .ok (.dup_x1, 1) := dk_90 (dk_at dksX0_plan_2 8 rfl rfl)
theorem dX0_plan_55 : decode cX0_plan 55 = .ok (.iconst 1, 1) := dk_4 (dk_at dksX0_plan_2 9 rfl rfl)
theorem dX0_plan_56 : decode cX0_plan 56 = .ok (.iadd, 1) := dk_96 (dk_at dksX0_plan_2 10 rfl rfl)
theorem dX0_plan_57 : decode cX0_plan 57 = .ok (.putfield 343, 3) := dk_181 1 87 (dk_at dksX0_plan_2 11 rfl rfl)
theorem dX0_plan_60 : decode cX0_plan 60 = .ok (.iload_n 2, 1) := dk_28 (dk_at dksX0_plan_2 14 rfl rfl)
theorem dX0_plan_61 : decode cX0_plan 61 = .ok (.iastore, 1) := dk_79 (dk_at dksX0_plan_2 15 rfl rfl)
theorem dX0_plan_62 : decode cX0_plan 62 = .ok (.aload_n 0, 1) := dk_42 (dk_at dksX0_plan_2 16 rfl rfl)
theorem dX0_plan_63 : decode cX0_plan 63 = .ok (.getfield 343, 3) := dk_180 1 87 (dk_at dksX0_plan_2 17 rfl rfl)
theorem dX0_plan_66 : decode cX0_plan 66 = .ok (.ireturn, 1) := dk_172 (dk_at dksX0_plan_2 20 rfl rfl)
abbrev cX0_isPlan : ByteArray := prog_1_method_48_code
def yX0_isPlan : MethodName := ⟨RX0, "isPlan", "(II)Z"⟩
def dkwX0_isPlan_1 : List UInt8 := [153, 0, 15, 42, 28, 182, 0, 229, 153, 0, 7, 4, 167, 0, 4, 3, 172]
abbrev dktX0_isPlan_1 : List UInt8 := dkwX0_isPlan_1 ++ []
def dkwX0_isPlan_0 : List UInt8 := [27, 153, 0, 32, 27, 4, 160, 0, 10, 28, 184, 0, 148, 154, 0, 20, 27, 5, 6, 184, 0, 5]
abbrev dktX0_isPlan_0 : List UInt8 := dkwX0_isPlan_0 ++ dktX0_isPlan_1
theorem dksX0_isPlan_0 : cX0_isPlan.data.toList.drop 0 = dktX0_isPlan_0 := by decide +kernel
theorem dksX0_isPlan_1 : cX0_isPlan.data.toList.drop 22 = dktX0_isPlan_1 := dk_seg dksX0_isPlan_0 22 rfl rfl
theorem dX0_isPlan_0 : decode cX0_isPlan 0 = .ok (.iload_n 1, 1) := dk_27 (dk_at dksX0_isPlan_0 0 rfl rfl)
theorem dX0_isPlan_1 : decode cX0_isPlan 1 = .ok (.ifCond .eq 32, 3) := dk_153 0 32 (dk_at dksX0_isPlan_0 1 rfl rfl)
theorem dX0_isPlan_4 : decode cX0_isPlan 4 = .ok (.iload_n 1, 1) := dk_27 (dk_at dksX0_isPlan_0 4 rfl rfl)
theorem dX0_isPlan_5 : decode cX0_isPlan 5 = .ok (.iconst 1, 1) := dk_4 (dk_at dksX0_isPlan_0 5 rfl rfl)
theorem dX0_isPlan_6 : decode cX0_isPlan 6 = .ok (.if_icmp .ne 10, 3) := dk_160 0 10 (dk_at dksX0_isPlan_0 6 rfl rfl)
theorem dX0_isPlan_9 : decode cX0_isPlan 9 = .ok (.iload_n 2, 1) := dk_28 (dk_at dksX0_isPlan_0 9 rfl rfl)
theorem dX0_isPlan_10 : decode cX0_isPlan 10 = .ok (.invokestatic 148, 3) := dk_184 0 148 (dk_at dksX0_isPlan_0 10 rfl rfl)
theorem dX0_isPlan_13 : decode cX0_isPlan 13 = .ok (.ifCond .ne 20, 3) := dk_154 0 20 (dk_at dksX0_isPlan_0 13 rfl rfl)
theorem dX0_isPlan_16 : decode cX0_isPlan 16 = .ok (.iload_n 1, 1) := dk_27 (dk_at dksX0_isPlan_0 16 rfl rfl)
theorem dX0_isPlan_17 : decode cX0_isPlan 17 = .ok (.iconst 2, 1) := dk_5 (dk_at dksX0_isPlan_0 17 rfl rfl)
theorem dX0_isPlan_18 : decode cX0_isPlan 18 = .ok (.iconst 3, 1) := dk_6 (dk_at dksX0_isPlan_0 18 rfl rfl)
theorem dX0_isPlan_19 : decode cX0_isPlan 19 = .ok (.invokestatic 5, 3) := dk_184 0 5 (dk_at dksX0_isPlan_0 19 rfl rfl)
theorem dX0_isPlan_22 : decode cX0_isPlan 22 = .ok (.ifCond .eq 15, 3) := dk_153 0 15 (dk_at dksX0_isPlan_1 0 rfl rfl)
theorem dX0_isPlan_25 : decode cX0_isPlan 25 = .ok (.aload_n 0, 1) := dk_42 (dk_at dksX0_isPlan_1 3 rfl rfl)
theorem dX0_isPlan_26 : decode cX0_isPlan 26 = .ok (.iload_n 2, 1) := dk_28 (dk_at dksX0_isPlan_1 4 rfl rfl)
theorem dX0_isPlan_27 : decode cX0_isPlan 27 = .ok (.invokevirtual 229, 3) := dk_182 0 229 (dk_at dksX0_isPlan_1 5 rfl rfl)
theorem dX0_isPlan_30 : decode cX0_isPlan 30 = .ok (.ifCond .eq 7, 3) := dk_153 0 7 (dk_at dksX0_isPlan_1 8 rfl rfl)
theorem dX0_isPlan_33 : decode cX0_isPlan 33 = .ok (.iconst 1, 1) := dk_4 (dk_at dksX0_isPlan_1 11 rfl rfl)
theorem dX0_isPlan_34 : decode cX0_isPlan 34 = .ok (.goto 4, 3) := dk_167 0 4 (dk_at dksX0_isPlan_1 12 rfl rfl)
theorem dX0_isPlan_37 : decode cX0_isPlan 37 = .ok (.iconst 0, 1) := dk_3 (dk_at dksX0_isPlan_1 15 rfl rfl)
theorem dX0_isPlan_38 : decode cX0_isPlan 38 = .ok (.ireturn, 1) := dk_172 (dk_at dksX0_isPlan_1 16 rfl rfl)
abbrev cX0_ends : ByteArray := prog_1_method_51_code
def yX0_ends : MethodName := ⟨RX0, "ends", "(I)I"⟩
def dkwX0_ends_3 : List UInt8 := [172]
abbrev dktX0_ends_3 : List UInt8 := dkwX0_ends_3 ++ []
def dkwX0_ends_2 : List UInt8 := [167, 255, 229, 27, 154, 0, 13, 42, 180, 0, 32, 182, 1, 30, 167, 0, 10, 42, 180, 0, 32, 182, 1, 59]
abbrev dktX0_ends_2 : List UInt8 := dkwX0_ends_2 ++ dktX0_ends_3
def dkwX0_ends_1 : List UInt8 := [162, 0, 25, 42, 42, 180, 0, 69, 28, 46, 42, 180, 0, 72, 28, 46, 182, 1, 93, 132, 2, 1]
abbrev dktX0_ends_1 : List UInt8 := dkwX0_ends_1 ++ dktX0_ends_2
def dkwX0_ends_0 : List UInt8 := [27, 3, 4, 184, 0, 5, 154, 0, 5, 2, 172, 42, 3, 182, 1, 27, 3, 61, 28, 42, 180, 1, 87]
abbrev dktX0_ends_0 : List UInt8 := dkwX0_ends_0 ++ dktX0_ends_1
theorem dksX0_ends_0 : cX0_ends.data.toList.drop 0 = dktX0_ends_0 := by decide +kernel
theorem dksX0_ends_1 : cX0_ends.data.toList.drop 23 = dktX0_ends_1 := dk_seg dksX0_ends_0 23 rfl rfl
theorem dksX0_ends_2 : cX0_ends.data.toList.drop 45 = dktX0_ends_2 := dk_seg dksX0_ends_1 22 rfl rfl
theorem dksX0_ends_3 : cX0_ends.data.toList.drop 69 = dktX0_ends_3 := dk_seg dksX0_ends_2 24 rfl rfl
theorem dX0_ends_0 : decode cX0_ends 0 = .ok (.iload_n 1, 1) := dk_27 (dk_at dksX0_ends_0 0 rfl rfl)
theorem dX0_ends_1 : decode cX0_ends 1 = .ok (.iconst 0, 1) := dk_3 (dk_at dksX0_ends_0 1 rfl rfl)
theorem dX0_ends_2 : decode cX0_ends 2 = .ok (.iconst 1, 1) := dk_4 (dk_at dksX0_ends_0 2 rfl rfl)
theorem dX0_ends_3 : decode cX0_ends 3 = .ok (.invokestatic 5, 3) := dk_184 0 5 (dk_at dksX0_ends_0 3 rfl rfl)
theorem dX0_ends_6 : decode cX0_ends 6 = .ok (.ifCond .ne 5, 3) := dk_154 0 5 (dk_at dksX0_ends_0 6 rfl rfl)
theorem dX0_ends_9 : decode cX0_ends 9 = .ok (.iconst (-1), 1) := dk_2 (dk_at dksX0_ends_0 9 rfl rfl)
theorem dX0_ends_10 : decode cX0_ends 10 = .ok (.ireturn, 1) := dk_172 (dk_at dksX0_ends_0 10 rfl rfl)
theorem dX0_ends_11 : decode cX0_ends 11 = .ok (.aload_n 0, 1) := dk_42 (dk_at dksX0_ends_0 11 rfl rfl)
theorem dX0_ends_12 : decode cX0_ends 12 = .ok (.iconst 0, 1) := dk_3 (dk_at dksX0_ends_0 12 rfl rfl)
theorem dX0_ends_13 : decode cX0_ends 13 = .ok (.invokevirtual 283, 3) := dk_182 1 27 (dk_at dksX0_ends_0 13 rfl rfl)
theorem dX0_ends_16 : decode cX0_ends 16 = .ok (.iconst 0, 1) := dk_3 (dk_at dksX0_ends_0 16 rfl rfl)
theorem dX0_ends_17 : decode cX0_ends 17 = .ok (.istore_n 2, 1) := dk_61 (dk_at dksX0_ends_0 17 rfl rfl)
theorem dX0_ends_18 : decode cX0_ends 18 = .ok (.iload_n 2, 1) := dk_28 (dk_at dksX0_ends_0 18 rfl rfl)
theorem dX0_ends_19 : decode cX0_ends 19 = .ok (.aload_n 0, 1) := dk_42 (dk_at dksX0_ends_0 19 rfl rfl)
theorem dX0_ends_20 : decode cX0_ends 20 = .ok (.getfield 343, 3) := dk_180 1 87 (dk_at dksX0_ends_0 20 rfl rfl)
theorem dX0_ends_23 : decode cX0_ends 23 = .ok (.if_icmp .ge 25, 3) := dk_162 0 25 (dk_at dksX0_ends_1 0 rfl rfl)
theorem dX0_ends_26 : decode cX0_ends 26 = .ok (.aload_n 0, 1) := dk_42 (dk_at dksX0_ends_1 3 rfl rfl)
theorem dX0_ends_27 : decode cX0_ends 27 = .ok (.aload_n 0, 1) := dk_42 (dk_at dksX0_ends_1 4 rfl rfl)
theorem dX0_ends_28 : decode cX0_ends 28 = .ok (.getfield 69, 3) := dk_180 0 69 (dk_at dksX0_ends_1 5 rfl rfl)
theorem dX0_ends_31 : decode cX0_ends 31 = .ok (.iload_n 2, 1) := dk_28 (dk_at dksX0_ends_1 8 rfl rfl)
theorem dX0_ends_32 : decode cX0_ends 32 = .ok (.iaload, 1) := dk_46 (dk_at dksX0_ends_1 9 rfl rfl)
theorem dX0_ends_33 : decode cX0_ends 33 = .ok (.aload_n 0, 1) := dk_42 (dk_at dksX0_ends_1 10 rfl rfl)
theorem dX0_ends_34 : decode cX0_ends 34 = .ok (.getfield 72, 3) := dk_180 0 72 (dk_at dksX0_ends_1 11 rfl rfl)
theorem dX0_ends_37 : decode cX0_ends 37 = .ok (.iload_n 2, 1) := dk_28 (dk_at dksX0_ends_1 14 rfl rfl)
theorem dX0_ends_38 : decode cX0_ends 38 = .ok (.iaload, 1) := dk_46 (dk_at dksX0_ends_1 15 rfl rfl)
theorem dX0_ends_39 : decode cX0_ends 39 = .ok (.invokevirtual 349, 3) := dk_182 1 93 (dk_at dksX0_ends_1 16 rfl rfl)
theorem dX0_ends_42 : decode cX0_ends 42 = .ok (.iinc 2 1, 3) := dk_132 2 1 (dk_at dksX0_ends_1 19 rfl rfl)
theorem dX0_ends_45 : decode cX0_ends 45 = .ok (.goto (-27), 3) := dk_167 255 229 (dk_at dksX0_ends_2 0 rfl rfl)
theorem dX0_ends_48 : decode cX0_ends 48 = .ok (.iload_n 1, 1) := dk_27 (dk_at dksX0_ends_2 3 rfl rfl)
theorem dX0_ends_49 : decode cX0_ends 49 = .ok (.ifCond .ne 13, 3) := dk_154 0 13 (dk_at dksX0_ends_2 4 rfl rfl)
theorem dX0_ends_52 : decode cX0_ends 52 = .ok (.aload_n 0, 1) := dk_42 (dk_at dksX0_ends_2 7 rfl rfl)
theorem dX0_ends_53 : decode cX0_ends 53 = .ok (.getfield 32, 3) := dk_180 0 32 (dk_at dksX0_ends_2 8 rfl rfl)
theorem dX0_ends_56 : decode cX0_ends 56 = .ok (.invokevirtual 286, 3) := dk_182 1 30 (dk_at dksX0_ends_2 11 rfl rfl)
theorem dX0_ends_59 : decode cX0_ends 59 = .ok (.goto 10, 3) := dk_167 0 10 (dk_at dksX0_ends_2 14 rfl rfl)
theorem dX0_ends_62 : decode cX0_ends 62 = .ok (.aload_n 0, 1) := dk_42 (dk_at dksX0_ends_2 17 rfl rfl)
theorem dX0_ends_63 : decode cX0_ends 63 = .ok (.getfield 32, 3) := dk_180 0 32 (dk_at dksX0_ends_2 18 rfl rfl)
theorem dX0_ends_66 : decode cX0_ends 66 = .ok (.invokevirtual 315, 3) := dk_182 1 59 (dk_at dksX0_ends_2 21 rfl rfl)
theorem dX0_ends_69 : decode cX0_ends 69 = .ok (.ireturn, 1) := dk_172 (dk_at dksX0_ends_3 0 rfl rfl)
abbrev cX0_does : ByteArray := prog_1_method_50_code
def yX0_does : MethodName := ⟨RX0, "does", "(II)V"⟩
def dkwX0_does_4 : List UInt8 := [180, 0, 175, 4, 28, 120, 2, 130, 126, 181, 0, 175, 177]
abbrev dktX0_does_4 : List UInt8 := dkwX0_does_4 ++ []
def dkwX0_does_3 : List UInt8 := [42, 180, 0, 32, 89, 180, 0, 175, 4, 28, 120, 128, 181, 0, 175, 167, 0, 20, 42, 180, 0, 32, 89]
abbrev dktX0_does_3 : List UInt8 := dkwX0_does_3 ++ dktX0_does_4
def dkwX0_does_2 : List UInt8 := [42, 42, 180, 0, 32, 182, 1, 16, 167, 0, 51, 42, 180, 0, 32, 28, 16, 9, 182, 1, 9, 167, 0, 38]
abbrev dktX0_does_2 : List UInt8 := dkwX0_does_2 ++ dktX0_does_3
def dkwX0_does_1 : List UInt8 := [170, 0, 0, 0, 0, 0, 69, 0, 0, 0, 0, 0, 0, 0, 2, 0, 0, 0, 27, 0, 0, 0, 38, 0, 0, 0, 51]
abbrev dktX0_does_1 : List UInt8 := dkwX0_does_1 ++ dktX0_does_2
def dkwX0_does_0 : List UInt8 := [27]
abbrev dktX0_does_0 : List UInt8 := dkwX0_does_0 ++ dktX0_does_1
theorem dksX0_does_0 : cX0_does.data.toList.drop 0 = dktX0_does_0 := by decide +kernel
theorem dksX0_does_1 : cX0_does.data.toList.drop 1 = dktX0_does_1 := dk_seg dksX0_does_0 1 rfl rfl
theorem dksX0_does_2 : cX0_does.data.toList.drop 28 = dktX0_does_2 := dk_seg dksX0_does_1 27 rfl rfl
theorem dksX0_does_3 : cX0_does.data.toList.drop 52 = dktX0_does_3 := dk_seg dksX0_does_2 24 rfl rfl
theorem dksX0_does_4 : cX0_does.data.toList.drop 75 = dktX0_does_4 := dk_seg dksX0_does_3 23 rfl rfl
theorem dX0_does_0 : decode cX0_does 0 = .ok (.iload_n 1, 1) := dk_27 (dk_at dksX0_does_0 0 rfl rfl)
theorem dX0_does_1 : decode cX0_does 1 = .ok (.tableswitch 69 0 2 #[27, 38, 51], 27) := by decide +kernel
theorem dX0_does_28 : decode cX0_does 28 = .ok (.aload_n 0, 1) := dk_42 (dk_at dksX0_does_2 0 rfl rfl)
theorem dX0_does_29 : decode cX0_does 29 = .ok (.aload_n 0, 1) := dk_42 (dk_at dksX0_does_2 1 rfl rfl)
theorem dX0_does_30 : decode cX0_does 30 = .ok (.getfield 32, 3) := dk_180 0 32 (dk_at dksX0_does_2 2 rfl rfl)
theorem dX0_does_33 : decode cX0_does 33 = .ok (.invokevirtual 272, 3) := dk_182 1 16 (dk_at dksX0_does_2 5 rfl rfl)
theorem dX0_does_36 : decode cX0_does 36 = .ok (.goto 51, 3) := dk_167 0 51 (dk_at dksX0_does_2 8 rfl rfl)
theorem dX0_does_39 : decode cX0_does 39 = .ok (.aload_n 0, 1) := dk_42 (dk_at dksX0_does_2 11 rfl rfl)
theorem dX0_does_40 : decode cX0_does 40 = .ok (.getfield 32, 3) := dk_180 0 32 (dk_at dksX0_does_2 12 rfl rfl)
theorem dX0_does_43 : decode cX0_does 43 = .ok (.iload_n 2, 1) := dk_28 (dk_at dksX0_does_2 15 rfl rfl)
theorem dX0_does_44 : decode cX0_does 44 = .ok (.bipush 9, 2) := dk_16 9 (dk_at dksX0_does_2 16 rfl rfl)
theorem dX0_does_46 : decode cX0_does 46 = .ok (.invokevirtual 265, 3) := dk_182 1 9 (dk_at dksX0_does_2 18 rfl rfl)
theorem dX0_does_49 : decode cX0_does 49 = .ok (.goto 38, 3) := dk_167 0 38 (dk_at dksX0_does_2 21 rfl rfl)
theorem dX0_does_52 : decode cX0_does 52 = .ok (.aload_n 0, 1) := dk_42 (dk_at dksX0_does_3 0 rfl rfl)
theorem dX0_does_53 : decode cX0_does 53 = .ok (.getfield 32, 3) := dk_180 0 32 (dk_at dksX0_does_3 1 rfl rfl)
theorem dX0_does_56 : decode cX0_does 56 = .ok (.dup, 1) := dk_89 (dk_at dksX0_does_3 4 rfl rfl)
theorem dX0_does_57 : decode cX0_does 57 = .ok (.getfield 175, 3) := dk_180 0 175 (dk_at dksX0_does_3 5 rfl rfl)
theorem dX0_does_60 : decode cX0_does 60 = .ok (.iconst 1, 1) := dk_4 (dk_at dksX0_does_3 8 rfl rfl)
theorem dX0_does_61 : decode cX0_does 61 = .ok (.iload_n 2, 1) := dk_28 (dk_at dksX0_does_3 9 rfl rfl)
theorem dX0_does_62 : decode cX0_does 62 = .ok (.ishl, 1) := dk_120 (dk_at dksX0_does_3 10 rfl rfl)
theorem dX0_does_63 : decode cX0_does 63 = .ok (.ior, 1) := dk_128 (dk_at dksX0_does_3 11 rfl rfl)
theorem dX0_does_64 : decode cX0_does 64 = .ok (.putfield 175, 3) := dk_181 0 175 (dk_at dksX0_does_3 12 rfl rfl)
theorem dX0_does_67 : decode cX0_does 67 = .ok (.goto 20, 3) := dk_167 0 20 (dk_at dksX0_does_3 15 rfl rfl)
theorem dX0_does_70 : decode cX0_does 70 = .ok (.aload_n 0, 1) := dk_42 (dk_at dksX0_does_3 18 rfl rfl)
theorem dX0_does_71 : decode cX0_does 71 = .ok (.getfield 32, 3) := dk_180 0 32 (dk_at dksX0_does_3 19 rfl rfl)
theorem dX0_does_74 : decode cX0_does 74 = .ok (.dup, 1) := dk_89 (dk_at dksX0_does_3 22 rfl rfl)
theorem dX0_does_75 : decode cX0_does 75 = .ok (.getfield 175, 3) := dk_180 0 175 (dk_at dksX0_does_4 0 rfl rfl)
theorem dX0_does_78 : decode cX0_does 78 = .ok (.iconst 1, 1) := dk_4 (dk_at dksX0_does_4 3 rfl rfl)
theorem dX0_does_79 : decode cX0_does 79 = .ok (.iload_n 2, 1) := dk_28 (dk_at dksX0_does_4 4 rfl rfl)
theorem dX0_does_80 : decode cX0_does 80 = .ok (.ishl, 1) := dk_120 (dk_at dksX0_does_4 5 rfl rfl)
theorem dX0_does_81 : decode cX0_does 81 = .ok (.iconst (-1), 1) := dk_2 (dk_at dksX0_does_4 6 rfl rfl)
theorem dX0_does_82 : decode cX0_does 82 = .ok (.ixor, 1) := dk_130 (dk_at dksX0_does_4 7 rfl rfl)
theorem dX0_does_83 : decode cX0_does 83 = .ok (.iand, 1) := dk_126 (dk_at dksX0_does_4 8 rfl rfl)
theorem dX0_does_84 : decode cX0_does 84 = .ok (.putfield 175, 3) := dk_181 0 175 (dk_at dksX0_does_4 9 rfl rfl)
theorem dX0_does_87 : decode cX0_does 87 = .ok (.return_, 1) := dk_177 (dk_at dksX0_does_4 12 rfl rfl)
abbrev cX0_book : ByteArray := prog_1_method_52_code
def yX0_book : MethodName := ⟨RX0, "book", "(II)I"⟩
def dkwX0_book_3 : List UInt8 := [28, 79, 42, 180, 1, 96, 172]
abbrev dktX0_book_3 : List UInt8 := dkwX0_book_3 ++ []
def dkwX0_book_2 : List UInt8 := [180, 0, 75, 42, 180, 1, 96, 27, 79, 42, 180, 0, 78, 42, 89, 180, 1, 96, 90, 4, 96, 181, 1, 96]
abbrev dktX0_book_2 : List UInt8 := dkwX0_book_2 ++ dktX0_book_3
def dkwX0_book_1 : List UInt8 := [184, 0, 239, 154, 0, 6, 16, 254, 172, 42, 180, 1, 96, 16, 8, 160, 0, 6, 16, 252, 172, 42]
abbrev dktX0_book_1 : List UInt8 := dkwX0_book_1 ++ dktX0_book_2
def dkwX0_book_0 : List UInt8 := [27, 2, 160, 0, 10, 42, 3, 181, 1, 96, 3, 172, 27, 184, 0, 148, 154, 0, 5, 2, 172, 28]
abbrev dktX0_book_0 : List UInt8 := dkwX0_book_0 ++ dktX0_book_1
theorem dksX0_book_0 : cX0_book.data.toList.drop 0 = dktX0_book_0 := by decide +kernel
theorem dksX0_book_1 : cX0_book.data.toList.drop 22 = dktX0_book_1 := dk_seg dksX0_book_0 22 rfl rfl
theorem dksX0_book_2 : cX0_book.data.toList.drop 44 = dktX0_book_2 := dk_seg dksX0_book_1 22 rfl rfl
theorem dksX0_book_3 : cX0_book.data.toList.drop 68 = dktX0_book_3 := dk_seg dksX0_book_2 24 rfl rfl
theorem dX0_book_0 : decode cX0_book 0 = .ok (.iload_n 1, 1) := dk_27 (dk_at dksX0_book_0 0 rfl rfl)
theorem dX0_book_1 : decode cX0_book 1 = .ok (.iconst (-1), 1) := dk_2 (dk_at dksX0_book_0 1 rfl rfl)
theorem dX0_book_2 : decode cX0_book 2 = .ok (.if_icmp .ne 10, 3) := dk_160 0 10 (dk_at dksX0_book_0 2 rfl rfl)
theorem dX0_book_5 : decode cX0_book 5 = .ok (.aload_n 0, 1) := dk_42 (dk_at dksX0_book_0 5 rfl rfl)
theorem dX0_book_6 : decode cX0_book 6 = .ok (.iconst 0, 1) := dk_3 (dk_at dksX0_book_0 6 rfl rfl)
theorem dX0_book_7 : decode cX0_book 7 = .ok (.putfield 352, 3) := dk_181 1 96 (dk_at dksX0_book_0 7 rfl rfl)
theorem dX0_book_10 : decode cX0_book 10 = .ok (.iconst 0, 1) := dk_3 (dk_at dksX0_book_0 10 rfl rfl)
theorem dX0_book_11 : decode cX0_book 11 = .ok (.ireturn, 1) := dk_172 (dk_at dksX0_book_0 11 rfl rfl)
theorem dX0_book_12 : decode cX0_book 12 = .ok (.iload_n 1, 1) := dk_27 (dk_at dksX0_book_0 12 rfl rfl)
theorem dX0_book_13 : decode cX0_book 13 = .ok (.invokestatic 148, 3) := dk_184 0 148 (dk_at dksX0_book_0 13 rfl rfl)
theorem dX0_book_16 : decode cX0_book 16 = .ok (.ifCond .ne 5, 3) := dk_154 0 5 (dk_at dksX0_book_0 16 rfl rfl)
theorem dX0_book_19 : decode cX0_book 19 = .ok (.iconst (-1), 1) := dk_2 (dk_at dksX0_book_0 19 rfl rfl)
theorem dX0_book_20 : decode cX0_book 20 = .ok (.ireturn, 1) := dk_172 (dk_at dksX0_book_0 20 rfl rfl)
theorem dX0_book_21 : decode cX0_book 21 = .ok (.iload_n 2, 1) := dk_28 (dk_at dksX0_book_0 21 rfl rfl)
theorem dX0_book_22 : decode cX0_book 22 = .ok (.invokestatic 239, 3) := dk_184 0 239 (dk_at dksX0_book_1 0 rfl rfl)
theorem dX0_book_25 : decode cX0_book 25 = .ok (.ifCond .ne 6, 3) := dk_154 0 6 (dk_at dksX0_book_1 3 rfl rfl)
theorem dX0_book_28 : decode cX0_book 28 = .ok (.bipush (-2), 2) := dk_16 254 (dk_at dksX0_book_1 6 rfl rfl)
theorem dX0_book_30 : decode cX0_book 30 = .ok (.ireturn, 1) := dk_172 (dk_at dksX0_book_1 8 rfl rfl)
theorem dX0_book_31 : decode cX0_book 31 = .ok (.aload_n 0, 1) := dk_42 (dk_at dksX0_book_1 9 rfl rfl)
theorem dX0_book_32 : decode cX0_book 32 = .ok (.getfield 352, 3) := dk_180 1 96 (dk_at dksX0_book_1 10 rfl rfl)
theorem dX0_book_35 : decode cX0_book 35 = .ok (.bipush 8, 2) := dk_16 8 (dk_at dksX0_book_1 13 rfl rfl)
theorem dX0_book_37 : decode cX0_book 37 = .ok (.if_icmp .ne 6, 3) := dk_160 0 6 (dk_at dksX0_book_1 15 rfl rfl)
theorem dX0_book_40 : decode cX0_book 40 = .ok (.bipush (-4), 2) := dk_16 252 (dk_at dksX0_book_1 18 rfl rfl)
theorem dX0_book_42 : decode cX0_book 42 = .ok (.ireturn, 1) := dk_172 (dk_at dksX0_book_1 20 rfl rfl)
theorem dX0_book_43 : decode cX0_book 43 = .ok (.aload_n 0, 1) := dk_42 (dk_at dksX0_book_1 21 rfl rfl)
theorem dX0_book_44 : decode cX0_book 44 = .ok (.getfield 75, 3) := dk_180 0 75 (dk_at dksX0_book_2 0 rfl rfl)
theorem dX0_book_47 : decode cX0_book 47 = .ok (.aload_n 0, 1) := dk_42 (dk_at dksX0_book_2 3 rfl rfl)
theorem dX0_book_48 : decode cX0_book 48 = .ok (.getfield 352, 3) := dk_180 1 96 (dk_at dksX0_book_2 4 rfl rfl)
theorem dX0_book_51 : decode cX0_book 51 = .ok (.iload_n 1, 1) := dk_27 (dk_at dksX0_book_2 7 rfl rfl)
theorem dX0_book_52 : decode cX0_book 52 = .ok (.iastore, 1) := dk_79 (dk_at dksX0_book_2 8 rfl rfl)
theorem dX0_book_53 : decode cX0_book 53 = .ok (.aload_n 0, 1) := dk_42 (dk_at dksX0_book_2 9 rfl rfl)
theorem dX0_book_54 : decode cX0_book 54 = .ok (.getfield 78, 3) := dk_180 0 78 (dk_at dksX0_book_2 10 rfl rfl)
theorem dX0_book_57 : decode cX0_book 57 = .ok (.aload_n 0, 1) := dk_42 (dk_at dksX0_book_2 13 rfl rfl)
theorem dX0_book_58 : decode cX0_book 58 = .ok (.dup, 1) := dk_89 (dk_at dksX0_book_2 14 rfl rfl)
theorem dX0_book_59 : decode cX0_book 59 = .ok (.getfield 352, 3) := dk_180 1 96 (dk_at dksX0_book_2 15 rfl rfl)
theorem dX0_book_62 : decode cX0_book 62 = .ok (.dup_x1, 1) := dk_90 (dk_at dksX0_book_2 18 rfl rfl)
theorem dX0_book_63 : decode cX0_book 63 = .ok (.iconst 1, 1) := dk_4 (dk_at dksX0_book_2 19 rfl rfl)
theorem dX0_book_64 : decode cX0_book 64 = .ok (.iadd, 1) := dk_96 (dk_at dksX0_book_2 20 rfl rfl)
theorem dX0_book_65 : decode cX0_book 65 = .ok (.putfield 352, 3) := dk_181 1 96 (dk_at dksX0_book_2 21 rfl rfl)
theorem dX0_book_68 : decode cX0_book 68 = .ok (.iload_n 2, 1) := dk_28 (dk_at dksX0_book_3 0 rfl rfl)
theorem dX0_book_69 : decode cX0_book 69 = .ok (.iastore, 1) := dk_79 (dk_at dksX0_book_3 1 rfl rfl)
theorem dX0_book_70 : decode cX0_book 70 = .ok (.aload_n 0, 1) := dk_42 (dk_at dksX0_book_3 2 rfl rfl)
theorem dX0_book_71 : decode cX0_book 71 = .ok (.getfield 352, 3) := dk_180 1 96 (dk_at dksX0_book_3 3 rfl rfl)
theorem dX0_book_74 : decode cX0_book 74 = .ok (.ireturn, 1) := dk_172 (dk_at dksX0_book_3 6 rfl rfl)
abbrev cX0_looked : ByteArray := prog_1_method_53_code
def yX0_looked : MethodName := ⟨RX0, "looked", "()I"⟩
def dkwX0_looked_1 : List UInt8 := [42, 180, 0, 78, 27, 46, 159, 0, 5, 27, 172, 132, 1, 1, 167, 255, 220, 16, 251, 172]
abbrev dktX0_looked_1 : List UInt8 := dkwX0_looked_1 ++ []
def dkwX0_looked_0 : List UInt8 := [3, 60, 27, 42, 180, 1, 96, 162, 0, 34, 42, 180, 0, 28, 180, 0, 194, 42, 180, 0, 75, 27, 46, 51]
abbrev dktX0_looked_0 : List UInt8 := dkwX0_looked_0 ++ dktX0_looked_1
theorem dksX0_looked_0 : cX0_looked.data.toList.drop 0 = dktX0_looked_0 := by decide +kernel
theorem dksX0_looked_1 : cX0_looked.data.toList.drop 24 = dktX0_looked_1 := dk_seg dksX0_looked_0 24 rfl rfl
theorem dX0_looked_0 : decode cX0_looked 0 = .ok (.iconst 0, 1) := dk_3 (dk_at dksX0_looked_0 0 rfl rfl)
theorem dX0_looked_1 : decode cX0_looked 1 = .ok (.istore_n 1, 1) := dk_60 (dk_at dksX0_looked_0 1 rfl rfl)
theorem dX0_looked_2 : decode cX0_looked 2 = .ok (.iload_n 1, 1) := dk_27 (dk_at dksX0_looked_0 2 rfl rfl)
theorem dX0_looked_3 : decode cX0_looked 3 = .ok (.aload_n 0, 1) := dk_42 (dk_at dksX0_looked_0 3 rfl rfl)
theorem dX0_looked_4 : decode cX0_looked 4 = .ok (.getfield 352, 3) := dk_180 1 96 (dk_at dksX0_looked_0 4 rfl rfl)
theorem dX0_looked_7 : decode cX0_looked 7 = .ok (.if_icmp .ge 34, 3) := dk_162 0 34 (dk_at dksX0_looked_0 7 rfl rfl)
theorem dX0_looked_10 : decode cX0_looked 10 = .ok (.aload_n 0, 1) := dk_42 (dk_at dksX0_looked_0 10 rfl rfl)
theorem dX0_looked_11 : decode cX0_looked 11 = .ok (.getfield 28, 3) := dk_180 0 28 (dk_at dksX0_looked_0 11 rfl rfl)
theorem dX0_looked_14 : decode cX0_looked 14 = .ok (.getfield 194, 3) := dk_180 0 194 (dk_at dksX0_looked_0 14 rfl rfl)
theorem dX0_looked_17 : decode cX0_looked 17 = .ok (.aload_n 0, 1) := dk_42 (dk_at dksX0_looked_0 17 rfl rfl)
theorem dX0_looked_18 : decode cX0_looked 18 = .ok (.getfield 75, 3) := dk_180 0 75 (dk_at dksX0_looked_0 18 rfl rfl)
theorem dX0_looked_21 : decode cX0_looked 21 = .ok (.iload_n 1, 1) := dk_27 (dk_at dksX0_looked_0 21 rfl rfl)
theorem dX0_looked_22 : decode cX0_looked 22 = .ok (.iaload, 1) := dk_46 (dk_at dksX0_looked_0 22 rfl rfl)
theorem dX0_looked_23 : decode cX0_looked 23 = .ok (.baload, 1) := dk_51 (dk_at dksX0_looked_0 23 rfl rfl)
theorem dX0_looked_24 : decode cX0_looked 24 = .ok (.aload_n 0, 1) := dk_42 (dk_at dksX0_looked_1 0 rfl rfl)
theorem dX0_looked_25 : decode cX0_looked 25 = .ok (.getfield 78, 3) := dk_180 0 78 (dk_at dksX0_looked_1 1 rfl rfl)
theorem dX0_looked_28 : decode cX0_looked 28 = .ok (.iload_n 1, 1) := dk_27 (dk_at dksX0_looked_1 4 rfl rfl)
theorem dX0_looked_29 : decode cX0_looked 29 = .ok (.iaload, 1) := dk_46 (dk_at dksX0_looked_1 5 rfl rfl)
theorem dX0_looked_30 : decode cX0_looked 30 = .ok (.if_icmp .eq 5, 3) := dk_159 0 5 (dk_at dksX0_looked_1 6 rfl rfl)
theorem dX0_looked_33 : decode cX0_looked 33 = .ok (.iload_n 1, 1) := dk_27 (dk_at dksX0_looked_1 9 rfl rfl)
theorem dX0_looked_34 : decode cX0_looked 34 = .ok (.ireturn, 1) := dk_172 (dk_at dksX0_looked_1 10 rfl rfl)
theorem dX0_looked_35 : decode cX0_looked 35 = .ok (.iinc 1 1, 3) := dk_132 1 1 (dk_at dksX0_looked_1 11 rfl rfl)
theorem dX0_looked_38 : decode cX0_looked 38 = .ok (.goto (-36), 3) := dk_167 255 220 (dk_at dksX0_looked_1 14 rfl rfl)
theorem dX0_looked_41 : decode cX0_looked 41 = .ok (.bipush (-5), 2) := dk_16 251 (dk_at dksX0_looked_1 17 rfl rfl)
theorem dX0_looked_43 : decode cX0_looked 43 = .ok (.ireturn, 1) := dk_172 (dk_at dksX0_looked_1 19 rfl rfl)
abbrev cX0_judge : ByteArray := prog_1_method_55_code
def yX0_judge : MethodName := ⟨RX0, "judge", "(II)I"⟩
def dkwX0_judge_1 : List UInt8 := [182, 1, 111, 172, 78, 16, 244, 172]
abbrev dktX0_judge_1 : List UInt8 := dkwX0_judge_1 ++ []
def dkwX0_judge_0 : List UInt8 := [27, 184, 1, 103, 154, 0, 5, 2, 172, 42, 42, 180, 0, 83, 27, 50, 180, 1, 106, 192, 1, 110, 28]
abbrev dktX0_judge_0 : List UInt8 := dkwX0_judge_0 ++ dktX0_judge_1
theorem dksX0_judge_0 : cX0_judge.data.toList.drop 0 = dktX0_judge_0 := by decide +kernel
theorem dksX0_judge_1 : cX0_judge.data.toList.drop 23 = dktX0_judge_1 := dk_seg dksX0_judge_0 23 rfl rfl
theorem dX0_judge_0 : decode cX0_judge 0 = .ok (.iload_n 1, 1) := dk_27 (dk_at dksX0_judge_0 0 rfl rfl)
theorem dX0_judge_1 : decode cX0_judge 1 = .ok (.invokestatic 359, 3) := dk_184 1 103 (dk_at dksX0_judge_0 1 rfl rfl)
theorem dX0_judge_4 : decode cX0_judge 4 = .ok (.ifCond .ne 5, 3) := dk_154 0 5 (dk_at dksX0_judge_0 4 rfl rfl)
theorem dX0_judge_7 : decode cX0_judge 7 = .ok (.iconst (-1), 1) := dk_2 (dk_at dksX0_judge_0 7 rfl rfl)
theorem dX0_judge_8 : decode cX0_judge 8 = .ok (.ireturn, 1) := dk_172 (dk_at dksX0_judge_0 8 rfl rfl)
theorem dX0_judge_9 : decode cX0_judge 9 = .ok (.aload_n 0, 1) := dk_42 (dk_at dksX0_judge_0 9 rfl rfl)
theorem dX0_judge_10 : decode cX0_judge 10 = .ok (.aload_n 0, 1) := dk_42 (dk_at dksX0_judge_0 10 rfl rfl)
theorem dX0_judge_11 : decode cX0_judge 11 = .ok (.getfield 83, 3) := dk_180 0 83 (dk_at dksX0_judge_0 11 rfl rfl)
theorem dX0_judge_14 : decode cX0_judge 14 = .ok (.iload_n 1, 1) := dk_27 (dk_at dksX0_judge_0 14 rfl rfl)
theorem dX0_judge_15 : decode cX0_judge 15 = .ok (.aaload, 1) := dk_50 (dk_at dksX0_judge_0 15 rfl rfl)
theorem dX0_judge_16 : decode cX0_judge 16 = .ok (.getfield 362, 3) := dk_180 1 106 (dk_at dksX0_judge_0 16 rfl rfl)
theorem dX0_judge_19 : decode cX0_judge 19 = .ok (.checkcast 366, 3) := dk_192 1 110 (dk_at dksX0_judge_0 19 rfl rfl)
theorem dX0_judge_22 : decode cX0_judge 22 = .ok (.iload_n 2, 1) := dk_28 (dk_at dksX0_judge_0 22 rfl rfl)
theorem dX0_judge_23 : decode cX0_judge 23 = .ok (.invokevirtual 367, 3) := dk_182 1 111 (dk_at dksX0_judge_1 0 rfl rfl)
theorem dX0_judge_26 : decode cX0_judge 26 = .ok (.ireturn, 1) := dk_172 (dk_at dksX0_judge_1 3 rfl rfl)
theorem dX0_judge_27 : decode cX0_judge 27 = .ok (.astore_n 3, 1) := dk_78 (dk_at dksX0_judge_1 4 rfl rfl)
theorem dX0_judge_28 : decode cX0_judge 28 = .ok (.bipush (-12), 2) := dk_16 244 (dk_at dksX0_judge_1 5 rfl rfl)
theorem dX0_judge_30 : decode cX0_judge 30 = .ok (.ireturn, 1) := dk_172 (dk_at dksX0_judge_1 7 rfl rfl)
abbrev cX0_isTape : ByteArray := prog_1_method_64_code
def yX0_isTape : MethodName := ⟨RX0, "isTape", "(I)Z"⟩
def dkwX0_isTape_0 : List UInt8 := [26, 3, 8, 184, 0, 5, 172]
abbrev dktX0_isTape_0 : List UInt8 := dkwX0_isTape_0 ++ []
theorem dksX0_isTape_0 : cX0_isTape.data.toList.drop 0 = dktX0_isTape_0 := by decide +kernel
theorem dX0_isTape_0 : decode cX0_isTape 0 = .ok (.iload_n 0, 1) := dk_26 (dk_at dksX0_isTape_0 0 rfl rfl)
theorem dX0_isTape_1 : decode cX0_isTape 1 = .ok (.iconst 0, 1) := dk_3 (dk_at dksX0_isTape_0 1 rfl rfl)
theorem dX0_isTape_2 : decode cX0_isTape 2 = .ok (.iconst 5, 1) := dk_8 (dk_at dksX0_isTape_0 2 rfl rfl)
theorem dX0_isTape_3 : decode cX0_isTape 3 = .ok (.invokestatic 5, 3) := dk_184 0 5 (dk_at dksX0_isTape_0 3 rfl rfl)
theorem dX0_isTape_6 : decode cX0_isTape 6 = .ok (.ireturn, 1) := dk_172 (dk_at dksX0_isTape_0 6 rfl rfl)
abbrev cX0_firstOther : ByteArray := prog_1_method_54_code
def yX0_firstOther : MethodName := ⟨RX0, "firstOther", "([BI)I"⟩
def dkwX0_firstOther_3 : List UInt8 := [29, 16, 100, 96, 172, 58, 4, 29, 16, 100, 96, 172]
abbrev dktX0_firstOther_3 : List UInt8 := dkwX0_firstOther_3 ++ []
def dkwX0_firstOther_2 : List UInt8 := [180, 0, 28, 180, 0, 194, 29, 51, 159, 0, 5, 29, 172, 132, 3, 1, 167, 255, 195, 16, 251, 172, 58, 4]
abbrev dktX0_firstOther_2 : List UInt8 := dkwX0_firstOther_2 ++ dktX0_firstOther_3
def dkwX0_firstOther_1 : List UInt8 := [22, 4, 9, 148, 156, 0, 13, 187, 1, 1, 89, 16, 243, 183, 1, 99, 191, 43, 22, 4, 136, 51, 42]
abbrev dktX0_firstOther_1 : List UInt8 := dkwX0_firstOther_1 ++ dktX0_firstOther_2
def dkwX0_firstOther_0 : List UInt8 := [3, 62, 29, 16, 8, 162, 0, 61, 28, 133, 29, 133, 97, 55, 4, 22, 4, 43, 190, 133, 148, 156, 0, 10]
abbrev dktX0_firstOther_0 : List UInt8 := dkwX0_firstOther_0 ++ dktX0_firstOther_1
theorem dksX0_firstOther_0 : cX0_firstOther.data.toList.drop 0 = dktX0_firstOther_0 := by decide +kernel
theorem dksX0_firstOther_1 : cX0_firstOther.data.toList.drop 24 = dktX0_firstOther_1 := dk_seg dksX0_firstOther_0 24 rfl rfl
theorem dksX0_firstOther_2 : cX0_firstOther.data.toList.drop 47 = dktX0_firstOther_2 := dk_seg dksX0_firstOther_1 23 rfl rfl
theorem dksX0_firstOther_3 : cX0_firstOther.data.toList.drop 71 = dktX0_firstOther_3 := dk_seg dksX0_firstOther_2 24 rfl rfl
theorem dX0_firstOther_0 : decode cX0_firstOther 0 = .ok (.iconst 0, 1) := dk_3 (dk_at dksX0_firstOther_0 0 rfl rfl)
theorem dX0_firstOther_1 : decode cX0_firstOther 1 = .ok (.istore_n 3, 1) := dk_62 (dk_at dksX0_firstOther_0 1 rfl rfl)
theorem dX0_firstOther_2 : decode cX0_firstOther 2 = .ok (.iload_n 3, 1) := dk_29 (dk_at dksX0_firstOther_0 2 rfl rfl)
theorem dX0_firstOther_3 : decode cX0_firstOther 3 = .ok (.bipush 8, 2) := dk_16 8 (dk_at dksX0_firstOther_0 3 rfl rfl)
theorem dX0_firstOther_5 : decode cX0_firstOther 5 = .ok (.if_icmp .ge 61, 3) := dk_162 0 61 (dk_at dksX0_firstOther_0 5 rfl rfl)
theorem dX0_firstOther_8 : decode cX0_firstOther 8 = .ok (.iload_n 2, 1) := dk_28 (dk_at dksX0_firstOther_0 8 rfl rfl)
theorem dX0_firstOther_9 : decode cX0_firstOther 9 = .ok (.i2l, 1) := dk_133 (dk_at dksX0_firstOther_0 9 rfl rfl)
theorem dX0_firstOther_10 : decode cX0_firstOther 10 = .ok (.iload_n 3, 1) := dk_29 (dk_at dksX0_firstOther_0 10 rfl rfl)
theorem dX0_firstOther_11 : decode cX0_firstOther 11 = .ok (.i2l, 1) := dk_133 (dk_at dksX0_firstOther_0 11 rfl rfl)
theorem dX0_firstOther_12 : decode cX0_firstOther 12 = .ok (.ladd, 1) := dk_97 (dk_at dksX0_firstOther_0 12 rfl rfl)
theorem dX0_firstOther_13 : decode cX0_firstOther 13 = .ok (.lstore 4, 2) := dk_55 4 (dk_at dksX0_firstOther_0 13 rfl rfl)
theorem dX0_firstOther_15 : decode cX0_firstOther 15 = .ok (.lload 4, 2) := dk_22 4 (dk_at dksX0_firstOther_0 15 rfl rfl)
theorem dX0_firstOther_17 : decode cX0_firstOther 17 = .ok (.aload_n 1, 1) := dk_43 (dk_at dksX0_firstOther_0 17 rfl rfl)
theorem dX0_firstOther_18 : decode cX0_firstOther 18 = .ok (.arraylength, 1) := dk_190 (dk_at dksX0_firstOther_0 18 rfl rfl)
theorem dX0_firstOther_19 : decode cX0_firstOther 19 = .ok (.i2l, 1) := dk_133 (dk_at dksX0_firstOther_0 19 rfl rfl)
theorem dX0_firstOther_20 : decode cX0_firstOther 20 = .ok (.lcmp, 1) := dk_148 (dk_at dksX0_firstOther_0 20 rfl rfl)
theorem dX0_firstOther_21 : decode cX0_firstOther 21 = .ok (.ifCond .ge 10, 3) := dk_156 0 10 (dk_at dksX0_firstOther_0 21 rfl rfl)
theorem dX0_firstOther_24 : decode cX0_firstOther 24 = .ok (.lload 4, 2) := dk_22 4 (dk_at dksX0_firstOther_1 0 rfl rfl)
theorem dX0_firstOther_26 : decode cX0_firstOther 26 = .ok (.lconst 0, 1) := dk_9 (dk_at dksX0_firstOther_1 2 rfl rfl)
theorem dX0_firstOther_27 : decode cX0_firstOther 27 = .ok (.lcmp, 1) := dk_148 (dk_at dksX0_firstOther_1 3 rfl rfl)
theorem dX0_firstOther_28 : decode cX0_firstOther 28 = .ok (.ifCond .ge 13, 3) := dk_156 0 13 (dk_at dksX0_firstOther_1 4 rfl rfl)
theorem dX0_firstOther_31 : decode cX0_firstOther 31 = .ok (.new 257, 3) := dk_187 1 1 (dk_at dksX0_firstOther_1 7 rfl rfl)
theorem dX0_firstOther_34 : decode cX0_firstOther 34 = .ok (.dup, 1) := dk_89 (dk_at dksX0_firstOther_1 10 rfl rfl)
theorem dX0_firstOther_35 : decode cX0_firstOther 35 = .ok (.bipush (-13), 2) := dk_16 243 (dk_at dksX0_firstOther_1 11 rfl rfl)
theorem dX0_firstOther_37 : decode cX0_firstOther 37 = .ok (.invokespecial 355, 3) := dk_183 1 99 (dk_at dksX0_firstOther_1 13 rfl rfl)
theorem dX0_firstOther_40 : decode cX0_firstOther 40 = .ok (.athrow, 1) := dk_191 (dk_at dksX0_firstOther_1 16 rfl rfl)
theorem dX0_firstOther_41 : decode cX0_firstOther 41 = .ok (.aload_n 1, 1) := dk_43 (dk_at dksX0_firstOther_1 17 rfl rfl)
theorem dX0_firstOther_42 : decode cX0_firstOther 42 = .ok (.lload 4, 2) := dk_22 4 (dk_at dksX0_firstOther_1 18 rfl rfl)
theorem dX0_firstOther_44 : decode cX0_firstOther 44 = .ok (.l2i, 1) := dk_136 (dk_at dksX0_firstOther_1 20 rfl rfl)
theorem dX0_firstOther_45 : decode cX0_firstOther 45 = .ok (.baload, 1) := dk_51 (dk_at dksX0_firstOther_1 21 rfl rfl)
theorem dX0_firstOther_46 : decode cX0_firstOther 46 = .ok (.aload_n 0, 1) := dk_42 (dk_at dksX0_firstOther_1 22 rfl rfl)
theorem dX0_firstOther_47 : decode cX0_firstOther 47 = .ok (.getfield 28, 3) := dk_180 0 28 (dk_at dksX0_firstOther_2 0 rfl rfl)
theorem dX0_firstOther_50 : decode cX0_firstOther 50 = .ok (.getfield 194, 3) := dk_180 0 194 (dk_at dksX0_firstOther_2 3 rfl rfl)
theorem dX0_firstOther_53 : decode cX0_firstOther 53 = .ok (.iload_n 3, 1) := dk_29 (dk_at dksX0_firstOther_2 6 rfl rfl)
theorem dX0_firstOther_54 : decode cX0_firstOther 54 = .ok (.baload, 1) := dk_51 (dk_at dksX0_firstOther_2 7 rfl rfl)
theorem dX0_firstOther_55 : decode cX0_firstOther 55 = .ok (.if_icmp .eq 5, 3) := dk_159 0 5 (dk_at dksX0_firstOther_2 8 rfl rfl)
theorem dX0_firstOther_58 : decode cX0_firstOther 58 = .ok (.iload_n 3, 1) := dk_29 (dk_at dksX0_firstOther_2 11 rfl rfl)
theorem dX0_firstOther_59 : decode cX0_firstOther 59 = .ok (.ireturn, 1) := dk_172 (dk_at dksX0_firstOther_2 12 rfl rfl)
theorem dX0_firstOther_60 : decode cX0_firstOther 60 = .ok (.iinc 3 1, 3) := dk_132 3 1 (dk_at dksX0_firstOther_2 13 rfl rfl)
theorem dX0_firstOther_63 : decode cX0_firstOther 63 = .ok (.goto (-61), 3) := dk_167 255 195 (dk_at dksX0_firstOther_2 16 rfl rfl)
theorem dX0_firstOther_66 : decode cX0_firstOther 66 = .ok (.bipush (-5), 2) := dk_16 251 (dk_at dksX0_firstOther_2 19 rfl rfl)
theorem dX0_firstOther_68 : decode cX0_firstOther 68 = .ok (.ireturn, 1) := dk_172 (dk_at dksX0_firstOther_2 21 rfl rfl)
theorem dX0_firstOther_69 : decode cX0_firstOther 69 = .ok (.astore 4, 2) := dk_58 4 (dk_at dksX0_firstOther_2 22 rfl rfl)
theorem dX0_firstOther_71 : decode cX0_firstOther 71 = .ok (.iload_n 3, 1) := dk_29 (dk_at dksX0_firstOther_3 0 rfl rfl)
theorem dX0_firstOther_72 : decode cX0_firstOther 72 = .ok (.bipush 100, 2) := dk_16 100 (dk_at dksX0_firstOther_3 1 rfl rfl)
theorem dX0_firstOther_74 : decode cX0_firstOther 74 = .ok (.iadd, 1) := dk_96 (dk_at dksX0_firstOther_3 3 rfl rfl)
theorem dX0_firstOther_75 : decode cX0_firstOther 75 = .ok (.ireturn, 1) := dk_172 (dk_at dksX0_firstOther_3 4 rfl rfl)
theorem dX0_firstOther_76 : decode cX0_firstOther 76 = .ok (.astore 4, 2) := dk_58 4 (dk_at dksX0_firstOther_3 5 rfl rfl)
theorem dX0_firstOther_78 : decode cX0_firstOther 78 = .ok (.iload_n 3, 1) := dk_29 (dk_at dksX0_firstOther_3 7 rfl rfl)
theorem dX0_firstOther_79 : decode cX0_firstOther 79 = .ok (.bipush 100, 2) := dk_16 100 (dk_at dksX0_firstOther_3 8 rfl rfl)
theorem dX0_firstOther_81 : decode cX0_firstOther 81 = .ok (.iadd, 1) := dk_96 (dk_at dksX0_firstOther_3 10 rfl rfl)
theorem dX0_firstOther_82 : decode cX0_firstOther 82 = .ok (.ireturn, 1) := dk_172 (dk_at dksX0_firstOther_3 11 rfl rfl)
abbrev cX0_image : ByteArray := prog_1_method_56_code
def yX0_image : MethodName := ⟨RX0, "image", "()I"⟩
def dkwX0_image_7 : List UInt8 := [181, 1, 129, 42, 42, 180, 0, 42, 181, 1, 132, 42, 180, 0, 28, 180, 0, 118, 172]
abbrev dktX0_image_7 : List UInt8 := dkwX0_image_7 ++ []
def dkwX0_image_6 : List UInt8 := [184, 1, 117, 42, 42, 180, 1, 65, 181, 1, 123, 42, 42, 180, 1, 87, 181, 1, 126, 42, 42, 180, 1, 96]
abbrev dktX0_image_6 : List UInt8 := dkwX0_image_6 ++ dktX0_image_7
def dkwX0_image_5 : List UInt8 := [3, 42, 180, 0, 111, 3, 16, 8, 184, 1, 117, 42, 180, 0, 78, 3, 42, 180, 0, 114, 3, 16, 8]
abbrev dktX0_image_5 : List UInt8 := dkwX0_image_5 ++ dktX0_image_6
def dkwX0_image_4 : List UInt8 := [16, 10, 184, 1, 117, 42, 180, 0, 72, 3, 42, 180, 0, 108, 3, 16, 10, 184, 1, 117, 42, 180, 0, 75]
abbrev dktX0_image_4 : List UInt8 := dkwX0_image_4 ++ dktX0_image_5
def dkwX0_image_3 : List UInt8 := [180, 0, 66, 3, 42, 180, 0, 102, 3, 8, 184, 1, 117, 42, 180, 0, 69, 3, 42, 180, 0, 105, 3]
abbrev dktX0_image_3 : List UInt8 := dkwX0_image_3 ++ dktX0_image_4
def dkwX0_image_2 : List UInt8 := [180, 0, 96, 3, 8, 184, 1, 117, 42, 180, 0, 63, 3, 42, 180, 0, 99, 3, 8, 184, 1, 117, 42]
abbrev dktX0_image_2 : List UInt8 := dkwX0_image_2 ++ dktX0_image_3
def dkwX0_image_1 : List UInt8 := [184, 1, 117, 42, 180, 0, 21, 3, 42, 180, 0, 93, 3, 16, 24, 184, 1, 117, 42, 180, 0, 60, 3, 42]
abbrev dktX0_image_1 : List UInt8 := dkwX0_image_1 ++ dktX0_image_2
def dkwX0_image_0 : List UInt8 := [42, 180, 0, 87, 42, 180, 0, 28, 182, 1, 20, 42, 180, 0, 17, 3, 42, 180, 0, 90, 3, 16, 6]
abbrev dktX0_image_0 : List UInt8 := dkwX0_image_0 ++ dktX0_image_1
theorem dksX0_image_0 : cX0_image.data.toList.drop 0 = dktX0_image_0 := by decide +kernel
theorem dksX0_image_1 : cX0_image.data.toList.drop 23 = dktX0_image_1 := dk_seg dksX0_image_0 23 rfl rfl
theorem dksX0_image_2 : cX0_image.data.toList.drop 47 = dktX0_image_2 := dk_seg dksX0_image_1 24 rfl rfl
theorem dksX0_image_3 : cX0_image.data.toList.drop 70 = dktX0_image_3 := dk_seg dksX0_image_2 23 rfl rfl
theorem dksX0_image_4 : cX0_image.data.toList.drop 93 = dktX0_image_4 := dk_seg dksX0_image_3 23 rfl rfl
theorem dksX0_image_5 : cX0_image.data.toList.drop 117 = dktX0_image_5 := dk_seg dksX0_image_4 24 rfl rfl
theorem dksX0_image_6 : cX0_image.data.toList.drop 140 = dktX0_image_6 := dk_seg dksX0_image_5 23 rfl rfl
theorem dksX0_image_7 : cX0_image.data.toList.drop 164 = dktX0_image_7 := dk_seg dksX0_image_6 24 rfl rfl
theorem dX0_image_0 : decode cX0_image 0 = .ok (.aload_n 0, 1) := dk_42 (dk_at dksX0_image_0 0 rfl rfl)
theorem dX0_image_1 : decode cX0_image 1 = .ok (.getfield 87, 3) := dk_180 0 87 (dk_at dksX0_image_0 1 rfl rfl)
theorem dX0_image_4 : decode cX0_image 4 = .ok (.aload_n 0, 1) := dk_42 (dk_at dksX0_image_0 4 rfl rfl)
theorem dX0_image_5 : decode cX0_image 5 = .ok (.getfield 28, 3) := dk_180 0 28 (dk_at dksX0_image_0 5 rfl rfl)
theorem dX0_image_8 : decode cX0_image 8 = .ok (.invokevirtual 276, 3) := dk_182 1 20 (dk_at dksX0_image_0 8 rfl rfl)
theorem dX0_image_11 : decode cX0_image 11 = .ok (.aload_n 0, 1) := dk_42 (dk_at dksX0_image_0 11 rfl rfl)
theorem dX0_image_12 : decode cX0_image 12 = .ok (.getfield 17, 3) := dk_180 0 17 (dk_at dksX0_image_0 12 rfl rfl)
theorem dX0_image_15 : decode cX0_image 15 = .ok (.iconst 0, 1) := dk_3 (dk_at dksX0_image_0 15 rfl rfl)
theorem dX0_image_16 : decode cX0_image 16 = .ok (.aload_n 0, 1) := dk_42 (dk_at dksX0_image_0 16 rfl rfl)
theorem dX0_image_17 : decode cX0_image 17 = .ok (.getfield 90, 3) := dk_180 0 90 (dk_at dksX0_image_0 17 rfl rfl)
theorem dX0_image_20 : decode cX0_image 20 = .ok (.iconst 0, 1) := dk_3 (dk_at dksX0_image_0 20 rfl rfl)
theorem dX0_image_21 : decode cX0_image 21 = .ok (.bipush 6, 2) := dk_16 6 (dk_at dksX0_image_0 21 rfl rfl)
theorem dX0_image_23 : decode cX0_image 23 = .ok (.invokestatic 373, 3) := dk_184 1 117 (dk_at dksX0_image_1 0 rfl rfl)
theorem dX0_image_26 : decode cX0_image 26 = .ok (.aload_n 0, 1) := dk_42 (dk_at dksX0_image_1 3 rfl rfl)
theorem dX0_image_27 : decode cX0_image 27 = .ok (.getfield 21, 3) := dk_180 0 21 (dk_at dksX0_image_1 4 rfl rfl)
theorem dX0_image_30 : decode cX0_image 30 = .ok (.iconst 0, 1) := dk_3 (dk_at dksX0_image_1 7 rfl rfl)
theorem dX0_image_31 : decode cX0_image 31 = .ok (.aload_n 0, 1) := dk_42 (dk_at dksX0_image_1 8 rfl rfl)
theorem dX0_image_32 : decode cX0_image 32 = .ok (.getfield 93, 3) := dk_180 0 93 (dk_at dksX0_image_1 9 rfl rfl)
theorem dX0_image_35 : decode cX0_image 35 = .ok (.iconst 0, 1) := dk_3 (dk_at dksX0_image_1 12 rfl rfl)
theorem dX0_image_36 : decode cX0_image 36 = .ok (.bipush 24, 2) := dk_16 24 (dk_at dksX0_image_1 13 rfl rfl)
theorem dX0_image_38 : decode cX0_image 38 = .ok (.invokestatic 373, 3) := dk_184 1 117 (dk_at dksX0_image_1 15 rfl rfl)
theorem dX0_image_41 : decode cX0_image 41 = .ok (.aload_n 0, 1) := dk_42 (dk_at dksX0_image_1 18 rfl rfl)
theorem dX0_image_42 : decode cX0_image 42 = .ok (.getfield 60, 3) := dk_180 0 60 (dk_at dksX0_image_1 19 rfl rfl)
theorem dX0_image_45 : decode cX0_image 45 = .ok (.iconst 0, 1) := dk_3 (dk_at dksX0_image_1 22 rfl rfl)
theorem dX0_image_46 : decode cX0_image 46 = .ok (.aload_n 0, 1) := dk_42 (dk_at dksX0_image_1 23 rfl rfl)
theorem dX0_image_47 : decode cX0_image 47 = .ok (.getfield 96, 3) := dk_180 0 96 (dk_at dksX0_image_2 0 rfl rfl)
theorem dX0_image_50 : decode cX0_image 50 = .ok (.iconst 0, 1) := dk_3 (dk_at dksX0_image_2 3 rfl rfl)
theorem dX0_image_51 : decode cX0_image 51 = .ok (.iconst 5, 1) := dk_8 (dk_at dksX0_image_2 4 rfl rfl)
theorem dX0_image_52 : decode cX0_image 52 = .ok (.invokestatic 373, 3) := dk_184 1 117 (dk_at dksX0_image_2 5 rfl rfl)
theorem dX0_image_55 : decode cX0_image 55 = .ok (.aload_n 0, 1) := dk_42 (dk_at dksX0_image_2 8 rfl rfl)
theorem dX0_image_56 : decode cX0_image 56 = .ok (.getfield 63, 3) := dk_180 0 63 (dk_at dksX0_image_2 9 rfl rfl)
theorem dX0_image_59 : decode cX0_image 59 = .ok (.iconst 0, 1) := dk_3 (dk_at dksX0_image_2 12 rfl rfl)
theorem dX0_image_60 : decode cX0_image 60 = .ok (.aload_n 0, 1) := dk_42 (dk_at dksX0_image_2 13 rfl rfl)
theorem dX0_image_61 : decode cX0_image 61 = .ok (.getfield 99, 3) := dk_180 0 99 (dk_at dksX0_image_2 14 rfl rfl)
theorem dX0_image_64 : decode cX0_image 64 = .ok (.iconst 0, 1) := dk_3 (dk_at dksX0_image_2 17 rfl rfl)
theorem dX0_image_65 : decode cX0_image 65 = .ok (.iconst 5, 1) := dk_8 (dk_at dksX0_image_2 18 rfl rfl)
theorem dX0_image_66 : decode cX0_image 66 = .ok (.invokestatic 373, 3) := dk_184 1 117 (dk_at dksX0_image_2 19 rfl rfl)
theorem dX0_image_69 : decode cX0_image 69 = .ok (.aload_n 0, 1) := dk_42 (dk_at dksX0_image_2 22 rfl rfl)
theorem dX0_image_70 : decode cX0_image 70 = .ok (.getfield 66, 3) := dk_180 0 66 (dk_at dksX0_image_3 0 rfl rfl)
theorem dX0_image_73 : decode cX0_image 73 = .ok (.iconst 0, 1) := dk_3 (dk_at dksX0_image_3 3 rfl rfl)
theorem dX0_image_74 : decode cX0_image 74 = .ok (.aload_n 0, 1) := dk_42 (dk_at dksX0_image_3 4 rfl rfl)
theorem dX0_image_75 : decode cX0_image 75 = .ok (.getfield 102, 3) := dk_180 0 102 (dk_at dksX0_image_3 5 rfl rfl)
theorem dX0_image_78 : decode cX0_image 78 = .ok (.iconst 0, 1) := dk_3 (dk_at dksX0_image_3 8 rfl rfl)
theorem dX0_image_79 : decode cX0_image 79 = .ok (.iconst 5, 1) := dk_8 (dk_at dksX0_image_3 9 rfl rfl)
theorem dX0_image_80 : decode cX0_image 80 = .ok (.invokestatic 373, 3) := dk_184 1 117 (dk_at dksX0_image_3 10 rfl rfl)
theorem dX0_image_83 : decode cX0_image 83 = .ok (.aload_n 0, 1) := dk_42 (dk_at dksX0_image_3 13 rfl rfl)
theorem dX0_image_84 : decode cX0_image 84 = .ok (.getfield 69, 3) := dk_180 0 69 (dk_at dksX0_image_3 14 rfl rfl)
theorem dX0_image_87 : decode cX0_image 87 = .ok (.iconst 0, 1) := dk_3 (dk_at dksX0_image_3 17 rfl rfl)
theorem dX0_image_88 : decode cX0_image 88 = .ok (.aload_n 0, 1) := dk_42 (dk_at dksX0_image_3 18 rfl rfl)
theorem dX0_image_89 : decode cX0_image 89 = .ok (.getfield 105, 3) := dk_180 0 105 (dk_at dksX0_image_3 19 rfl rfl)
theorem dX0_image_92 : decode cX0_image 92 = .ok (.iconst 0, 1) := dk_3 (dk_at dksX0_image_3 22 rfl rfl)
theorem dX0_image_93 : decode cX0_image 93 = .ok (.bipush 10, 2) := dk_16 10 (dk_at dksX0_image_4 0 rfl rfl)
theorem dX0_image_95 : decode cX0_image 95 = .ok (.invokestatic 373, 3) := dk_184 1 117 (dk_at dksX0_image_4 2 rfl rfl)
theorem dX0_image_98 : decode cX0_image 98 = .ok (.aload_n 0, 1) := dk_42 (dk_at dksX0_image_4 5 rfl rfl)
theorem dX0_image_99 : decode cX0_image 99 = .ok (.getfield 72, 3) := dk_180 0 72 (dk_at dksX0_image_4 6 rfl rfl)
theorem dX0_image_102 : decode cX0_image 102 = .ok (.iconst 0, 1) := dk_3 (dk_at dksX0_image_4 9 rfl rfl)
theorem dX0_image_103 : decode cX0_image 103 = .ok (.aload_n 0, 1) := dk_42 (dk_at dksX0_image_4 10 rfl rfl)
theorem dX0_image_104 : decode cX0_image 104 = .ok (.getfield 108, 3) := dk_180 0 108 (dk_at dksX0_image_4 11 rfl rfl)
theorem dX0_image_107 : decode cX0_image 107 = .ok (.iconst 0, 1) := dk_3 (dk_at dksX0_image_4 14 rfl rfl)
theorem dX0_image_108 : decode cX0_image 108 = .ok (.bipush 10, 2) := dk_16 10 (dk_at dksX0_image_4 15 rfl rfl)
theorem dX0_image_110 : decode cX0_image 110 = .ok (.invokestatic 373, 3) := dk_184 1 117 (dk_at dksX0_image_4 17 rfl rfl)
theorem dX0_image_113 : decode cX0_image 113 = .ok (.aload_n 0, 1) := dk_42 (dk_at dksX0_image_4 20 rfl rfl)
theorem dX0_image_114 : decode cX0_image 114 = .ok (.getfield 75, 3) := dk_180 0 75 (dk_at dksX0_image_4 21 rfl rfl)
theorem dX0_image_117 : decode cX0_image 117 = .ok (.iconst 0, 1) := dk_3 (dk_at dksX0_image_5 0 rfl rfl)
theorem dX0_image_118 : decode cX0_image 118 = .ok (.aload_n 0, 1) := dk_42 (dk_at dksX0_image_5 1 rfl rfl)
theorem dX0_image_119 : decode cX0_image 119 = .ok (.getfield 111, 3) := dk_180 0 111 (dk_at dksX0_image_5 2 rfl rfl)
theorem dX0_image_122 : decode cX0_image 122 = .ok (.iconst 0, 1) := dk_3 (dk_at dksX0_image_5 5 rfl rfl)
theorem dX0_image_123 : decode cX0_image 123 = .ok (.bipush 8, 2) := dk_16 8 (dk_at dksX0_image_5 6 rfl rfl)
theorem dX0_image_125 : decode cX0_image 125 = .ok (.invokestatic 373, 3) := dk_184 1 117 (dk_at dksX0_image_5 8 rfl rfl)
theorem dX0_image_128 : decode cX0_image 128 = .ok (.aload_n 0, 1) := dk_42 (dk_at dksX0_image_5 11 rfl rfl)
theorem dX0_image_129 : decode cX0_image 129 = .ok (.getfield 78, 3) := dk_180 0 78 (dk_at dksX0_image_5 12 rfl rfl)
theorem dX0_image_132 : decode cX0_image 132 = .ok (.iconst 0, 1) := dk_3 (dk_at dksX0_image_5 15 rfl rfl)
theorem dX0_image_133 : decode cX0_image 133 = .ok (.aload_n 0, 1) := dk_42 (dk_at dksX0_image_5 16 rfl rfl)
theorem dX0_image_134 : decode cX0_image 134 = .ok (.getfield 114, 3) := dk_180 0 114 (dk_at dksX0_image_5 17 rfl rfl)
theorem dX0_image_137 : decode cX0_image 137 = .ok (.iconst 0, 1) := dk_3 (dk_at dksX0_image_5 20 rfl rfl)
theorem dX0_image_138 : decode cX0_image 138 = .ok (.bipush 8, 2) := dk_16 8 (dk_at dksX0_image_5 21 rfl rfl)
theorem dX0_image_140 : decode cX0_image 140 = .ok (.invokestatic 373, 3) := dk_184 1 117 (dk_at dksX0_image_6 0 rfl rfl)
theorem dX0_image_143 : decode cX0_image 143 = .ok (.aload_n 0, 1) := dk_42 (dk_at dksX0_image_6 3 rfl rfl)
theorem dX0_image_144 : decode cX0_image 144 = .ok (.aload_n 0, 1) := dk_42 (dk_at dksX0_image_6 4 rfl rfl)
theorem dX0_image_145 : decode cX0_image 145 = .ok (.getfield 321, 3) := dk_180 1 65 (dk_at dksX0_image_6 5 rfl rfl)
theorem dX0_image_148 : decode cX0_image 148 = .ok (.putfield 379, 3) := dk_181 1 123 (dk_at dksX0_image_6 8 rfl rfl)
theorem dX0_image_151 : decode cX0_image 151 = .ok (.aload_n 0, 1) := dk_42 (dk_at dksX0_image_6 11 rfl rfl)
theorem dX0_image_152 : decode cX0_image 152 = .ok (.aload_n 0, 1) := dk_42 (dk_at dksX0_image_6 12 rfl rfl)
theorem dX0_image_153 : decode cX0_image 153 = .ok (.getfield 343, 3) := dk_180 1 87 (dk_at dksX0_image_6 13 rfl rfl)
theorem dX0_image_156 : decode cX0_image 156 = .ok (.putfield 382, 3) := dk_181 1 126 (dk_at dksX0_image_6 16 rfl rfl)
theorem dX0_image_159 : decode cX0_image 159 = .ok (.aload_n 0, 1) := dk_42 (dk_at dksX0_image_6 19 rfl rfl)
theorem dX0_image_160 : decode cX0_image 160 = .ok (.aload_n 0, 1) := dk_42 (dk_at dksX0_image_6 20 rfl rfl)
theorem dX0_image_161 : decode cX0_image 161 = .ok (.getfield 352, 3) := dk_180 1 96 (dk_at dksX0_image_6 21 rfl rfl)
theorem dX0_image_164 : decode cX0_image 164 = .ok (.putfield 385, 3) := dk_181 1 129 (dk_at dksX0_image_7 0 rfl rfl)
theorem dX0_image_167 : decode cX0_image 167 = .ok (.aload_n 0, 1) := dk_42 (dk_at dksX0_image_7 3 rfl rfl)
theorem dX0_image_168 : decode cX0_image 168 = .ok (.aload_n 0, 1) := dk_42 (dk_at dksX0_image_7 4 rfl rfl)
theorem dX0_image_169 : decode cX0_image 169 = .ok (.getfield 42, 3) := dk_180 0 42 (dk_at dksX0_image_7 5 rfl rfl)
theorem dX0_image_172 : decode cX0_image 172 = .ok (.putfield 388, 3) := dk_181 1 132 (dk_at dksX0_image_7 8 rfl rfl)
theorem dX0_image_175 : decode cX0_image 175 = .ok (.aload_n 0, 1) := dk_42 (dk_at dksX0_image_7 11 rfl rfl)
theorem dX0_image_176 : decode cX0_image 176 = .ok (.getfield 28, 3) := dk_180 0 28 (dk_at dksX0_image_7 12 rfl rfl)
theorem dX0_image_179 : decode cX0_image 179 = .ok (.getfield 118, 3) := dk_180 0 118 (dk_at dksX0_image_7 15 rfl rfl)
theorem dX0_image_182 : decode cX0_image 182 = .ok (.ireturn, 1) := dk_172 (dk_at dksX0_image_7 18 rfl rfl)
abbrev cX0_undo : ByteArray := prog_1_method_57_code
def yX0_undo : MethodName := ⟨RX0, "undo", "()I"⟩
def dkwX0_undo_8 : List UInt8 := [180, 0, 118, 172]
abbrev dktX0_undo_8 : List UInt8 := dkwX0_undo_8 ++ []
def dkwX0_undo_7 : List UInt8 := [181, 1, 87, 42, 42, 180, 1, 129, 181, 1, 96, 42, 42, 180, 1, 132, 181, 0, 42, 42, 180, 0, 28]
abbrev dktX0_undo_7 : List UInt8 := dkwX0_undo_7 ++ dktX0_undo_8
def dkwX0_undo_6 : List UInt8 := [3, 42, 180, 0, 78, 3, 16, 8, 184, 1, 117, 42, 42, 180, 1, 123, 181, 1, 65, 42, 42, 180, 1, 126]
abbrev dktX0_undo_6 : List UInt8 := dkwX0_undo_6 ++ dktX0_undo_7
def dkwX0_undo_5 : List UInt8 := [16, 10, 184, 1, 117, 42, 180, 0, 111, 3, 42, 180, 0, 75, 3, 16, 8, 184, 1, 117, 42, 180, 0, 114]
abbrev dktX0_undo_5 : List UInt8 := dkwX0_undo_5 ++ dktX0_undo_6
def dkwX0_undo_4 : List UInt8 := [180, 0, 105, 3, 42, 180, 0, 69, 3, 16, 10, 184, 1, 117, 42, 180, 0, 108, 3, 42, 180, 0, 72, 3]
abbrev dktX0_undo_4 : List UInt8 := dkwX0_undo_4 ++ dktX0_undo_5
def dkwX0_undo_3 : List UInt8 := [42, 180, 0, 63, 3, 8, 184, 1, 117, 42, 180, 0, 102, 3, 42, 180, 0, 66, 3, 8, 184, 1, 117, 42]
abbrev dktX0_undo_3 : List UInt8 := dkwX0_undo_3 ++ dktX0_undo_4
def dkwX0_undo_2 : List UInt8 := [16, 24, 184, 1, 117, 42, 180, 0, 96, 3, 42, 180, 0, 60, 3, 8, 184, 1, 117, 42, 180, 0, 99, 3]
abbrev dktX0_undo_2 : List UInt8 := dkwX0_undo_2 ++ dktX0_undo_3
def dkwX0_undo_1 : List UInt8 := [180, 0, 90, 3, 42, 180, 0, 17, 3, 16, 6, 184, 1, 117, 42, 180, 0, 93, 3, 42, 180, 0, 21, 3]
abbrev dktX0_undo_1 : List UInt8 := dkwX0_undo_1 ++ dktX0_undo_2
def dkwX0_undo_0 : List UInt8 := [42, 180, 1, 132, 199, 0, 6, 16, 253, 172, 42, 180, 0, 28, 42, 180, 0, 87, 182, 1, 20, 42]
abbrev dktX0_undo_0 : List UInt8 := dkwX0_undo_0 ++ dktX0_undo_1
theorem dksX0_undo_0 : cX0_undo.data.toList.drop 0 = dktX0_undo_0 := by decide +kernel
theorem dksX0_undo_1 : cX0_undo.data.toList.drop 22 = dktX0_undo_1 := dk_seg dksX0_undo_0 22 rfl rfl
theorem dksX0_undo_2 : cX0_undo.data.toList.drop 46 = dktX0_undo_2 := dk_seg dksX0_undo_1 24 rfl rfl
theorem dksX0_undo_3 : cX0_undo.data.toList.drop 70 = dktX0_undo_3 := dk_seg dksX0_undo_2 24 rfl rfl
theorem dksX0_undo_4 : cX0_undo.data.toList.drop 94 = dktX0_undo_4 := dk_seg dksX0_undo_3 24 rfl rfl
theorem dksX0_undo_5 : cX0_undo.data.toList.drop 118 = dktX0_undo_5 := dk_seg dksX0_undo_4 24 rfl rfl
theorem dksX0_undo_6 : cX0_undo.data.toList.drop 142 = dktX0_undo_6 := dk_seg dksX0_undo_5 24 rfl rfl
theorem dksX0_undo_7 : cX0_undo.data.toList.drop 166 = dktX0_undo_7 := dk_seg dksX0_undo_6 24 rfl rfl
theorem dksX0_undo_8 : cX0_undo.data.toList.drop 189 = dktX0_undo_8 := dk_seg dksX0_undo_7 23 rfl rfl
theorem dX0_undo_0 : decode cX0_undo 0 = .ok (.aload_n 0, 1) := dk_42 (dk_at dksX0_undo_0 0 rfl rfl)
theorem dX0_undo_1 : decode cX0_undo 1 = .ok (.getfield 388, 3) := dk_180 1 132 (dk_at dksX0_undo_0 1 rfl rfl)
theorem dX0_undo_4 : decode cX0_undo 4 = .ok (.ifnonnull 6, 3) := dk_199 0 6 (dk_at dksX0_undo_0 4 rfl rfl)
theorem dX0_undo_7 : decode cX0_undo 7 = .ok (.bipush (-3), 2) := dk_16 253 (dk_at dksX0_undo_0 7 rfl rfl)
theorem dX0_undo_9 : decode cX0_undo 9 = .ok (.ireturn, 1) := dk_172 (dk_at dksX0_undo_0 9 rfl rfl)
theorem dX0_undo_10 : decode cX0_undo 10 = .ok (.aload_n 0, 1) := dk_42 (dk_at dksX0_undo_0 10 rfl rfl)
theorem dX0_undo_11 : decode cX0_undo 11 = .ok (.getfield 28, 3) := dk_180 0 28 (dk_at dksX0_undo_0 11 rfl rfl)
theorem dX0_undo_14 : decode cX0_undo 14 = .ok (.aload_n 0, 1) := dk_42 (dk_at dksX0_undo_0 14 rfl rfl)
theorem dX0_undo_15 : decode cX0_undo 15 = .ok (.getfield 87, 3) := dk_180 0 87 (dk_at dksX0_undo_0 15 rfl rfl)
theorem dX0_undo_18 : decode cX0_undo 18 = .ok (.invokevirtual 276, 3) := dk_182 1 20 (dk_at dksX0_undo_0 18 rfl rfl)
theorem dX0_undo_21 : decode cX0_undo 21 = .ok (.aload_n 0, 1) := dk_42 (dk_at dksX0_undo_0 21 rfl rfl)
theorem dX0_undo_22 : decode cX0_undo 22 = .ok (.getfield 90, 3) := dk_180 0 90 (dk_at dksX0_undo_1 0 rfl rfl)
theorem dX0_undo_25 : decode cX0_undo 25 = .ok (.iconst 0, 1) := dk_3 (dk_at dksX0_undo_1 3 rfl rfl)
theorem dX0_undo_26 : decode cX0_undo 26 = .ok (.aload_n 0, 1) := dk_42 (dk_at dksX0_undo_1 4 rfl rfl)
theorem dX0_undo_27 : decode cX0_undo 27 = .ok (.getfield 17, 3) := dk_180 0 17 (dk_at dksX0_undo_1 5 rfl rfl)
theorem dX0_undo_30 : decode cX0_undo 30 = .ok (.iconst 0, 1) := dk_3 (dk_at dksX0_undo_1 8 rfl rfl)
theorem dX0_undo_31 : decode cX0_undo 31 = .ok (.bipush 6, 2) := dk_16 6 (dk_at dksX0_undo_1 9 rfl rfl)
theorem dX0_undo_33 : decode cX0_undo 33 = .ok (.invokestatic 373, 3) := dk_184 1 117 (dk_at dksX0_undo_1 11 rfl rfl)
theorem dX0_undo_36 : decode cX0_undo 36 = .ok (.aload_n 0, 1) := dk_42 (dk_at dksX0_undo_1 14 rfl rfl)
theorem dX0_undo_37 : decode cX0_undo 37 = .ok (.getfield 93, 3) := dk_180 0 93 (dk_at dksX0_undo_1 15 rfl rfl)
theorem dX0_undo_40 : decode cX0_undo 40 = .ok (.iconst 0, 1) := dk_3 (dk_at dksX0_undo_1 18 rfl rfl)
theorem dX0_undo_41 : decode cX0_undo 41 = .ok (.aload_n 0, 1) := dk_42 (dk_at dksX0_undo_1 19 rfl rfl)
theorem dX0_undo_42 : decode cX0_undo 42 = .ok (.getfield 21, 3) := dk_180 0 21 (dk_at dksX0_undo_1 20 rfl rfl)
theorem dX0_undo_45 : decode cX0_undo 45 = .ok (.iconst 0, 1) := dk_3 (dk_at dksX0_undo_1 23 rfl rfl)
theorem dX0_undo_46 : decode cX0_undo 46 = .ok (.bipush 24, 2) := dk_16 24 (dk_at dksX0_undo_2 0 rfl rfl)
theorem dX0_undo_48 : decode cX0_undo 48 = .ok (.invokestatic 373, 3) := dk_184 1 117 (dk_at dksX0_undo_2 2 rfl rfl)
theorem dX0_undo_51 : decode cX0_undo 51 = .ok (.aload_n 0, 1) := dk_42 (dk_at dksX0_undo_2 5 rfl rfl)
theorem dX0_undo_52 : decode cX0_undo 52 = .ok (.getfield 96, 3) := dk_180 0 96 (dk_at dksX0_undo_2 6 rfl rfl)
theorem dX0_undo_55 : decode cX0_undo 55 = .ok (.iconst 0, 1) := dk_3 (dk_at dksX0_undo_2 9 rfl rfl)
theorem dX0_undo_56 : decode cX0_undo 56 = .ok (.aload_n 0, 1) := dk_42 (dk_at dksX0_undo_2 10 rfl rfl)
theorem dX0_undo_57 : decode cX0_undo 57 = .ok (.getfield 60, 3) := dk_180 0 60 (dk_at dksX0_undo_2 11 rfl rfl)
theorem dX0_undo_60 : decode cX0_undo 60 = .ok (.iconst 0, 1) := dk_3 (dk_at dksX0_undo_2 14 rfl rfl)
theorem dX0_undo_61 : decode cX0_undo 61 = .ok (.iconst 5, 1) := dk_8 (dk_at dksX0_undo_2 15 rfl rfl)
theorem dX0_undo_62 : decode cX0_undo 62 = .ok (.invokestatic 373, 3) := dk_184 1 117 (dk_at dksX0_undo_2 16 rfl rfl)
theorem dX0_undo_65 : decode cX0_undo 65 = .ok (.aload_n 0, 1) := dk_42 (dk_at dksX0_undo_2 19 rfl rfl)
theorem dX0_undo_66 : decode cX0_undo 66 = .ok (.getfield 99, 3) := dk_180 0 99 (dk_at dksX0_undo_2 20 rfl rfl)
theorem dX0_undo_69 : decode cX0_undo 69 = .ok (.iconst 0, 1) := dk_3 (dk_at dksX0_undo_2 23 rfl rfl)
theorem dX0_undo_70 : decode cX0_undo 70 = .ok (.aload_n 0, 1) := dk_42 (dk_at dksX0_undo_3 0 rfl rfl)
theorem dX0_undo_71 : decode cX0_undo 71 = .ok (.getfield 63, 3) := dk_180 0 63 (dk_at dksX0_undo_3 1 rfl rfl)
theorem dX0_undo_74 : decode cX0_undo 74 = .ok (.iconst 0, 1) := dk_3 (dk_at dksX0_undo_3 4 rfl rfl)
theorem dX0_undo_75 : decode cX0_undo 75 = .ok (.iconst 5, 1) := dk_8 (dk_at dksX0_undo_3 5 rfl rfl)
theorem dX0_undo_76 : decode cX0_undo 76 = .ok (.invokestatic 373, 3) := dk_184 1 117 (dk_at dksX0_undo_3 6 rfl rfl)
theorem dX0_undo_79 : decode cX0_undo 79 = .ok (.aload_n 0, 1) := dk_42 (dk_at dksX0_undo_3 9 rfl rfl)
theorem dX0_undo_80 : decode cX0_undo 80 = .ok (.getfield 102, 3) := dk_180 0 102 (dk_at dksX0_undo_3 10 rfl rfl)
theorem dX0_undo_83 : decode cX0_undo 83 = .ok (.iconst 0, 1) := dk_3 (dk_at dksX0_undo_3 13 rfl rfl)
theorem dX0_undo_84 : decode cX0_undo 84 = .ok (.aload_n 0, 1) := dk_42 (dk_at dksX0_undo_3 14 rfl rfl)
theorem dX0_undo_85 : decode cX0_undo 85 = .ok (.getfield 66, 3) := dk_180 0 66 (dk_at dksX0_undo_3 15 rfl rfl)
theorem dX0_undo_88 : decode cX0_undo 88 = .ok (.iconst 0, 1) := dk_3 (dk_at dksX0_undo_3 18 rfl rfl)
theorem dX0_undo_89 : decode cX0_undo 89 = .ok (.iconst 5, 1) := dk_8 (dk_at dksX0_undo_3 19 rfl rfl)
theorem dX0_undo_90 : decode cX0_undo 90 = .ok (.invokestatic 373, 3) := dk_184 1 117 (dk_at dksX0_undo_3 20 rfl rfl)
theorem dX0_undo_93 : decode cX0_undo 93 = .ok (.aload_n 0, 1) := dk_42 (dk_at dksX0_undo_3 23 rfl rfl)
theorem dX0_undo_94 : decode cX0_undo 94 = .ok (.getfield 105, 3) := dk_180 0 105 (dk_at dksX0_undo_4 0 rfl rfl)
theorem dX0_undo_97 : decode cX0_undo 97 = .ok (.iconst 0, 1) := dk_3 (dk_at dksX0_undo_4 3 rfl rfl)
theorem dX0_undo_98 : decode cX0_undo 98 = .ok (.aload_n 0, 1) := dk_42 (dk_at dksX0_undo_4 4 rfl rfl)
theorem dX0_undo_99 : decode cX0_undo 99 = .ok (.getfield 69, 3) := dk_180 0 69 (dk_at dksX0_undo_4 5 rfl rfl)
theorem dX0_undo_102 : decode cX0_undo 102 = .ok (.iconst 0, 1) := dk_3 (dk_at dksX0_undo_4 8 rfl rfl)
theorem dX0_undo_103 : decode cX0_undo 103 = .ok (.bipush 10, 2) := dk_16 10 (dk_at dksX0_undo_4 9 rfl rfl)
theorem dX0_undo_105 : decode cX0_undo 105 = .ok (.invokestatic 373, 3) := dk_184 1 117 (dk_at dksX0_undo_4 11 rfl rfl)
theorem dX0_undo_108 : decode cX0_undo 108 = .ok (.aload_n 0, 1) := dk_42 (dk_at dksX0_undo_4 14 rfl rfl)
theorem dX0_undo_109 : decode cX0_undo 109 = .ok (.getfield 108, 3) := dk_180 0 108 (dk_at dksX0_undo_4 15 rfl rfl)
theorem dX0_undo_112 : decode cX0_undo 112 = .ok (.iconst 0, 1) := dk_3 (dk_at dksX0_undo_4 18 rfl rfl)
theorem dX0_undo_113 : decode cX0_undo 113 = .ok (.aload_n 0, 1) := dk_42 (dk_at dksX0_undo_4 19 rfl rfl)
theorem dX0_undo_114 : decode cX0_undo 114 = .ok (.getfield 72, 3) := dk_180 0 72 (dk_at dksX0_undo_4 20 rfl rfl)
theorem dX0_undo_117 : decode cX0_undo 117 = .ok (.iconst 0, 1) := dk_3 (dk_at dksX0_undo_4 23 rfl rfl)
theorem dX0_undo_118 : decode cX0_undo 118 = .ok (.bipush 10, 2) := dk_16 10 (dk_at dksX0_undo_5 0 rfl rfl)
theorem dX0_undo_120 : decode cX0_undo 120 = .ok (.invokestatic 373, 3) := dk_184 1 117 (dk_at dksX0_undo_5 2 rfl rfl)
theorem dX0_undo_123 : decode cX0_undo 123 = .ok (.aload_n 0, 1) := dk_42 (dk_at dksX0_undo_5 5 rfl rfl)
theorem dX0_undo_124 : decode cX0_undo 124 = .ok (.getfield 111, 3) := dk_180 0 111 (dk_at dksX0_undo_5 6 rfl rfl)
theorem dX0_undo_127 : decode cX0_undo 127 = .ok (.iconst 0, 1) := dk_3 (dk_at dksX0_undo_5 9 rfl rfl)
theorem dX0_undo_128 : decode cX0_undo 128 = .ok (.aload_n 0, 1) := dk_42 (dk_at dksX0_undo_5 10 rfl rfl)
theorem dX0_undo_129 : decode cX0_undo 129 = .ok (.getfield 75, 3) := dk_180 0 75 (dk_at dksX0_undo_5 11 rfl rfl)
theorem dX0_undo_132 : decode cX0_undo 132 = .ok (.iconst 0, 1) := dk_3 (dk_at dksX0_undo_5 14 rfl rfl)
theorem dX0_undo_133 : decode cX0_undo 133 = .ok (.bipush 8, 2) := dk_16 8 (dk_at dksX0_undo_5 15 rfl rfl)
theorem dX0_undo_135 : decode cX0_undo 135 = .ok (.invokestatic 373, 3) := dk_184 1 117 (dk_at dksX0_undo_5 17 rfl rfl)
theorem dX0_undo_138 : decode cX0_undo 138 = .ok (.aload_n 0, 1) := dk_42 (dk_at dksX0_undo_5 20 rfl rfl)
theorem dX0_undo_139 : decode cX0_undo 139 = .ok (.getfield 114, 3) := dk_180 0 114 (dk_at dksX0_undo_5 21 rfl rfl)
theorem dX0_undo_142 : decode cX0_undo 142 = .ok (.iconst 0, 1) := dk_3 (dk_at dksX0_undo_6 0 rfl rfl)
theorem dX0_undo_143 : decode cX0_undo 143 = .ok (.aload_n 0, 1) := dk_42 (dk_at dksX0_undo_6 1 rfl rfl)
theorem dX0_undo_144 : decode cX0_undo 144 = .ok (.getfield 78, 3) := dk_180 0 78 (dk_at dksX0_undo_6 2 rfl rfl)
theorem dX0_undo_147 : decode cX0_undo 147 = .ok (.iconst 0, 1) := dk_3 (dk_at dksX0_undo_6 5 rfl rfl)
theorem dX0_undo_148 : decode cX0_undo 148 = .ok (.bipush 8, 2) := dk_16 8 (dk_at dksX0_undo_6 6 rfl rfl)
theorem dX0_undo_150 : decode cX0_undo 150 = .ok (.invokestatic 373, 3) := dk_184 1 117 (dk_at dksX0_undo_6 8 rfl rfl)
theorem dX0_undo_153 : decode cX0_undo 153 = .ok (.aload_n 0, 1) := dk_42 (dk_at dksX0_undo_6 11 rfl rfl)
theorem dX0_undo_154 : decode cX0_undo 154 = .ok (.aload_n 0, 1) := dk_42 (dk_at dksX0_undo_6 12 rfl rfl)
theorem dX0_undo_155 : decode cX0_undo 155 = .ok (.getfield 379, 3) := dk_180 1 123 (dk_at dksX0_undo_6 13 rfl rfl)
theorem dX0_undo_158 : decode cX0_undo 158 = .ok (.putfield 321, 3) := dk_181 1 65 (dk_at dksX0_undo_6 16 rfl rfl)
theorem dX0_undo_161 : decode cX0_undo 161 = .ok (.aload_n 0, 1) := dk_42 (dk_at dksX0_undo_6 19 rfl rfl)
theorem dX0_undo_162 : decode cX0_undo 162 = .ok (.aload_n 0, 1) := dk_42 (dk_at dksX0_undo_6 20 rfl rfl)
theorem dX0_undo_163 : decode cX0_undo 163 = .ok (.getfield 382, 3) := dk_180 1 126 (dk_at dksX0_undo_6 21 rfl rfl)
theorem dX0_undo_166 : decode cX0_undo 166 = .ok (.putfield 343, 3) := dk_181 1 87 (dk_at dksX0_undo_7 0 rfl rfl)
theorem dX0_undo_169 : decode cX0_undo 169 = .ok (.aload_n 0, 1) := dk_42 (dk_at dksX0_undo_7 3 rfl rfl)
theorem dX0_undo_170 : decode cX0_undo 170 = .ok (.aload_n 0, 1) := dk_42 (dk_at dksX0_undo_7 4 rfl rfl)
theorem dX0_undo_171 : decode cX0_undo 171 = .ok (.getfield 385, 3) := dk_180 1 129 (dk_at dksX0_undo_7 5 rfl rfl)
theorem dX0_undo_174 : decode cX0_undo 174 = .ok (.putfield 352, 3) := dk_181 1 96 (dk_at dksX0_undo_7 8 rfl rfl)
theorem dX0_undo_177 : decode cX0_undo 177 = .ok (.aload_n 0, 1) := dk_42 (dk_at dksX0_undo_7 11 rfl rfl)
theorem dX0_undo_178 : decode cX0_undo 178 = .ok (.aload_n 0, 1) := dk_42 (dk_at dksX0_undo_7 12 rfl rfl)
theorem dX0_undo_179 : decode cX0_undo 179 = .ok (.getfield 388, 3) := dk_180 1 132 (dk_at dksX0_undo_7 13 rfl rfl)
theorem dX0_undo_182 : decode cX0_undo 182 = .ok (.putfield 42, 3) := dk_181 0 42 (dk_at dksX0_undo_7 16 rfl rfl)
theorem dX0_undo_185 : decode cX0_undo 185 = .ok (.aload_n 0, 1) := dk_42 (dk_at dksX0_undo_7 19 rfl rfl)
theorem dX0_undo_186 : decode cX0_undo 186 = .ok (.getfield 28, 3) := dk_180 0 28 (dk_at dksX0_undo_7 20 rfl rfl)
theorem dX0_undo_189 : decode cX0_undo 189 = .ok (.getfield 118, 3) := dk_180 0 118 (dk_at dksX0_undo_8 0 rfl rfl)
theorem dX0_undo_192 : decode cX0_undo 192 = .ok (.ireturn, 1) := dk_172 (dk_at dksX0_undo_8 3 rfl rfl)
abbrev cX0_act : ByteArray := prog_1_method_58_code
def yX0_act : MethodName := ⟨RX0, "act", "(III)I"⟩
def dkwX0_act_2 : List UInt8 := [167, 0, 23, 28, 4, 160, 0, 12, 25, 4, 29, 182, 1, 141, 167, 0, 9, 25, 4, 29, 182, 1, 144, 172]
abbrev dktX0_act_2 : List UInt8 := dkwX0_act_2 ++ []
def dkwX0_act_1 : List UInt8 := [154, 0, 5, 3, 172, 42, 180, 0, 17, 27, 50, 58, 4, 28, 154, 0, 12, 25, 4, 29, 182, 1, 138]
abbrev dktX0_act_1 : List UInt8 := dkwX0_act_1 ++ dktX0_act_2
def dkwX0_act_0 : List UInt8 := [42, 180, 0, 56, 3, 181, 1, 135, 42, 27, 182, 0, 229, 153, 0, 12, 28, 3, 5, 184, 0, 5]
abbrev dktX0_act_0 : List UInt8 := dkwX0_act_0 ++ dktX0_act_1
theorem dksX0_act_0 : cX0_act.data.toList.drop 0 = dktX0_act_0 := by decide +kernel
theorem dksX0_act_1 : cX0_act.data.toList.drop 22 = dktX0_act_1 := dk_seg dksX0_act_0 22 rfl rfl
theorem dksX0_act_2 : cX0_act.data.toList.drop 45 = dktX0_act_2 := dk_seg dksX0_act_1 23 rfl rfl
theorem dX0_act_0 : decode cX0_act 0 = .ok (.aload_n 0, 1) := dk_42 (dk_at dksX0_act_0 0 rfl rfl)
theorem dX0_act_1 : decode cX0_act 1 = .ok (.getfield 56, 3) := dk_180 0 56 (dk_at dksX0_act_0 1 rfl rfl)
theorem dX0_act_4 : decode cX0_act 4 = .ok (.iconst 0, 1) := dk_3 (dk_at dksX0_act_0 4 rfl rfl)
theorem dX0_act_5 : decode cX0_act 5 = .ok (.putfield 391, 3) := dk_181 1 135 (dk_at dksX0_act_0 5 rfl rfl)
theorem dX0_act_8 : decode cX0_act 8 = .ok (.aload_n 0, 1) := dk_42 (dk_at dksX0_act_0 8 rfl rfl)
theorem dX0_act_9 : decode cX0_act 9 = .ok (.iload_n 1, 1) := dk_27 (dk_at dksX0_act_0 9 rfl rfl)
theorem dX0_act_10 : decode cX0_act 10 = .ok (.invokevirtual 229, 3) := dk_182 0 229 (dk_at dksX0_act_0 10 rfl rfl)
theorem dX0_act_13 : decode cX0_act 13 = .ok (.ifCond .eq 12, 3) := dk_153 0 12 (dk_at dksX0_act_0 13 rfl rfl)
theorem dX0_act_16 : decode cX0_act 16 = .ok (.iload_n 2, 1) := dk_28 (dk_at dksX0_act_0 16 rfl rfl)
theorem dX0_act_17 : decode cX0_act 17 = .ok (.iconst 0, 1) := dk_3 (dk_at dksX0_act_0 17 rfl rfl)
theorem dX0_act_18 : decode cX0_act 18 = .ok (.iconst 2, 1) := dk_5 (dk_at dksX0_act_0 18 rfl rfl)
theorem dX0_act_19 : decode cX0_act 19 = .ok (.invokestatic 5, 3) := dk_184 0 5 (dk_at dksX0_act_0 19 rfl rfl)
theorem dX0_act_22 : decode cX0_act 22 = .ok (.ifCond .ne 5, 3) := dk_154 0 5 (dk_at dksX0_act_1 0 rfl rfl)
theorem dX0_act_25 : decode cX0_act 25 = .ok (.iconst 0, 1) := dk_3 (dk_at dksX0_act_1 3 rfl rfl)
theorem dX0_act_26 : decode cX0_act 26 = .ok (.ireturn, 1) := dk_172 (dk_at dksX0_act_1 4 rfl rfl)
theorem dX0_act_27 : decode cX0_act 27 = .ok (.aload_n 0, 1) := dk_42 (dk_at dksX0_act_1 5 rfl rfl)
theorem dX0_act_28 : decode cX0_act 28 = .ok (.getfield 17, 3) := dk_180 0 17 (dk_at dksX0_act_1 6 rfl rfl)
theorem dX0_act_31 : decode cX0_act 31 = .ok (.iload_n 1, 1) := dk_27 (dk_at dksX0_act_1 9 rfl rfl)
theorem dX0_act_32 : decode cX0_act 32 = .ok (.aaload, 1) := dk_50 (dk_at dksX0_act_1 10 rfl rfl)
theorem dX0_act_33 : decode cX0_act 33 = .ok (.astore 4, 2) := dk_58 4 (dk_at dksX0_act_1 11 rfl rfl)
theorem dX0_act_35 : decode cX0_act 35 = .ok (.iload_n 2, 1) := dk_28 (dk_at dksX0_act_1 13 rfl rfl)
theorem dX0_act_36 : decode cX0_act 36 = .ok (.ifCond .ne 12, 3) := dk_154 0 12 (dk_at dksX0_act_1 14 rfl rfl)
theorem dX0_act_39 : decode cX0_act 39 = .ok (.aload 4, 2) := dk_25 4 (dk_at dksX0_act_1 17 rfl rfl)
theorem dX0_act_41 : decode cX0_act 41 = .ok (.iload_n 3, 1) := dk_29 (dk_at dksX0_act_1 19 rfl rfl)
theorem dX0_act_42 : decode cX0_act 42 = .ok (.invokevirtual 394, 3) := dk_182 1 138 (dk_at dksX0_act_1 20 rfl rfl)
theorem dX0_act_45 : decode cX0_act 45 = .ok (.goto 23, 3) := dk_167 0 23 (dk_at dksX0_act_2 0 rfl rfl)
theorem dX0_act_48 : decode cX0_act 48 = .ok (.iload_n 2, 1) := dk_28 (dk_at dksX0_act_2 3 rfl rfl)
theorem dX0_act_49 : decode cX0_act 49 = .ok (.iconst 1, 1) := dk_4 (dk_at dksX0_act_2 4 rfl rfl)
theorem dX0_act_50 : decode cX0_act 50 = .ok (.if_icmp .ne 12, 3) := dk_160 0 12 (dk_at dksX0_act_2 5 rfl rfl)
theorem dX0_act_53 : decode cX0_act 53 = .ok (.aload 4, 2) := dk_25 4 (dk_at dksX0_act_2 8 rfl rfl)
theorem dX0_act_55 : decode cX0_act 55 = .ok (.iload_n 3, 1) := dk_29 (dk_at dksX0_act_2 10 rfl rfl)
theorem dX0_act_56 : decode cX0_act 56 = .ok (.invokevirtual 397, 3) := dk_182 1 141 (dk_at dksX0_act_2 11 rfl rfl)
theorem dX0_act_59 : decode cX0_act 59 = .ok (.goto 9, 3) := dk_167 0 9 (dk_at dksX0_act_2 14 rfl rfl)
theorem dX0_act_62 : decode cX0_act 62 = .ok (.aload 4, 2) := dk_25 4 (dk_at dksX0_act_2 17 rfl rfl)
theorem dX0_act_64 : decode cX0_act 64 = .ok (.iload_n 3, 1) := dk_29 (dk_at dksX0_act_2 19 rfl rfl)
theorem dX0_act_65 : decode cX0_act 65 = .ok (.invokevirtual 400, 3) := dk_182 1 144 (dk_at dksX0_act_2 20 rfl rfl)
theorem dX0_act_68 : decode cX0_act 68 = .ok (.ireturn, 1) := dk_172 (dk_at dksX0_act_2 23 rfl rfl)
abbrev cX0_trace : ByteArray := prog_1_method_59_code
def yX0_trace : MethodName := ⟨RX0, "trace", "(I)I"⟩
def dkwX0_trace_1 : List UInt8 := [180, 0, 56, 180, 1, 152, 27, 46, 167, 0, 4, 2, 172]
abbrev dktX0_trace_1 : List UInt8 := dkwX0_trace_1 ++ []
def dkwX0_trace_0 : List UInt8 := [27, 3, 42, 180, 0, 56, 180, 1, 135, 16, 20, 184, 1, 147, 4, 100, 184, 0, 5, 153, 0, 15, 42]
abbrev dktX0_trace_0 : List UInt8 := dkwX0_trace_0 ++ dktX0_trace_1
theorem dksX0_trace_0 : cX0_trace.data.toList.drop 0 = dktX0_trace_0 := by decide +kernel
theorem dksX0_trace_1 : cX0_trace.data.toList.drop 23 = dktX0_trace_1 := dk_seg dksX0_trace_0 23 rfl rfl
theorem dX0_trace_0 : decode cX0_trace 0 = .ok (.iload_n 1, 1) := dk_27 (dk_at dksX0_trace_0 0 rfl rfl)
theorem dX0_trace_1 : decode cX0_trace 1 = .ok (.iconst 0, 1) := dk_3 (dk_at dksX0_trace_0 1 rfl rfl)
theorem dX0_trace_2 : decode cX0_trace 2 = .ok (.aload_n 0, 1) := dk_42 (dk_at dksX0_trace_0 2 rfl rfl)
theorem dX0_trace_3 : decode cX0_trace 3 = .ok (.getfield 56, 3) := dk_180 0 56 (dk_at dksX0_trace_0 3 rfl rfl)
theorem dX0_trace_6 : decode cX0_trace 6 = .ok (.getfield 391, 3) := dk_180 1 135 (dk_at dksX0_trace_0 6 rfl rfl)
theorem dX0_trace_9 : decode cX0_trace 9 = .ok (.bipush 20, 2) := dk_16 20 (dk_at dksX0_trace_0 9 rfl rfl)
theorem dX0_trace_11 : decode cX0_trace 11 = .ok (.invokestatic 403, 3) := dk_184 1 147 (dk_at dksX0_trace_0 11 rfl rfl)
theorem dX0_trace_14 : decode cX0_trace 14 = .ok (.iconst 1, 1) := dk_4 (dk_at dksX0_trace_0 14 rfl rfl)
theorem dX0_trace_15 : decode cX0_trace 15 = .ok (.isub, 1) := dk_100 (dk_at dksX0_trace_0 15 rfl rfl)
theorem dX0_trace_16 : decode cX0_trace 16 = .ok (.invokestatic 5, 3) := dk_184 0 5 (dk_at dksX0_trace_0 16 rfl rfl)
theorem dX0_trace_19 : decode cX0_trace 19 = .ok (.ifCond .eq 15, 3) := dk_153 0 15 (dk_at dksX0_trace_0 19 rfl rfl)
theorem dX0_trace_22 : decode cX0_trace 22 = .ok (.aload_n 0, 1) := dk_42 (dk_at dksX0_trace_0 22 rfl rfl)
theorem dX0_trace_23 : decode cX0_trace 23 = .ok (.getfield 56, 3) := dk_180 0 56 (dk_at dksX0_trace_1 0 rfl rfl)
theorem dX0_trace_26 : decode cX0_trace 26 = .ok (.getfield 408, 3) := dk_180 1 152 (dk_at dksX0_trace_1 3 rfl rfl)
theorem dX0_trace_29 : decode cX0_trace 29 = .ok (.iload_n 1, 1) := dk_27 (dk_at dksX0_trace_1 6 rfl rfl)
theorem dX0_trace_30 : decode cX0_trace 30 = .ok (.iaload, 1) := dk_46 (dk_at dksX0_trace_1 7 rfl rfl)
theorem dX0_trace_31 : decode cX0_trace 31 = .ok (.goto 4, 3) := dk_167 0 4 (dk_at dksX0_trace_1 8 rfl rfl)
theorem dX0_trace_34 : decode cX0_trace 34 = .ok (.iconst (-1), 1) := dk_2 (dk_at dksX0_trace_1 11 rfl rfl)
theorem dX0_trace_35 : decode cX0_trace 35 = .ok (.ireturn, 1) := dk_172 (dk_at dksX0_trace_1 12 rfl rfl)
abbrev cX0_taken : ByteArray := prog_1_method_61_code
def yX0_taken : MethodName := ⟨RX0, "taken", "(II)I"⟩
def dkwX0_taken_2 : List UInt8 := [172]
abbrev dktX0_taken_2 : List UInt8 := dkwX0_taken_2 ++ []
def dkwX0_taken_1 : List UInt8 := [180, 0, 17, 27, 50, 167, 0, 4, 1, 28, 184, 1, 155, 182, 0, 181, 172, 78, 16, 245, 172, 78, 16, 244]
abbrev dktX0_taken_1 : List UInt8 := dkwX0_taken_1 ++ dktX0_taken_2
def dkwX0_taken_0 : List UInt8 := [28, 3, 16, 6, 184, 0, 5, 154, 0, 6, 16, 254, 172, 42, 27, 182, 0, 229, 153, 0, 12, 42]
abbrev dktX0_taken_0 : List UInt8 := dkwX0_taken_0 ++ dktX0_taken_1
theorem dksX0_taken_0 : cX0_taken.data.toList.drop 0 = dktX0_taken_0 := by decide +kernel
theorem dksX0_taken_1 : cX0_taken.data.toList.drop 22 = dktX0_taken_1 := dk_seg dksX0_taken_0 22 rfl rfl
theorem dksX0_taken_2 : cX0_taken.data.toList.drop 46 = dktX0_taken_2 := dk_seg dksX0_taken_1 24 rfl rfl
theorem dX0_taken_0 : decode cX0_taken 0 = .ok (.iload_n 2, 1) := dk_28 (dk_at dksX0_taken_0 0 rfl rfl)
theorem dX0_taken_1 : decode cX0_taken 1 = .ok (.iconst 0, 1) := dk_3 (dk_at dksX0_taken_0 1 rfl rfl)
theorem dX0_taken_2 : decode cX0_taken 2 = .ok (.bipush 6, 2) := dk_16 6 (dk_at dksX0_taken_0 2 rfl rfl)
theorem dX0_taken_4 : decode cX0_taken 4 = .ok (.invokestatic 5, 3) := dk_184 0 5 (dk_at dksX0_taken_0 4 rfl rfl)
theorem dX0_taken_7 : decode cX0_taken 7 = .ok (.ifCond .ne 6, 3) := dk_154 0 6 (dk_at dksX0_taken_0 7 rfl rfl)
theorem dX0_taken_10 : decode cX0_taken 10 = .ok (.bipush (-2), 2) := dk_16 254 (dk_at dksX0_taken_0 10 rfl rfl)
theorem dX0_taken_12 : decode cX0_taken 12 = .ok (.ireturn, 1) := dk_172 (dk_at dksX0_taken_0 12 rfl rfl)
theorem dX0_taken_13 : decode cX0_taken 13 = .ok (.aload_n 0, 1) := dk_42 (dk_at dksX0_taken_0 13 rfl rfl)
theorem dX0_taken_14 : decode cX0_taken 14 = .ok (.iload_n 1, 1) := dk_27 (dk_at dksX0_taken_0 14 rfl rfl)
theorem dX0_taken_15 : decode cX0_taken 15 = .ok (.invokevirtual 229, 3) := dk_182 0 229 (dk_at dksX0_taken_0 15 rfl rfl)
theorem dX0_taken_18 : decode cX0_taken 18 = .ok (.ifCond .eq 12, 3) := dk_153 0 12 (dk_at dksX0_taken_0 18 rfl rfl)
theorem dX0_taken_21 : decode cX0_taken 21 = .ok (.aload_n 0, 1) := dk_42 (dk_at dksX0_taken_0 21 rfl rfl)
theorem dX0_taken_22 : decode cX0_taken 22 = .ok (.getfield 17, 3) := dk_180 0 17 (dk_at dksX0_taken_1 0 rfl rfl)
theorem dX0_taken_25 : decode cX0_taken 25 = .ok (.iload_n 1, 1) := dk_27 (dk_at dksX0_taken_1 3 rfl rfl)
theorem dX0_taken_26 : decode cX0_taken 26 = .ok (.aaload, 1) := dk_50 (dk_at dksX0_taken_1 4 rfl rfl)
theorem dX0_taken_27 : decode cX0_taken 27 = .ok (.goto 4, 3) := dk_167 0 4 (dk_at dksX0_taken_1 5 rfl rfl)
theorem dX0_taken_30 : decode cX0_taken 30 = .ok (.aconst_null, 1) := dk_1 (dk_at dksX0_taken_1 8 rfl rfl)
theorem dX0_taken_31 : decode cX0_taken 31 = .ok (.iload_n 2, 1) := dk_28 (dk_at dksX0_taken_1 9 rfl rfl)
theorem dX0_taken_32 : decode cX0_taken 32 = .ok (.invokestatic 411, 3) := dk_184 1 155 (dk_at dksX0_taken_1 10 rfl rfl)
theorem dX0_taken_35 : decode cX0_taken 35 = .ok (.invokevirtual 181, 3) := dk_182 0 181 (dk_at dksX0_taken_1 13 rfl rfl)
theorem dX0_taken_38 : decode cX0_taken 38 = .ok (.ireturn, 1) := dk_172 (dk_at dksX0_taken_1 16 rfl rfl)
theorem dX0_taken_39 : decode cX0_taken 39 = .ok (.astore_n 3, 1) := dk_78 (dk_at dksX0_taken_1 17 rfl rfl)
theorem dX0_taken_40 : decode cX0_taken 40 = .ok (.bipush (-11), 2) := dk_16 245 (dk_at dksX0_taken_1 18 rfl rfl)
theorem dX0_taken_42 : decode cX0_taken 42 = .ok (.ireturn, 1) := dk_172 (dk_at dksX0_taken_1 20 rfl rfl)
theorem dX0_taken_43 : decode cX0_taken 43 = .ok (.astore_n 3, 1) := dk_78 (dk_at dksX0_taken_1 21 rfl rfl)
theorem dX0_taken_44 : decode cX0_taken 44 = .ok (.bipush (-12), 2) := dk_16 244 (dk_at dksX0_taken_1 22 rfl rfl)
theorem dX0_taken_46 : decode cX0_taken 46 = .ok (.ireturn, 1) := dk_172 (dk_at dksX0_taken_2 0 rfl rfl)
abbrev cX0_takenFor : ByteArray := prog_1_method_60_code
def yX0_takenFor : MethodName := ⟨RX0, "takenFor", "(LGeeseKeys$Tells;I)LGeeseKeys$Goose;"⟩
def dkwX0_takenFor_3 : List UInt8 := [176, 42, 192, 0, 139, 176, 42, 192, 0, 142, 176]
abbrev dktX0_takenFor_3 : List UInt8 := dkwX0_takenFor_3 ++ []
def dkwX0_takenFor_2 : List UInt8 := [42, 192, 0, 15, 176, 42, 192, 0, 125, 176, 42, 192, 0, 130, 176, 42, 192, 0, 133, 176, 42, 192, 0, 136]
abbrev dktX0_takenFor_2 : List UInt8 := dkwX0_takenFor_2 ++ dktX0_takenFor_3
def dkwX0_takenFor_1 : List UInt8 := [170, 0, 0, 0, 0, 0, 69, 0, 0, 0, 0, 0, 0, 0, 5, 0, 0, 0, 39, 0, 0, 0, 44, 0, 0, 0, 49, 0, 0, 0, 54, 0, 0, 0, 59, 0, 0, 0, 64]
abbrev dktX0_takenFor_1 : List UInt8 := dkwX0_takenFor_1 ++ dktX0_takenFor_2
def dkwX0_takenFor_0 : List UInt8 := [27]
abbrev dktX0_takenFor_0 : List UInt8 := dkwX0_takenFor_0 ++ dktX0_takenFor_1
theorem dksX0_takenFor_0 : cX0_takenFor.data.toList.drop 0 = dktX0_takenFor_0 := by decide +kernel
theorem dksX0_takenFor_1 : cX0_takenFor.data.toList.drop 1 = dktX0_takenFor_1 := dk_seg dksX0_takenFor_0 1 rfl rfl
theorem dksX0_takenFor_2 : cX0_takenFor.data.toList.drop 40 = dktX0_takenFor_2 := dk_seg dksX0_takenFor_1 39 rfl rfl
theorem dksX0_takenFor_3 : cX0_takenFor.data.toList.drop 64 = dktX0_takenFor_3 := dk_seg dksX0_takenFor_2 24 rfl rfl
theorem dX0_takenFor_0 : decode cX0_takenFor 0 = .ok (.iload_n 1, 1) := dk_27 (dk_at dksX0_takenFor_0 0 rfl rfl)
theorem dX0_takenFor_1 : decode cX0_takenFor 1 = .ok (.tableswitch 69 0 5 #[39, 44, 49, 54, 59, 64], 39) := by decide +kernel
theorem dX0_takenFor_40 : decode cX0_takenFor 40 = .ok (.aload_n 0, 1) := dk_42 (dk_at dksX0_takenFor_2 0 rfl rfl)
theorem dX0_takenFor_41 : decode cX0_takenFor 41 = .ok (.checkcast 15, 3) := dk_192 0 15 (dk_at dksX0_takenFor_2 1 rfl rfl)
theorem dX0_takenFor_44 : decode cX0_takenFor 44 = .ok (.areturn, 1) := dk_176 (dk_at dksX0_takenFor_2 4 rfl rfl)
theorem dX0_takenFor_45 : decode cX0_takenFor 45 = .ok (.aload_n 0, 1) := dk_42 (dk_at dksX0_takenFor_2 5 rfl rfl)
theorem dX0_takenFor_46 : decode cX0_takenFor 46 = .ok (.checkcast 125, 3) := dk_192 0 125 (dk_at dksX0_takenFor_2 6 rfl rfl)
theorem dX0_takenFor_49 : decode cX0_takenFor 49 = .ok (.areturn, 1) := dk_176 (dk_at dksX0_takenFor_2 9 rfl rfl)
theorem dX0_takenFor_50 : decode cX0_takenFor 50 = .ok (.aload_n 0, 1) := dk_42 (dk_at dksX0_takenFor_2 10 rfl rfl)
theorem dX0_takenFor_51 : decode cX0_takenFor 51 = .ok (.checkcast 130, 3) := dk_192 0 130 (dk_at dksX0_takenFor_2 11 rfl rfl)
theorem dX0_takenFor_54 : decode cX0_takenFor 54 = .ok (.areturn, 1) := dk_176 (dk_at dksX0_takenFor_2 14 rfl rfl)
theorem dX0_takenFor_55 : decode cX0_takenFor 55 = .ok (.aload_n 0, 1) := dk_42 (dk_at dksX0_takenFor_2 15 rfl rfl)
theorem dX0_takenFor_56 : decode cX0_takenFor 56 = .ok (.checkcast 133, 3) := dk_192 0 133 (dk_at dksX0_takenFor_2 16 rfl rfl)
theorem dX0_takenFor_59 : decode cX0_takenFor 59 = .ok (.areturn, 1) := dk_176 (dk_at dksX0_takenFor_2 19 rfl rfl)
theorem dX0_takenFor_60 : decode cX0_takenFor 60 = .ok (.aload_n 0, 1) := dk_42 (dk_at dksX0_takenFor_2 20 rfl rfl)
theorem dX0_takenFor_61 : decode cX0_takenFor 61 = .ok (.checkcast 136, 3) := dk_192 0 136 (dk_at dksX0_takenFor_2 21 rfl rfl)
theorem dX0_takenFor_64 : decode cX0_takenFor 64 = .ok (.areturn, 1) := dk_176 (dk_at dksX0_takenFor_3 0 rfl rfl)
theorem dX0_takenFor_65 : decode cX0_takenFor 65 = .ok (.aload_n 0, 1) := dk_42 (dk_at dksX0_takenFor_3 1 rfl rfl)
theorem dX0_takenFor_66 : decode cX0_takenFor 66 = .ok (.checkcast 139, 3) := dk_192 0 139 (dk_at dksX0_takenFor_3 2 rfl rfl)
theorem dX0_takenFor_69 : decode cX0_takenFor 69 = .ok (.areturn, 1) := dk_176 (dk_at dksX0_takenFor_3 5 rfl rfl)
theorem dX0_takenFor_70 : decode cX0_takenFor 70 = .ok (.aload_n 0, 1) := dk_42 (dk_at dksX0_takenFor_3 6 rfl rfl)
theorem dX0_takenFor_71 : decode cX0_takenFor 71 = .ok (.checkcast 142, 3) := dk_192 0 142 (dk_at dksX0_takenFor_3 7 rfl rfl)
theorem dX0_takenFor_74 : decode cX0_takenFor 74 = .ok (.areturn, 1) := dk_176 (dk_at dksX0_takenFor_3 10 rfl rfl)
abbrev cX0_count : ByteArray := prog_1_method_62_code
def yX0_count : MethodName := ⟨RX0, "count", "(I)I"⟩
def dkwX0_count_4 : List UInt8 := [180, 1, 135, 172, 16, 254, 172]
abbrev dktX0_count_4 : List UInt8 := dkwX0_count_4 ++ []
def dkwX0_count_3 : List UInt8 := [180, 1, 65, 172, 42, 180, 1, 87, 172, 42, 180, 1, 96, 172, 42, 180, 0, 242, 172, 42, 180, 0, 56]
abbrev dktX0_count_3 : List UInt8 := dkwX0_count_3 ++ dktX0_count_4
def dkwX0_count_2 : List UInt8 := [42, 180, 0, 28, 180, 0, 118, 172, 42, 180, 0, 28, 180, 0, 122, 172, 42, 180, 0, 245, 172, 42]
abbrev dktX0_count_2 : List UInt8 := dkwX0_count_2 ++ dktX0_count_3
def dkwX0_count_1 : List UInt8 := [170, 0, 0, 0, 0, 0, 96, 0, 0, 0, 0, 0, 0, 0, 7, 0, 0, 0, 47, 0, 0, 0, 55, 0, 0, 0, 63, 0, 0, 0, 68, 0, 0, 0, 73, 0, 0, 0, 78, 0, 0, 0, 83, 0, 0, 0, 88]
abbrev dktX0_count_1 : List UInt8 := dkwX0_count_1 ++ dktX0_count_2
def dkwX0_count_0 : List UInt8 := [27]
abbrev dktX0_count_0 : List UInt8 := dkwX0_count_0 ++ dktX0_count_1
theorem dksX0_count_0 : cX0_count.data.toList.drop 0 = dktX0_count_0 := by decide +kernel
theorem dksX0_count_1 : cX0_count.data.toList.drop 1 = dktX0_count_1 := dk_seg dksX0_count_0 1 rfl rfl
theorem dksX0_count_2 : cX0_count.data.toList.drop 48 = dktX0_count_2 := dk_seg dksX0_count_1 47 rfl rfl
theorem dksX0_count_3 : cX0_count.data.toList.drop 70 = dktX0_count_3 := dk_seg dksX0_count_2 22 rfl rfl
theorem dksX0_count_4 : cX0_count.data.toList.drop 93 = dktX0_count_4 := dk_seg dksX0_count_3 23 rfl rfl
theorem dX0_count_0 : decode cX0_count 0 = .ok (.iload_n 1, 1) := dk_27 (dk_at dksX0_count_0 0 rfl rfl)
theorem dX0_count_1 : decode cX0_count 1 = .ok (.tableswitch 96 0 7 #[47, 55, 63, 68, 73, 78, 83, 88], 47) := by decide +kernel
theorem dX0_count_48 : decode cX0_count 48 = .ok (.aload_n 0, 1) := dk_42 (dk_at dksX0_count_2 0 rfl rfl)
theorem dX0_count_49 : decode cX0_count 49 = .ok (.getfield 28, 3) := dk_180 0 28 (dk_at dksX0_count_2 1 rfl rfl)
theorem dX0_count_52 : decode cX0_count 52 = .ok (.getfield 118, 3) := dk_180 0 118 (dk_at dksX0_count_2 4 rfl rfl)
theorem dX0_count_55 : decode cX0_count 55 = .ok (.ireturn, 1) := dk_172 (dk_at dksX0_count_2 7 rfl rfl)
theorem dX0_count_56 : decode cX0_count 56 = .ok (.aload_n 0, 1) := dk_42 (dk_at dksX0_count_2 8 rfl rfl)
theorem dX0_count_57 : decode cX0_count 57 = .ok (.getfield 28, 3) := dk_180 0 28 (dk_at dksX0_count_2 9 rfl rfl)
theorem dX0_count_60 : decode cX0_count 60 = .ok (.getfield 122, 3) := dk_180 0 122 (dk_at dksX0_count_2 12 rfl rfl)
theorem dX0_count_63 : decode cX0_count 63 = .ok (.ireturn, 1) := dk_172 (dk_at dksX0_count_2 15 rfl rfl)
theorem dX0_count_64 : decode cX0_count 64 = .ok (.aload_n 0, 1) := dk_42 (dk_at dksX0_count_2 16 rfl rfl)
theorem dX0_count_65 : decode cX0_count 65 = .ok (.getfield 245, 3) := dk_180 0 245 (dk_at dksX0_count_2 17 rfl rfl)
theorem dX0_count_68 : decode cX0_count 68 = .ok (.ireturn, 1) := dk_172 (dk_at dksX0_count_2 20 rfl rfl)
theorem dX0_count_69 : decode cX0_count 69 = .ok (.aload_n 0, 1) := dk_42 (dk_at dksX0_count_2 21 rfl rfl)
theorem dX0_count_70 : decode cX0_count 70 = .ok (.getfield 321, 3) := dk_180 1 65 (dk_at dksX0_count_3 0 rfl rfl)
theorem dX0_count_73 : decode cX0_count 73 = .ok (.ireturn, 1) := dk_172 (dk_at dksX0_count_3 3 rfl rfl)
theorem dX0_count_74 : decode cX0_count 74 = .ok (.aload_n 0, 1) := dk_42 (dk_at dksX0_count_3 4 rfl rfl)
theorem dX0_count_75 : decode cX0_count 75 = .ok (.getfield 343, 3) := dk_180 1 87 (dk_at dksX0_count_3 5 rfl rfl)
theorem dX0_count_78 : decode cX0_count 78 = .ok (.ireturn, 1) := dk_172 (dk_at dksX0_count_3 8 rfl rfl)
theorem dX0_count_79 : decode cX0_count 79 = .ok (.aload_n 0, 1) := dk_42 (dk_at dksX0_count_3 9 rfl rfl)
theorem dX0_count_80 : decode cX0_count 80 = .ok (.getfield 352, 3) := dk_180 1 96 (dk_at dksX0_count_3 10 rfl rfl)
theorem dX0_count_83 : decode cX0_count 83 = .ok (.ireturn, 1) := dk_172 (dk_at dksX0_count_3 13 rfl rfl)
theorem dX0_count_84 : decode cX0_count 84 = .ok (.aload_n 0, 1) := dk_42 (dk_at dksX0_count_3 14 rfl rfl)
theorem dX0_count_85 : decode cX0_count 85 = .ok (.getfield 242, 3) := dk_180 0 242 (dk_at dksX0_count_3 15 rfl rfl)
theorem dX0_count_88 : decode cX0_count 88 = .ok (.ireturn, 1) := dk_172 (dk_at dksX0_count_3 18 rfl rfl)
theorem dX0_count_89 : decode cX0_count 89 = .ok (.aload_n 0, 1) := dk_42 (dk_at dksX0_count_3 19 rfl rfl)
theorem dX0_count_90 : decode cX0_count 90 = .ok (.getfield 56, 3) := dk_180 0 56 (dk_at dksX0_count_3 20 rfl rfl)
theorem dX0_count_93 : decode cX0_count 93 = .ok (.getfield 391, 3) := dk_180 1 135 (dk_at dksX0_count_4 0 rfl rfl)
theorem dX0_count_96 : decode cX0_count 96 = .ok (.ireturn, 1) := dk_172 (dk_at dksX0_count_4 3 rfl rfl)
theorem dX0_count_97 : decode cX0_count 97 = .ok (.bipush (-2), 2) := dk_16 254 (dk_at dksX0_count_4 4 rfl rfl)
theorem dX0_count_99 : decode cX0_count 99 = .ok (.ireturn, 1) := dk_172 (dk_at dksX0_count_4 6 rfl rfl)
abbrev cX0_tape : ByteArray := prog_1_method_65_code
def yX0_tape : MethodName := ⟨RX0, "tape", "(III)I"⟩
def dkwX0_tape_2 : List UInt8 := [29, 184, 1, 159, 181, 1, 106, 4, 172, 58, 4, 16, 242, 172]
abbrev dktX0_tape_2 : List UInt8 := dkwX0_tape_2 ++ []
def dkwX0_tape_1 : List UInt8 := [16, 60, 164, 0, 6, 16, 254, 172, 42, 180, 0, 83, 27, 50, 28, 2, 160, 0, 7, 1, 167, 0, 8, 28]
abbrev dktX0_tape_1 : List UInt8 := dkwX0_tape_1 ++ dktX0_tape_2
def dkwX0_tape_0 : List UInt8 := [27, 184, 1, 103, 154, 0, 5, 2, 172, 28, 2, 7, 184, 0, 5, 153, 0, 14, 28, 2, 159, 0, 12, 29]
abbrev dktX0_tape_0 : List UInt8 := dkwX0_tape_0 ++ dktX0_tape_1
theorem dksX0_tape_0 : cX0_tape.data.toList.drop 0 = dktX0_tape_0 := by decide +kernel
theorem dksX0_tape_1 : cX0_tape.data.toList.drop 24 = dktX0_tape_1 := dk_seg dksX0_tape_0 24 rfl rfl
theorem dksX0_tape_2 : cX0_tape.data.toList.drop 48 = dktX0_tape_2 := dk_seg dksX0_tape_1 24 rfl rfl
theorem dX0_tape_0 : decode cX0_tape 0 = .ok (.iload_n 1, 1) := dk_27 (dk_at dksX0_tape_0 0 rfl rfl)
theorem dX0_tape_1 : decode cX0_tape 1 = .ok (.invokestatic 359, 3) := dk_184 1 103 (dk_at dksX0_tape_0 1 rfl rfl)
theorem dX0_tape_4 : decode cX0_tape 4 = .ok (.ifCond .ne 5, 3) := dk_154 0 5 (dk_at dksX0_tape_0 4 rfl rfl)
theorem dX0_tape_7 : decode cX0_tape 7 = .ok (.iconst (-1), 1) := dk_2 (dk_at dksX0_tape_0 7 rfl rfl)
theorem dX0_tape_8 : decode cX0_tape 8 = .ok (.ireturn, 1) := dk_172 (dk_at dksX0_tape_0 8 rfl rfl)
theorem dX0_tape_9 : decode cX0_tape 9 = .ok (.iload_n 2, 1) := dk_28 (dk_at dksX0_tape_0 9 rfl rfl)
theorem dX0_tape_10 : decode cX0_tape 10 = .ok (.iconst (-1), 1) := dk_2 (dk_at dksX0_tape_0 10 rfl rfl)
theorem dX0_tape_11 : decode cX0_tape 11 = .ok (.iconst 4, 1) := dk_7 (dk_at dksX0_tape_0 11 rfl rfl)
theorem dX0_tape_12 : decode cX0_tape 12 = .ok (.invokestatic 5, 3) := dk_184 0 5 (dk_at dksX0_tape_0 12 rfl rfl)
theorem dX0_tape_15 : decode cX0_tape 15 = .ok (.ifCond .eq 14, 3) := dk_153 0 14 (dk_at dksX0_tape_0 15 rfl rfl)
theorem dX0_tape_18 : decode cX0_tape 18 = .ok (.iload_n 2, 1) := dk_28 (dk_at dksX0_tape_0 18 rfl rfl)
theorem dX0_tape_19 : decode cX0_tape 19 = .ok (.iconst (-1), 1) := dk_2 (dk_at dksX0_tape_0 19 rfl rfl)
theorem dX0_tape_20 : decode cX0_tape 20 = .ok (.if_icmp .eq 12, 3) := dk_159 0 12 (dk_at dksX0_tape_0 20 rfl rfl)
theorem dX0_tape_23 : decode cX0_tape 23 = .ok (.iload_n 3, 1) := dk_29 (dk_at dksX0_tape_0 23 rfl rfl)
theorem dX0_tape_24 : decode cX0_tape 24 = .ok (.bipush 60, 2) := dk_16 60 (dk_at dksX0_tape_1 0 rfl rfl)
theorem dX0_tape_26 : decode cX0_tape 26 = .ok (.if_icmp .le 6, 3) := dk_164 0 6 (dk_at dksX0_tape_1 2 rfl rfl)
theorem dX0_tape_29 : decode cX0_tape 29 = .ok (.bipush (-2), 2) := dk_16 254 (dk_at dksX0_tape_1 5 rfl rfl)
theorem dX0_tape_31 : decode cX0_tape 31 = .ok (.ireturn, 1) := dk_172 (dk_at dksX0_tape_1 7 rfl rfl)
theorem dX0_tape_32 : decode cX0_tape 32 = .ok (.aload_n 0, 1) := dk_42 (dk_at dksX0_tape_1 8 rfl rfl)
theorem dX0_tape_33 : decode cX0_tape 33 = .ok (.getfield 83, 3) := dk_180 0 83 (dk_at dksX0_tape_1 9 rfl rfl)
theorem dX0_tape_36 : decode cX0_tape 36 = .ok (.iload_n 1, 1) := dk_27 (dk_at dksX0_tape_1 12 rfl rfl)
theorem dX0_tape_37 : decode cX0_tape 37 = .ok (.aaload, 1) := dk_50 (dk_at dksX0_tape_1 13 rfl rfl)
theorem dX0_tape_38 : decode cX0_tape 38 = .ok (.iload_n 2, 1) := dk_28 (dk_at dksX0_tape_1 14 rfl rfl)
theorem dX0_tape_39 : decode cX0_tape 39 = .ok (.iconst (-1), 1) := dk_2 (dk_at dksX0_tape_1 15 rfl rfl)
theorem dX0_tape_40 : decode cX0_tape 40 = .ok (.if_icmp .ne 7, 3) := dk_160 0 7 (dk_at dksX0_tape_1 16 rfl rfl)
theorem dX0_tape_43 : decode cX0_tape 43 = .ok (.aconst_null, 1) := dk_1 (dk_at dksX0_tape_1 19 rfl rfl)
theorem dX0_tape_44 : decode cX0_tape 44 = .ok (.goto 8, 3) := dk_167 0 8 (dk_at dksX0_tape_1 20 rfl rfl)
theorem dX0_tape_47 : decode cX0_tape 47 = .ok (.iload_n 2, 1) := dk_28 (dk_at dksX0_tape_1 23 rfl rfl)
theorem dX0_tape_48 : decode cX0_tape 48 = .ok (.iload_n 3, 1) := dk_29 (dk_at dksX0_tape_2 0 rfl rfl)
theorem dX0_tape_49 : decode cX0_tape 49 = .ok (.invokestatic 415, 3) := dk_184 1 159 (dk_at dksX0_tape_2 1 rfl rfl)
theorem dX0_tape_52 : decode cX0_tape 52 = .ok (.putfield 362, 3) := dk_181 1 106 (dk_at dksX0_tape_2 4 rfl rfl)
theorem dX0_tape_55 : decode cX0_tape 55 = .ok (.iconst 1, 1) := dk_4 (dk_at dksX0_tape_2 7 rfl rfl)
theorem dX0_tape_56 : decode cX0_tape 56 = .ok (.ireturn, 1) := dk_172 (dk_at dksX0_tape_2 8 rfl rfl)
theorem dX0_tape_57 : decode cX0_tape 57 = .ok (.astore 4, 2) := dk_58 4 (dk_at dksX0_tape_2 9 rfl rfl)
theorem dX0_tape_59 : decode cX0_tape 59 = .ok (.bipush (-14), 2) := dk_16 242 (dk_at dksX0_tape_2 11 rfl rfl)
theorem dX0_tape_61 : decode cX0_tape 61 = .ok (.ireturn, 1) := dk_172 (dk_at dksX0_tape_2 13 rfl rfl)
abbrev cX0_rowOf : ByteArray := prog_1_method_63_code
def yX0_rowOf : MethodName := ⟨RX0, "rowOf", "(II)Ljava/lang/Object;"⟩
def dkwX0_rowOf_2 : List UInt8 := [27, 188, 8, 176, 27, 188, 9, 176, 27, 188, 10, 176, 27, 188, 11, 176, 27, 188, 4, 176]
abbrev dktX0_rowOf_2 : List UInt8 := dkwX0_rowOf_2 ++ []
def dkwX0_rowOf_1 : List UInt8 := [170, 0, 0, 0, 0, 0, 47, 0, 0, 0, 0, 0, 0, 0, 3, 0, 0, 0, 31, 0, 0, 0, 35, 0, 0, 0, 39, 0, 0, 0, 43]
abbrev dktX0_rowOf_1 : List UInt8 := dkwX0_rowOf_1 ++ dktX0_rowOf_2
def dkwX0_rowOf_0 : List UInt8 := [26]
abbrev dktX0_rowOf_0 : List UInt8 := dkwX0_rowOf_0 ++ dktX0_rowOf_1
theorem dksX0_rowOf_0 : cX0_rowOf.data.toList.drop 0 = dktX0_rowOf_0 := by decide +kernel
theorem dksX0_rowOf_1 : cX0_rowOf.data.toList.drop 1 = dktX0_rowOf_1 := dk_seg dksX0_rowOf_0 1 rfl rfl
theorem dksX0_rowOf_2 : cX0_rowOf.data.toList.drop 32 = dktX0_rowOf_2 := dk_seg dksX0_rowOf_1 31 rfl rfl
theorem dX0_rowOf_0 : decode cX0_rowOf 0 = .ok (.iload_n 0, 1) := dk_26 (dk_at dksX0_rowOf_0 0 rfl rfl)
theorem dX0_rowOf_1 : decode cX0_rowOf 1 = .ok (.tableswitch 47 0 3 #[31, 35, 39, 43], 31) := by decide +kernel
theorem dX0_rowOf_32 : decode cX0_rowOf 32 = .ok (.iload_n 1, 1) := dk_27 (dk_at dksX0_rowOf_2 0 rfl rfl)
theorem dX0_rowOf_33 : decode cX0_rowOf 33 = .ok (.newarray .byte, 2) := dk_188_8 (dk_at dksX0_rowOf_2 1 rfl rfl)
theorem dX0_rowOf_35 : decode cX0_rowOf 35 = .ok (.areturn, 1) := dk_176 (dk_at dksX0_rowOf_2 3 rfl rfl)
theorem dX0_rowOf_36 : decode cX0_rowOf 36 = .ok (.iload_n 1, 1) := dk_27 (dk_at dksX0_rowOf_2 4 rfl rfl)
theorem dX0_rowOf_37 : decode cX0_rowOf 37 = .ok (.newarray .short, 2) := dk_188_9 (dk_at dksX0_rowOf_2 5 rfl rfl)
theorem dX0_rowOf_39 : decode cX0_rowOf 39 = .ok (.areturn, 1) := dk_176 (dk_at dksX0_rowOf_2 7 rfl rfl)
theorem dX0_rowOf_40 : decode cX0_rowOf 40 = .ok (.iload_n 1, 1) := dk_27 (dk_at dksX0_rowOf_2 8 rfl rfl)
theorem dX0_rowOf_41 : decode cX0_rowOf 41 = .ok (.newarray .int, 2) := dk_188_10 (dk_at dksX0_rowOf_2 9 rfl rfl)
theorem dX0_rowOf_43 : decode cX0_rowOf 43 = .ok (.areturn, 1) := dk_176 (dk_at dksX0_rowOf_2 11 rfl rfl)
theorem dX0_rowOf_44 : decode cX0_rowOf 44 = .ok (.iload_n 1, 1) := dk_27 (dk_at dksX0_rowOf_2 12 rfl rfl)
theorem dX0_rowOf_45 : decode cX0_rowOf 45 = .ok (.newarray .long, 2) := dk_188_11 (dk_at dksX0_rowOf_2 13 rfl rfl)
theorem dX0_rowOf_47 : decode cX0_rowOf 47 = .ok (.areturn, 1) := dk_176 (dk_at dksX0_rowOf_2 15 rfl rfl)
theorem dX0_rowOf_48 : decode cX0_rowOf 48 = .ok (.iload_n 1, 1) := dk_27 (dk_at dksX0_rowOf_2 16 rfl rfl)
theorem dX0_rowOf_49 : decode cX0_rowOf 49 = .ok (.newarray .boolean, 2) := dk_188_4 (dk_at dksX0_rowOf_2 17 rfl rfl)
theorem dX0_rowOf_51 : decode cX0_rowOf 51 = .ok (.areturn, 1) := dk_176 (dk_at dksX0_rowOf_2 19 rfl rfl)
abbrev cX0_item : ByteArray := prog_1_method_66_code
def yX0_item : MethodName := ⟨RX0, "item", "(IIJ)I"⟩
def dkwX0_item_7 : List UInt8 := [180, 1, 106, 192, 1, 173, 28, 33, 9, 148, 153, 0, 7, 4, 167, 0, 4, 3, 84, 4, 172]
abbrev dktX0_item_7 : List UInt8 := dkwX0_item_7 ++ []
def dkwX0_item_6 : List UInt8 := [193, 1, 171, 153, 0, 18, 25, 10, 192, 1, 171, 58, 9, 25, 9, 28, 33, 80, 167, 0, 24, 25, 5]
abbrev dktX0_item_6 : List UInt8 := dkwX0_item_6 ++ dktX0_item_7
def dkwX0_item_5 : List UInt8 := [192, 1, 170, 58, 8, 25, 8, 28, 33, 136, 79, 167, 0, 54, 25, 5, 180, 1, 106, 58, 10, 25, 10]
abbrev dktX0_item_5 : List UInt8 := dkwX0_item_5 ++ dktX0_item_6
def dkwX0_item_4 : List UInt8 := [136, 147, 86, 167, 0, 85, 25, 5, 180, 1, 106, 58, 10, 25, 10, 193, 1, 170, 153, 0, 19, 25, 10]
abbrev dktX0_item_4 : List UInt8 := dkwX0_item_4 ++ dktX0_item_5
def dkwX0_item_3 : List UInt8 := [180, 1, 106, 58, 10, 25, 10, 193, 1, 168, 153, 0, 20, 25, 10, 192, 1, 168, 58, 7, 25, 7, 28, 33]
abbrev dktX0_item_3 : List UInt8 := dkwX0_item_3 ++ dktX0_item_4
def dkwX0_item_2 : List UInt8 := [153, 0, 20, 25, 10, 192, 1, 110, 58, 6, 25, 6, 28, 33, 136, 145, 84, 167, 0, 117, 25, 5]
abbrev dktX0_item_2 : List UInt8 := dkwX0_item_2 ++ dktX0_item_3
def dkwX0_item_1 : List UInt8 := [167, 0, 11, 58, 6, 25, 6, 180, 1, 3, 172, 25, 5, 180, 1, 106, 58, 10, 25, 10, 193, 1, 110]
abbrev dktX0_item_1 : List UInt8 := dkwX0_item_1 ++ dktX0_item_2
def dkwX0_item_0 : List UInt8 := [27, 184, 1, 103, 154, 0, 5, 2, 172, 42, 180, 0, 83, 27, 50, 58, 5, 25, 5, 28, 182, 1, 165]
abbrev dktX0_item_0 : List UInt8 := dkwX0_item_0 ++ dktX0_item_1
theorem dksX0_item_0 : cX0_item.data.toList.drop 0 = dktX0_item_0 := by decide +kernel
theorem dksX0_item_1 : cX0_item.data.toList.drop 23 = dktX0_item_1 := dk_seg dksX0_item_0 23 rfl rfl
theorem dksX0_item_2 : cX0_item.data.toList.drop 46 = dktX0_item_2 := dk_seg dksX0_item_1 23 rfl rfl
theorem dksX0_item_3 : cX0_item.data.toList.drop 68 = dktX0_item_3 := dk_seg dksX0_item_2 22 rfl rfl
theorem dksX0_item_4 : cX0_item.data.toList.drop 92 = dktX0_item_4 := dk_seg dksX0_item_3 24 rfl rfl
theorem dksX0_item_5 : cX0_item.data.toList.drop 115 = dktX0_item_5 := dk_seg dksX0_item_4 23 rfl rfl
theorem dksX0_item_6 : cX0_item.data.toList.drop 138 = dktX0_item_6 := dk_seg dksX0_item_5 23 rfl rfl
theorem dksX0_item_7 : cX0_item.data.toList.drop 161 = dktX0_item_7 := dk_seg dksX0_item_6 23 rfl rfl
theorem dX0_item_0 : decode cX0_item 0 = .ok (.iload_n 1, 1) := dk_27 (dk_at dksX0_item_0 0 rfl rfl)
theorem dX0_item_1 : decode cX0_item 1 = .ok (.invokestatic 359, 3) := dk_184 1 103 (dk_at dksX0_item_0 1 rfl rfl)
theorem dX0_item_4 : decode cX0_item 4 = .ok (.ifCond .ne 5, 3) := dk_154 0 5 (dk_at dksX0_item_0 4 rfl rfl)
theorem dX0_item_7 : decode cX0_item 7 = .ok (.iconst (-1), 1) := dk_2 (dk_at dksX0_item_0 7 rfl rfl)
theorem dX0_item_8 : decode cX0_item 8 = .ok (.ireturn, 1) := dk_172 (dk_at dksX0_item_0 8 rfl rfl)
theorem dX0_item_9 : decode cX0_item 9 = .ok (.aload_n 0, 1) := dk_42 (dk_at dksX0_item_0 9 rfl rfl)
theorem dX0_item_10 : decode cX0_item 10 = .ok (.getfield 83, 3) := dk_180 0 83 (dk_at dksX0_item_0 10 rfl rfl)
theorem dX0_item_13 : decode cX0_item 13 = .ok (.iload_n 1, 1) := dk_27 (dk_at dksX0_item_0 13 rfl rfl)
theorem dX0_item_14 : decode cX0_item 14 = .ok (.aaload, 1) := dk_50 (dk_at dksX0_item_0 14 rfl rfl)
theorem dX0_item_15 : decode cX0_item 15 = .ok (.astore 5, 2) := dk_58 5 (dk_at dksX0_item_0 15 rfl rfl)
theorem dX0_item_17 : decode cX0_item 17 = .ok (.aload 5, 2) := dk_25 5 (dk_at dksX0_item_0 17 rfl rfl)
theorem dX0_item_19 : decode cX0_item 19 = .ok (.iload_n 2, 1) := dk_28 (dk_at dksX0_item_0 19 rfl rfl)
theorem dX0_item_20 : decode cX0_item 20 = .ok (.invokevirtual 421, 3) := dk_182 1 165 (dk_at dksX0_item_0 20 rfl rfl)
theorem dX0_item_23 : decode cX0_item 23 = .ok (.goto 11, 3) := dk_167 0 11 (dk_at dksX0_item_1 0 rfl rfl)
theorem dX0_item_26 : decode cX0_item 26 = .ok (.astore 6, 2) := dk_58 6 (dk_at dksX0_item_1 3 rfl rfl)
theorem dX0_item_28 : decode cX0_item 28 = .ok (.aload 6, 2) := dk_25 6 (dk_at dksX0_item_1 5 rfl rfl)
theorem dX0_item_30 : decode cX0_item 30 = .ok (.getfield 259, 3) := dk_180 1 3 (dk_at dksX0_item_1 7 rfl rfl)
theorem dX0_item_33 : decode cX0_item 33 = .ok (.ireturn, 1) := dk_172 (dk_at dksX0_item_1 10 rfl rfl)
theorem dX0_item_34 : decode cX0_item 34 = .ok (.aload 5, 2) := dk_25 5 (dk_at dksX0_item_1 11 rfl rfl)
theorem dX0_item_36 : decode cX0_item 36 = .ok (.getfield 362, 3) := dk_180 1 106 (dk_at dksX0_item_1 13 rfl rfl)
theorem dX0_item_39 : decode cX0_item 39 = .ok (.astore 10, 2) := dk_58 10 (dk_at dksX0_item_1 16 rfl rfl)
theorem dX0_item_41 : decode cX0_item 41 = .ok (.aload 10, 2) := dk_25 10 (dk_at dksX0_item_1 18 rfl rfl)
theorem dX0_item_43 : decode cX0_item 43 = .ok (.instanceof 366, 3) := dk_193 1 110 (dk_at dksX0_item_1 20 rfl rfl)
theorem dX0_item_46 : decode cX0_item 46 = .ok (.ifCond .eq 20, 3) := dk_153 0 20 (dk_at dksX0_item_2 0 rfl rfl)
theorem dX0_item_49 : decode cX0_item 49 = .ok (.aload 10, 2) := dk_25 10 (dk_at dksX0_item_2 3 rfl rfl)
theorem dX0_item_51 : decode cX0_item 51 = .ok (.checkcast 366, 3) := dk_192 1 110 (dk_at dksX0_item_2 5 rfl rfl)
theorem dX0_item_54 : decode cX0_item 54 = .ok (.astore 6, 2) := dk_58 6 (dk_at dksX0_item_2 8 rfl rfl)
theorem dX0_item_56 : decode cX0_item 56 = .ok (.aload 6, 2) := dk_25 6 (dk_at dksX0_item_2 10 rfl rfl)
theorem dX0_item_58 : decode cX0_item 58 = .ok (.iload_n 2, 1) := dk_28 (dk_at dksX0_item_2 12 rfl rfl)
theorem dX0_item_59 : decode cX0_item 59 = .ok (.lload_n 3, 1) := dk_33 (dk_at dksX0_item_2 13 rfl rfl)
theorem dX0_item_60 : decode cX0_item 60 = .ok (.l2i, 1) := dk_136 (dk_at dksX0_item_2 14 rfl rfl)
theorem dX0_item_61 : decode cX0_item 61 = .ok (.i2b, 1) := dk_145 (dk_at dksX0_item_2 15 rfl rfl)
theorem dX0_item_62 : decode cX0_item 62 = .ok (.bastore, 1) := dk_84 (dk_at dksX0_item_2 16 rfl rfl)
theorem dX0_item_63 : decode cX0_item 63 = .ok (.goto 117, 3) := dk_167 0 117 (dk_at dksX0_item_2 17 rfl rfl)
theorem dX0_item_66 : decode cX0_item 66 = .ok (.aload 5, 2) := dk_25 5 (dk_at dksX0_item_2 20 rfl rfl)
theorem dX0_item_68 : decode cX0_item 68 = .ok (.getfield 362, 3) := dk_180 1 106 (dk_at dksX0_item_3 0 rfl rfl)
theorem dX0_item_71 : decode cX0_item 71 = .ok (.astore 10, 2) := dk_58 10 (dk_at dksX0_item_3 3 rfl rfl)
theorem dX0_item_73 : decode cX0_item 73 = .ok (.aload 10, 2) := dk_25 10 (dk_at dksX0_item_3 5 rfl rfl)
theorem dX0_item_75 : decode cX0_item 75 = .ok (.instanceof 424, 3) := dk_193 1 168 (dk_at dksX0_item_3 7 rfl rfl)
theorem dX0_item_78 : decode cX0_item 78 = .ok (.ifCond .eq 20, 3) := dk_153 0 20 (dk_at dksX0_item_3 10 rfl rfl)
theorem dX0_item_81 : decode cX0_item 81 = .ok (.aload 10, 2) := dk_25 10 (dk_at dksX0_item_3 13 rfl rfl)
theorem dX0_item_83 : decode cX0_item 83 = .ok (.checkcast 424, 3) := dk_192 1 168 (dk_at dksX0_item_3 15 rfl rfl)
theorem dX0_item_86 : decode cX0_item 86 = .ok (.astore 7, 2) := dk_58 7 (dk_at dksX0_item_3 18 rfl rfl)
theorem dX0_item_88 : decode cX0_item 88 = .ok (.aload 7, 2) := dk_25 7 (dk_at dksX0_item_3 20 rfl rfl)
theorem dX0_item_90 : decode cX0_item 90 = .ok (.iload_n 2, 1) := dk_28 (dk_at dksX0_item_3 22 rfl rfl)
theorem dX0_item_91 : decode cX0_item 91 = .ok (.lload_n 3, 1) := dk_33 (dk_at dksX0_item_3 23 rfl rfl)
theorem dX0_item_92 : decode cX0_item 92 = .ok (.l2i, 1) := dk_136 (dk_at dksX0_item_4 0 rfl rfl)
theorem dX0_item_93 : decode cX0_item 93 = .ok (.i2s, 1) := dk_147 (dk_at dksX0_item_4 1 rfl rfl)
theorem dX0_item_94 : decode cX0_item 94 = .ok (.sastore, 1) := dk_86 (dk_at dksX0_item_4 2 rfl rfl)
theorem dX0_item_95 : decode cX0_item 95 = .ok (.goto 85, 3) := dk_167 0 85 (dk_at dksX0_item_4 3 rfl rfl)
theorem dX0_item_98 : decode cX0_item 98 = .ok (.aload 5, 2) := dk_25 5 (dk_at dksX0_item_4 6 rfl rfl)
theorem dX0_item_100 : decode cX0_item 100 = .ok (.getfield 362, 3) := dk_180 1 106 (dk_at dksX0_item_4 8 rfl rfl)
theorem dX0_item_103 : decode cX0_item 103 = .ok (.astore 10, 2) := dk_58 10 (dk_at dksX0_item_4 11 rfl rfl)
theorem dX0_item_105 : decode cX0_item 105 = .ok (.aload 10, 2) := dk_25 10 (dk_at dksX0_item_4 13 rfl rfl)
theorem dX0_item_107 : decode cX0_item 107 = .ok (.instanceof 426, 3) := dk_193 1 170 (dk_at dksX0_item_4 15 rfl rfl)
theorem dX0_item_110 : decode cX0_item 110 = .ok (.ifCond .eq 19, 3) := dk_153 0 19 (dk_at dksX0_item_4 18 rfl rfl)
theorem dX0_item_113 : decode cX0_item 113 = .ok (.aload 10, 2) := dk_25 10 (dk_at dksX0_item_4 21 rfl rfl)
theorem dX0_item_115 : decode cX0_item 115 = .ok (.checkcast 426, 3) := dk_192 1 170 (dk_at dksX0_item_5 0 rfl rfl)
theorem dX0_item_118 : decode cX0_item 118 = .ok (.astore 8, 2) := dk_58 8 (dk_at dksX0_item_5 3 rfl rfl)
theorem dX0_item_120 : decode cX0_item 120 = .ok (.aload 8, 2) := dk_25 8 (dk_at dksX0_item_5 5 rfl rfl)
theorem dX0_item_122 : decode cX0_item 122 = .ok (.iload_n 2, 1) := dk_28 (dk_at dksX0_item_5 7 rfl rfl)
theorem dX0_item_123 : decode cX0_item 123 = .ok (.lload_n 3, 1) := dk_33 (dk_at dksX0_item_5 8 rfl rfl)
theorem dX0_item_124 : decode cX0_item 124 = .ok (.l2i, 1) := dk_136 (dk_at dksX0_item_5 9 rfl rfl)
theorem dX0_item_125 : decode cX0_item 125 = .ok (.iastore, 1) := dk_79 (dk_at dksX0_item_5 10 rfl rfl)
theorem dX0_item_126 : decode cX0_item 126 = .ok (.goto 54, 3) := dk_167 0 54 (dk_at dksX0_item_5 11 rfl rfl)
theorem dX0_item_129 : decode cX0_item 129 = .ok (.aload 5, 2) := dk_25 5 (dk_at dksX0_item_5 14 rfl rfl)
theorem dX0_item_131 : decode cX0_item 131 = .ok (.getfield 362, 3) := dk_180 1 106 (dk_at dksX0_item_5 16 rfl rfl)
theorem dX0_item_134 : decode cX0_item 134 = .ok (.astore 10, 2) := dk_58 10 (dk_at dksX0_item_5 19 rfl rfl)
theorem dX0_item_136 : decode cX0_item 136 = .ok (.aload 10, 2) := dk_25 10 (dk_at dksX0_item_5 21 rfl rfl)
theorem dX0_item_138 : decode cX0_item 138 = .ok (.instanceof 427, 3) := dk_193 1 171 (dk_at dksX0_item_6 0 rfl rfl)
theorem dX0_item_141 : decode cX0_item 141 = .ok (.ifCond .eq 18, 3) := dk_153 0 18 (dk_at dksX0_item_6 3 rfl rfl)
theorem dX0_item_144 : decode cX0_item 144 = .ok (.aload 10, 2) := dk_25 10 (dk_at dksX0_item_6 6 rfl rfl)
theorem dX0_item_146 : decode cX0_item 146 = .ok (.checkcast 427, 3) := dk_192 1 171 (dk_at dksX0_item_6 8 rfl rfl)
theorem dX0_item_149 : decode cX0_item 149 = .ok (.astore 9, 2) := dk_58 9 (dk_at dksX0_item_6 11 rfl rfl)
theorem dX0_item_151 : decode cX0_item 151 = .ok (.aload 9, 2) := dk_25 9 (dk_at dksX0_item_6 13 rfl rfl)
theorem dX0_item_153 : decode cX0_item 153 = .ok (.iload_n 2, 1) := dk_28 (dk_at dksX0_item_6 15 rfl rfl)
theorem dX0_item_154 : decode cX0_item 154 = .ok (.lload_n 3, 1) := dk_33 (dk_at dksX0_item_6 16 rfl rfl)
theorem dX0_item_155 : decode cX0_item 155 = .ok (.lastore, 1) := dk_80 (dk_at dksX0_item_6 17 rfl rfl)
theorem dX0_item_156 : decode cX0_item 156 = .ok (.goto 24, 3) := dk_167 0 24 (dk_at dksX0_item_6 18 rfl rfl)
theorem dX0_item_159 : decode cX0_item 159 = .ok (.aload 5, 2) := dk_25 5 (dk_at dksX0_item_6 21 rfl rfl)
theorem dX0_item_161 : decode cX0_item 161 = .ok (.getfield 362, 3) := dk_180 1 106 (dk_at dksX0_item_7 0 rfl rfl)
theorem dX0_item_164 : decode cX0_item 164 = .ok (.checkcast 429, 3) := dk_192 1 173 (dk_at dksX0_item_7 3 rfl rfl)
theorem dX0_item_167 : decode cX0_item 167 = .ok (.iload_n 2, 1) := dk_28 (dk_at dksX0_item_7 6 rfl rfl)
theorem dX0_item_168 : decode cX0_item 168 = .ok (.lload_n 3, 1) := dk_33 (dk_at dksX0_item_7 7 rfl rfl)
theorem dX0_item_169 : decode cX0_item 169 = .ok (.lconst 0, 1) := dk_9 (dk_at dksX0_item_7 8 rfl rfl)
theorem dX0_item_170 : decode cX0_item 170 = .ok (.lcmp, 1) := dk_148 (dk_at dksX0_item_7 9 rfl rfl)
theorem dX0_item_171 : decode cX0_item 171 = .ok (.ifCond .eq 7, 3) := dk_153 0 7 (dk_at dksX0_item_7 10 rfl rfl)
theorem dX0_item_174 : decode cX0_item 174 = .ok (.iconst 1, 1) := dk_4 (dk_at dksX0_item_7 13 rfl rfl)
theorem dX0_item_175 : decode cX0_item 175 = .ok (.goto 4, 3) := dk_167 0 4 (dk_at dksX0_item_7 14 rfl rfl)
theorem dX0_item_178 : decode cX0_item 178 = .ok (.iconst 0, 1) := dk_3 (dk_at dksX0_item_7 17 rfl rfl)
theorem dX0_item_179 : decode cX0_item 179 = .ok (.bastore, 1) := dk_84 (dk_at dksX0_item_7 18 rfl rfl)
theorem dX0_item_180 : decode cX0_item 180 = .ok (.iconst 1, 1) := dk_4 (dk_at dksX0_item_7 19 rfl rfl)
theorem dX0_item_181 : decode cX0_item 181 = .ok (.ireturn, 1) := dk_172 (dk_at dksX0_item_7 20 rfl rfl)
abbrev cX0_read : ByteArray := prog_1_method_67_code
def yX0_read : MethodName := ⟨RX0, "read", "(II)J"⟩
def dkwX0_read_7 : List UInt8 := [192, 1, 173, 28, 51, 153, 0, 7, 10, 167, 0, 4, 9, 173]
abbrev dktX0_read_7 : List UInt8 := dkwX0_read_7 ++ []
def dkwX0_read_6 : List UInt8 := [193, 1, 171, 153, 0, 17, 25, 5, 192, 1, 171, 58, 4, 25, 4, 28, 47, 167, 0, 20, 45, 180, 1, 106]
abbrev dktX0_read_6 : List UInt8 := dkwX0_read_6 ++ dktX0_read_7
def dkwX0_read_5 : List UInt8 := [153, 0, 16, 25, 5, 192, 1, 170, 58, 4, 25, 4, 28, 46, 133, 173, 45, 180, 1, 106, 58, 5, 25, 5]
abbrev dktX0_read_5 : List UInt8 := dkwX0_read_5 ++ dktX0_read_6
def dkwX0_read_4 : List UInt8 := [192, 1, 168, 58, 4, 25, 4, 28, 53, 133, 173, 45, 180, 1, 106, 58, 5, 25, 5, 193, 1, 170]
abbrev dktX0_read_4 : List UInt8 := dkwX0_read_4 ++ dktX0_read_5
def dkwX0_read_3 : List UInt8 := [25, 4, 28, 51, 133, 173, 45, 180, 1, 106, 58, 5, 25, 5, 193, 1, 168, 153, 0, 16, 25, 5]
abbrev dktX0_read_3 : List UInt8 := dkwX0_read_3 ++ dktX0_read_4
def dkwX0_read_2 : List UInt8 := [27, 50, 78, 45, 180, 1, 106, 58, 5, 25, 5, 193, 1, 110, 153, 0, 16, 25, 5, 192, 1, 110, 58, 4]
abbrev dktX0_read_2 : List UInt8 := dkwX0_read_2 ++ dktX0_read_3
def dkwX0_read_1 : List UInt8 := [180, 0, 83, 27, 50, 182, 1, 175, 4, 100, 184, 0, 5, 154, 0, 7, 20, 1, 79, 173, 42, 180, 0, 83]
abbrev dktX0_read_1 : List UInt8 := dkwX0_read_1 ++ dktX0_read_2
def dkwX0_read_0 : List UInt8 := [27, 184, 1, 103, 153, 0, 34, 42, 180, 0, 83, 27, 50, 180, 1, 106, 198, 0, 22, 28, 3, 42]
abbrev dktX0_read_0 : List UInt8 := dkwX0_read_0 ++ dktX0_read_1
theorem dksX0_read_0 : cX0_read.data.toList.drop 0 = dktX0_read_0 := by decide +kernel
theorem dksX0_read_1 : cX0_read.data.toList.drop 22 = dktX0_read_1 := dk_seg dksX0_read_0 22 rfl rfl
theorem dksX0_read_2 : cX0_read.data.toList.drop 46 = dktX0_read_2 := dk_seg dksX0_read_1 24 rfl rfl
theorem dksX0_read_3 : cX0_read.data.toList.drop 70 = dktX0_read_3 := dk_seg dksX0_read_2 24 rfl rfl
theorem dksX0_read_4 : cX0_read.data.toList.drop 92 = dktX0_read_4 := dk_seg dksX0_read_3 22 rfl rfl
theorem dksX0_read_5 : cX0_read.data.toList.drop 114 = dktX0_read_5 := dk_seg dksX0_read_4 22 rfl rfl
theorem dksX0_read_6 : cX0_read.data.toList.drop 138 = dktX0_read_6 := dk_seg dksX0_read_5 24 rfl rfl
theorem dksX0_read_7 : cX0_read.data.toList.drop 162 = dktX0_read_7 := dk_seg dksX0_read_6 24 rfl rfl
theorem dX0_read_0 : decode cX0_read 0 = .ok (.iload_n 1, 1) := dk_27 (dk_at dksX0_read_0 0 rfl rfl)
theorem dX0_read_1 : decode cX0_read 1 = .ok (.invokestatic 359, 3) := dk_184 1 103 (dk_at dksX0_read_0 1 rfl rfl)
theorem dX0_read_4 : decode cX0_read 4 = .ok (.ifCond .eq 34, 3) := dk_153 0 34 (dk_at dksX0_read_0 4 rfl rfl)
theorem dX0_read_7 : decode cX0_read 7 = .ok (.aload_n 0, 1) := dk_42 (dk_at dksX0_read_0 7 rfl rfl)
theorem dX0_read_8 : decode cX0_read 8 = .ok (.getfield 83, 3) := dk_180 0 83 (dk_at dksX0_read_0 8 rfl rfl)
theorem dX0_read_11 : decode cX0_read 11 = .ok (.iload_n 1, 1) := dk_27 (dk_at dksX0_read_0 11 rfl rfl)
theorem dX0_read_12 : decode cX0_read 12 = .ok (.aaload, 1) := dk_50 (dk_at dksX0_read_0 12 rfl rfl)
theorem dX0_read_13 : decode cX0_read 13 = .ok (.getfield 362, 3) := dk_180 1 106 (dk_at dksX0_read_0 13 rfl rfl)
theorem dX0_read_16 : decode cX0_read 16 = .ok (.ifnull 22, 3) := dk_198 0 22 (dk_at dksX0_read_0 16 rfl rfl)
theorem dX0_read_19 : decode cX0_read 19 = .ok (.iload_n 2, 1) := dk_28 (dk_at dksX0_read_0 19 rfl rfl)
theorem dX0_read_20 : decode cX0_read 20 = .ok (.iconst 0, 1) := dk_3 (dk_at dksX0_read_0 20 rfl rfl)
theorem dX0_read_21 : decode cX0_read 21 = .ok (.aload_n 0, 1) := dk_42 (dk_at dksX0_read_0 21 rfl rfl)
theorem dX0_read_22 : decode cX0_read 22 = .ok (.getfield 83, 3) := dk_180 0 83 (dk_at dksX0_read_1 0 rfl rfl)
theorem dX0_read_25 : decode cX0_read 25 = .ok (.iload_n 1, 1) := dk_27 (dk_at dksX0_read_1 3 rfl rfl)
theorem dX0_read_26 : decode cX0_read 26 = .ok (.aaload, 1) := dk_50 (dk_at dksX0_read_1 4 rfl rfl)
theorem dX0_read_27 : decode cX0_read 27 = .ok (.invokevirtual 431, 3) := dk_182 1 175 (dk_at dksX0_read_1 5 rfl rfl)
theorem dX0_read_30 : decode cX0_read 30 = .ok (.iconst 1, 1) := dk_4 (dk_at dksX0_read_1 8 rfl rfl)
theorem dX0_read_31 : decode cX0_read 31 = .ok (.isub, 1) := dk_100 (dk_at dksX0_read_1 9 rfl rfl)
theorem dX0_read_32 : decode cX0_read 32 = .ok (.invokestatic 5, 3) := dk_184 0 5 (dk_at dksX0_read_1 10 rfl rfl)
theorem dX0_read_35 : decode cX0_read 35 = .ok (.ifCond .ne 7, 3) := dk_154 0 7 (dk_at dksX0_read_1 13 rfl rfl)
theorem dX0_read_38 : decode cX0_read 38 = .ok (.ldc2_w 335, 3) := dk_20 1 79 (dk_at dksX0_read_1 16 rfl rfl)
theorem dX0_read_41 : decode cX0_read 41 = .ok (.lreturn, 1) := dk_173 (dk_at dksX0_read_1 19 rfl rfl)
theorem dX0_read_42 : decode cX0_read 42 = .ok (.aload_n 0, 1) := dk_42 (dk_at dksX0_read_1 20 rfl rfl)
theorem dX0_read_43 : decode cX0_read 43 = .ok (.getfield 83, 3) := dk_180 0 83 (dk_at dksX0_read_1 21 rfl rfl)
theorem dX0_read_46 : decode cX0_read 46 = .ok (.iload_n 1, 1) := dk_27 (dk_at dksX0_read_2 0 rfl rfl)
theorem dX0_read_47 : decode cX0_read 47 = .ok (.aaload, 1) := dk_50 (dk_at dksX0_read_2 1 rfl rfl)
theorem dX0_read_48 : decode cX0_read 48 = .ok (.astore_n 3, 1) := dk_78 (dk_at dksX0_read_2 2 rfl rfl)
theorem dX0_read_49 : decode cX0_read 49 = .ok (.aload_n 3, 1) := dk_45 (dk_at dksX0_read_2 3 rfl rfl)
theorem dX0_read_50 : decode cX0_read 50 = .ok (.getfield 362, 3) := dk_180 1 106 (dk_at dksX0_read_2 4 rfl rfl)
theorem dX0_read_53 : decode cX0_read 53 = .ok (.astore 5, 2) := dk_58 5 (dk_at dksX0_read_2 7 rfl rfl)
theorem dX0_read_55 : decode cX0_read 55 = .ok (.aload 5, 2) := dk_25 5 (dk_at dksX0_read_2 9 rfl rfl)
theorem dX0_read_57 : decode cX0_read 57 = .ok (.instanceof 366, 3) := dk_193 1 110 (dk_at dksX0_read_2 11 rfl rfl)
theorem dX0_read_60 : decode cX0_read 60 = .ok (.ifCond .eq 16, 3) := dk_153 0 16 (dk_at dksX0_read_2 14 rfl rfl)
theorem dX0_read_63 : decode cX0_read 63 = .ok (.aload 5, 2) := dk_25 5 (dk_at dksX0_read_2 17 rfl rfl)
theorem dX0_read_65 : decode cX0_read 65 = .ok (.checkcast 366, 3) := dk_192 1 110 (dk_at dksX0_read_2 19 rfl rfl)
theorem dX0_read_68 : decode cX0_read 68 = .ok (.astore 4, 2) := dk_58 4 (dk_at dksX0_read_2 22 rfl rfl)
theorem dX0_read_70 : decode cX0_read 70 = .ok (.aload 4, 2) := dk_25 4 (dk_at dksX0_read_3 0 rfl rfl)
theorem dX0_read_72 : decode cX0_read 72 = .ok (.iload_n 2, 1) := dk_28 (dk_at dksX0_read_3 2 rfl rfl)
theorem dX0_read_73 : decode cX0_read 73 = .ok (.baload, 1) := dk_51 (dk_at dksX0_read_3 3 rfl rfl)
theorem dX0_read_74 : decode cX0_read 74 = .ok (.i2l, 1) := dk_133 (dk_at dksX0_read_3 4 rfl rfl)
theorem dX0_read_75 : decode cX0_read 75 = .ok (.lreturn, 1) := dk_173 (dk_at dksX0_read_3 5 rfl rfl)
theorem dX0_read_76 : decode cX0_read 76 = .ok (.aload_n 3, 1) := dk_45 (dk_at dksX0_read_3 6 rfl rfl)
theorem dX0_read_77 : decode cX0_read 77 = .ok (.getfield 362, 3) := dk_180 1 106 (dk_at dksX0_read_3 7 rfl rfl)
theorem dX0_read_80 : decode cX0_read 80 = .ok (.astore 5, 2) := dk_58 5 (dk_at dksX0_read_3 10 rfl rfl)
theorem dX0_read_82 : decode cX0_read 82 = .ok (.aload 5, 2) := dk_25 5 (dk_at dksX0_read_3 12 rfl rfl)
theorem dX0_read_84 : decode cX0_read 84 = .ok (.instanceof 424, 3) := dk_193 1 168 (dk_at dksX0_read_3 14 rfl rfl)
theorem dX0_read_87 : decode cX0_read 87 = .ok (.ifCond .eq 16, 3) := dk_153 0 16 (dk_at dksX0_read_3 17 rfl rfl)
theorem dX0_read_90 : decode cX0_read 90 = .ok (.aload 5, 2) := dk_25 5 (dk_at dksX0_read_3 20 rfl rfl)
theorem dX0_read_92 : decode cX0_read 92 = .ok (.checkcast 424, 3) := dk_192 1 168 (dk_at dksX0_read_4 0 rfl rfl)
theorem dX0_read_95 : decode cX0_read 95 = .ok (.astore 4, 2) := dk_58 4 (dk_at dksX0_read_4 3 rfl rfl)
theorem dX0_read_97 : decode cX0_read 97 = .ok (.aload 4, 2) := dk_25 4 (dk_at dksX0_read_4 5 rfl rfl)
theorem dX0_read_99 : decode cX0_read 99 = .ok (.iload_n 2, 1) := dk_28 (dk_at dksX0_read_4 7 rfl rfl)
theorem dX0_read_100 : decode cX0_read 100 = .ok (.saload, 1) := dk_53 (dk_at dksX0_read_4 8 rfl rfl)
theorem dX0_read_101 : decode cX0_read 101 = .ok (.i2l, 1) := dk_133 (dk_at dksX0_read_4 9 rfl rfl)
theorem dX0_read_102 : decode cX0_read 102 = .ok (.lreturn, 1) := dk_173 (dk_at dksX0_read_4 10 rfl rfl)
theorem dX0_read_103 : decode cX0_read 103 = .ok (.aload_n 3, 1) := dk_45 (dk_at dksX0_read_4 11 rfl rfl)
theorem dX0_read_104 : decode cX0_read 104 = .ok (.getfield 362, 3) := dk_180 1 106 (dk_at dksX0_read_4 12 rfl rfl)
theorem dX0_read_107 : decode cX0_read 107 = .ok (.astore 5, 2) := dk_58 5 (dk_at dksX0_read_4 15 rfl rfl)
theorem dX0_read_109 : decode cX0_read 109 = .ok (.aload 5, 2) := dk_25 5 (dk_at dksX0_read_4 17 rfl rfl)
theorem dX0_read_111 : decode cX0_read 111 = .ok (.instanceof 426, 3) := dk_193 1 170 (dk_at dksX0_read_4 19 rfl rfl)
theorem dX0_read_114 : decode cX0_read 114 = .ok (.ifCond .eq 16, 3) := dk_153 0 16 (dk_at dksX0_read_5 0 rfl rfl)
theorem dX0_read_117 : decode cX0_read 117 = .ok (.aload 5, 2) := dk_25 5 (dk_at dksX0_read_5 3 rfl rfl)
theorem dX0_read_119 : decode cX0_read 119 = .ok (.checkcast 426, 3) := dk_192 1 170 (dk_at dksX0_read_5 5 rfl rfl)
theorem dX0_read_122 : decode cX0_read 122 = .ok (.astore 4, 2) := dk_58 4 (dk_at dksX0_read_5 8 rfl rfl)
theorem dX0_read_124 : decode cX0_read 124 = .ok (.aload 4, 2) := dk_25 4 (dk_at dksX0_read_5 10 rfl rfl)
theorem dX0_read_126 : decode cX0_read 126 = .ok (.iload_n 2, 1) := dk_28 (dk_at dksX0_read_5 12 rfl rfl)
theorem dX0_read_127 : decode cX0_read 127 = .ok (.iaload, 1) := dk_46 (dk_at dksX0_read_5 13 rfl rfl)
theorem dX0_read_128 : decode cX0_read 128 = .ok (.i2l, 1) := dk_133 (dk_at dksX0_read_5 14 rfl rfl)
theorem dX0_read_129 : decode cX0_read 129 = .ok (.lreturn, 1) := dk_173 (dk_at dksX0_read_5 15 rfl rfl)
theorem dX0_read_130 : decode cX0_read 130 = .ok (.aload_n 3, 1) := dk_45 (dk_at dksX0_read_5 16 rfl rfl)
theorem dX0_read_131 : decode cX0_read 131 = .ok (.getfield 362, 3) := dk_180 1 106 (dk_at dksX0_read_5 17 rfl rfl)
theorem dX0_read_134 : decode cX0_read 134 = .ok (.astore 5, 2) := dk_58 5 (dk_at dksX0_read_5 20 rfl rfl)
theorem dX0_read_136 : decode cX0_read 136 = .ok (.aload 5, 2) := dk_25 5 (dk_at dksX0_read_5 22 rfl rfl)
theorem dX0_read_138 : decode cX0_read 138 = .ok (.instanceof 427, 3) := dk_193 1 171 (dk_at dksX0_read_6 0 rfl rfl)
theorem dX0_read_141 : decode cX0_read 141 = .ok (.ifCond .eq 17, 3) := dk_153 0 17 (dk_at dksX0_read_6 3 rfl rfl)
theorem dX0_read_144 : decode cX0_read 144 = .ok (.aload 5, 2) := dk_25 5 (dk_at dksX0_read_6 6 rfl rfl)
theorem dX0_read_146 : decode cX0_read 146 = .ok (.checkcast 427, 3) := dk_192 1 171 (dk_at dksX0_read_6 8 rfl rfl)
theorem dX0_read_149 : decode cX0_read 149 = .ok (.astore 4, 2) := dk_58 4 (dk_at dksX0_read_6 11 rfl rfl)
theorem dX0_read_151 : decode cX0_read 151 = .ok (.aload 4, 2) := dk_25 4 (dk_at dksX0_read_6 13 rfl rfl)
theorem dX0_read_153 : decode cX0_read 153 = .ok (.iload_n 2, 1) := dk_28 (dk_at dksX0_read_6 15 rfl rfl)
theorem dX0_read_154 : decode cX0_read 154 = .ok (.laload, 1) := dk_47 (dk_at dksX0_read_6 16 rfl rfl)
theorem dX0_read_155 : decode cX0_read 155 = .ok (.goto 20, 3) := dk_167 0 20 (dk_at dksX0_read_6 17 rfl rfl)
theorem dX0_read_158 : decode cX0_read 158 = .ok (.aload_n 3, 1) := dk_45 (dk_at dksX0_read_6 20 rfl rfl)
theorem dX0_read_159 : decode cX0_read 159 = .ok (.getfield 362, 3) := dk_180 1 106 (dk_at dksX0_read_6 21 rfl rfl)
theorem dX0_read_162 : decode cX0_read 162 = .ok (.checkcast 429, 3) := dk_192 1 173 (dk_at dksX0_read_7 0 rfl rfl)
theorem dX0_read_165 : decode cX0_read 165 = .ok (.iload_n 2, 1) := dk_28 (dk_at dksX0_read_7 3 rfl rfl)
theorem dX0_read_166 : decode cX0_read 166 = .ok (.baload, 1) := dk_51 (dk_at dksX0_read_7 4 rfl rfl)
theorem dX0_read_167 : decode cX0_read 167 = .ok (.ifCond .eq 7, 3) := dk_153 0 7 (dk_at dksX0_read_7 5 rfl rfl)
theorem dX0_read_170 : decode cX0_read 170 = .ok (.lconst 1, 1) := dk_10 (dk_at dksX0_read_7 8 rfl rfl)
theorem dX0_read_171 : decode cX0_read 171 = .ok (.goto 4, 3) := dk_167 0 4 (dk_at dksX0_read_7 9 rfl rfl)
theorem dX0_read_174 : decode cX0_read 174 = .ok (.lconst 0, 1) := dk_9 (dk_at dksX0_read_7 12 rfl rfl)
theorem dX0_read_175 : decode cX0_read 175 = .ok (.lreturn, 1) := dk_173 (dk_at dksX0_read_7 13 rfl rfl)
abbrev cX0_shift : ByteArray := prog_1_method_68_code
def yX0_shift : MethodName := ⟨RX0, "shift", "(IIIII)I"⟩
def dkwX0_shift_2 : List UInt8 := [58, 6, 16, 245, 172, 58, 6, 16, 244, 172, 58, 6, 16, 243, 172]
abbrev dktX0_shift_2 : List UInt8 := dkwX0_shift_2 ++ []
def dkwX0_shift_1 : List UInt8 := [180, 1, 106, 28, 42, 180, 0, 83, 29, 50, 180, 1, 106, 21, 4, 21, 5, 184, 1, 117, 21, 5, 172]
abbrev dktX0_shift_1 : List UInt8 := dkwX0_shift_1 ++ dktX0_shift_2
def dkwX0_shift_0 : List UInt8 := [27, 184, 1, 103, 153, 0, 10, 29, 184, 1, 103, 154, 0, 5, 2, 172, 42, 180, 0, 83, 27, 50]
abbrev dktX0_shift_0 : List UInt8 := dkwX0_shift_0 ++ dktX0_shift_1
theorem dksX0_shift_0 : cX0_shift.data.toList.drop 0 = dktX0_shift_0 := by decide +kernel
theorem dksX0_shift_1 : cX0_shift.data.toList.drop 22 = dktX0_shift_1 := dk_seg dksX0_shift_0 22 rfl rfl
theorem dksX0_shift_2 : cX0_shift.data.toList.drop 45 = dktX0_shift_2 := dk_seg dksX0_shift_1 23 rfl rfl
theorem dX0_shift_0 : decode cX0_shift 0 = .ok (.iload_n 1, 1) := dk_27 (dk_at dksX0_shift_0 0 rfl rfl)
theorem dX0_shift_1 : decode cX0_shift 1 = .ok (.invokestatic 359, 3) := dk_184 1 103 (dk_at dksX0_shift_0 1 rfl rfl)
theorem dX0_shift_4 : decode cX0_shift 4 = .ok (.ifCond .eq 10, 3) := dk_153 0 10 (dk_at dksX0_shift_0 4 rfl rfl)
theorem dX0_shift_7 : decode cX0_shift 7 = .ok (.iload_n 3, 1) := dk_29 (dk_at dksX0_shift_0 7 rfl rfl)
theorem dX0_shift_8 : decode cX0_shift 8 = .ok (.invokestatic 359, 3) := dk_184 1 103 (dk_at dksX0_shift_0 8 rfl rfl)
theorem dX0_shift_11 : decode cX0_shift 11 = .ok (.ifCond .ne 5, 3) := dk_154 0 5 (dk_at dksX0_shift_0 11 rfl rfl)
theorem dX0_shift_14 : decode cX0_shift 14 = .ok (.iconst (-1), 1) := dk_2 (dk_at dksX0_shift_0 14 rfl rfl)
theorem dX0_shift_15 : decode cX0_shift 15 = .ok (.ireturn, 1) := dk_172 (dk_at dksX0_shift_0 15 rfl rfl)
theorem dX0_shift_16 : decode cX0_shift 16 = .ok (.aload_n 0, 1) := dk_42 (dk_at dksX0_shift_0 16 rfl rfl)
theorem dX0_shift_17 : decode cX0_shift 17 = .ok (.getfield 83, 3) := dk_180 0 83 (dk_at dksX0_shift_0 17 rfl rfl)
theorem dX0_shift_20 : decode cX0_shift 20 = .ok (.iload_n 1, 1) := dk_27 (dk_at dksX0_shift_0 20 rfl rfl)
theorem dX0_shift_21 : decode cX0_shift 21 = .ok (.aaload, 1) := dk_50 (dk_at dksX0_shift_0 21 rfl rfl)
theorem dX0_shift_22 : decode cX0_shift 22 = .ok (.getfield 362, 3) := dk_180 1 106 (dk_at dksX0_shift_1 0 rfl rfl)
theorem dX0_shift_25 : decode cX0_shift 25 = .ok (.iload_n 2, 1) := dk_28 (dk_at dksX0_shift_1 3 rfl rfl)
theorem dX0_shift_26 : decode cX0_shift 26 = .ok (.aload_n 0, 1) := dk_42 (dk_at dksX0_shift_1 4 rfl rfl)
theorem dX0_shift_27 : decode cX0_shift 27 = .ok (.getfield 83, 3) := dk_180 0 83 (dk_at dksX0_shift_1 5 rfl rfl)
theorem dX0_shift_30 : decode cX0_shift 30 = .ok (.iload_n 3, 1) := dk_29 (dk_at dksX0_shift_1 8 rfl rfl)
theorem dX0_shift_31 : decode cX0_shift 31 = .ok (.aaload, 1) := dk_50 (dk_at dksX0_shift_1 9 rfl rfl)
theorem dX0_shift_32 : decode cX0_shift 32 = .ok (.getfield 362, 3) := dk_180 1 106 (dk_at dksX0_shift_1 10 rfl rfl)
theorem dX0_shift_35 : decode cX0_shift 35 = .ok (.iload 4, 2) := dk_21 4 (dk_at dksX0_shift_1 13 rfl rfl)
theorem dX0_shift_37 : decode cX0_shift 37 = .ok (.iload 5, 2) := dk_21 5 (dk_at dksX0_shift_1 15 rfl rfl)
theorem dX0_shift_39 : decode cX0_shift 39 = .ok (.invokestatic 373, 3) := dk_184 1 117 (dk_at dksX0_shift_1 17 rfl rfl)
theorem dX0_shift_42 : decode cX0_shift 42 = .ok (.iload 5, 2) := dk_21 5 (dk_at dksX0_shift_1 20 rfl rfl)
theorem dX0_shift_44 : decode cX0_shift 44 = .ok (.ireturn, 1) := dk_172 (dk_at dksX0_shift_1 22 rfl rfl)
theorem dX0_shift_45 : decode cX0_shift 45 = .ok (.astore 6, 2) := dk_58 6 (dk_at dksX0_shift_2 0 rfl rfl)
theorem dX0_shift_47 : decode cX0_shift 47 = .ok (.bipush (-11), 2) := dk_16 245 (dk_at dksX0_shift_2 2 rfl rfl)
theorem dX0_shift_49 : decode cX0_shift 49 = .ok (.ireturn, 1) := dk_172 (dk_at dksX0_shift_2 4 rfl rfl)
theorem dX0_shift_50 : decode cX0_shift 50 = .ok (.astore 6, 2) := dk_58 6 (dk_at dksX0_shift_2 5 rfl rfl)
theorem dX0_shift_52 : decode cX0_shift 52 = .ok (.bipush (-12), 2) := dk_16 244 (dk_at dksX0_shift_2 7 rfl rfl)
theorem dX0_shift_54 : decode cX0_shift 54 = .ok (.ireturn, 1) := dk_172 (dk_at dksX0_shift_2 9 rfl rfl)
theorem dX0_shift_55 : decode cX0_shift 55 = .ok (.astore 6, 2) := dk_58 6 (dk_at dksX0_shift_2 10 rfl rfl)
theorem dX0_shift_57 : decode cX0_shift 57 = .ok (.bipush (-13), 2) := dk_16 243 (dk_at dksX0_shift_2 12 rfl rfl)
theorem dX0_shift_59 : decode cX0_shift 59 = .ok (.ireturn, 1) := dk_172 (dk_at dksX0_shift_2 14 rfl rfl)
theorem q77 : (Jvm.Cond.initialized "GeeseKeys") ∈ lw_all := lw_g (lw_at lw_m1 1 rfl) rfl
theorem q120 : (Jvm.Cond.instantiable "GeeseKeys" (35 : Nat)) ∈ lw_all := lw_g (lw_at lw_m1 44 rfl) rfl
theorem q122 : (Jvm.Cond.instanceMethod ({ cls := "GeeseKeys", name := "<init>", desc := "()V" } : Jvm.MethodName)) ∈ lw_all := lw_g (lw_at lw_m1 46 rfl) rfl
theorem q123 : (Jvm.Cond.code ({ cls := "GeeseKeys", name := "<init>", desc := "()V" } : Jvm.MethodName) prog_1_method_7_code (2 : Nat) (Option.none : Option Jvm.ClassFile.FieldType)) ∈ lw_all := lw_g (lw_at lw_m1 47 rfl) rfl
theorem q124 : (Jvm.Cond.methodLink "GeeseKeys" (9 : Nat) ({ cls := "java/lang/Object", name := "<init>", desc := "()V" } : Jvm.MethodName)) ∈ lw_all := lw_g (lw_at lw_m1 48 rfl) rfl
theorem q127 : (Jvm.Cond.classLink "GeeseKeys" (15 : Nat) "GeeseKeys$Goose") ∈ lw_all := lw_g (lw_at lw_m1 51 rfl) rfl
theorem q129 : (Jvm.Cond.classLink "GeeseKeys" (25 : Nat) "GeeseKeys$Time") ∈ lw_all := lw_g (lw_at lw_m1 53 rfl) rfl
theorem q131 : (Jvm.Cond.methodLink "GeeseKeys" (27 : Nat) ({ cls := "GeeseKeys$Time", name := "<init>", desc := "()V" } : Jvm.MethodName)) ∈ lw_all := lw_g (lw_at lw_m1 55 rfl) rfl
theorem q136 : (Jvm.Cond.fieldLinkNest "GeeseKeys" (194 : Nat) "GeeseKeys$Time" "grains" "[B" "GeeseKeys") ∈ lw_tbl := lw_at lw_m1 60 rfl
theorem q138 : (Jvm.Cond.fieldLinkNest "GeeseKeys" (152 : Nat) "GeeseKeys$Time" "ones" "[B" "GeeseKeys") ∈ lw_tbl := lw_at lw_m1 62 rfl
theorem q140 : (Jvm.Cond.fieldLinkNest "GeeseKeys" (155 : Nat) "GeeseKeys$Time" "others" "[B" "GeeseKeys") ∈ lw_tbl := lw_at lw_m1 64 rfl
theorem q142 : (Jvm.Cond.fieldLinkNest "GeeseKeys" (165 : Nat) "GeeseKeys$Time" "places" "[B" "GeeseKeys") ∈ lw_tbl := lw_at lw_m1 66 rfl
theorem q144 : (Jvm.Cond.fieldLinkNest "GeeseKeys" (168 : Nat) "GeeseKeys$Time" "keys" "[B" "GeeseKeys") ∈ lw_tbl := lw_at lw_m1 68 rfl
theorem q146 : (Jvm.Cond.fieldLinkNest "GeeseKeys" (118 : Nat) "GeeseKeys$Time" "many" "I" "GeeseKeys") ∈ lw_tbl := lw_at lw_m1 70 rfl
theorem q148 : (Jvm.Cond.fieldLinkNest "GeeseKeys" (122 : Nat) "GeeseKeys$Time" "gates" "I" "GeeseKeys") ∈ lw_tbl := lw_at lw_m1 72 rfl
theorem q150 : (Jvm.Cond.fieldLinkNest "GeeseKeys" (175 : Nat) "GeeseKeys$Time" "gone" "I" "GeeseKeys") ∈ lw_tbl := lw_at lw_m1 74 rfl
theorem q152 : (Jvm.Cond.fieldLinkNest "GeeseKeys" (199 : Nat) "GeeseKeys$Time" "hour" "I" "GeeseKeys") ∈ lw_tbl := lw_at lw_m1 76 rfl
theorem q174 : (Jvm.Cond.classLink "GeeseKeys" (39 : Nat) "GeeseKeys$Fortress") ∈ lw_all := lw_g (lw_at lw_m1 98 rfl) rfl
theorem q176 : (Jvm.Cond.methodLinkNest "GeeseKeys" (41 : Nat) ({ cls := "GeeseKeys$Fortress", name := "<init>", desc := "()V" } : Jvm.MethodName) "GeeseKeys") ∈ lw_tbl := lw_at lw_m1 100 rfl
theorem q211 : (Jvm.Cond.fieldLinkNest "GeeseKeys" (262 : Nat) "GeeseKeys$Fortress" "eat" "I" "GeeseKeys") ∈ lw_tbl := lw_at lw_m1 135 rfl
theorem q219 : (Jvm.Cond.classLink "GeeseKeys" (46 : Nat) "GeeseKeys$Look") ∈ lw_all := lw_g (lw_at lw_m1 143 rfl) rfl
theorem q221 : (Jvm.Cond.methodLinkNest "GeeseKeys" (48 : Nat) ({ cls := "GeeseKeys$Look", name := "<init>", desc := "()V" } : Jvm.MethodName) "GeeseKeys") ∈ lw_tbl := lw_at lw_m1 145 rfl
theorem q226 : (Jvm.Cond.fieldLinkNest "GeeseKeys" (178 : Nat) "GeeseKeys$Look" "goose" "I" "GeeseKeys") ∈ lw_tbl := lw_at lw_m1 150 rfl
theorem q228 : (Jvm.Cond.fieldLinkNest "GeeseKeys" (185 : Nat) "GeeseKeys$Look" "kind" "I" "GeeseKeys") ∈ lw_tbl := lw_at lw_m1 152 rfl
theorem q230 : (Jvm.Cond.fieldLinkNest "GeeseKeys" (190 : Nat) "GeeseKeys$Look" "v" "I" "GeeseKeys") ∈ lw_tbl := lw_at lw_m1 154 rfl
theorem q232 : (Jvm.Cond.fieldLinkNest "GeeseKeys" (191 : Nat) "GeeseKeys$Look" "court" "I" "GeeseKeys") ∈ lw_tbl := lw_at lw_m1 156 rfl
theorem q234 : (Jvm.Cond.fieldLinkNest "GeeseKeys" (197 : Nat) "GeeseKeys$Look" "grains" "I" "GeeseKeys") ∈ lw_tbl := lw_at lw_m1 158 rfl
theorem q236 : (Jvm.Cond.fieldLinkNest "GeeseKeys" (202 : Nat) "GeeseKeys$Look" "hour" "I" "GeeseKeys") ∈ lw_tbl := lw_at lw_m1 160 rfl
theorem q250 : (Jvm.Cond.classLink "GeeseKeys" (53 : Nat) "GeeseKeys$Trace") ∈ lw_all := lw_g (lw_at lw_m1 174 rfl) rfl
theorem q252 : (Jvm.Cond.methodLinkNest "GeeseKeys" (55 : Nat) ({ cls := "GeeseKeys$Trace", name := "<init>", desc := "()V" } : Jvm.MethodName) "GeeseKeys") ∈ lw_tbl := lw_at lw_m1 176 rfl
theorem q257 : (Jvm.Cond.fieldLinkNest "GeeseKeys" (408 : Nat) "GeeseKeys$Trace" "bodies" "[I" "GeeseKeys") ∈ lw_tbl := lw_at lw_m1 181 rfl
theorem q259 : (Jvm.Cond.fieldLinkNest "GeeseKeys" (391 : Nat) "GeeseKeys$Trace" "count" "I" "GeeseKeys") ∈ lw_tbl := lw_at lw_m1 183 rfl
theorem q265 : (Jvm.Cond.classLink "GeeseKeys" (81 : Nat) "GeeseKeys$Tape") ∈ lw_all := lw_g (lw_at lw_m1 189 rfl) rfl
theorem q268 : (Jvm.Cond.methodLinkNest "GeeseKeys" (117 : Nat) ({ cls := "GeeseKeys$Tape", name := "<init>", desc := "()V" } : Jvm.MethodName) "GeeseKeys") ∈ lw_tbl := lw_at lw_m1 192 rfl
theorem q273 : (Jvm.Cond.fieldLinkNest "GeeseKeys" (362 : Nat) "GeeseKeys$Tape" "row" "Ljava/lang/Object;" "GeeseKeys") ∈ lw_tbl := lw_at lw_m1 197 rfl
theorem q277 : (Jvm.Cond.fieldLink "GeeseKeys" (17 : Nat) "GeeseKeys" "geese" "[LGeeseKeys$Goose;") ∈ lw_all := lw_g (lw_at lw_m1 201 rfl) rfl
theorem q278 : (Jvm.Cond.fieldLink "GeeseKeys" (21 : Nat) "GeeseKeys" "rows" "[I") ∈ lw_all := lw_g (lw_at lw_m1 202 rfl) rfl
theorem q279 : (Jvm.Cond.fieldLink "GeeseKeys" (28 : Nat) "GeeseKeys" "now" "LGeeseKeys$Time;") ∈ lw_all := lw_g (lw_at lw_m1 203 rfl) rfl
theorem q280 : (Jvm.Cond.fieldLink "GeeseKeys" (32 : Nat) "GeeseKeys" "tried" "LGeeseKeys$Time;") ∈ lw_all := lw_g (lw_at lw_m1 204 rfl) rfl
theorem q281 : (Jvm.Cond.fieldLink "GeeseKeys" (35 : Nat) "GeeseKeys" "text" "[B") ∈ lw_all := lw_g (lw_at lw_m1 205 rfl) rfl
theorem q282 : (Jvm.Cond.fieldLink "GeeseKeys" (242 : Nat) "GeeseKeys" "texted" "I") ∈ lw_all := lw_g (lw_at lw_m1 206 rfl) rfl
theorem q283 : (Jvm.Cond.fieldLink "GeeseKeys" (245 : Nat) "GeeseKeys" "fortressMany" "I") ∈ lw_all := lw_g (lw_at lw_m1 207 rfl) rfl
theorem q284 : (Jvm.Cond.fieldLink "GeeseKeys" (42 : Nat) "GeeseKeys" "held" "LGeeseKeys$Fortress;") ∈ lw_all := lw_g (lw_at lw_m1 208 rfl) rfl
theorem q285 : (Jvm.Cond.fieldLink "GeeseKeys" (49 : Nat) "GeeseKeys" "look" "LGeeseKeys$Look;") ∈ lw_all := lw_g (lw_at lw_m1 209 rfl) rfl
theorem q286 : (Jvm.Cond.fieldLink "GeeseKeys" (56 : Nat) "GeeseKeys" "trace" "LGeeseKeys$Trace;") ∈ lw_all := lw_g (lw_at lw_m1 210 rfl) rfl
theorem q287 : (Jvm.Cond.fieldLink "GeeseKeys" (60 : Nat) "GeeseKeys" "seenGeese" "[I") ∈ lw_all := lw_g (lw_at lw_m1 211 rfl) rfl
theorem q288 : (Jvm.Cond.fieldLink "GeeseKeys" (63 : Nat) "GeeseKeys" "seenHours" "[I") ∈ lw_all := lw_g (lw_at lw_m1 212 rfl) rfl
theorem q289 : (Jvm.Cond.fieldLink "GeeseKeys" (66 : Nat) "GeeseKeys" "seenCourts" "[I") ∈ lw_all := lw_g (lw_at lw_m1 213 rfl) rfl
theorem q290 : (Jvm.Cond.fieldLink "GeeseKeys" (69 : Nat) "GeeseKeys" "planWhat" "[I") ∈ lw_all := lw_g (lw_at lw_m1 214 rfl) rfl
theorem q291 : (Jvm.Cond.fieldLink "GeeseKeys" (72 : Nat) "GeeseKeys" "planNumbers" "[I") ∈ lw_all := lw_g (lw_at lw_m1 215 rfl) rfl
theorem q292 : (Jvm.Cond.fieldLink "GeeseKeys" (75 : Nat) "GeeseKeys" "bookCourts" "[I") ∈ lw_all := lw_g (lw_at lw_m1 216 rfl) rfl
theorem q293 : (Jvm.Cond.fieldLink "GeeseKeys" (78 : Nat) "GeeseKeys" "bookGrains" "[I") ∈ lw_all := lw_g (lw_at lw_m1 217 rfl) rfl
theorem q294 : (Jvm.Cond.fieldLink "GeeseKeys" (321 : Nat) "GeeseKeys" "seenMany" "I") ∈ lw_all := lw_g (lw_at lw_m1 218 rfl) rfl
theorem q295 : (Jvm.Cond.fieldLink "GeeseKeys" (343 : Nat) "GeeseKeys" "planMany" "I") ∈ lw_all := lw_g (lw_at lw_m1 219 rfl) rfl
theorem q296 : (Jvm.Cond.fieldLink "GeeseKeys" (352 : Nat) "GeeseKeys" "bookMany" "I") ∈ lw_all := lw_g (lw_at lw_m1 220 rfl) rfl
theorem q297 : (Jvm.Cond.fieldLink "GeeseKeys" (83 : Nat) "GeeseKeys" "tapes" "[LGeeseKeys$Tape;") ∈ lw_all := lw_g (lw_at lw_m1 221 rfl) rfl
theorem q298 : (Jvm.Cond.fieldLink "GeeseKeys" (87 : Nat) "GeeseKeys" "imageNow" "LGeeseKeys$Time;") ∈ lw_all := lw_g (lw_at lw_m1 222 rfl) rfl
theorem q299 : (Jvm.Cond.fieldLink "GeeseKeys" (90 : Nat) "GeeseKeys" "imageGeese" "[LGeeseKeys$Goose;") ∈ lw_all := lw_g (lw_at lw_m1 223 rfl) rfl
theorem q300 : (Jvm.Cond.fieldLink "GeeseKeys" (93 : Nat) "GeeseKeys" "imageRows" "[I") ∈ lw_all := lw_g (lw_at lw_m1 224 rfl) rfl
theorem q301 : (Jvm.Cond.fieldLink "GeeseKeys" (96 : Nat) "GeeseKeys" "imageSeenGeese" "[I") ∈ lw_all := lw_g (lw_at lw_m1 225 rfl) rfl
theorem q302 : (Jvm.Cond.fieldLink "GeeseKeys" (99 : Nat) "GeeseKeys" "imageSeenHours" "[I") ∈ lw_all := lw_g (lw_at lw_m1 226 rfl) rfl
theorem q303 : (Jvm.Cond.fieldLink "GeeseKeys" (102 : Nat) "GeeseKeys" "imageSeenCourts" "[I") ∈ lw_all := lw_g (lw_at lw_m1 227 rfl) rfl
theorem q304 : (Jvm.Cond.fieldLink "GeeseKeys" (105 : Nat) "GeeseKeys" "imagePlanWhat" "[I") ∈ lw_all := lw_g (lw_at lw_m1 228 rfl) rfl
theorem q305 : (Jvm.Cond.fieldLink "GeeseKeys" (108 : Nat) "GeeseKeys" "imagePlanNumbers" "[I") ∈ lw_all := lw_g (lw_at lw_m1 229 rfl) rfl
theorem q306 : (Jvm.Cond.fieldLink "GeeseKeys" (111 : Nat) "GeeseKeys" "imageBookCourts" "[I") ∈ lw_all := lw_g (lw_at lw_m1 230 rfl) rfl
theorem q307 : (Jvm.Cond.fieldLink "GeeseKeys" (114 : Nat) "GeeseKeys" "imageBookGrains" "[I") ∈ lw_all := lw_g (lw_at lw_m1 231 rfl) rfl
theorem q308 : (Jvm.Cond.fieldLink "GeeseKeys" (379 : Nat) "GeeseKeys" "imageSeen" "I") ∈ lw_all := lw_g (lw_at lw_m1 232 rfl) rfl
theorem q309 : (Jvm.Cond.fieldLink "GeeseKeys" (382 : Nat) "GeeseKeys" "imagePlanned" "I") ∈ lw_all := lw_g (lw_at lw_m1 233 rfl) rfl
theorem q310 : (Jvm.Cond.fieldLink "GeeseKeys" (385 : Nat) "GeeseKeys" "imageBooked" "I") ∈ lw_all := lw_g (lw_at lw_m1 234 rfl) rfl
theorem q311 : (Jvm.Cond.fieldLink "GeeseKeys" (388 : Nat) "GeeseKeys" "imageHeld" "LGeeseKeys$Fortress;") ∈ lw_all := lw_g (lw_at lw_m1 235 rfl) rfl
theorem q312 : (Jvm.Cond.laysFinal "GeeseKeys" "GeeseKeys" "geese" "[LGeeseKeys$Goose;") ∈ lw_all := lw_g (lw_at lw_m1 236 rfl) rfl
theorem q313 : (Jvm.Cond.soleField "GeeseKeys" "geese") ∈ lw_all := lw_g (lw_at lw_m1 237 rfl) rfl
theorem q314 : (Jvm.Cond.laysFinal "GeeseKeys" "GeeseKeys" "rows" "[I") ∈ lw_all := lw_g (lw_at lw_m1 238 rfl) rfl
theorem q315 : (Jvm.Cond.soleField "GeeseKeys" "rows") ∈ lw_all := lw_g (lw_at lw_m1 239 rfl) rfl
theorem q316 : (Jvm.Cond.laysFinal "GeeseKeys" "GeeseKeys" "now" "LGeeseKeys$Time;") ∈ lw_all := lw_g (lw_at lw_m2 0 rfl) rfl
theorem q317 : (Jvm.Cond.soleField "GeeseKeys" "now") ∈ lw_all := lw_g (lw_at lw_m2 1 rfl) rfl
theorem q318 : (Jvm.Cond.laysFinal "GeeseKeys" "GeeseKeys" "tried" "LGeeseKeys$Time;") ∈ lw_all := lw_g (lw_at lw_m2 2 rfl) rfl
theorem q319 : (Jvm.Cond.soleField "GeeseKeys" "tried") ∈ lw_all := lw_g (lw_at lw_m2 3 rfl) rfl
theorem q320 : (Jvm.Cond.laysFinal "GeeseKeys" "GeeseKeys" "text" "[B") ∈ lw_all := lw_g (lw_at lw_m2 4 rfl) rfl
theorem q321 : (Jvm.Cond.soleField "GeeseKeys" "text") ∈ lw_all := lw_g (lw_at lw_m2 5 rfl) rfl
theorem q322 : (Jvm.Cond.lays "GeeseKeys" "GeeseKeys" "texted" "I") ∈ lw_all := lw_g (lw_at lw_m2 6 rfl) rfl
theorem q323 : (Jvm.Cond.soleField "GeeseKeys" "texted") ∈ lw_all := lw_g (lw_at lw_m2 7 rfl) rfl
theorem q324 : (Jvm.Cond.lays "GeeseKeys" "GeeseKeys" "fortressMany" "I") ∈ lw_all := lw_g (lw_at lw_m2 8 rfl) rfl
theorem q325 : (Jvm.Cond.soleField "GeeseKeys" "fortressMany") ∈ lw_all := lw_g (lw_at lw_m2 9 rfl) rfl
theorem q326 : (Jvm.Cond.lays "GeeseKeys" "GeeseKeys" "held" "LGeeseKeys$Fortress;") ∈ lw_all := lw_g (lw_at lw_m2 10 rfl) rfl
theorem q327 : (Jvm.Cond.soleField "GeeseKeys" "held") ∈ lw_all := lw_g (lw_at lw_m2 11 rfl) rfl
theorem q328 : (Jvm.Cond.laysFinal "GeeseKeys" "GeeseKeys" "look" "LGeeseKeys$Look;") ∈ lw_all := lw_g (lw_at lw_m2 12 rfl) rfl
theorem q329 : (Jvm.Cond.soleField "GeeseKeys" "look") ∈ lw_all := lw_g (lw_at lw_m2 13 rfl) rfl
theorem q330 : (Jvm.Cond.laysFinal "GeeseKeys" "GeeseKeys" "trace" "LGeeseKeys$Trace;") ∈ lw_all := lw_g (lw_at lw_m2 14 rfl) rfl
theorem q331 : (Jvm.Cond.soleField "GeeseKeys" "trace") ∈ lw_all := lw_g (lw_at lw_m2 15 rfl) rfl
theorem q332 : (Jvm.Cond.laysFinal "GeeseKeys" "GeeseKeys" "seenGeese" "[I") ∈ lw_all := lw_g (lw_at lw_m2 16 rfl) rfl
theorem q333 : (Jvm.Cond.soleField "GeeseKeys" "seenGeese") ∈ lw_all := lw_g (lw_at lw_m2 17 rfl) rfl
theorem q334 : (Jvm.Cond.laysFinal "GeeseKeys" "GeeseKeys" "seenHours" "[I") ∈ lw_all := lw_g (lw_at lw_m2 18 rfl) rfl
theorem q335 : (Jvm.Cond.soleField "GeeseKeys" "seenHours") ∈ lw_all := lw_g (lw_at lw_m2 19 rfl) rfl
theorem q336 : (Jvm.Cond.laysFinal "GeeseKeys" "GeeseKeys" "seenCourts" "[I") ∈ lw_all := lw_g (lw_at lw_m2 20 rfl) rfl
theorem q337 : (Jvm.Cond.soleField "GeeseKeys" "seenCourts") ∈ lw_all := lw_g (lw_at lw_m2 21 rfl) rfl
theorem q338 : (Jvm.Cond.laysFinal "GeeseKeys" "GeeseKeys" "planWhat" "[I") ∈ lw_all := lw_g (lw_at lw_m2 22 rfl) rfl
theorem q339 : (Jvm.Cond.soleField "GeeseKeys" "planWhat") ∈ lw_all := lw_g (lw_at lw_m2 23 rfl) rfl
theorem q340 : (Jvm.Cond.laysFinal "GeeseKeys" "GeeseKeys" "planNumbers" "[I") ∈ lw_all := lw_g (lw_at lw_m2 24 rfl) rfl
theorem q341 : (Jvm.Cond.soleField "GeeseKeys" "planNumbers") ∈ lw_all := lw_g (lw_at lw_m2 25 rfl) rfl
theorem q342 : (Jvm.Cond.laysFinal "GeeseKeys" "GeeseKeys" "bookCourts" "[I") ∈ lw_all := lw_g (lw_at lw_m2 26 rfl) rfl
theorem q343 : (Jvm.Cond.soleField "GeeseKeys" "bookCourts") ∈ lw_all := lw_g (lw_at lw_m2 27 rfl) rfl
theorem q344 : (Jvm.Cond.laysFinal "GeeseKeys" "GeeseKeys" "bookGrains" "[I") ∈ lw_all := lw_g (lw_at lw_m2 28 rfl) rfl
theorem q345 : (Jvm.Cond.soleField "GeeseKeys" "bookGrains") ∈ lw_all := lw_g (lw_at lw_m2 29 rfl) rfl
theorem q346 : (Jvm.Cond.lays "GeeseKeys" "GeeseKeys" "seenMany" "I") ∈ lw_all := lw_g (lw_at lw_m2 30 rfl) rfl
theorem q347 : (Jvm.Cond.soleField "GeeseKeys" "seenMany") ∈ lw_all := lw_g (lw_at lw_m2 31 rfl) rfl
theorem q348 : (Jvm.Cond.lays "GeeseKeys" "GeeseKeys" "planMany" "I") ∈ lw_all := lw_g (lw_at lw_m2 32 rfl) rfl
theorem q349 : (Jvm.Cond.soleField "GeeseKeys" "planMany") ∈ lw_all := lw_g (lw_at lw_m2 33 rfl) rfl
theorem q350 : (Jvm.Cond.lays "GeeseKeys" "GeeseKeys" "bookMany" "I") ∈ lw_all := lw_g (lw_at lw_m2 34 rfl) rfl
theorem q351 : (Jvm.Cond.soleField "GeeseKeys" "bookMany") ∈ lw_all := lw_g (lw_at lw_m2 35 rfl) rfl
theorem q352 : (Jvm.Cond.laysFinal "GeeseKeys" "GeeseKeys" "tapes" "[LGeeseKeys$Tape;") ∈ lw_all := lw_g (lw_at lw_m2 36 rfl) rfl
theorem q353 : (Jvm.Cond.soleField "GeeseKeys" "tapes") ∈ lw_all := lw_g (lw_at lw_m2 37 rfl) rfl
theorem q354 : (Jvm.Cond.laysFinal "GeeseKeys" "GeeseKeys" "imageNow" "LGeeseKeys$Time;") ∈ lw_all := lw_g (lw_at lw_m2 38 rfl) rfl
theorem q355 : (Jvm.Cond.soleField "GeeseKeys" "imageNow") ∈ lw_all := lw_g (lw_at lw_m2 39 rfl) rfl
theorem q356 : (Jvm.Cond.laysFinal "GeeseKeys" "GeeseKeys" "imageGeese" "[LGeeseKeys$Goose;") ∈ lw_all := lw_g (lw_at lw_m2 40 rfl) rfl
theorem q357 : (Jvm.Cond.soleField "GeeseKeys" "imageGeese") ∈ lw_all := lw_g (lw_at lw_m2 41 rfl) rfl
theorem q358 : (Jvm.Cond.laysFinal "GeeseKeys" "GeeseKeys" "imageRows" "[I") ∈ lw_all := lw_g (lw_at lw_m2 42 rfl) rfl
theorem q359 : (Jvm.Cond.soleField "GeeseKeys" "imageRows") ∈ lw_all := lw_g (lw_at lw_m2 43 rfl) rfl
theorem q360 : (Jvm.Cond.laysFinal "GeeseKeys" "GeeseKeys" "imageSeenGeese" "[I") ∈ lw_all := lw_g (lw_at lw_m2 44 rfl) rfl
theorem q361 : (Jvm.Cond.soleField "GeeseKeys" "imageSeenGeese") ∈ lw_all := lw_g (lw_at lw_m2 45 rfl) rfl
theorem q362 : (Jvm.Cond.laysFinal "GeeseKeys" "GeeseKeys" "imageSeenHours" "[I") ∈ lw_all := lw_g (lw_at lw_m2 46 rfl) rfl
theorem q363 : (Jvm.Cond.soleField "GeeseKeys" "imageSeenHours") ∈ lw_all := lw_g (lw_at lw_m2 47 rfl) rfl
theorem q364 : (Jvm.Cond.laysFinal "GeeseKeys" "GeeseKeys" "imageSeenCourts" "[I") ∈ lw_all := lw_g (lw_at lw_m2 48 rfl) rfl
theorem q365 : (Jvm.Cond.soleField "GeeseKeys" "imageSeenCourts") ∈ lw_all := lw_g (lw_at lw_m2 49 rfl) rfl
theorem q366 : (Jvm.Cond.laysFinal "GeeseKeys" "GeeseKeys" "imagePlanWhat" "[I") ∈ lw_all := lw_g (lw_at lw_m2 50 rfl) rfl
theorem q367 : (Jvm.Cond.soleField "GeeseKeys" "imagePlanWhat") ∈ lw_all := lw_g (lw_at lw_m2 51 rfl) rfl
theorem q368 : (Jvm.Cond.laysFinal "GeeseKeys" "GeeseKeys" "imagePlanNumbers" "[I") ∈ lw_all := lw_g (lw_at lw_m2 52 rfl) rfl
theorem q369 : (Jvm.Cond.soleField "GeeseKeys" "imagePlanNumbers") ∈ lw_all := lw_g (lw_at lw_m2 53 rfl) rfl
theorem q370 : (Jvm.Cond.laysFinal "GeeseKeys" "GeeseKeys" "imageBookCourts" "[I") ∈ lw_all := lw_g (lw_at lw_m2 54 rfl) rfl
theorem q371 : (Jvm.Cond.soleField "GeeseKeys" "imageBookCourts") ∈ lw_all := lw_g (lw_at lw_m2 55 rfl) rfl
theorem q372 : (Jvm.Cond.laysFinal "GeeseKeys" "GeeseKeys" "imageBookGrains" "[I") ∈ lw_all := lw_g (lw_at lw_m2 56 rfl) rfl
theorem q373 : (Jvm.Cond.soleField "GeeseKeys" "imageBookGrains") ∈ lw_all := lw_g (lw_at lw_m2 57 rfl) rfl
theorem q374 : (Jvm.Cond.lays "GeeseKeys" "GeeseKeys" "imageSeen" "I") ∈ lw_all := lw_g (lw_at lw_m2 58 rfl) rfl
theorem q375 : (Jvm.Cond.soleField "GeeseKeys" "imageSeen") ∈ lw_all := lw_g (lw_at lw_m2 59 rfl) rfl
theorem q376 : (Jvm.Cond.lays "GeeseKeys" "GeeseKeys" "imagePlanned" "I") ∈ lw_all := lw_g (lw_at lw_m2 60 rfl) rfl
theorem q377 : (Jvm.Cond.soleField "GeeseKeys" "imagePlanned") ∈ lw_all := lw_g (lw_at lw_m2 61 rfl) rfl
theorem q378 : (Jvm.Cond.lays "GeeseKeys" "GeeseKeys" "imageBooked" "I") ∈ lw_all := lw_g (lw_at lw_m2 62 rfl) rfl
theorem q379 : (Jvm.Cond.soleField "GeeseKeys" "imageBooked") ∈ lw_all := lw_g (lw_at lw_m2 63 rfl) rfl
theorem q380 : (Jvm.Cond.lays "GeeseKeys" "GeeseKeys" "imageHeld" "LGeeseKeys$Fortress;") ∈ lw_all := lw_g (lw_at lw_m2 64 rfl) rfl
theorem q381 : (Jvm.Cond.soleField "GeeseKeys" "imageHeld") ∈ lw_all := lw_g (lw_at lw_m2 65 rfl) rfl
theorem q382 : (Jvm.Cond.superclass "GeeseKeys" "java/lang/Object") ∈ lw_all := lw_g (lw_at lw_m2 66 rfl) rfl
theorem q384 : (Jvm.Cond.instanceMethod ({ cls := "GeeseKeys", name := "gate", desc := "(II)I" } : Jvm.MethodName)) ∈ lw_all := lw_g (lw_at lw_m2 68 rfl) rfl
theorem q385 : (Jvm.Cond.selects "GeeseKeys" ({ cls := "GeeseKeys", name := "gate", desc := "(II)I" } : Jvm.MethodName) ({ cls := "GeeseKeys", name := "gate", desc := "(II)I" } : Jvm.MethodName)) ∈ lw_all := lw_g (lw_at lw_m2 69 rfl) rfl
theorem q386 : (Jvm.Cond.code ({ cls := "GeeseKeys", name := "gate", desc := "(II)I" } : Jvm.MethodName) prog_1_method_11_code (3 : Nat) (Option.some Jvm.ClassFile.FieldType.int)) ∈ lw_all := lw_g (lw_at lw_m2 70 rfl) rfl
theorem q387 : (Jvm.Cond.methodLink "GeeseKeys" (148 : Nat) ({ cls := "GeeseKeys", name := "isCourt", desc := "(I)Z" } : Jvm.MethodName)) ∈ lw_all := lw_g (lw_at lw_m2 71 rfl) rfl
theorem q388 : (Jvm.Cond.static ({ cls := "GeeseKeys", name := "isCourt", desc := "(I)Z" } : Jvm.MethodName)) ∈ lw_all := lw_g (lw_at lw_m2 72 rfl) rfl
theorem q389 : (Jvm.Cond.code ({ cls := "GeeseKeys", name := "isCourt", desc := "(I)Z" } : Jvm.MethodName) prog_1_method_3_code (1 : Nat) (Option.some Jvm.ClassFile.FieldType.boolean)) ∈ lw_all := lw_g (lw_at lw_m2 73 rfl) rfl
theorem q390 : (Jvm.Cond.methodLink "GeeseKeys" (5 : Nat) ({ cls := "GeeseKeys", name := "in", desc := "(III)Z" } : Jvm.MethodName)) ∈ lw_all := lw_g (lw_at lw_m2 74 rfl) rfl
theorem q391 : (Jvm.Cond.static ({ cls := "GeeseKeys", name := "in", desc := "(III)Z" } : Jvm.MethodName)) ∈ lw_all := lw_g (lw_at lw_m2 75 rfl) rfl
theorem q392 : (Jvm.Cond.code ({ cls := "GeeseKeys", name := "in", desc := "(III)Z" } : Jvm.MethodName) prog_1_method_1_code (3 : Nat) (Option.some Jvm.ClassFile.FieldType.boolean)) ∈ lw_all := lw_g (lw_at lw_m2 76 rfl) rfl
theorem q394 : (Jvm.Cond.instanceMethod ({ cls := "GeeseKeys", name := "goose", desc := "(IIII)I" } : Jvm.MethodName)) ∈ lw_all := lw_g (lw_at lw_m2 78 rfl) rfl
theorem q395 : (Jvm.Cond.selects "GeeseKeys" ({ cls := "GeeseKeys", name := "goose", desc := "(IIII)I" } : Jvm.MethodName) ({ cls := "GeeseKeys", name := "goose", desc := "(IIII)I" } : Jvm.MethodName)) ∈ lw_all := lw_g (lw_at lw_m2 79 rfl) rfl
theorem q396 : (Jvm.Cond.code ({ cls := "GeeseKeys", name := "goose", desc := "(IIII)I" } : Jvm.MethodName) prog_1_method_13_code (7 : Nat) (Option.some Jvm.ClassFile.FieldType.int)) ∈ lw_all := lw_g (lw_at lw_m2 80 rfl) rfl
theorem q397 : (Jvm.Cond.methodLink "GeeseKeys" (158 : Nat) ({ cls := "GeeseKeys", name := "isKey", desc := "(I)Z" } : Jvm.MethodName)) ∈ lw_all := lw_g (lw_at lw_m2 81 rfl) rfl
theorem q398 : (Jvm.Cond.static ({ cls := "GeeseKeys", name := "isKey", desc := "(I)Z" } : Jvm.MethodName)) ∈ lw_all := lw_g (lw_at lw_m2 82 rfl) rfl
theorem q399 : (Jvm.Cond.code ({ cls := "GeeseKeys", name := "isKey", desc := "(I)Z" } : Jvm.MethodName) prog_1_method_4_code (1 : Nat) (Option.some Jvm.ClassFile.FieldType.boolean)) ∈ lw_all := lw_g (lw_at lw_m2 83 rfl) rfl
theorem q400 : (Jvm.Cond.methodLink "GeeseKeys" (161 : Nat) ({ cls := "GeeseKeys", name := "gooseOf", desc := "(II)LGeeseKeys$Goose;" } : Jvm.MethodName)) ∈ lw_all := lw_g (lw_at lw_m2 84 rfl) rfl
theorem q401 : (Jvm.Cond.privateMethod ({ cls := "GeeseKeys", name := "gooseOf", desc := "(II)LGeeseKeys$Goose;" } : Jvm.MethodName)) ∈ lw_tbl := lw_at lw_m2 85 rfl
theorem q402 : (Jvm.Cond.instanceMethod ({ cls := "GeeseKeys", name := "gooseOf", desc := "(II)LGeeseKeys$Goose;" } : Jvm.MethodName)) ∈ lw_all := lw_g (lw_at lw_m2 86 rfl) rfl
theorem q403 : (Jvm.Cond.code ({ cls := "GeeseKeys", name := "gooseOf", desc := "(II)LGeeseKeys$Goose;" } : Jvm.MethodName) prog_1_method_10_code (3 : Nat) (Option.some (Jvm.ClassFile.FieldType.object "GeeseKeys$Goose"))) ∈ lw_all := lw_g (lw_at lw_m2 87 rfl) rfl
theorem q404 : (Jvm.Cond.classLink "GeeseKeys" (125 : Nat) "GeeseKeys$Gander") ∈ lw_all := lw_g (lw_at lw_m2 88 rfl) rfl
theorem q406 : (Jvm.Cond.methodLink "GeeseKeys" (127 : Nat) ({ cls := "GeeseKeys$Gander", name := "<init>", desc := "(LGeeseKeys$Trace;II)V" } : Jvm.MethodName)) ∈ lw_all := lw_g (lw_at lw_m2 90 rfl) rfl
theorem q436 : (Jvm.Cond.fieldLink "GeeseKeys" (187 : Nat) "GeeseKeys$Goose" "v" "I") ∈ lw_all := lw_g (lw_at lw_m2 120 rfl) rfl
theorem q444 : (Jvm.Cond.classLink "GeeseKeys" (130 : Nat) "GeeseKeys$Gosling") ∈ lw_all := lw_g (lw_at lw_m2 128 rfl) rfl
theorem q446 : (Jvm.Cond.methodLink "GeeseKeys" (132 : Nat) ({ cls := "GeeseKeys$Gosling", name := "<init>", desc := "(LGeeseKeys$Trace;II)V" } : Jvm.MethodName)) ∈ lw_all := lw_g (lw_at lw_m2 130 rfl) rfl
theorem q454 : (Jvm.Cond.classLink "GeeseKeys" (133 : Nat) "GeeseKeys$Old") ∈ lw_all := lw_g (lw_at lw_m2 138 rfl) rfl
theorem q456 : (Jvm.Cond.methodLink "GeeseKeys" (135 : Nat) ({ cls := "GeeseKeys$Old", name := "<init>", desc := "(LGeeseKeys$Trace;II)V" } : Jvm.MethodName)) ∈ lw_all := lw_g (lw_at lw_m2 140 rfl) rfl
theorem q464 : (Jvm.Cond.classLink "GeeseKeys" (136 : Nat) "GeeseKeys$Sentry") ∈ lw_all := lw_g (lw_at lw_m2 148 rfl) rfl
theorem q466 : (Jvm.Cond.methodLink "GeeseKeys" (138 : Nat) ({ cls := "GeeseKeys$Sentry", name := "<init>", desc := "(LGeeseKeys$Trace;II)V" } : Jvm.MethodName)) ∈ lw_all := lw_g (lw_at lw_m2 150 rfl) rfl
theorem q474 : (Jvm.Cond.classLink "GeeseKeys" (139 : Nat) "GeeseKeys$Larder") ∈ lw_all := lw_g (lw_at lw_m2 158 rfl) rfl
theorem q476 : (Jvm.Cond.methodLink "GeeseKeys" (141 : Nat) ({ cls := "GeeseKeys$Larder", name := "<init>", desc := "(LGeeseKeys$Trace;II)V" } : Jvm.MethodName)) ∈ lw_all := lw_g (lw_at lw_m2 160 rfl) rfl
theorem q484 : (Jvm.Cond.classLink "GeeseKeys" (142 : Nat) "GeeseKeys$Told") ∈ lw_all := lw_g (lw_at lw_m2 168 rfl) rfl
theorem q486 : (Jvm.Cond.methodLink "GeeseKeys" (144 : Nat) ({ cls := "GeeseKeys$Told", name := "<init>", desc := "(LGeeseKeys$Trace;II[I)V" } : Jvm.MethodName)) ∈ lw_all := lw_g (lw_at lw_m2 170 rfl) rfl
theorem q498 : (Jvm.Cond.methodLink "GeeseKeys" (147 : Nat) ({ cls := "GeeseKeys$Goose", name := "<init>", desc := "(LGeeseKeys$Trace;II)V" } : Jvm.MethodName)) ∈ lw_all := lw_g (lw_at lw_m2 182 rfl) rfl
theorem q503 : (Jvm.Cond.methodLink "GeeseKeys" (171 : Nat) ({ cls := "GeeseKeys", name := "keyOf", desc := "(I)B" } : Jvm.MethodName)) ∈ lw_all := lw_g (lw_at lw_m2 187 rfl) rfl
theorem q504 : (Jvm.Cond.static ({ cls := "GeeseKeys", name := "keyOf", desc := "(I)B" } : Jvm.MethodName)) ∈ lw_all := lw_g (lw_at lw_m2 188 rfl) rfl
theorem q505 : (Jvm.Cond.code ({ cls := "GeeseKeys", name := "keyOf", desc := "(I)B" } : Jvm.MethodName) prog_1_method_12_code (1 : Nat) (Option.some Jvm.ClassFile.FieldType.byte)) ∈ lw_all := lw_g (lw_at lw_m2 189 rfl) rfl
theorem q507 : (Jvm.Cond.instanceMethod ({ cls := "GeeseKeys", name := "of", desc := "(II)I" } : Jvm.MethodName)) ∈ lw_all := lw_g (lw_at lw_m2 191 rfl) rfl
theorem q508 : (Jvm.Cond.selects "GeeseKeys" ({ cls := "GeeseKeys", name := "of", desc := "(II)I" } : Jvm.MethodName) ({ cls := "GeeseKeys", name := "of", desc := "(II)I" } : Jvm.MethodName)) ∈ lw_all := lw_g (lw_at lw_m2 192 rfl) rfl
theorem q509 : (Jvm.Cond.code ({ cls := "GeeseKeys", name := "of", desc := "(II)I" } : Jvm.MethodName) prog_1_method_16_code (3 : Nat) (Option.some Jvm.ClassFile.FieldType.int)) ∈ lw_all := lw_g (lw_at lw_m2 193 rfl) rfl
theorem q510 : (Jvm.Cond.methodLink "GeeseKeys" (229 : Nat) ({ cls := "GeeseKeys", name := "isGoose", desc := "(I)Z" } : Jvm.MethodName)) ∈ lw_all := lw_g (lw_at lw_m2 194 rfl) rfl
theorem q511 : (Jvm.Cond.privateMethod ({ cls := "GeeseKeys", name := "isGoose", desc := "(I)Z" } : Jvm.MethodName)) ∈ lw_tbl := lw_at lw_m2 195 rfl
theorem q512 : (Jvm.Cond.instanceMethod ({ cls := "GeeseKeys", name := "isGoose", desc := "(I)Z" } : Jvm.MethodName)) ∈ lw_all := lw_g (lw_at lw_m2 196 rfl) rfl
theorem q513 : (Jvm.Cond.code ({ cls := "GeeseKeys", name := "isGoose", desc := "(I)Z" } : Jvm.MethodName) prog_1_method_8_code (2 : Nat) (Option.some Jvm.ClassFile.FieldType.boolean)) ∈ lw_all := lw_g (lw_at lw_m2 197 rfl) rfl
theorem q514 : (Jvm.Cond.methodLink "GeeseKeys" (181 : Nat) ({ cls := "GeeseKeys$Goose", name := "kind", desc := "()I" } : Jvm.MethodName)) ∈ lw_all := lw_g (lw_at lw_m2 198 rfl) rfl
theorem q537 : (Jvm.Cond.methodLink "GeeseKeys" (232 : Nat) ({ cls := "GeeseKeys$Time", name := "isTaken", desc := "(I)Z" } : Jvm.MethodName)) ∈ lw_all := lw_g (lw_at lw_m2 221 rfl) rfl
theorem q542 : (Jvm.Cond.static ({ cls := "GeeseKeys", name := "isIn", desc := "(II)Z" } : Jvm.MethodName)) ∈ lw_all := lw_g (lw_at lw_m2 226 rfl) rfl
theorem q543 : (Jvm.Cond.code ({ cls := "GeeseKeys", name := "isIn", desc := "(II)Z" } : Jvm.MethodName) prog_1_method_2_code (2 : Nat) (Option.some Jvm.ClassFile.FieldType.boolean)) ∈ lw_all := lw_g (lw_at lw_m2 227 rfl) rfl
theorem q544 : (Jvm.Cond.methodLink "GeeseKeys" (235 : Nat) ({ cls := "GeeseKeys", name := "whereTo", desc := "(LGeeseKeys$Time;I)I" } : Jvm.MethodName)) ∈ lw_all := lw_g (lw_at lw_m2 228 rfl) rfl
theorem q545 : (Jvm.Cond.privateMethod ({ cls := "GeeseKeys", name := "whereTo", desc := "(LGeeseKeys$Time;I)I" } : Jvm.MethodName)) ∈ lw_tbl := lw_at lw_m2 229 rfl
theorem q546 : (Jvm.Cond.instanceMethod ({ cls := "GeeseKeys", name := "whereTo", desc := "(LGeeseKeys$Time;I)I" } : Jvm.MethodName)) ∈ lw_all := lw_g (lw_at lw_m2 230 rfl) rfl
theorem q547 : (Jvm.Cond.code ({ cls := "GeeseKeys", name := "whereTo", desc := "(LGeeseKeys$Time;I)I" } : Jvm.MethodName) prog_1_method_15_code (8 : Nat) (Option.some Jvm.ClassFile.FieldType.int)) ∈ lw_all := lw_g (lw_at lw_m2 231 rfl) rfl
theorem q548 : (Jvm.Cond.methodLink "GeeseKeys" (218 : Nat) ({ cls := "GeeseKeys", name := "pullOf", desc := "(LGeeseKeys$Time;II)I" } : Jvm.MethodName)) ∈ lw_all := lw_g (lw_at lw_m2 232 rfl) rfl
theorem q549 : (Jvm.Cond.privateMethod ({ cls := "GeeseKeys", name := "pullOf", desc := "(LGeeseKeys$Time;II)I" } : Jvm.MethodName)) ∈ lw_tbl := lw_at lw_m2 233 rfl
theorem q550 : (Jvm.Cond.instanceMethod ({ cls := "GeeseKeys", name := "pullOf", desc := "(LGeeseKeys$Time;II)I" } : Jvm.MethodName)) ∈ lw_all := lw_g (lw_at lw_m2 234 rfl) rfl
theorem q551 : (Jvm.Cond.code ({ cls := "GeeseKeys", name := "pullOf", desc := "(LGeeseKeys$Time;II)I" } : Jvm.MethodName) prog_1_method_14_code (4 : Nat) (Option.some Jvm.ClassFile.FieldType.int)) ∈ lw_all := lw_g (lw_at lw_m2 235 rfl) rfl
theorem q552 : (Jvm.Cond.methodLink "GeeseKeys" (203 : Nat) ({ cls := "GeeseKeys$Fortress", name := "more", desc := "(LGeeseKeys$Look;)I" } : Jvm.MethodName)) ∈ lw_all := lw_g (lw_at lw_m2 236 rfl) rfl
theorem q596 : (Jvm.Cond.methodLink "GeeseKeys" (207 : Nat) ({ cls := "GeeseKeys$Time", name := "isWithOther", desc := "(II)Z" } : Jvm.MethodName)) ∈ lw_all := lw_g (lw_at lw_m3 40 rfl) rfl
theorem q601 : (Jvm.Cond.methodLink "GeeseKeys" (211 : Nat) ({ cls := "GeeseKeys$Time", name := "isGuard", desc := "(II)Z" } : Jvm.MethodName)) ∈ lw_all := lw_g (lw_at lw_m3 45 rfl) rfl
theorem q609 : (Jvm.Cond.methodLink "GeeseKeys" (214 : Nat) ({ cls := "GeeseKeys$Goose", name := "feels", desc := "(IIZZZ)I" } : Jvm.MethodName)) ∈ lw_all := lw_g (lw_at lw_m3 53 rfl) rfl
theorem q638 : (Jvm.Cond.methodLink "GeeseKeys" (222 : Nat) ({ cls := "GeeseKeys$Time", name := "besides", desc := "(I)I" } : Jvm.MethodName)) ∈ lw_all := lw_g (lw_at lw_m3 82 rfl) rfl
theorem q642 : (Jvm.Cond.methodLink "GeeseKeys" (226 : Nat) ({ cls := "GeeseKeys", name := "isIn", desc := "(II)Z" } : Jvm.MethodName)) ∈ lw_all := lw_g (lw_at lw_m3 86 rfl) rfl
theorem q644 : (Jvm.Cond.instanceMethod ({ cls := "GeeseKeys", name := "key", desc := "(II)I" } : Jvm.MethodName)) ∈ lw_all := lw_g (lw_at lw_m3 88 rfl) rfl
theorem q645 : (Jvm.Cond.selects "GeeseKeys" ({ cls := "GeeseKeys", name := "key", desc := "(II)I" } : Jvm.MethodName) ({ cls := "GeeseKeys", name := "key", desc := "(II)I" } : Jvm.MethodName)) ∈ lw_all := lw_g (lw_at lw_m3 89 rfl) rfl
theorem q646 : (Jvm.Cond.code ({ cls := "GeeseKeys", name := "key", desc := "(II)I" } : Jvm.MethodName) prog_1_method_17_code (4 : Nat) (Option.some Jvm.ClassFile.FieldType.int)) ∈ lw_all := lw_g (lw_at lw_m3 90 rfl) rfl
theorem q648 : (Jvm.Cond.instanceMethod ({ cls := "GeeseKeys", name := "put", desc := "(II)I" } : Jvm.MethodName)) ∈ lw_all := lw_g (lw_at lw_m3 92 rfl) rfl
theorem q649 : (Jvm.Cond.selects "GeeseKeys" ({ cls := "GeeseKeys", name := "put", desc := "(II)I" } : Jvm.MethodName) ({ cls := "GeeseKeys", name := "put", desc := "(II)I" } : Jvm.MethodName)) ∈ lw_all := lw_g (lw_at lw_m3 93 rfl) rfl
theorem q650 : (Jvm.Cond.code ({ cls := "GeeseKeys", name := "put", desc := "(II)I" } : Jvm.MethodName) prog_1_method_18_code (4 : Nat) (Option.some Jvm.ClassFile.FieldType.int)) ∈ lw_all := lw_g (lw_at lw_m3 94 rfl) rfl
theorem q652 : (Jvm.Cond.instanceMethod ({ cls := "GeeseKeys", name := "take", desc := "(IZ)I" } : Jvm.MethodName)) ∈ lw_all := lw_g (lw_at lw_m3 96 rfl) rfl
theorem q653 : (Jvm.Cond.selects "GeeseKeys" ({ cls := "GeeseKeys", name := "take", desc := "(IZ)I" } : Jvm.MethodName) ({ cls := "GeeseKeys", name := "take", desc := "(IZ)I" } : Jvm.MethodName)) ∈ lw_all := lw_g (lw_at lw_m3 97 rfl) rfl
theorem q654 : (Jvm.Cond.code ({ cls := "GeeseKeys", name := "take", desc := "(IZ)I" } : Jvm.MethodName) prog_1_method_19_code (4 : Nat) (Option.some Jvm.ClassFile.FieldType.int)) ∈ lw_all := lw_g (lw_at lw_m3 98 rfl) rfl
theorem q656 : (Jvm.Cond.instanceMethod ({ cls := "GeeseKeys", name := "grain", desc := "(II)I" } : Jvm.MethodName)) ∈ lw_all := lw_g (lw_at lw_m3 100 rfl) rfl
theorem q657 : (Jvm.Cond.selects "GeeseKeys" ({ cls := "GeeseKeys", name := "grain", desc := "(II)I" } : Jvm.MethodName) ({ cls := "GeeseKeys", name := "grain", desc := "(II)I" } : Jvm.MethodName)) ∈ lw_all := lw_g (lw_at lw_m3 101 rfl) rfl
theorem q658 : (Jvm.Cond.code ({ cls := "GeeseKeys", name := "grain", desc := "(II)I" } : Jvm.MethodName) prog_1_method_20_code (4 : Nat) (Option.some Jvm.ClassFile.FieldType.int)) ∈ lw_all := lw_g (lw_at lw_m3 102 rfl) rfl
theorem q659 : (Jvm.Cond.methodLink "GeeseKeys" (239 : Nat) ({ cls := "GeeseKeys", name := "isGrain", desc := "(I)Z" } : Jvm.MethodName)) ∈ lw_all := lw_g (lw_at lw_m3 103 rfl) rfl
theorem q660 : (Jvm.Cond.static ({ cls := "GeeseKeys", name := "isGrain", desc := "(I)Z" } : Jvm.MethodName)) ∈ lw_all := lw_g (lw_at lw_m3 104 rfl) rfl
theorem q661 : (Jvm.Cond.code ({ cls := "GeeseKeys", name := "isGrain", desc := "(I)Z" } : Jvm.MethodName) prog_1_method_5_code (1 : Nat) (Option.some Jvm.ClassFile.FieldType.boolean)) ∈ lw_all := lw_g (lw_at lw_m3 105 rfl) rfl
theorem q663 : (Jvm.Cond.instanceMethod ({ cls := "GeeseKeys", name := "row", desc := "(III)I" } : Jvm.MethodName)) ∈ lw_all := lw_g (lw_at lw_m3 107 rfl) rfl
theorem q664 : (Jvm.Cond.selects "GeeseKeys" ({ cls := "GeeseKeys", name := "row", desc := "(III)I" } : Jvm.MethodName) ({ cls := "GeeseKeys", name := "row", desc := "(III)I" } : Jvm.MethodName)) ∈ lw_all := lw_g (lw_at lw_m3 108 rfl) rfl
theorem q665 : (Jvm.Cond.code ({ cls := "GeeseKeys", name := "row", desc := "(III)I" } : Jvm.MethodName) prog_1_method_21_code (5 : Nat) (Option.some Jvm.ClassFile.FieldType.int)) ∈ lw_all := lw_g (lw_at lw_m3 109 rfl) rfl
theorem q667 : (Jvm.Cond.instanceMethod ({ cls := "GeeseKeys", name := "feed", desc := "(I)I" } : Jvm.MethodName)) ∈ lw_all := lw_g (lw_at lw_m3 111 rfl) rfl
theorem q668 : (Jvm.Cond.selects "GeeseKeys" ({ cls := "GeeseKeys", name := "feed", desc := "(I)I" } : Jvm.MethodName) ({ cls := "GeeseKeys", name := "feed", desc := "(I)I" } : Jvm.MethodName)) ∈ lw_all := lw_g (lw_at lw_m3 112 rfl) rfl
theorem q669 : (Jvm.Cond.code ({ cls := "GeeseKeys", name := "feed", desc := "(I)I" } : Jvm.MethodName) prog_1_method_22_code (2 : Nat) (Option.some Jvm.ClassFile.FieldType.int)) ∈ lw_all := lw_g (lw_at lw_m3 113 rfl) rfl
theorem q671 : (Jvm.Cond.instanceMethod ({ cls := "GeeseKeys", name := "fortress", desc := "()I" } : Jvm.MethodName)) ∈ lw_all := lw_g (lw_at lw_m3 115 rfl) rfl
theorem q672 : (Jvm.Cond.selects "GeeseKeys" ({ cls := "GeeseKeys", name := "fortress", desc := "()I" } : Jvm.MethodName) ({ cls := "GeeseKeys", name := "fortress", desc := "()I" } : Jvm.MethodName)) ∈ lw_all := lw_g (lw_at lw_m3 116 rfl) rfl
theorem q673 : (Jvm.Cond.codeWith ({ cls := "GeeseKeys", name := "fortress", desc := "()I" } : Jvm.MethodName) prog_1_method_23_code (3 : Nat) (Option.some Jvm.ClassFile.FieldType.int) [((22 : Nat), (52 : Nat), (53 : Nat), (257 : Nat))]) ∈ lw_all := lw_g (lw_at lw_m3 117 rfl) rfl
theorem q674 : (Jvm.Cond.classLink "GeeseKeys" (257 : Nat) "GeeseKeys$Off") ∈ lw_all := lw_g (lw_at lw_m3 118 rfl) rfl
theorem q675 : (Jvm.Cond.classLink "GeeseKeys" (248 : Nat) "GeeseKeys$Reader") ∈ lw_all := lw_g (lw_at lw_m3 119 rfl) rfl
theorem q677 : (Jvm.Cond.methodLink "GeeseKeys" (250 : Nat) ({ cls := "GeeseKeys$Reader", name := "<init>", desc := "([BI)V" } : Jvm.MethodName)) ∈ lw_all := lw_g (lw_at lw_m3 121 rfl) rfl
theorem q699 : (Jvm.Cond.methodLink "GeeseKeys" (253 : Nat) ({ cls := "GeeseKeys$Reader", name := "whole", desc := "()LGeeseKeys$Fortress;" } : Jvm.MethodName)) ∈ lw_all := lw_g (lw_at lw_m3 143 rfl) rfl
theorem q842 : (Jvm.Cond.fieldLinkNest "GeeseKeys" (259 : Nat) "GeeseKeys$Off" "place" "I" "GeeseKeys") ∈ lw_tbl := lw_at lw_m4 46 rfl
theorem q958 : (Jvm.Cond.selects "GeeseKeys" ({ cls := "java/lang/Object", name := "getClass", desc := "()Ljava/lang/Class;" } : Jvm.MethodName) ({ cls := "java/lang/Object", name := "getClass", desc := "()Ljava/lang/Class;" } : Jvm.MethodName)) ∈ lw_all := lw_g (lw_at lw_m4 162 rfl) rfl
theorem q1015 : (Jvm.Cond.instanceMethod ({ cls := "GeeseKeys", name := "pass", desc := "(I)I" } : Jvm.MethodName)) ∈ lw_all := lw_g (lw_at lw_m4 219 rfl) rfl
theorem q1016 : (Jvm.Cond.selects "GeeseKeys" ({ cls := "GeeseKeys", name := "pass", desc := "(I)I" } : Jvm.MethodName) ({ cls := "GeeseKeys", name := "pass", desc := "(I)I" } : Jvm.MethodName)) ∈ lw_all := lw_g (lw_at lw_m4 220 rfl) rfl
theorem q1017 : (Jvm.Cond.code ({ cls := "GeeseKeys", name := "pass", desc := "(I)I" } : Jvm.MethodName) prog_1_method_25_code (3 : Nat) (Option.some Jvm.ClassFile.FieldType.int)) ∈ lw_all := lw_g (lw_at lw_m4 221 rfl) rfl
theorem q1018 : (Jvm.Cond.methodLink "GeeseKeys" (269 : Nat) ({ cls := "GeeseKeys", name := "isOn", desc := "(I)Z" } : Jvm.MethodName)) ∈ lw_all := lw_g (lw_at lw_m4 222 rfl) rfl
theorem q1019 : (Jvm.Cond.static ({ cls := "GeeseKeys", name := "isOn", desc := "(I)Z" } : Jvm.MethodName)) ∈ lw_all := lw_g (lw_at lw_m4 223 rfl) rfl
theorem q1020 : (Jvm.Cond.code ({ cls := "GeeseKeys", name := "isOn", desc := "(I)Z" } : Jvm.MethodName) prog_1_method_6_code (1 : Nat) (Option.some Jvm.ClassFile.FieldType.boolean)) ∈ lw_all := lw_g (lw_at lw_m4 224 rfl) rfl
theorem q1021 : (Jvm.Cond.methodLink "GeeseKeys" (272 : Nat) ({ cls := "GeeseKeys", name := "goes", desc := "(LGeeseKeys$Time;)V" } : Jvm.MethodName)) ∈ lw_all := lw_g (lw_at lw_m4 225 rfl) rfl
theorem q1022 : (Jvm.Cond.privateMethod ({ cls := "GeeseKeys", name := "goes", desc := "(LGeeseKeys$Time;)V" } : Jvm.MethodName)) ∈ lw_tbl := lw_at lw_m4 226 rfl
theorem q1023 : (Jvm.Cond.instanceMethod ({ cls := "GeeseKeys", name := "goes", desc := "(LGeeseKeys$Time;)V" } : Jvm.MethodName)) ∈ lw_all := lw_g (lw_at lw_m4 227 rfl) rfl
theorem q1024 : (Jvm.Cond.code ({ cls := "GeeseKeys", name := "goes", desc := "(LGeeseKeys$Time;)V" } : Jvm.MethodName) prog_1_method_24_code (3 : Nat) (Option.none : Option Jvm.ClassFile.FieldType)) ∈ lw_all := lw_g (lw_at lw_m4 228 rfl) rfl
theorem q1025 : (Jvm.Cond.methodLink "GeeseKeys" (265 : Nat) ({ cls := "GeeseKeys$Time", name := "brings", desc := "(II)V" } : Jvm.MethodName)) ∈ lw_all := lw_g (lw_at lw_m4 229 rfl) rfl
theorem q1032 : (Jvm.Cond.instanceMethod ({ cls := "GeeseKeys", name := "on", desc := "(II)I" } : Jvm.MethodName)) ∈ lw_all := lw_g (lw_at lw_m4 236 rfl) rfl
theorem q1033 : (Jvm.Cond.selects "GeeseKeys" ({ cls := "GeeseKeys", name := "on", desc := "(II)I" } : Jvm.MethodName) ({ cls := "GeeseKeys", name := "on", desc := "(II)I" } : Jvm.MethodName)) ∈ lw_all := lw_g (lw_at lw_m4 237 rfl) rfl
theorem q1034 : (Jvm.Cond.code ({ cls := "GeeseKeys", name := "on", desc := "(II)I" } : Jvm.MethodName) prog_1_method_28_code (3 : Nat) (Option.some Jvm.ClassFile.FieldType.int)) ∈ lw_all := lw_g (lw_at lw_m4 238 rfl) rfl
theorem q1035 : (Jvm.Cond.methodLink "GeeseKeys" (283 : Nat) ({ cls := "GeeseKeys", name := "tries", desc := "(I)V" } : Jvm.MethodName)) ∈ lw_all := lw_g (lw_at lw_m4 239 rfl) rfl
theorem q1036 : (Jvm.Cond.privateMethod ({ cls := "GeeseKeys", name := "tries", desc := "(I)V" } : Jvm.MethodName)) ∈ lw_tbl := lw_at lw_m5 0 rfl
theorem q1037 : (Jvm.Cond.instanceMethod ({ cls := "GeeseKeys", name := "tries", desc := "(I)V" } : Jvm.MethodName)) ∈ lw_all := lw_g (lw_at lw_m5 1 rfl) rfl
theorem q1038 : (Jvm.Cond.code ({ cls := "GeeseKeys", name := "tries", desc := "(I)V" } : Jvm.MethodName) prog_1_method_27_code (2 : Nat) (Option.none : Option Jvm.ClassFile.FieldType)) ∈ lw_all := lw_g (lw_at lw_m5 2 rfl) rfl
theorem q1039 : (Jvm.Cond.methodLink "GeeseKeys" (276 : Nat) ({ cls := "GeeseKeys$Time", name := "takes", desc := "(LGeeseKeys$Time;)V" } : Jvm.MethodName)) ∈ lw_all := lw_g (lw_at lw_m5 3 rfl) rfl
theorem q1044 : (Jvm.Cond.methodLink "GeeseKeys" (279 : Nat) ({ cls := "GeeseKeys", name := "goesOn", desc := "(I)V" } : Jvm.MethodName)) ∈ lw_all := lw_g (lw_at lw_m5 8 rfl) rfl
theorem q1045 : (Jvm.Cond.privateMethod ({ cls := "GeeseKeys", name := "goesOn", desc := "(I)V" } : Jvm.MethodName)) ∈ lw_tbl := lw_at lw_m5 9 rfl
theorem q1046 : (Jvm.Cond.instanceMethod ({ cls := "GeeseKeys", name := "goesOn", desc := "(I)V" } : Jvm.MethodName)) ∈ lw_all := lw_g (lw_at lw_m5 10 rfl) rfl
theorem q1047 : (Jvm.Cond.code ({ cls := "GeeseKeys", name := "goesOn", desc := "(I)V" } : Jvm.MethodName) prog_1_method_26_code (3 : Nat) (Option.none : Option Jvm.ClassFile.FieldType)) ∈ lw_all := lw_g (lw_at lw_m5 11 rfl) rfl
theorem q1048 : (Jvm.Cond.methodLink "GeeseKeys" (286 : Nat) ({ cls := "GeeseKeys$Time", name := "openOnes", desc := "()I" } : Jvm.MethodName)) ∈ lw_all := lw_g (lw_at lw_m5 12 rfl) rfl
theorem q1057 : (Jvm.Cond.instanceMethod ({ cls := "GeeseKeys", name := "opens", desc := "(I)I" } : Jvm.MethodName)) ∈ lw_all := lw_g (lw_at lw_m5 21 rfl) rfl
theorem q1058 : (Jvm.Cond.selects "GeeseKeys" ({ cls := "GeeseKeys", name := "opens", desc := "(I)I" } : Jvm.MethodName) ({ cls := "GeeseKeys", name := "opens", desc := "(I)I" } : Jvm.MethodName)) ∈ lw_all := lw_g (lw_at lw_m5 22 rfl) rfl
theorem q1059 : (Jvm.Cond.code ({ cls := "GeeseKeys", name := "opens", desc := "(I)I" } : Jvm.MethodName) prog_1_method_30_code (3 : Nat) (Option.some Jvm.ClassFile.FieldType.int)) ∈ lw_all := lw_g (lw_at lw_m5 23 rfl) rfl
theorem q1060 : (Jvm.Cond.methodLink "GeeseKeys" (292 : Nat) ({ cls := "GeeseKeys", name := "isGate", desc := "(I)Z" } : Jvm.MethodName)) ∈ lw_all := lw_g (lw_at lw_m5 24 rfl) rfl
theorem q1061 : (Jvm.Cond.privateMethod ({ cls := "GeeseKeys", name := "isGate", desc := "(I)Z" } : Jvm.MethodName)) ∈ lw_tbl := lw_at lw_m5 25 rfl
theorem q1062 : (Jvm.Cond.instanceMethod ({ cls := "GeeseKeys", name := "isGate", desc := "(I)Z" } : Jvm.MethodName)) ∈ lw_all := lw_g (lw_at lw_m5 26 rfl) rfl
theorem q1063 : (Jvm.Cond.code ({ cls := "GeeseKeys", name := "isGate", desc := "(I)Z" } : Jvm.MethodName) prog_1_method_9_code (2 : Nat) (Option.some Jvm.ClassFile.FieldType.boolean)) ∈ lw_all := lw_g (lw_at lw_m5 27 rfl) rfl
theorem q1064 : (Jvm.Cond.methodLink "GeeseKeys" (295 : Nat) ({ cls := "GeeseKeys", name := "hoursTo", desc := "(II)I" } : Jvm.MethodName)) ∈ lw_all := lw_g (lw_at lw_m5 28 rfl) rfl
theorem q1065 : (Jvm.Cond.privateMethod ({ cls := "GeeseKeys", name := "hoursTo", desc := "(II)I" } : Jvm.MethodName)) ∈ lw_tbl := lw_at lw_m5 29 rfl
theorem q1066 : (Jvm.Cond.instanceMethod ({ cls := "GeeseKeys", name := "hoursTo", desc := "(II)I" } : Jvm.MethodName)) ∈ lw_all := lw_g (lw_at lw_m5 30 rfl) rfl
theorem q1067 : (Jvm.Cond.code ({ cls := "GeeseKeys", name := "hoursTo", desc := "(II)I" } : Jvm.MethodName) prog_1_method_29_code (4 : Nat) (Option.some Jvm.ClassFile.FieldType.int)) ∈ lw_all := lw_g (lw_at lw_m5 31 rfl) rfl
theorem q1068 : (Jvm.Cond.methodLink "GeeseKeys" (289 : Nat) ({ cls := "GeeseKeys$Time", name := "isOpen", desc := "(I)Z" } : Jvm.MethodName)) ∈ lw_all := lw_g (lw_at lw_m5 32 rfl) rfl
theorem q1070 : (Jvm.Cond.instanceMethod ({ cls := "GeeseKeys", name := "way", desc := "(III)I" } : Jvm.MethodName)) ∈ lw_all := lw_g (lw_at lw_m5 34 rfl) rfl
theorem q1071 : (Jvm.Cond.selects "GeeseKeys" ({ cls := "GeeseKeys", name := "way", desc := "(III)I" } : Jvm.MethodName) ({ cls := "GeeseKeys", name := "way", desc := "(III)I" } : Jvm.MethodName)) ∈ lw_all := lw_g (lw_at lw_m5 35 rfl) rfl
theorem q1072 : (Jvm.Cond.code ({ cls := "GeeseKeys", name := "way", desc := "(III)I" } : Jvm.MethodName) prog_1_method_36_code (4 : Nat) (Option.some Jvm.ClassFile.FieldType.int)) ∈ lw_all := lw_g (lw_at lw_m5 36 rfl) rfl
theorem q1073 : (Jvm.Cond.methodLink "GeeseKeys" (306 : Nat) ({ cls := "GeeseKeys", name := "shortest", desc := "(II)I" } : Jvm.MethodName)) ∈ lw_all := lw_g (lw_at lw_m5 37 rfl) rfl
theorem q1074 : (Jvm.Cond.privateMethod ({ cls := "GeeseKeys", name := "shortest", desc := "(II)I" } : Jvm.MethodName)) ∈ lw_tbl := lw_at lw_m5 38 rfl
theorem q1075 : (Jvm.Cond.instanceMethod ({ cls := "GeeseKeys", name := "shortest", desc := "(II)I" } : Jvm.MethodName)) ∈ lw_all := lw_g (lw_at lw_m5 39 rfl) rfl
theorem q1076 : (Jvm.Cond.code ({ cls := "GeeseKeys", name := "shortest", desc := "(II)I" } : Jvm.MethodName) prog_1_method_35_code (4 : Nat) (Option.some Jvm.ClassFile.FieldType.int)) ∈ lw_all := lw_g (lw_at lw_m5 40 rfl) rfl
theorem q1077 : (Jvm.Cond.methodLink "GeeseKeys" (302 : Nat) ({ cls := "GeeseKeys", name := "wayTo", desc := "(III)I" } : Jvm.MethodName)) ∈ lw_all := lw_g (lw_at lw_m5 41 rfl) rfl
theorem q1078 : (Jvm.Cond.privateMethod ({ cls := "GeeseKeys", name := "wayTo", desc := "(III)I" } : Jvm.MethodName)) ∈ lw_tbl := lw_at lw_m5 42 rfl
theorem q1079 : (Jvm.Cond.instanceMethod ({ cls := "GeeseKeys", name := "wayTo", desc := "(III)I" } : Jvm.MethodName)) ∈ lw_all := lw_g (lw_at lw_m5 43 rfl) rfl
theorem q1080 : (Jvm.Cond.code ({ cls := "GeeseKeys", name := "wayTo", desc := "(III)I" } : Jvm.MethodName) prog_1_method_33_code (6 : Nat) (Option.some Jvm.ClassFile.FieldType.int)) ∈ lw_all := lw_g (lw_at lw_m5 44 rfl) rfl
theorem q1081 : (Jvm.Cond.methodLink "GeeseKeys" (299 : Nat) ({ cls := "GeeseKeys$Time", name := "reached", desc := "(I)I" } : Jvm.MethodName)) ∈ lw_all := lw_g (lw_at lw_m5 45 rfl) rfl
theorem q1085 : (Jvm.Cond.methodLink "GeeseKeys" (309 : Nat) ({ cls := "GeeseKeys", name := "bestKeys", desc := "(II)I" } : Jvm.MethodName)) ∈ lw_all := lw_g (lw_at lw_m5 49 rfl) rfl
theorem q1086 : (Jvm.Cond.privateMethod ({ cls := "GeeseKeys", name := "bestKeys", desc := "(II)I" } : Jvm.MethodName)) ∈ lw_tbl := lw_at lw_m5 50 rfl
theorem q1087 : (Jvm.Cond.instanceMethod ({ cls := "GeeseKeys", name := "bestKeys", desc := "(II)I" } : Jvm.MethodName)) ∈ lw_all := lw_g (lw_at lw_m5 51 rfl) rfl
theorem q1088 : (Jvm.Cond.code ({ cls := "GeeseKeys", name := "bestKeys", desc := "(II)I" } : Jvm.MethodName) prog_1_method_34_code (8 : Nat) (Option.some Jvm.ClassFile.FieldType.int)) ∈ lw_all := lw_g (lw_at lw_m5 52 rfl) rfl
theorem q1090 : (Jvm.Cond.instanceMethod ({ cls := "GeeseKeys", name := "lead", desc := "(II)I" } : Jvm.MethodName)) ∈ lw_all := lw_g (lw_at lw_m5 54 rfl) rfl
theorem q1091 : (Jvm.Cond.selects "GeeseKeys" ({ cls := "GeeseKeys", name := "lead", desc := "(II)I" } : Jvm.MethodName) ({ cls := "GeeseKeys", name := "lead", desc := "(II)I" } : Jvm.MethodName)) ∈ lw_all := lw_g (lw_at lw_m5 55 rfl) rfl
theorem q1092 : (Jvm.Cond.code ({ cls := "GeeseKeys", name := "lead", desc := "(II)I" } : Jvm.MethodName) prog_1_method_37_code (7 : Nat) (Option.some Jvm.ClassFile.FieldType.int)) ∈ lw_all := lw_g (lw_at lw_m5 56 rfl) rfl
theorem q1094 : (Jvm.Cond.instanceMethod ({ cls := "GeeseKeys", name := "told", desc := "(I)I" } : Jvm.MethodName)) ∈ lw_all := lw_g (lw_at lw_m5 58 rfl) rfl
theorem q1095 : (Jvm.Cond.selects "GeeseKeys" ({ cls := "GeeseKeys", name := "told", desc := "(I)I" } : Jvm.MethodName) ({ cls := "GeeseKeys", name := "told", desc := "(I)I" } : Jvm.MethodName)) ∈ lw_all := lw_g (lw_at lw_m5 59 rfl) rfl
theorem q1096 : (Jvm.Cond.code ({ cls := "GeeseKeys", name := "told", desc := "(I)I" } : Jvm.MethodName) prog_1_method_38_code (2 : Nat) (Option.some Jvm.ClassFile.FieldType.int)) ∈ lw_all := lw_g (lw_at lw_m5 60 rfl) rfl
theorem q1097 : (Jvm.Cond.methodLink "GeeseKeys" (312 : Nat) ({ cls := "GeeseKeys", name := "shutOnes", desc := "()I" } : Jvm.MethodName)) ∈ lw_all := lw_g (lw_at lw_m5 61 rfl) rfl
theorem q1098 : (Jvm.Cond.privateMethod ({ cls := "GeeseKeys", name := "shutOnes", desc := "()I" } : Jvm.MethodName)) ∈ lw_tbl := lw_at lw_m5 62 rfl
theorem q1099 : (Jvm.Cond.instanceMethod ({ cls := "GeeseKeys", name := "shutOnes", desc := "()I" } : Jvm.MethodName)) ∈ lw_all := lw_g (lw_at lw_m5 63 rfl) rfl
theorem q1100 : (Jvm.Cond.code ({ cls := "GeeseKeys", name := "shutOnes", desc := "()I" } : Jvm.MethodName) prog_1_method_31_code (3 : Nat) (Option.some Jvm.ClassFile.FieldType.int)) ∈ lw_all := lw_g (lw_at lw_m5 64 rfl) rfl
theorem q1101 : (Jvm.Cond.methodLink "GeeseKeys" (315 : Nat) ({ cls := "GeeseKeys$Time", name := "allGrain", desc := "()I" } : Jvm.MethodName)) ∈ lw_all := lw_g (lw_at lw_m5 65 rfl) rfl
theorem q1105 : (Jvm.Cond.methodLink "GeeseKeys" (318 : Nat) ({ cls := "GeeseKeys", name := "farFrom", desc := "(I)I" } : Jvm.MethodName)) ∈ lw_all := lw_g (lw_at lw_m5 69 rfl) rfl
theorem q1106 : (Jvm.Cond.privateMethod ({ cls := "GeeseKeys", name := "farFrom", desc := "(I)I" } : Jvm.MethodName)) ∈ lw_tbl := lw_at lw_m5 70 rfl
theorem q1107 : (Jvm.Cond.instanceMethod ({ cls := "GeeseKeys", name := "farFrom", desc := "(I)I" } : Jvm.MethodName)) ∈ lw_all := lw_g (lw_at lw_m5 71 rfl) rfl
theorem q1108 : (Jvm.Cond.code ({ cls := "GeeseKeys", name := "farFrom", desc := "(I)I" } : Jvm.MethodName) prog_1_method_32_code (4 : Nat) (Option.some Jvm.ClassFile.FieldType.int)) ∈ lw_all := lw_g (lw_at lw_m5 72 rfl) rfl
theorem q1110 : (Jvm.Cond.instanceMethod ({ cls := "GeeseKeys", name := "see", desc := "(III)I" } : Jvm.MethodName)) ∈ lw_all := lw_g (lw_at lw_m5 74 rfl) rfl
theorem q1111 : (Jvm.Cond.selects "GeeseKeys" ({ cls := "GeeseKeys", name := "see", desc := "(III)I" } : Jvm.MethodName) ({ cls := "GeeseKeys", name := "see", desc := "(III)I" } : Jvm.MethodName)) ∈ lw_all := lw_g (lw_at lw_m5 75 rfl) rfl
theorem q1112 : (Jvm.Cond.code ({ cls := "GeeseKeys", name := "see", desc := "(III)I" } : Jvm.MethodName) prog_1_method_39_code (4 : Nat) (Option.some Jvm.ClassFile.FieldType.int)) ∈ lw_all := lw_g (lw_at lw_m5 76 rfl) rfl
theorem q1114 : (Jvm.Cond.instanceMethod ({ cls := "GeeseKeys", name := "from", desc := "(I)I" } : Jvm.MethodName)) ∈ lw_all := lw_g (lw_at lw_m5 78 rfl) rfl
theorem q1115 : (Jvm.Cond.selects "GeeseKeys" ({ cls := "GeeseKeys", name := "from", desc := "(I)I" } : Jvm.MethodName) ({ cls := "GeeseKeys", name := "from", desc := "(I)I" } : Jvm.MethodName)) ∈ lw_all := lw_g (lw_at lw_m5 79 rfl) rfl
theorem q1116 : (Jvm.Cond.code ({ cls := "GeeseKeys", name := "from", desc := "(I)I" } : Jvm.MethodName) prog_1_method_42_code (4 : Nat) (Option.some Jvm.ClassFile.FieldType.int)) ∈ lw_all := lw_g (lw_at lw_m5 80 rfl) rfl
theorem q1117 : (Jvm.Cond.methodLink "GeeseKeys" (327 : Nat) ({ cls := "GeeseKeys", name := "areAsSeen", desc := "()Z" } : Jvm.MethodName)) ∈ lw_all := lw_g (lw_at lw_m5 81 rfl) rfl
theorem q1118 : (Jvm.Cond.privateMethod ({ cls := "GeeseKeys", name := "areAsSeen", desc := "()Z" } : Jvm.MethodName)) ∈ lw_tbl := lw_at lw_m5 82 rfl
theorem q1119 : (Jvm.Cond.instanceMethod ({ cls := "GeeseKeys", name := "areAsSeen", desc := "()Z" } : Jvm.MethodName)) ∈ lw_all := lw_g (lw_at lw_m5 83 rfl) rfl
theorem q1120 : (Jvm.Cond.code ({ cls := "GeeseKeys", name := "areAsSeen", desc := "()Z" } : Jvm.MethodName) prog_1_method_41_code (2 : Nat) (Option.some Jvm.ClassFile.FieldType.boolean)) ∈ lw_all := lw_g (lw_at lw_m5 84 rfl) rfl
theorem q1121 : (Jvm.Cond.methodLink "GeeseKeys" (324 : Nat) ({ cls := "GeeseKeys", name := "isAsSeen", desc := "(I)Z" } : Jvm.MethodName)) ∈ lw_all := lw_g (lw_at lw_m5 85 rfl) rfl
theorem q1122 : (Jvm.Cond.privateMethod ({ cls := "GeeseKeys", name := "isAsSeen", desc := "(I)Z" } : Jvm.MethodName)) ∈ lw_tbl := lw_at lw_m5 86 rfl
theorem q1123 : (Jvm.Cond.instanceMethod ({ cls := "GeeseKeys", name := "isAsSeen", desc := "(I)Z" } : Jvm.MethodName)) ∈ lw_all := lw_g (lw_at lw_m5 87 rfl) rfl
theorem q1124 : (Jvm.Cond.code ({ cls := "GeeseKeys", name := "isAsSeen", desc := "(I)Z" } : Jvm.MethodName) prog_1_method_40_code (3 : Nat) (Option.some Jvm.ClassFile.FieldType.boolean)) ∈ lw_all := lw_g (lw_at lw_m5 88 rfl) rfl
theorem q1126 : (Jvm.Cond.instanceMethod ({ cls := "GeeseKeys", name := "can", desc := "(II)I" } : Jvm.MethodName)) ∈ lw_all := lw_g (lw_at lw_m5 90 rfl) rfl
theorem q1127 : (Jvm.Cond.selects "GeeseKeys" ({ cls := "GeeseKeys", name := "can", desc := "(II)I" } : Jvm.MethodName) ({ cls := "GeeseKeys", name := "can", desc := "(II)I" } : Jvm.MethodName)) ∈ lw_all := lw_g (lw_at lw_m5 91 rfl) rfl
theorem q1128 : (Jvm.Cond.codeWith ({ cls := "GeeseKeys", name := "can", desc := "(II)I" } : Jvm.MethodName) prog_1_method_43_code (8 : Nat) (Option.some Jvm.ClassFile.FieldType.int) [((36 : Nat), (97 : Nat), (110 : Nat), (0 : Nat)), ((110 : Nat), (112 : Nat), (110 : Nat), (0 : Nat))]) ∈ lw_all := lw_g (lw_at lw_m5 92 rfl) rfl
theorem q1130 : (Jvm.Cond.instanceMethod ({ cls := "GeeseKeys", name := "odds", desc := "(III)J" } : Jvm.MethodName)) ∈ lw_all := lw_g (lw_at lw_m5 94 rfl) rfl
theorem q1131 : (Jvm.Cond.selects "GeeseKeys" ({ cls := "GeeseKeys", name := "odds", desc := "(III)J" } : Jvm.MethodName) ({ cls := "GeeseKeys", name := "odds", desc := "(III)J" } : Jvm.MethodName)) ∈ lw_all := lw_g (lw_at lw_m5 95 rfl) rfl
theorem q1132 : (Jvm.Cond.code ({ cls := "GeeseKeys", name := "odds", desc := "(III)J" } : Jvm.MethodName) prog_1_method_46_code (7 : Nat) (Option.some Jvm.ClassFile.FieldType.long)) ∈ lw_all := lw_g (lw_at lw_m5 96 rfl) rfl
theorem q1133 : (Jvm.Cond.constantLong "GeeseKeys" (335 : Nat) (-9223372036854775808 : Int64)) ∈ lw_all := lw_g (lw_at lw_m5 97 rfl) rfl
theorem q1134 : (Jvm.Cond.constantLong "GeeseKeys" (337 : Nat) (8 : Int64)) ∈ lw_all := lw_g (lw_at lw_m5 98 rfl) rfl
theorem q1135 : (Jvm.Cond.methodLink "GeeseKeys" (339 : Nat) ({ cls := "GeeseKeys", name := "lowest", desc := "(JJI)J" } : Jvm.MethodName)) ∈ lw_all := lw_g (lw_at lw_m5 99 rfl) rfl
theorem q1136 : (Jvm.Cond.static ({ cls := "GeeseKeys", name := "lowest", desc := "(JJI)J" } : Jvm.MethodName)) ∈ lw_all := lw_g (lw_at lw_m5 100 rfl) rfl
theorem q1137 : (Jvm.Cond.code ({ cls := "GeeseKeys", name := "lowest", desc := "(JJI)J" } : Jvm.MethodName) prog_1_method_45_code (5 : Nat) (Option.some Jvm.ClassFile.FieldType.long)) ∈ lw_all := lw_g (lw_at lw_m5 101 rfl) rfl
theorem q1138 : (Jvm.Cond.methodLink "GeeseKeys" (331 : Nat) ({ cls := "GeeseKeys", name := "divisor", desc := "(JJ)J" } : Jvm.MethodName)) ∈ lw_all := lw_g (lw_at lw_m5 102 rfl) rfl
theorem q1139 : (Jvm.Cond.static ({ cls := "GeeseKeys", name := "divisor", desc := "(JJ)J" } : Jvm.MethodName)) ∈ lw_all := lw_g (lw_at lw_m5 103 rfl) rfl
theorem q1140 : (Jvm.Cond.code ({ cls := "GeeseKeys", name := "divisor", desc := "(JJ)J" } : Jvm.MethodName) prog_1_method_44_code (8 : Nat) (Option.some Jvm.ClassFile.FieldType.long)) ∈ lw_all := lw_g (lw_at lw_m5 104 rfl) rfl
theorem q1142 : (Jvm.Cond.instanceMethod ({ cls := "GeeseKeys", name := "mean", desc := "(II)J" } : Jvm.MethodName)) ∈ lw_all := lw_g (lw_at lw_m5 106 rfl) rfl
theorem q1143 : (Jvm.Cond.selects "GeeseKeys" ({ cls := "GeeseKeys", name := "mean", desc := "(II)J" } : Jvm.MethodName) ({ cls := "GeeseKeys", name := "mean", desc := "(II)J" } : Jvm.MethodName)) ∈ lw_all := lw_g (lw_at lw_m5 107 rfl) rfl
theorem q1144 : (Jvm.Cond.code ({ cls := "GeeseKeys", name := "mean", desc := "(II)J" } : Jvm.MethodName) prog_1_method_47_code (3 : Nat) (Option.some Jvm.ClassFile.FieldType.long)) ∈ lw_all := lw_g (lw_at lw_m5 108 rfl) rfl
theorem q1146 : (Jvm.Cond.instanceMethod ({ cls := "GeeseKeys", name := "plan", desc := "(II)I" } : Jvm.MethodName)) ∈ lw_all := lw_g (lw_at lw_m5 110 rfl) rfl
theorem q1147 : (Jvm.Cond.selects "GeeseKeys" ({ cls := "GeeseKeys", name := "plan", desc := "(II)I" } : Jvm.MethodName) ({ cls := "GeeseKeys", name := "plan", desc := "(II)I" } : Jvm.MethodName)) ∈ lw_all := lw_g (lw_at lw_m5 111 rfl) rfl
theorem q1148 : (Jvm.Cond.code ({ cls := "GeeseKeys", name := "plan", desc := "(II)I" } : Jvm.MethodName) prog_1_method_49_code (3 : Nat) (Option.some Jvm.ClassFile.FieldType.int)) ∈ lw_all := lw_g (lw_at lw_m5 112 rfl) rfl
theorem q1149 : (Jvm.Cond.methodLink "GeeseKeys" (346 : Nat) ({ cls := "GeeseKeys", name := "isPlan", desc := "(II)Z" } : Jvm.MethodName)) ∈ lw_all := lw_g (lw_at lw_m5 113 rfl) rfl
theorem q1150 : (Jvm.Cond.privateMethod ({ cls := "GeeseKeys", name := "isPlan", desc := "(II)Z" } : Jvm.MethodName)) ∈ lw_tbl := lw_at lw_m5 114 rfl
theorem q1151 : (Jvm.Cond.instanceMethod ({ cls := "GeeseKeys", name := "isPlan", desc := "(II)Z" } : Jvm.MethodName)) ∈ lw_all := lw_g (lw_at lw_m5 115 rfl) rfl
theorem q1152 : (Jvm.Cond.code ({ cls := "GeeseKeys", name := "isPlan", desc := "(II)Z" } : Jvm.MethodName) prog_1_method_48_code (3 : Nat) (Option.some Jvm.ClassFile.FieldType.boolean)) ∈ lw_all := lw_g (lw_at lw_m5 116 rfl) rfl
theorem q1154 : (Jvm.Cond.instanceMethod ({ cls := "GeeseKeys", name := "ends", desc := "(I)I" } : Jvm.MethodName)) ∈ lw_all := lw_g (lw_at lw_m5 118 rfl) rfl
theorem q1155 : (Jvm.Cond.selects "GeeseKeys" ({ cls := "GeeseKeys", name := "ends", desc := "(I)I" } : Jvm.MethodName) ({ cls := "GeeseKeys", name := "ends", desc := "(I)I" } : Jvm.MethodName)) ∈ lw_all := lw_g (lw_at lw_m5 119 rfl) rfl
theorem q1156 : (Jvm.Cond.code ({ cls := "GeeseKeys", name := "ends", desc := "(I)I" } : Jvm.MethodName) prog_1_method_51_code (3 : Nat) (Option.some Jvm.ClassFile.FieldType.int)) ∈ lw_all := lw_g (lw_at lw_m5 120 rfl) rfl
theorem q1157 : (Jvm.Cond.methodLink "GeeseKeys" (349 : Nat) ({ cls := "GeeseKeys", name := "does", desc := "(II)V" } : Jvm.MethodName)) ∈ lw_all := lw_g (lw_at lw_m5 121 rfl) rfl
theorem q1158 : (Jvm.Cond.privateMethod ({ cls := "GeeseKeys", name := "does", desc := "(II)V" } : Jvm.MethodName)) ∈ lw_tbl := lw_at lw_m5 122 rfl
theorem q1159 : (Jvm.Cond.instanceMethod ({ cls := "GeeseKeys", name := "does", desc := "(II)V" } : Jvm.MethodName)) ∈ lw_all := lw_g (lw_at lw_m5 123 rfl) rfl
theorem q1160 : (Jvm.Cond.code ({ cls := "GeeseKeys", name := "does", desc := "(II)V" } : Jvm.MethodName) prog_1_method_50_code (3 : Nat) (Option.none : Option Jvm.ClassFile.FieldType)) ∈ lw_all := lw_g (lw_at lw_m5 124 rfl) rfl
theorem q1162 : (Jvm.Cond.instanceMethod ({ cls := "GeeseKeys", name := "book", desc := "(II)I" } : Jvm.MethodName)) ∈ lw_all := lw_g (lw_at lw_m5 126 rfl) rfl
theorem q1163 : (Jvm.Cond.selects "GeeseKeys" ({ cls := "GeeseKeys", name := "book", desc := "(II)I" } : Jvm.MethodName) ({ cls := "GeeseKeys", name := "book", desc := "(II)I" } : Jvm.MethodName)) ∈ lw_all := lw_g (lw_at lw_m5 127 rfl) rfl
theorem q1164 : (Jvm.Cond.code ({ cls := "GeeseKeys", name := "book", desc := "(II)I" } : Jvm.MethodName) prog_1_method_52_code (3 : Nat) (Option.some Jvm.ClassFile.FieldType.int)) ∈ lw_all := lw_g (lw_at lw_m5 128 rfl) rfl
theorem q1166 : (Jvm.Cond.instanceMethod ({ cls := "GeeseKeys", name := "looked", desc := "()I" } : Jvm.MethodName)) ∈ lw_all := lw_g (lw_at lw_m5 130 rfl) rfl
theorem q1167 : (Jvm.Cond.selects "GeeseKeys" ({ cls := "GeeseKeys", name := "looked", desc := "()I" } : Jvm.MethodName) ({ cls := "GeeseKeys", name := "looked", desc := "()I" } : Jvm.MethodName)) ∈ lw_all := lw_g (lw_at lw_m5 131 rfl) rfl
theorem q1168 : (Jvm.Cond.code ({ cls := "GeeseKeys", name := "looked", desc := "()I" } : Jvm.MethodName) prog_1_method_53_code (2 : Nat) (Option.some Jvm.ClassFile.FieldType.int)) ∈ lw_all := lw_g (lw_at lw_m5 132 rfl) rfl
theorem q1170 : (Jvm.Cond.instanceMethod ({ cls := "GeeseKeys", name := "judge", desc := "(II)I" } : Jvm.MethodName)) ∈ lw_all := lw_g (lw_at lw_m5 134 rfl) rfl
theorem q1171 : (Jvm.Cond.selects "GeeseKeys" ({ cls := "GeeseKeys", name := "judge", desc := "(II)I" } : Jvm.MethodName) ({ cls := "GeeseKeys", name := "judge", desc := "(II)I" } : Jvm.MethodName)) ∈ lw_all := lw_g (lw_at lw_m5 135 rfl) rfl
theorem q1172 : (Jvm.Cond.codeWith ({ cls := "GeeseKeys", name := "judge", desc := "(II)I" } : Jvm.MethodName) prog_1_method_55_code (4 : Nat) (Option.some Jvm.ClassFile.FieldType.int) [((9 : Nat), (26 : Nat), (27 : Nat), (371 : Nat))]) ∈ lw_all := lw_g (lw_at lw_m5 136 rfl) rfl
theorem q1173 : (Jvm.Cond.classLink "GeeseKeys" (371 : Nat) "java/lang/ClassCastException") ∈ lw_all := lw_g (lw_at lw_m5 137 rfl) rfl
theorem q1200 : (Jvm.Cond.methodLink "GeeseKeys" (359 : Nat) ({ cls := "GeeseKeys", name := "isTape", desc := "(I)Z" } : Jvm.MethodName)) ∈ lw_all := lw_g (lw_at lw_m5 164 rfl) rfl
theorem q1201 : (Jvm.Cond.static ({ cls := "GeeseKeys", name := "isTape", desc := "(I)Z" } : Jvm.MethodName)) ∈ lw_all := lw_g (lw_at lw_m5 165 rfl) rfl
theorem q1202 : (Jvm.Cond.code ({ cls := "GeeseKeys", name := "isTape", desc := "(I)Z" } : Jvm.MethodName) prog_1_method_64_code (1 : Nat) (Option.some Jvm.ClassFile.FieldType.boolean)) ∈ lw_all := lw_g (lw_at lw_m5 166 rfl) rfl
theorem q1203 : (Jvm.Cond.classLink "GeeseKeys" (366 : Nat) "[B") ∈ lw_all := lw_g (lw_at lw_m5 167 rfl) rfl
theorem q1204 : (Jvm.Cond.methodLink "GeeseKeys" (367 : Nat) ({ cls := "GeeseKeys", name := "firstOther", desc := "([BI)I" } : Jvm.MethodName)) ∈ lw_all := lw_g (lw_at lw_m5 168 rfl) rfl
theorem q1205 : (Jvm.Cond.privateMethod ({ cls := "GeeseKeys", name := "firstOther", desc := "([BI)I" } : Jvm.MethodName)) ∈ lw_tbl := lw_at lw_m5 169 rfl
theorem q1206 : (Jvm.Cond.instanceMethod ({ cls := "GeeseKeys", name := "firstOther", desc := "([BI)I" } : Jvm.MethodName)) ∈ lw_all := lw_g (lw_at lw_m5 170 rfl) rfl
theorem q1207 : (Jvm.Cond.codeWith ({ cls := "GeeseKeys", name := "firstOther", desc := "([BI)I" } : Jvm.MethodName) prog_1_method_54_code (6 : Nat) (Option.some Jvm.ClassFile.FieldType.int) [((2 : Nat), (59 : Nat), (69 : Nat), (357 : Nat)), ((60 : Nat), (68 : Nat), (69 : Nat), (357 : Nat)), ((2 : Nat), (59 : Nat), (76 : Nat), (257 : Nat)), ((60 : Nat), (68 : Nat), (76 : Nat), (257 : Nat))]) ∈ lw_all := lw_g (lw_at lw_m5 171 rfl) rfl
theorem q1208 : (Jvm.Cond.classLink "GeeseKeys" (357 : Nat) "java/lang/NullPointerException") ∈ lw_all := lw_g (lw_at lw_m5 172 rfl) rfl
theorem q1227 : (Jvm.Cond.methodLink "GeeseKeys" (355 : Nat) ({ cls := "GeeseKeys$Off", name := "<init>", desc := "(I)V" } : Jvm.MethodName)) ∈ lw_all := lw_g (lw_at lw_m5 191 rfl) rfl
theorem q1229 : (Jvm.Cond.instanceMethod ({ cls := "GeeseKeys", name := "image", desc := "()I" } : Jvm.MethodName)) ∈ lw_all := lw_g (lw_at lw_m5 193 rfl) rfl
theorem q1230 : (Jvm.Cond.selects "GeeseKeys" ({ cls := "GeeseKeys", name := "image", desc := "()I" } : Jvm.MethodName) ({ cls := "GeeseKeys", name := "image", desc := "()I" } : Jvm.MethodName)) ∈ lw_all := lw_g (lw_at lw_m5 194 rfl) rfl
theorem q1231 : (Jvm.Cond.code ({ cls := "GeeseKeys", name := "image", desc := "()I" } : Jvm.MethodName) prog_1_method_56_code (1 : Nat) (Option.some Jvm.ClassFile.FieldType.int)) ∈ lw_all := lw_g (lw_at lw_m5 195 rfl) rfl
theorem q1232 : (Jvm.Cond.methodLink "GeeseKeys" (373 : Nat) ({ cls := "java/lang/System", name := "arraycopy", desc := "(Ljava/lang/Object;ILjava/lang/Object;II)V" } : Jvm.MethodName)) ∈ lw_all := lw_g (lw_at lw_m5 196 rfl) rfl
theorem q1234 : (Jvm.Cond.instanceMethod ({ cls := "GeeseKeys", name := "undo", desc := "()I" } : Jvm.MethodName)) ∈ lw_all := lw_g (lw_at lw_m5 198 rfl) rfl
theorem q1235 : (Jvm.Cond.selects "GeeseKeys" ({ cls := "GeeseKeys", name := "undo", desc := "()I" } : Jvm.MethodName) ({ cls := "GeeseKeys", name := "undo", desc := "()I" } : Jvm.MethodName)) ∈ lw_all := lw_g (lw_at lw_m5 199 rfl) rfl
theorem q1236 : (Jvm.Cond.code ({ cls := "GeeseKeys", name := "undo", desc := "()I" } : Jvm.MethodName) prog_1_method_57_code (1 : Nat) (Option.some Jvm.ClassFile.FieldType.int)) ∈ lw_all := lw_g (lw_at lw_m5 200 rfl) rfl
theorem q1238 : (Jvm.Cond.instanceMethod ({ cls := "GeeseKeys", name := "act", desc := "(III)I" } : Jvm.MethodName)) ∈ lw_all := lw_g (lw_at lw_m5 202 rfl) rfl
theorem q1239 : (Jvm.Cond.selects "GeeseKeys" ({ cls := "GeeseKeys", name := "act", desc := "(III)I" } : Jvm.MethodName) ({ cls := "GeeseKeys", name := "act", desc := "(III)I" } : Jvm.MethodName)) ∈ lw_all := lw_g (lw_at lw_m5 203 rfl) rfl
theorem q1240 : (Jvm.Cond.code ({ cls := "GeeseKeys", name := "act", desc := "(III)I" } : Jvm.MethodName) prog_1_method_58_code (5 : Nat) (Option.some Jvm.ClassFile.FieldType.int)) ∈ lw_all := lw_g (lw_at lw_m5 204 rfl) rfl
theorem q1241 : (Jvm.Cond.methodLink "GeeseKeys" (394 : Nat) ({ cls := "GeeseKeys$Goose", name := "honks", desc := "(I)I" } : Jvm.MethodName)) ∈ lw_all := lw_g (lw_at lw_m5 205 rfl) rfl
theorem q1271 : (Jvm.Cond.methodLink "GeeseKeys" (397 : Nat) ({ cls := "GeeseKeys$Goose", name := "struts", desc := "(I)I" } : Jvm.MethodName)) ∈ lw_all := lw_g (lw_at lw_m5 235 rfl) rfl
theorem q1295 : (Jvm.Cond.methodLink "GeeseKeys" (400 : Nat) ({ cls := "GeeseKeys$Goose", name := "tells", desc := "(I)I" } : Jvm.MethodName)) ∈ lw_all := lw_g (lw_at lw_m6 19 rfl) rfl
theorem q1321 : (Jvm.Cond.instanceMethod ({ cls := "GeeseKeys", name := "trace", desc := "(I)I" } : Jvm.MethodName)) ∈ lw_all := lw_g (lw_at lw_m6 45 rfl) rfl
theorem q1322 : (Jvm.Cond.selects "GeeseKeys" ({ cls := "GeeseKeys", name := "trace", desc := "(I)I" } : Jvm.MethodName) ({ cls := "GeeseKeys", name := "trace", desc := "(I)I" } : Jvm.MethodName)) ∈ lw_all := lw_g (lw_at lw_m6 46 rfl) rfl
theorem q1323 : (Jvm.Cond.code ({ cls := "GeeseKeys", name := "trace", desc := "(I)I" } : Jvm.MethodName) prog_1_method_59_code (2 : Nat) (Option.some Jvm.ClassFile.FieldType.int)) ∈ lw_all := lw_g (lw_at lw_m6 47 rfl) rfl
theorem q1324 : (Jvm.Cond.methodLink "GeeseKeys" (403 : Nat) ({ cls := "java/lang/Math", name := "min", desc := "(II)I" } : Jvm.MethodName)) ∈ lw_all := lw_g (lw_at lw_m6 48 rfl) rfl
theorem q1326 : (Jvm.Cond.instanceMethod ({ cls := "GeeseKeys", name := "taken", desc := "(II)I" } : Jvm.MethodName)) ∈ lw_all := lw_g (lw_at lw_m6 50 rfl) rfl
theorem q1327 : (Jvm.Cond.selects "GeeseKeys" ({ cls := "GeeseKeys", name := "taken", desc := "(II)I" } : Jvm.MethodName) ({ cls := "GeeseKeys", name := "taken", desc := "(II)I" } : Jvm.MethodName)) ∈ lw_all := lw_g (lw_at lw_m6 51 rfl) rfl
theorem q1328 : (Jvm.Cond.codeWith ({ cls := "GeeseKeys", name := "taken", desc := "(II)I" } : Jvm.MethodName) prog_1_method_61_code (4 : Nat) (Option.some Jvm.ClassFile.FieldType.int) [((13 : Nat), (38 : Nat), (39 : Nat), (357 : Nat)), ((13 : Nat), (38 : Nat), (43 : Nat), (371 : Nat))]) ∈ lw_all := lw_g (lw_at lw_m6 52 rfl) rfl
theorem q1329 : (Jvm.Cond.methodLink "GeeseKeys" (411 : Nat) ({ cls := "GeeseKeys", name := "takenFor", desc := "(LGeeseKeys$Tells;I)LGeeseKeys$Goose;" } : Jvm.MethodName)) ∈ lw_all := lw_g (lw_at lw_m6 53 rfl) rfl
theorem q1330 : (Jvm.Cond.static ({ cls := "GeeseKeys", name := "takenFor", desc := "(LGeeseKeys$Tells;I)LGeeseKeys$Goose;" } : Jvm.MethodName)) ∈ lw_all := lw_g (lw_at lw_m6 54 rfl) rfl
theorem q1331 : (Jvm.Cond.code ({ cls := "GeeseKeys", name := "takenFor", desc := "(LGeeseKeys$Tells;I)LGeeseKeys$Goose;" } : Jvm.MethodName) prog_1_method_60_code (2 : Nat) (Option.some (Jvm.ClassFile.FieldType.object "GeeseKeys$Goose"))) ∈ lw_all := lw_g (lw_at lw_m6 55 rfl) rfl
theorem q1333 : (Jvm.Cond.instanceMethod ({ cls := "GeeseKeys", name := "count", desc := "(I)I" } : Jvm.MethodName)) ∈ lw_all := lw_g (lw_at lw_m6 57 rfl) rfl
theorem q1334 : (Jvm.Cond.selects "GeeseKeys" ({ cls := "GeeseKeys", name := "count", desc := "(I)I" } : Jvm.MethodName) ({ cls := "GeeseKeys", name := "count", desc := "(I)I" } : Jvm.MethodName)) ∈ lw_all := lw_g (lw_at lw_m6 58 rfl) rfl
theorem q1335 : (Jvm.Cond.code ({ cls := "GeeseKeys", name := "count", desc := "(I)I" } : Jvm.MethodName) prog_1_method_62_code (2 : Nat) (Option.some Jvm.ClassFile.FieldType.int)) ∈ lw_all := lw_g (lw_at lw_m6 59 rfl) rfl
theorem q1337 : (Jvm.Cond.instanceMethod ({ cls := "GeeseKeys", name := "tape", desc := "(III)I" } : Jvm.MethodName)) ∈ lw_all := lw_g (lw_at lw_m6 61 rfl) rfl
theorem q1338 : (Jvm.Cond.selects "GeeseKeys" ({ cls := "GeeseKeys", name := "tape", desc := "(III)I" } : Jvm.MethodName) ({ cls := "GeeseKeys", name := "tape", desc := "(III)I" } : Jvm.MethodName)) ∈ lw_all := lw_g (lw_at lw_m6 62 rfl) rfl
theorem q1339 : (Jvm.Cond.codeWith ({ cls := "GeeseKeys", name := "tape", desc := "(III)I" } : Jvm.MethodName) prog_1_method_65_code (5 : Nat) (Option.some Jvm.ClassFile.FieldType.int) [((32 : Nat), (56 : Nat), (57 : Nat), (419 : Nat))]) ∈ lw_all := lw_g (lw_at lw_m6 63 rfl) rfl
theorem q1340 : (Jvm.Cond.classLink "GeeseKeys" (419 : Nat) "java/lang/NegativeArraySizeException") ∈ lw_all := lw_g (lw_at lw_m6 64 rfl) rfl
theorem q1354 : (Jvm.Cond.methodLink "GeeseKeys" (415 : Nat) ({ cls := "GeeseKeys", name := "rowOf", desc := "(II)Ljava/lang/Object;" } : Jvm.MethodName)) ∈ lw_all := lw_g (lw_at lw_m6 78 rfl) rfl
theorem q1355 : (Jvm.Cond.static ({ cls := "GeeseKeys", name := "rowOf", desc := "(II)Ljava/lang/Object;" } : Jvm.MethodName)) ∈ lw_all := lw_g (lw_at lw_m6 79 rfl) rfl
theorem q1356 : (Jvm.Cond.code ({ cls := "GeeseKeys", name := "rowOf", desc := "(II)Ljava/lang/Object;" } : Jvm.MethodName) prog_1_method_63_code (2 : Nat) (Option.some (Jvm.ClassFile.FieldType.object "java/lang/Object"))) ∈ lw_all := lw_g (lw_at lw_m6 80 rfl) rfl
theorem q1361 : (Jvm.Cond.instanceMethod ({ cls := "GeeseKeys", name := "item", desc := "(IIJ)I" } : Jvm.MethodName)) ∈ lw_all := lw_g (lw_at lw_m6 85 rfl) rfl
theorem q1362 : (Jvm.Cond.selects "GeeseKeys" ({ cls := "GeeseKeys", name := "item", desc := "(IIJ)I" } : Jvm.MethodName) ({ cls := "GeeseKeys", name := "item", desc := "(IIJ)I" } : Jvm.MethodName)) ∈ lw_all := lw_g (lw_at lw_m6 86 rfl) rfl
theorem q1363 : (Jvm.Cond.codeWith ({ cls := "GeeseKeys", name := "item", desc := "(IIJ)I" } : Jvm.MethodName) prog_1_method_66_code (11 : Nat) (Option.some Jvm.ClassFile.FieldType.int) [((17 : Nat), (23 : Nat), (26 : Nat), (257 : Nat))]) ∈ lw_all := lw_g (lw_at lw_m6 87 rfl) rfl
theorem q1364 : (Jvm.Cond.methodLinkNest "GeeseKeys" (421 : Nat) ({ cls := "GeeseKeys$Tape", name := "has", desc := "(I)V" } : Jvm.MethodName) "GeeseKeys") ∈ lw_tbl := lw_at lw_m6 88 rfl
theorem q1380 : (Jvm.Cond.classLink "GeeseKeys" (424 : Nat) "[S") ∈ lw_all := lw_g (lw_at lw_m6 104 rfl) rfl
theorem q1381 : (Jvm.Cond.classLink "GeeseKeys" (426 : Nat) "[I") ∈ lw_all := lw_g (lw_at lw_m6 105 rfl) rfl
theorem q1382 : (Jvm.Cond.classLink "GeeseKeys" (427 : Nat) "[J") ∈ lw_all := lw_g (lw_at lw_m6 106 rfl) rfl
theorem q1383 : (Jvm.Cond.classLink "GeeseKeys" (429 : Nat) "[Z") ∈ lw_all := lw_g (lw_at lw_m6 107 rfl) rfl
theorem q1385 : (Jvm.Cond.instanceMethod ({ cls := "GeeseKeys", name := "read", desc := "(II)J" } : Jvm.MethodName)) ∈ lw_all := lw_g (lw_at lw_m6 109 rfl) rfl
theorem q1386 : (Jvm.Cond.selects "GeeseKeys" ({ cls := "GeeseKeys", name := "read", desc := "(II)J" } : Jvm.MethodName) ({ cls := "GeeseKeys", name := "read", desc := "(II)J" } : Jvm.MethodName)) ∈ lw_all := lw_g (lw_at lw_m6 110 rfl) rfl
theorem q1387 : (Jvm.Cond.code ({ cls := "GeeseKeys", name := "read", desc := "(II)J" } : Jvm.MethodName) prog_1_method_67_code (6 : Nat) (Option.some Jvm.ClassFile.FieldType.long)) ∈ lw_all := lw_g (lw_at lw_m6 111 rfl) rfl
theorem q1388 : (Jvm.Cond.methodLinkNest "GeeseKeys" (431 : Nat) ({ cls := "GeeseKeys$Tape", name := "size", desc := "()I" } : Jvm.MethodName) "GeeseKeys") ∈ lw_tbl := lw_at lw_m6 112 rfl
theorem q1390 : (Jvm.Cond.instanceMethod ({ cls := "GeeseKeys", name := "shift", desc := "(IIIII)I" } : Jvm.MethodName)) ∈ lw_all := lw_g (lw_at lw_m6 114 rfl) rfl
theorem q1391 : (Jvm.Cond.selects "GeeseKeys" ({ cls := "GeeseKeys", name := "shift", desc := "(IIIII)I" } : Jvm.MethodName) ({ cls := "GeeseKeys", name := "shift", desc := "(IIIII)I" } : Jvm.MethodName)) ∈ lw_all := lw_g (lw_at lw_m6 115 rfl) rfl
theorem q1392 : (Jvm.Cond.codeWith ({ cls := "GeeseKeys", name := "shift", desc := "(IIIII)I" } : Jvm.MethodName) prog_1_method_68_code (7 : Nat) (Option.some Jvm.ClassFile.FieldType.int) [((16 : Nat), (44 : Nat), (45 : Nat), (357 : Nat)), ((16 : Nat), (44 : Nat), (50 : Nat), (434 : Nat)), ((16 : Nat), (44 : Nat), (55 : Nat), (436 : Nat))]) ∈ lw_all := lw_g (lw_at lw_m6 116 rfl) rfl
theorem q1393 : (Jvm.Cond.classLink "GeeseKeys" (434 : Nat) "java/lang/ArrayStoreException") ∈ lw_all := lw_g (lw_at lw_m6 117 rfl) rfl
theorem q1407 : (Jvm.Cond.classLink "GeeseKeys" (436 : Nat) "java/lang/IndexOutOfBoundsException") ∈ lw_all := lw_g (lw_at lw_m6 131 rfl) rfl
theorem q1869 : (Jvm.Cond.castable "GeeseKeys" "java/lang/Object") ∈ lw_tbl := lw_at lw_m8 113 rfl
theorem in_X0 : ∀ w ∈ wsX00, w ∈ lw_all := lw_in wsX00 [312, 314, 316, 318, 320, 322, 324, 326, 328, 330, 332, 334, 336, 338, 340, 342, 344, 346, 348, 350, 352, 354, 356, 358, 360, 362, 364, 366, 368, 370, 372, 374, 376, 378, 380] (by decide +kernel) (by decide +kernel)
