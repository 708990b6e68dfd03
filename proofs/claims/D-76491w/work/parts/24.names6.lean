/-! GeeseKeysModel -/
set_option maxRecDepth 100000
def RX6 : String := "GeeseKeysModel"
def TX6 : u_T := fun k => match k with
  | 0 => ("GeeseKeysModel", "now", "[I", true)
  | 1 => ("GeeseKeysModel", "minds", "[I", true)
  | 2 => ("GeeseKeysModel", "then", "[I", true)
  | 3 => ("GeeseKeysModel", "kept", "Z", false)
  | 4 => ("GeeseKeysModel", "text", "[I", true)
  | 5 => ("GeeseKeysModel", "texted", "I", false)
  | 6 => ("GeeseKeysModel", "rules", "[I", true)
  | 7 => ("GeeseKeysModel", "sizes", "[I", true)
  | 8 => ("GeeseKeysModel", "ruled", "I", false)
  | 9 => ("GeeseKeysModel", "read", "[I", true)
  | 10 => ("GeeseKeysModel", "size", "I", false)
  | 11 => ("GeeseKeysModel", "at", "I", false)
  | 12 => ("GeeseKeysModel", "well", "Z", false)
  | 13 => ("GeeseKeysModel", "within", "I", false)
  | 14 => ("GeeseKeysModel", "sum", "I", false)
  | 15 => ("GeeseKeysModel", "eat", "I", false)
  | 16 => ("GeeseKeysModel", "names", "[I", true)
  | 17 => ("GeeseKeysModel", "letters", "[C", true)
  | 18 => ("GeeseKeysModel", "begins", "[C", true)
  | 19 => ("GeeseKeysModel", "words", "[C", true)
  | 20 => ("GeeseKeysModel", "reached", "[I", true)
  | 21 => ("GeeseKeysModel", "above", "[I", true)
  | 22 => ("GeeseKeysModel", "bodies", "[I", true)
  | 23 => ("GeeseKeysModel", "trace", "[I", true)
  | 24 => ("GeeseKeysModel", "ran", "I", false)
  | 25 => ("GeeseKeysModel", "sorts", "[I", true)
  | 26 => ("GeeseKeysModel", "lengths", "[I", true)
  | 27 => ("GeeseKeysModel", "items", "[J", true)
  | _ => ("GeeseKeysModel", "moved", "[J", true)
def tyX6 : Nat → FieldType := fun k => match k with
  | 0 => .array .int
  | 1 => .array .int
  | 2 => .array .int
  | 3 => .boolean
  | 4 => .array .int
  | 5 => .int
  | 6 => .array .int
  | 7 => .array .int
  | 8 => .int
  | 9 => .array .int
  | 10 => .int
  | 11 => .int
  | 12 => .boolean
  | 13 => .int
  | 14 => .int
  | 15 => .int
  | 16 => .array .int
  | 17 => .array .char
  | 18 => .array .char
  | 19 => .array .char
  | 20 => .array .int
  | 21 => .array .int
  | 22 => .array .int
  | 23 => .array .int
  | 24 => .int
  | 25 => .array .int
  | 26 => .array .int
  | 27 => .array .long
  | _ => .array .long
abbrev wsX60 : List Cond := u_ws RX6 TX6 29
set_option maxRecDepth 100000 in
theorem nmX6 : ∀ a, a < 29 → ∀ b, b < 29 → a ≠ b → (TX6 a).2.1 ≠ (TX6 b).2.1 := by decide +kernel
set_option maxRecDepth 100000 in
theorem tyX6_ok : ∀ k, k < 29 → parseFieldDescriptor (TX6 k).2.2.1 = some (tyX6 k) := by decide +kernel
abbrev cX6_init : ByteArray := prog_23_method_1_code
def yX6_init : MethodName := ⟨RX6, "<init>", "()V"⟩
def dkwX6_init_18 : List UInt8 := [181, 0, 65, 42, 17, 1, 104, 188, 11, 181, 0, 68, 42, 16, 60, 188, 11, 181, 0, 72, 177]
abbrev dktX6_init_18 : List UInt8 := dkwX6_init_18 ++ []
def dkwX6_init_17 : List UInt8 := [89, 5, 2, 79, 89, 6, 2, 79, 89, 7, 2, 79, 89, 8, 2, 79, 181, 0, 62, 42, 16, 6, 188, 10]
abbrev dktX6_init_17 : List UInt8 := dkwX6_init_17 ++ dktX6_init_18
def dkwX6_init_16 : List UInt8 := [181, 0, 56, 42, 16, 20, 188, 10, 181, 0, 59, 42, 16, 6, 188, 10, 89, 3, 2, 79, 89, 4, 2, 79]
abbrev dktX6_init_16 : List UInt8 := dkwX6_init_16 ++ dktX6_init_17
def dkwX6_init_15 : List UInt8 := [89, 16, 17, 16, 60, 79, 89, 16, 18, 16, 71, 79, 89, 16, 19, 16, 70, 79, 89, 16, 20, 3, 79]
abbrev dktX6_init_15 : List UInt8 := dkwX6_init_15 ++ dktX6_init_16
def dkwX6_init_14 : List UInt8 := [16, 50, 79, 89, 16, 13, 16, 51, 79, 89, 16, 14, 3, 79, 89, 16, 15, 3, 79, 89, 16, 16, 3, 79]
abbrev dktX6_init_14 : List UInt8 := dkwX6_init_14 ++ dktX6_init_15
def dkwX6_init_13 : List UInt8 := [89, 16, 8, 3, 79, 89, 16, 9, 3, 79, 89, 16, 10, 3, 79, 89, 16, 11, 16, 40, 79, 89, 16, 12]
abbrev dktX6_init_13 : List UInt8 := dkwX6_init_13 ++ dktX6_init_14
def dkwX6_init_12 : List UInt8 := [89, 6, 3, 79, 89, 7, 16, 20, 79, 89, 8, 3, 79, 89, 16, 6, 16, 30, 79, 89, 16, 7, 3, 79]
abbrev dktX6_init_12 : List UInt8 := dkwX6_init_12 ++ dktX6_init_13
def dkwX6_init_11 : List UInt8 := [79, 181, 0, 53, 42, 16, 21, 188, 10, 89, 3, 16, 10, 79, 89, 4, 16, 11, 79, 89, 5, 16, 12, 79]
abbrev dktX6_init_11 : List UInt8 := dkwX6_init_11 ++ dktX6_init_12
def dkwX6_init_10 : List UInt8 := [89, 4, 3, 79, 89, 5, 3, 79, 89, 6, 3, 79, 89, 7, 4, 79, 89, 8, 5, 79, 89, 16, 6, 6]
abbrev dktX6_init_10 : List UInt8 := dkwX6_init_10 ++ dktX6_init_11
def dkwX6_init_9 : List UInt8 := [16, 14, 3, 85, 181, 0, 47, 42, 16, 16, 188, 10, 181, 0, 50, 42, 16, 7, 188, 10, 89, 3, 2, 79]
abbrev dktX6_init_9 : List UInt8 := dkwX6_init_9 ++ dktX6_init_10
def dkwX6_init_8 : List UInt8 := [16, 10, 16, 101, 85, 89, 16, 11, 16, 97, 85, 89, 16, 12, 16, 116, 85, 89, 16, 13, 3, 85, 89]
abbrev dktX6_init_8 : List UInt8 := dkwX6_init_8 ++ dktX6_init_9
def dkwX6_init_7 : List UInt8 := [16, 6, 16, 99, 85, 89, 16, 7, 16, 97, 85, 89, 16, 8, 16, 114, 85, 89, 16, 9, 16, 101, 85, 89]
abbrev dktX6_init_7 : List UInt8 := dkwX6_init_7 ++ dktX6_init_8
def dkwX6_init_6 : List UInt8 := [16, 117, 85, 89, 5, 16, 114, 85, 89, 6, 16, 101, 85, 89, 7, 3, 85, 89, 8, 16, 115, 85, 89]
abbrev dktX6_init_6 : List UInt8 := dkwX6_init_6 ++ dktX6_init_7
def dkwX6_init_5 : List UInt8 := [16, 115, 85, 89, 5, 16, 101, 85, 181, 0, 44, 42, 16, 15, 188, 5, 89, 3, 16, 108, 85, 89, 4]
abbrev dktX6_init_5 : List UInt8 := dkwX6_init_5 ++ dktX6_init_6
def dkwX6_init_4 : List UInt8 := [89, 7, 16, 103, 85, 89, 8, 16, 104, 85, 181, 0, 40, 42, 6, 188, 5, 89, 3, 16, 108, 85, 89, 4]
abbrev dktX6_init_4 : List UInt8 := dkwX6_init_4 ++ dktX6_init_5
def dkwX6_init_3 : List UInt8 := [16, 6, 188, 5, 89, 3, 16, 112, 85, 89, 4, 16, 107, 85, 89, 5, 16, 118, 85, 89, 6, 16, 99, 85]
abbrev dktX6_init_3 : List UInt8 := dkwX6_init_3 ++ dktX6_init_4
def dkwX6_init_2 : List UInt8 := [16, 6, 188, 10, 181, 0, 31, 42, 16, 100, 188, 10, 181, 0, 34, 42, 16, 6, 188, 10, 181, 0, 37, 42]
abbrev dktX6_init_2 : List UInt8 := dkwX6_init_2 ++ dktX6_init_3
def dkwX6_init_1 : List UInt8 := [188, 10, 181, 0, 22, 42, 16, 100, 188, 10, 181, 0, 25, 42, 17, 2, 88, 188, 10, 181, 0, 28, 42]
abbrev dktX6_init_1 : List UInt8 := dkwX6_init_1 ++ dktX6_init_2
def dkwX6_init_0 : List UInt8 := [42, 183, 0, 3, 42, 184, 0, 9, 181, 0, 15, 42, 17, 2, 40, 188, 10, 181, 0, 19, 42, 17, 0, 138]
abbrev dktX6_init_0 : List UInt8 := dkwX6_init_0 ++ dktX6_init_1
theorem dksX6_init_0 : cX6_init.data.toList.drop 0 = dktX6_init_0 := by decide +kernel
theorem dksX6_init_1 : cX6_init.data.toList.drop 24 = dktX6_init_1 := dk_seg dksX6_init_0 24 rfl rfl
theorem dksX6_init_2 : cX6_init.data.toList.drop 47 = dktX6_init_2 := dk_seg dksX6_init_1 23 rfl rfl
theorem dksX6_init_3 : cX6_init.data.toList.drop 71 = dktX6_init_3 := dk_seg dksX6_init_2 24 rfl rfl
theorem dksX6_init_4 : cX6_init.data.toList.drop 95 = dktX6_init_4 := dk_seg dksX6_init_3 24 rfl rfl
theorem dksX6_init_5 : cX6_init.data.toList.drop 119 = dktX6_init_5 := dk_seg dksX6_init_4 24 rfl rfl
theorem dksX6_init_6 : cX6_init.data.toList.drop 142 = dktX6_init_6 := dk_seg dksX6_init_5 23 rfl rfl
theorem dksX6_init_7 : cX6_init.data.toList.drop 165 = dktX6_init_7 := dk_seg dksX6_init_6 23 rfl rfl
theorem dksX6_init_8 : cX6_init.data.toList.drop 189 = dktX6_init_8 := dk_seg dksX6_init_7 24 rfl rfl
theorem dksX6_init_9 : cX6_init.data.toList.drop 212 = dktX6_init_9 := dk_seg dksX6_init_8 23 rfl rfl
theorem dksX6_init_10 : cX6_init.data.toList.drop 236 = dktX6_init_10 := dk_seg dksX6_init_9 24 rfl rfl
theorem dksX6_init_11 : cX6_init.data.toList.drop 260 = dktX6_init_11 := dk_seg dksX6_init_10 24 rfl rfl
theorem dksX6_init_12 : cX6_init.data.toList.drop 284 = dktX6_init_12 := dk_seg dksX6_init_11 24 rfl rfl
theorem dksX6_init_13 : cX6_init.data.toList.drop 308 = dktX6_init_13 := dk_seg dksX6_init_12 24 rfl rfl
theorem dksX6_init_14 : cX6_init.data.toList.drop 332 = dktX6_init_14 := dk_seg dksX6_init_13 24 rfl rfl
theorem dksX6_init_15 : cX6_init.data.toList.drop 356 = dktX6_init_15 := dk_seg dksX6_init_14 24 rfl rfl
theorem dksX6_init_16 : cX6_init.data.toList.drop 379 = dktX6_init_16 := dk_seg dksX6_init_15 23 rfl rfl
theorem dksX6_init_17 : cX6_init.data.toList.drop 403 = dktX6_init_17 := dk_seg dksX6_init_16 24 rfl rfl
theorem dksX6_init_18 : cX6_init.data.toList.drop 427 = dktX6_init_18 := dk_seg dksX6_init_17 24 rfl rfl
theorem dX6_init_0 : decode cX6_init 0 = .ok (.aload_n 0, 1) := dk_42 (dk_at dksX6_init_0 0 rfl rfl)
theorem dX6_init_1 : decode cX6_init 1 = .ok (.invokespecial 3, 3) := dk_183 0 3 (dk_at dksX6_init_0 1 rfl rfl)
theorem dX6_init_4 : decode cX6_init 4 = .ok (.aload_n 0, 1) := dk_42 (dk_at dksX6_init_0 4 rfl rfl)
theorem dX6_init_5 : decode cX6_init 5 = .ok (.invokestatic 9, 3) := dk_184 0 9 (dk_at dksX6_init_0 5 rfl rfl)
theorem dX6_init_8 : decode cX6_init 8 = .ok (.putfield 15, 3) := dk_181 0 15 (dk_at dksX6_init_0 8 rfl rfl)
theorem dX6_init_11 : decode cX6_init 11 = .ok (.aload_n 0, 1) := dk_42 (dk_at dksX6_init_0 11 rfl rfl)
theorem dX6_init_12 : decode cX6_init 12 = .ok (.sipush 552, 3) := dk_17 2 40 (dk_at dksX6_init_0 12 rfl rfl)
theorem dX6_init_15 : decode cX6_init 15 = .ok (.newarray .int, 2) := dk_188_10 (dk_at dksX6_init_0 15 rfl rfl)
theorem dX6_init_17 : decode cX6_init 17 = .ok (.putfield 19, 3) := dk_181 0 19 (dk_at dksX6_init_0 17 rfl rfl)
theorem dX6_init_20 : decode cX6_init 20 = .ok (.aload_n 0, 1) := dk_42 (dk_at dksX6_init_0 20 rfl rfl)
theorem dX6_init_21 : decode cX6_init 21 = .ok (.sipush 138, 3) := dk_17 0 138 (dk_at dksX6_init_0 21 rfl rfl)
theorem dX6_init_24 : decode cX6_init 24 = .ok (.newarray .int, 2) := dk_188_10 (dk_at dksX6_init_1 0 rfl rfl)
theorem dX6_init_26 : decode cX6_init 26 = .ok (.putfield 22, 3) := dk_181 0 22 (dk_at dksX6_init_1 2 rfl rfl)
theorem dX6_init_29 : decode cX6_init 29 = .ok (.aload_n 0, 1) := dk_42 (dk_at dksX6_init_1 5 rfl rfl)
theorem dX6_init_30 : decode cX6_init 30 = .ok (.bipush 100, 2) := dk_16 100 (dk_at dksX6_init_1 6 rfl rfl)
theorem dX6_init_32 : decode cX6_init 32 = .ok (.newarray .int, 2) := dk_188_10 (dk_at dksX6_init_1 8 rfl rfl)
theorem dX6_init_34 : decode cX6_init 34 = .ok (.putfield 25, 3) := dk_181 0 25 (dk_at dksX6_init_1 10 rfl rfl)
theorem dX6_init_37 : decode cX6_init 37 = .ok (.aload_n 0, 1) := dk_42 (dk_at dksX6_init_1 13 rfl rfl)
theorem dX6_init_38 : decode cX6_init 38 = .ok (.sipush 600, 3) := dk_17 2 88 (dk_at dksX6_init_1 14 rfl rfl)
theorem dX6_init_41 : decode cX6_init 41 = .ok (.newarray .int, 2) := dk_188_10 (dk_at dksX6_init_1 17 rfl rfl)
theorem dX6_init_43 : decode cX6_init 43 = .ok (.putfield 28, 3) := dk_181 0 28 (dk_at dksX6_init_1 19 rfl rfl)
theorem dX6_init_46 : decode cX6_init 46 = .ok (.aload_n 0, 1) := dk_42 (dk_at dksX6_init_1 22 rfl rfl)
theorem dX6_init_47 : decode cX6_init 47 = .ok (.bipush 6, 2) := dk_16 6 (dk_at dksX6_init_2 0 rfl rfl)
theorem dX6_init_49 : decode cX6_init 49 = .ok (.newarray .int, 2) := dk_188_10 (dk_at dksX6_init_2 2 rfl rfl)
theorem dX6_init_51 : decode cX6_init 51 = .ok (.putfield 31, 3) := dk_181 0 31 (dk_at dksX6_init_2 4 rfl rfl)
theorem dX6_init_54 : decode cX6_init 54 = .ok (.aload_n 0, 1) := dk_42 (dk_at dksX6_init_2 7 rfl rfl)
theorem dX6_init_55 : decode cX6_init 55 = .ok (.bipush 100, 2) := dk_16 100 (dk_at dksX6_init_2 8 rfl rfl)
theorem dX6_init_57 : decode cX6_init 57 = .ok (.newarray .int, 2) := dk_188_10 (dk_at dksX6_init_2 10 rfl rfl)
theorem dX6_init_59 : decode cX6_init 59 = .ok (.putfield 34, 3) := dk_181 0 34 (dk_at dksX6_init_2 12 rfl rfl)
theorem dX6_init_62 : decode cX6_init 62 = .ok (.aload_n 0, 1) := dk_42 (dk_at dksX6_init_2 15 rfl rfl)
theorem dX6_init_63 : decode cX6_init 63 = .ok (.bipush 6, 2) := dk_16 6 (dk_at dksX6_init_2 16 rfl rfl)
theorem dX6_init_65 : decode cX6_init 65 = .ok (.newarray .int, 2) := dk_188_10 (dk_at dksX6_init_2 18 rfl rfl)
theorem dX6_init_67 : decode cX6_init 67 = .ok (.putfield 37, 3) := dk_181 0 37 (dk_at dksX6_init_2 20 rfl rfl)
theorem dX6_init_70 : decode cX6_init 70 = .ok (.aload_n 0, 1) := dk_42 (dk_at dksX6_init_2 23 rfl rfl)
theorem dX6_init_71 : decode cX6_init 71 = .ok (.bipush 6, 2) := dk_16 6 (dk_at dksX6_init_3 0 rfl rfl)
theorem dX6_init_73 : decode cX6_init 73 = .ok (.newarray .char, 2) := dk_188_5 (dk_at dksX6_init_3 2 rfl rfl)
theorem dX6_init_75 : decode cX6_init 75 = .ok (.dup, 1) := dk_89 (dk_at dksX6_init_3 4 rfl rfl)
theorem dX6_init_76 : decode cX6_init 76 = .ok (.iconst 0, 1) := dk_3 (dk_at dksX6_init_3 5 rfl rfl)
theorem dX6_init_77 : decode cX6_init 77 = .ok (.bipush 112, 2) := dk_16 112 (dk_at dksX6_init_3 6 rfl rfl)
theorem dX6_init_79 : decode cX6_init 79 = .ok (.castore, 1) := dk_85 (dk_at dksX6_init_3 8 rfl rfl)
theorem dX6_init_80 : decode cX6_init 80 = .ok (.dup, 1) := dk_89 (dk_at dksX6_init_3 9 rfl rfl)
theorem dX6_init_81 : decode cX6_init 81 = .ok (.iconst 1, 1) := dk_4 (dk_at dksX6_init_3 10 rfl rfl)
theorem dX6_init_82 : decode cX6_init 82 = .ok (.bipush 107, 2) := dk_16 107 (dk_at dksX6_init_3 11 rfl rfl)
theorem dX6_init_84 : decode cX6_init 84 = .ok (.castore, 1) := dk_85 (dk_at dksX6_init_3 13 rfl rfl)
theorem dX6_init_85 : decode cX6_init 85 = .ok (.dup, 1) := dk_89 (dk_at dksX6_init_3 14 rfl rfl)
theorem dX6_init_86 : decode cX6_init 86 = .ok (.iconst 2, 1) := dk_5 (dk_at dksX6_init_3 15 rfl rfl)
theorem dX6_init_87 : decode cX6_init 87 = .ok (.bipush 118, 2) := dk_16 118 (dk_at dksX6_init_3 16 rfl rfl)
theorem dX6_init_89 : decode cX6_init 89 = .ok (.castore, 1) := dk_85 (dk_at dksX6_init_3 18 rfl rfl)
theorem dX6_init_90 : decode cX6_init 90 = .ok (.dup, 1) := dk_89 (dk_at dksX6_init_3 19 rfl rfl)
theorem dX6_init_91 : decode cX6_init 91 = .ok (.iconst 3, 1) := dk_6 (dk_at dksX6_init_3 20 rfl rfl)
theorem dX6_init_92 : decode cX6_init 92 = .ok (.bipush 99, 2) := dk_16 99 (dk_at dksX6_init_3 21 rfl rfl)
theorem dX6_init_94 : decode cX6_init 94 = .ok (.castore, 1) := dk_85 (dk_at dksX6_init_3 23 rfl rfl)
theorem dX6_init_95 : decode cX6_init 95 = .ok (.dup, 1) := dk_89 (dk_at dksX6_init_4 0 rfl rfl)
theorem dX6_init_96 : decode cX6_init 96 = .ok (.iconst 4, 1) := dk_7 (dk_at dksX6_init_4 1 rfl rfl)
theorem dX6_init_97 : decode cX6_init 97 = .ok (.bipush 103, 2) := dk_16 103 (dk_at dksX6_init_4 2 rfl rfl)
theorem dX6_init_99 : decode cX6_init 99 = .ok (.castore, 1) := dk_85 (dk_at dksX6_init_4 4 rfl rfl)
theorem dX6_init_100 : decode cX6_init 100 = .ok (.dup, 1) := dk_89 (dk_at dksX6_init_4 5 rfl rfl)
theorem dX6_init_101 : decode cX6_init 101 = .ok (.iconst 5, 1) := dk_8 (dk_at dksX6_init_4 6 rfl rfl)
theorem dX6_init_102 : decode cX6_init 102 = .ok (.bipush 104, 2) := dk_16 104 (dk_at dksX6_init_4 7 rfl rfl)
theorem dX6_init_104 : decode cX6_init 104 = .ok (.castore, 1) := dk_85 (dk_at dksX6_init_4 9 rfl rfl)
theorem dX6_init_105 : decode cX6_init 105 = .ok (.putfield 40, 3) := dk_181 0 40 (dk_at dksX6_init_4 10 rfl rfl)
theorem dX6_init_108 : decode cX6_init 108 = .ok (.aload_n 0, 1) := dk_42 (dk_at dksX6_init_4 13 rfl rfl)
theorem dX6_init_109 : decode cX6_init 109 = .ok (.iconst 3, 1) := dk_6 (dk_at dksX6_init_4 14 rfl rfl)
theorem dX6_init_110 : decode cX6_init 110 = .ok (.newarray .char, 2) := dk_188_5 (dk_at dksX6_init_4 15 rfl rfl)
theorem dX6_init_112 : decode cX6_init 112 = .ok (.dup, 1) := dk_89 (dk_at dksX6_init_4 17 rfl rfl)
theorem dX6_init_113 : decode cX6_init 113 = .ok (.iconst 0, 1) := dk_3 (dk_at dksX6_init_4 18 rfl rfl)
theorem dX6_init_114 : decode cX6_init 114 = .ok (.bipush 108, 2) := dk_16 108 (dk_at dksX6_init_4 19 rfl rfl)
theorem dX6_init_116 : decode cX6_init 116 = .ok (.castore, 1) := dk_85 (dk_at dksX6_init_4 21 rfl rfl)
theorem dX6_init_117 : decode cX6_init 117 = .ok (.dup, 1) := dk_89 (dk_at dksX6_init_4 22 rfl rfl)
theorem dX6_init_118 : decode cX6_init 118 = .ok (.iconst 1, 1) := dk_4 (dk_at dksX6_init_4 23 rfl rfl)
theorem dX6_init_119 : decode cX6_init 119 = .ok (.bipush 115, 2) := dk_16 115 (dk_at dksX6_init_5 0 rfl rfl)
theorem dX6_init_121 : decode cX6_init 121 = .ok (.castore, 1) := dk_85 (dk_at dksX6_init_5 2 rfl rfl)
theorem dX6_init_122 : decode cX6_init 122 = .ok (.dup, 1) := dk_89 (dk_at dksX6_init_5 3 rfl rfl)
theorem dX6_init_123 : decode cX6_init 123 = .ok (.iconst 2, 1) := dk_5 (dk_at dksX6_init_5 4 rfl rfl)
theorem dX6_init_124 : decode cX6_init 124 = .ok (.bipush 101, 2) := dk_16 101 (dk_at dksX6_init_5 5 rfl rfl)
theorem dX6_init_126 : decode cX6_init 126 = .ok (.castore, 1) := dk_85 (dk_at dksX6_init_5 7 rfl rfl)
theorem dX6_init_127 : decode cX6_init 127 = .ok (.putfield 44, 3) := dk_181 0 44 (dk_at dksX6_init_5 8 rfl rfl)
theorem dX6_init_130 : decode cX6_init 130 = .ok (.aload_n 0, 1) := dk_42 (dk_at dksX6_init_5 11 rfl rfl)
theorem dX6_init_131 : decode cX6_init 131 = .ok (.bipush 15, 2) := dk_16 15 (dk_at dksX6_init_5 12 rfl rfl)
theorem dX6_init_133 : decode cX6_init 133 = .ok (.newarray .char, 2) := dk_188_5 (dk_at dksX6_init_5 14 rfl rfl)
theorem dX6_init_135 : decode cX6_init 135 = .ok (.dup, 1) := dk_89 (dk_at dksX6_init_5 16 rfl rfl)
theorem dX6_init_136 : decode cX6_init 136 = .ok (.iconst 0, 1) := dk_3 (dk_at dksX6_init_5 17 rfl rfl)
theorem dX6_init_137 : decode cX6_init 137 = .ok (.bipush 108, 2) := dk_16 108 (dk_at dksX6_init_5 18 rfl rfl)
theorem dX6_init_139 : decode cX6_init 139 = .ok (.castore, 1) := dk_85 (dk_at dksX6_init_5 20 rfl rfl)
theorem dX6_init_140 : decode cX6_init 140 = .ok (.dup, 1) := dk_89 (dk_at dksX6_init_5 21 rfl rfl)
theorem dX6_init_141 : decode cX6_init 141 = .ok (.iconst 1, 1) := dk_4 (dk_at dksX6_init_5 22 rfl rfl)
theorem dX6_init_142 : decode cX6_init 142 = .ok (.bipush 117, 2) := dk_16 117 (dk_at dksX6_init_6 0 rfl rfl)
theorem dX6_init_144 : decode cX6_init 144 = .ok (.castore, 1) := dk_85 (dk_at dksX6_init_6 2 rfl rfl)
theorem dX6_init_145 : decode cX6_init 145 = .ok (.dup, 1) := dk_89 (dk_at dksX6_init_6 3 rfl rfl)
theorem dX6_init_146 : decode cX6_init 146 = .ok (.iconst 2, 1) := dk_5 (dk_at dksX6_init_6 4 rfl rfl)
theorem dX6_init_147 : decode cX6_init 147 = .ok (.bipush 114, 2) := dk_16 114 (dk_at dksX6_init_6 5 rfl rfl)
theorem dX6_init_149 : decode cX6_init 149 = .ok (.castore, 1) := dk_85 (dk_at dksX6_init_6 7 rfl rfl)
theorem dX6_init_150 : decode cX6_init 150 = .ok (.dup, 1) := dk_89 (dk_at dksX6_init_6 8 rfl rfl)
theorem dX6_init_151 : decode cX6_init 151 = .ok (.iconst 3, 1) := dk_6 (dk_at dksX6_init_6 9 rfl rfl)
theorem dX6_init_152 : decode cX6_init 152 = .ok (.bipush 101, 2) := dk_16 101 (dk_at dksX6_init_6 10 rfl rfl)
theorem dX6_init_154 : decode cX6_init 154 = .ok (.castore, 1) := dk_85 (dk_at dksX6_init_6 12 rfl rfl)
theorem dX6_init_155 : decode cX6_init 155 = .ok (.dup, 1) := dk_89 (dk_at dksX6_init_6 13 rfl rfl)
theorem dX6_init_156 : decode cX6_init 156 = .ok (.iconst 4, 1) := dk_7 (dk_at dksX6_init_6 14 rfl rfl)
theorem dX6_init_157 : decode cX6_init 157 = .ok (.iconst 0, 1) := dk_3 (dk_at dksX6_init_6 15 rfl rfl)
theorem dX6_init_158 : decode cX6_init 158 = .ok (.castore, 1) := dk_85 (dk_at dksX6_init_6 16 rfl rfl)
theorem dX6_init_159 : decode cX6_init 159 = .ok (.dup, 1) := dk_89 (dk_at dksX6_init_6 17 rfl rfl)
theorem dX6_init_160 : decode cX6_init 160 = .ok (.iconst 5, 1) := dk_8 (dk_at dksX6_init_6 18 rfl rfl)
theorem dX6_init_161 : decode cX6_init 161 = .ok (.bipush 115, 2) := dk_16 115 (dk_at dksX6_init_6 19 rfl rfl)
theorem dX6_init_163 : decode cX6_init 163 = .ok (.castore, 1) := dk_85 (dk_at dksX6_init_6 21 rfl rfl)
theorem dX6_init_164 : decode cX6_init 164 = .ok (.dup, 1) := dk_89 (dk_at dksX6_init_6 22 rfl rfl)
theorem dX6_init_165 : decode cX6_init 165 = .ok (.bipush 6, 2) := dk_16 6 (dk_at dksX6_init_7 0 rfl rfl)
theorem dX6_init_167 : decode cX6_init 167 = .ok (.bipush 99, 2) := dk_16 99 (dk_at dksX6_init_7 2 rfl rfl)
theorem dX6_init_169 : decode cX6_init 169 = .ok (.castore, 1) := dk_85 (dk_at dksX6_init_7 4 rfl rfl)
theorem dX6_init_170 : decode cX6_init 170 = .ok (.dup, 1) := dk_89 (dk_at dksX6_init_7 5 rfl rfl)
theorem dX6_init_171 : decode cX6_init 171 = .ok (.bipush 7, 2) := dk_16 7 (dk_at dksX6_init_7 6 rfl rfl)
theorem dX6_init_173 : decode cX6_init 173 = .ok (.bipush 97, 2) := dk_16 97 (dk_at dksX6_init_7 8 rfl rfl)
theorem dX6_init_175 : decode cX6_init 175 = .ok (.castore, 1) := dk_85 (dk_at dksX6_init_7 10 rfl rfl)
theorem dX6_init_176 : decode cX6_init 176 = .ok (.dup, 1) := dk_89 (dk_at dksX6_init_7 11 rfl rfl)
theorem dX6_init_177 : decode cX6_init 177 = .ok (.bipush 8, 2) := dk_16 8 (dk_at dksX6_init_7 12 rfl rfl)
theorem dX6_init_179 : decode cX6_init 179 = .ok (.bipush 114, 2) := dk_16 114 (dk_at dksX6_init_7 14 rfl rfl)
theorem dX6_init_181 : decode cX6_init 181 = .ok (.castore, 1) := dk_85 (dk_at dksX6_init_7 16 rfl rfl)
theorem dX6_init_182 : decode cX6_init 182 = .ok (.dup, 1) := dk_89 (dk_at dksX6_init_7 17 rfl rfl)
theorem dX6_init_183 : decode cX6_init 183 = .ok (.bipush 9, 2) := dk_16 9 (dk_at dksX6_init_7 18 rfl rfl)
theorem dX6_init_185 : decode cX6_init 185 = .ok (.bipush 101, 2) := dk_16 101 (dk_at dksX6_init_7 20 rfl rfl)
theorem dX6_init_187 : decode cX6_init 187 = .ok (.castore, 1) := dk_85 (dk_at dksX6_init_7 22 rfl rfl)
theorem dX6_init_188 : decode cX6_init 188 = .ok (.dup, 1) := dk_89 (dk_at dksX6_init_7 23 rfl rfl)
theorem dX6_init_189 : decode cX6_init 189 = .ok (.bipush 10, 2) := dk_16 10 (dk_at dksX6_init_8 0 rfl rfl)
theorem dX6_init_191 : decode cX6_init 191 = .ok (.bipush 101, 2) := dk_16 101 (dk_at dksX6_init_8 2 rfl rfl)
theorem dX6_init_193 : decode cX6_init 193 = .ok (.castore, 1) := dk_85 (dk_at dksX6_init_8 4 rfl rfl)
theorem dX6_init_194 : decode cX6_init 194 = .ok (.dup, 1) := dk_89 (dk_at dksX6_init_8 5 rfl rfl)
theorem dX6_init_195 : decode cX6_init 195 = .ok (.bipush 11, 2) := dk_16 11 (dk_at dksX6_init_8 6 rfl rfl)
theorem dX6_init_197 : decode cX6_init 197 = .ok (.bipush 97, 2) := dk_16 97 (dk_at dksX6_init_8 8 rfl rfl)
theorem dX6_init_199 : decode cX6_init 199 = .ok (.castore, 1) := dk_85 (dk_at dksX6_init_8 10 rfl rfl)
theorem dX6_init_200 : decode cX6_init 200 = .ok (.dup, 1) := dk_89 (dk_at dksX6_init_8 11 rfl rfl)
theorem dX6_init_201 : decode cX6_init 201 = .ok (.bipush 12, 2) := dk_16 12 (dk_at dksX6_init_8 12 rfl rfl)
theorem dX6_init_203 : decode cX6_init 203 = .ok (.bipush 116, 2) := dk_16 116 (dk_at dksX6_init_8 14 rfl rfl)
theorem dX6_init_205 : decode cX6_init 205 = .ok (.castore, 1) := dk_85 (dk_at dksX6_init_8 16 rfl rfl)
theorem dX6_init_206 : decode cX6_init 206 = .ok (.dup, 1) := dk_89 (dk_at dksX6_init_8 17 rfl rfl)
theorem dX6_init_207 : decode cX6_init 207 = .ok (.bipush 13, 2) := dk_16 13 (dk_at dksX6_init_8 18 rfl rfl)
theorem dX6_init_209 : decode cX6_init 209 = .ok (.iconst 0, 1) := dk_3 (dk_at dksX6_init_8 20 rfl rfl)
theorem dX6_init_210 : decode cX6_init 210 = .ok (.castore, 1) := dk_85 (dk_at dksX6_init_8 21 rfl rfl)
theorem dX6_init_211 : decode cX6_init 211 = .ok (.dup, 1) := dk_89 (dk_at dksX6_init_8 22 rfl rfl)
theorem dX6_init_212 : decode cX6_init 212 = .ok (.bipush 14, 2) := dk_16 14 (dk_at dksX6_init_9 0 rfl rfl)
theorem dX6_init_214 : decode cX6_init 214 = .ok (.iconst 0, 1) := dk_3 (dk_at dksX6_init_9 2 rfl rfl)
theorem dX6_init_215 : decode cX6_init 215 = .ok (.castore, 1) := dk_85 (dk_at dksX6_init_9 3 rfl rfl)
theorem dX6_init_216 : decode cX6_init 216 = .ok (.putfield 47, 3) := dk_181 0 47 (dk_at dksX6_init_9 4 rfl rfl)
theorem dX6_init_219 : decode cX6_init 219 = .ok (.aload_n 0, 1) := dk_42 (dk_at dksX6_init_9 7 rfl rfl)
theorem dX6_init_220 : decode cX6_init 220 = .ok (.bipush 16, 2) := dk_16 16 (dk_at dksX6_init_9 8 rfl rfl)
theorem dX6_init_222 : decode cX6_init 222 = .ok (.newarray .int, 2) := dk_188_10 (dk_at dksX6_init_9 10 rfl rfl)
theorem dX6_init_224 : decode cX6_init 224 = .ok (.putfield 50, 3) := dk_181 0 50 (dk_at dksX6_init_9 12 rfl rfl)
theorem dX6_init_227 : decode cX6_init 227 = .ok (.aload_n 0, 1) := dk_42 (dk_at dksX6_init_9 15 rfl rfl)
theorem dX6_init_228 : decode cX6_init 228 = .ok (.bipush 7, 2) := dk_16 7 (dk_at dksX6_init_9 16 rfl rfl)
theorem dX6_init_230 : decode cX6_init 230 = .ok (.newarray .int, 2) := dk_188_10 (dk_at dksX6_init_9 18 rfl rfl)
theorem dX6_init_232 : decode cX6_init 232 = .ok (.dup, 1) := dk_89 (dk_at dksX6_init_9 20 rfl rfl)
theorem dX6_init_233 : decode cX6_init 233 = .ok (.iconst 0, 1) := dk_3 (dk_at dksX6_init_9 21 rfl rfl)
theorem dX6_init_234 : decode cX6_init 234 = .ok (.iconst (-1), 1) := dk_2 (dk_at dksX6_init_9 22 rfl rfl)
theorem dX6_init_235 : decode cX6_init 235 = .ok (.iastore, 1) := dk_79 (dk_at dksX6_init_9 23 rfl rfl)
theorem dX6_init_236 : decode cX6_init 236 = .ok (.dup, 1) := dk_89 (dk_at dksX6_init_10 0 rfl rfl)
theorem dX6_init_237 : decode cX6_init 237 = .ok (.iconst 1, 1) := dk_4 (dk_at dksX6_init_10 1 rfl rfl)
theorem dX6_init_238 : decode cX6_init 238 = .ok (.iconst 0, 1) := dk_3 (dk_at dksX6_init_10 2 rfl rfl)
theorem dX6_init_239 : decode cX6_init 239 = .ok (.iastore, 1) := dk_79 (dk_at dksX6_init_10 3 rfl rfl)
theorem dX6_init_240 : decode cX6_init 240 = .ok (.dup, 1) := dk_89 (dk_at dksX6_init_10 4 rfl rfl)
theorem dX6_init_241 : decode cX6_init 241 = .ok (.iconst 2, 1) := dk_5 (dk_at dksX6_init_10 5 rfl rfl)
theorem dX6_init_242 : decode cX6_init 242 = .ok (.iconst 0, 1) := dk_3 (dk_at dksX6_init_10 6 rfl rfl)
theorem dX6_init_243 : decode cX6_init 243 = .ok (.iastore, 1) := dk_79 (dk_at dksX6_init_10 7 rfl rfl)
theorem dX6_init_244 : decode cX6_init 244 = .ok (.dup, 1) := dk_89 (dk_at dksX6_init_10 8 rfl rfl)
theorem dX6_init_245 : decode cX6_init 245 = .ok (.iconst 3, 1) := dk_6 (dk_at dksX6_init_10 9 rfl rfl)
theorem dX6_init_246 : decode cX6_init 246 = .ok (.iconst 0, 1) := dk_3 (dk_at dksX6_init_10 10 rfl rfl)
theorem dX6_init_247 : decode cX6_init 247 = .ok (.iastore, 1) := dk_79 (dk_at dksX6_init_10 11 rfl rfl)
theorem dX6_init_248 : decode cX6_init 248 = .ok (.dup, 1) := dk_89 (dk_at dksX6_init_10 12 rfl rfl)
theorem dX6_init_249 : decode cX6_init 249 = .ok (.iconst 4, 1) := dk_7 (dk_at dksX6_init_10 13 rfl rfl)
theorem dX6_init_250 : decode cX6_init 250 = .ok (.iconst 1, 1) := dk_4 (dk_at dksX6_init_10 14 rfl rfl)
theorem dX6_init_251 : decode cX6_init 251 = .ok (.iastore, 1) := dk_79 (dk_at dksX6_init_10 15 rfl rfl)
theorem dX6_init_252 : decode cX6_init 252 = .ok (.dup, 1) := dk_89 (dk_at dksX6_init_10 16 rfl rfl)
theorem dX6_init_253 : decode cX6_init 253 = .ok (.iconst 5, 1) := dk_8 (dk_at dksX6_init_10 17 rfl rfl)
theorem dX6_init_254 : decode cX6_init 254 = .ok (.iconst 2, 1) := dk_5 (dk_at dksX6_init_10 18 rfl rfl)
theorem dX6_init_255 : decode cX6_init 255 = .ok (.iastore, 1) := dk_79 (dk_at dksX6_init_10 19 rfl rfl)
theorem dX6_init_256 : decode cX6_init 256 = .ok (.dup, 1) := dk_89 (dk_at dksX6_init_10 20 rfl rfl)
theorem dX6_init_257 : decode cX6_init 257 = .ok (.bipush 6, 2) := dk_16 6 (dk_at dksX6_init_10 21 rfl rfl)
theorem dX6_init_259 : decode cX6_init 259 = .ok (.iconst 3, 1) := dk_6 (dk_at dksX6_init_10 23 rfl rfl)
theorem dX6_init_260 : decode cX6_init 260 = .ok (.iastore, 1) := dk_79 (dk_at dksX6_init_11 0 rfl rfl)
theorem dX6_init_261 : decode cX6_init 261 = .ok (.putfield 53, 3) := dk_181 0 53 (dk_at dksX6_init_11 1 rfl rfl)
theorem dX6_init_264 : decode cX6_init 264 = .ok (.aload_n 0, 1) := dk_42 (dk_at dksX6_init_11 4 rfl rfl)
theorem dX6_init_265 : decode cX6_init 265 = .ok (.bipush 21, 2) := dk_16 21 (dk_at dksX6_init_11 5 rfl rfl)
theorem dX6_init_267 : decode cX6_init 267 = .ok (.newarray .int, 2) := dk_188_10 (dk_at dksX6_init_11 7 rfl rfl)
theorem dX6_init_269 : decode cX6_init 269 = .ok (.dup, 1) := dk_89 (dk_at dksX6_init_11 9 rfl rfl)
theorem dX6_init_270 : decode cX6_init 270 = .ok (.iconst 0, 1) := dk_3 (dk_at dksX6_init_11 10 rfl rfl)
theorem dX6_init_271 : decode cX6_init 271 = .ok (.bipush 10, 2) := dk_16 10 (dk_at dksX6_init_11 11 rfl rfl)
theorem dX6_init_273 : decode cX6_init 273 = .ok (.iastore, 1) := dk_79 (dk_at dksX6_init_11 13 rfl rfl)
theorem dX6_init_274 : decode cX6_init 274 = .ok (.dup, 1) := dk_89 (dk_at dksX6_init_11 14 rfl rfl)
theorem dX6_init_275 : decode cX6_init 275 = .ok (.iconst 1, 1) := dk_4 (dk_at dksX6_init_11 15 rfl rfl)
theorem dX6_init_276 : decode cX6_init 276 = .ok (.bipush 11, 2) := dk_16 11 (dk_at dksX6_init_11 16 rfl rfl)
theorem dX6_init_278 : decode cX6_init 278 = .ok (.iastore, 1) := dk_79 (dk_at dksX6_init_11 18 rfl rfl)
theorem dX6_init_279 : decode cX6_init 279 = .ok (.dup, 1) := dk_89 (dk_at dksX6_init_11 19 rfl rfl)
theorem dX6_init_280 : decode cX6_init 280 = .ok (.iconst 2, 1) := dk_5 (dk_at dksX6_init_11 20 rfl rfl)
theorem dX6_init_281 : decode cX6_init 281 = .ok (.bipush 12, 2) := dk_16 12 (dk_at dksX6_init_11 21 rfl rfl)
theorem dX6_init_283 : decode cX6_init 283 = .ok (.iastore, 1) := dk_79 (dk_at dksX6_init_11 23 rfl rfl)
theorem dX6_init_284 : decode cX6_init 284 = .ok (.dup, 1) := dk_89 (dk_at dksX6_init_12 0 rfl rfl)
theorem dX6_init_285 : decode cX6_init 285 = .ok (.iconst 3, 1) := dk_6 (dk_at dksX6_init_12 1 rfl rfl)
theorem dX6_init_286 : decode cX6_init 286 = .ok (.iconst 0, 1) := dk_3 (dk_at dksX6_init_12 2 rfl rfl)
theorem dX6_init_287 : decode cX6_init 287 = .ok (.iastore, 1) := dk_79 (dk_at dksX6_init_12 3 rfl rfl)
theorem dX6_init_288 : decode cX6_init 288 = .ok (.dup, 1) := dk_89 (dk_at dksX6_init_12 4 rfl rfl)
theorem dX6_init_289 : decode cX6_init 289 = .ok (.iconst 4, 1) := dk_7 (dk_at dksX6_init_12 5 rfl rfl)
theorem dX6_init_290 : decode cX6_init 290 = .ok (.bipush 20, 2) := dk_16 20 (dk_at dksX6_init_12 6 rfl rfl)
theorem dX6_init_292 : decode cX6_init 292 = .ok (.iastore, 1) := dk_79 (dk_at dksX6_init_12 8 rfl rfl)
theorem dX6_init_293 : decode cX6_init 293 = .ok (.dup, 1) := dk_89 (dk_at dksX6_init_12 9 rfl rfl)
theorem dX6_init_294 : decode cX6_init 294 = .ok (.iconst 5, 1) := dk_8 (dk_at dksX6_init_12 10 rfl rfl)
theorem dX6_init_295 : decode cX6_init 295 = .ok (.iconst 0, 1) := dk_3 (dk_at dksX6_init_12 11 rfl rfl)
theorem dX6_init_296 : decode cX6_init 296 = .ok (.iastore, 1) := dk_79 (dk_at dksX6_init_12 12 rfl rfl)
theorem dX6_init_297 : decode cX6_init 297 = .ok (.dup, 1) := dk_89 (dk_at dksX6_init_12 13 rfl rfl)
theorem dX6_init_298 : decode cX6_init 298 = .ok (.bipush 6, 2) := dk_16 6 (dk_at dksX6_init_12 14 rfl rfl)
theorem dX6_init_300 : decode cX6_init 300 = .ok (.bipush 30, 2) := dk_16 30 (dk_at dksX6_init_12 16 rfl rfl)
theorem dX6_init_302 : decode cX6_init 302 = .ok (.iastore, 1) := dk_79 (dk_at dksX6_init_12 18 rfl rfl)
theorem dX6_init_303 : decode cX6_init 303 = .ok (.dup, 1) := dk_89 (dk_at dksX6_init_12 19 rfl rfl)
theorem dX6_init_304 : decode cX6_init 304 = .ok (.bipush 7, 2) := dk_16 7 (dk_at dksX6_init_12 20 rfl rfl)
theorem dX6_init_306 : decode cX6_init 306 = .ok (.iconst 0, 1) := dk_3 (dk_at dksX6_init_12 22 rfl rfl)
theorem dX6_init_307 : decode cX6_init 307 = .ok (.iastore, 1) := dk_79 (dk_at dksX6_init_12 23 rfl rfl)
theorem dX6_init_308 : decode cX6_init 308 = .ok (.dup, 1) := dk_89 (dk_at dksX6_init_13 0 rfl rfl)
theorem dX6_init_309 : decode cX6_init 309 = .ok (.bipush 8, 2) := dk_16 8 (dk_at dksX6_init_13 1 rfl rfl)
theorem dX6_init_311 : decode cX6_init 311 = .ok (.iconst 0, 1) := dk_3 (dk_at dksX6_init_13 3 rfl rfl)
theorem dX6_init_312 : decode cX6_init 312 = .ok (.iastore, 1) := dk_79 (dk_at dksX6_init_13 4 rfl rfl)
theorem dX6_init_313 : decode cX6_init 313 = .ok (.dup, 1) := dk_89 (dk_at dksX6_init_13 5 rfl rfl)
theorem dX6_init_314 : decode cX6_init 314 = .ok (.bipush 9, 2) := dk_16 9 (dk_at dksX6_init_13 6 rfl rfl)
theorem dX6_init_316 : decode cX6_init 316 = .ok (.iconst 0, 1) := dk_3 (dk_at dksX6_init_13 8 rfl rfl)
theorem dX6_init_317 : decode cX6_init 317 = .ok (.iastore, 1) := dk_79 (dk_at dksX6_init_13 9 rfl rfl)
theorem dX6_init_318 : decode cX6_init 318 = .ok (.dup, 1) := dk_89 (dk_at dksX6_init_13 10 rfl rfl)
theorem dX6_init_319 : decode cX6_init 319 = .ok (.bipush 10, 2) := dk_16 10 (dk_at dksX6_init_13 11 rfl rfl)
theorem dX6_init_321 : decode cX6_init 321 = .ok (.iconst 0, 1) := dk_3 (dk_at dksX6_init_13 13 rfl rfl)
theorem dX6_init_322 : decode cX6_init 322 = .ok (.iastore, 1) := dk_79 (dk_at dksX6_init_13 14 rfl rfl)
theorem dX6_init_323 : decode cX6_init 323 = .ok (.dup, 1) := dk_89 (dk_at dksX6_init_13 15 rfl rfl)
theorem dX6_init_324 : decode cX6_init 324 = .ok (.bipush 11, 2) := dk_16 11 (dk_at dksX6_init_13 16 rfl rfl)
theorem dX6_init_326 : decode cX6_init 326 = .ok (.bipush 40, 2) := dk_16 40 (dk_at dksX6_init_13 18 rfl rfl)
theorem dX6_init_328 : decode cX6_init 328 = .ok (.iastore, 1) := dk_79 (dk_at dksX6_init_13 20 rfl rfl)
theorem dX6_init_329 : decode cX6_init 329 = .ok (.dup, 1) := dk_89 (dk_at dksX6_init_13 21 rfl rfl)
theorem dX6_init_330 : decode cX6_init 330 = .ok (.bipush 12, 2) := dk_16 12 (dk_at dksX6_init_13 22 rfl rfl)
theorem dX6_init_332 : decode cX6_init 332 = .ok (.bipush 50, 2) := dk_16 50 (dk_at dksX6_init_14 0 rfl rfl)
theorem dX6_init_334 : decode cX6_init 334 = .ok (.iastore, 1) := dk_79 (dk_at dksX6_init_14 2 rfl rfl)
theorem dX6_init_335 : decode cX6_init 335 = .ok (.dup, 1) := dk_89 (dk_at dksX6_init_14 3 rfl rfl)
theorem dX6_init_336 : decode cX6_init 336 = .ok (.bipush 13, 2) := dk_16 13 (dk_at dksX6_init_14 4 rfl rfl)
theorem dX6_init_338 : decode cX6_init 338 = .ok (.bipush 51, 2) := dk_16 51 (dk_at dksX6_init_14 6 rfl rfl)
theorem dX6_init_340 : decode cX6_init 340 = .ok (.iastore, 1) := dk_79 (dk_at dksX6_init_14 8 rfl rfl)
theorem dX6_init_341 : decode cX6_init 341 = .ok (.dup, 1) := dk_89 (dk_at dksX6_init_14 9 rfl rfl)
theorem dX6_init_342 : decode cX6_init 342 = .ok (.bipush 14, 2) := dk_16 14 (dk_at dksX6_init_14 10 rfl rfl)
theorem dX6_init_344 : decode cX6_init 344 = .ok (.iconst 0, 1) := dk_3 (dk_at dksX6_init_14 12 rfl rfl)
theorem dX6_init_345 : decode cX6_init 345 = .ok (.iastore, 1) := dk_79 (dk_at dksX6_init_14 13 rfl rfl)
theorem dX6_init_346 : decode cX6_init 346 = .ok (.dup, 1) := dk_89 (dk_at dksX6_init_14 14 rfl rfl)
theorem dX6_init_347 : decode cX6_init 347 = .ok (.bipush 15, 2) := dk_16 15 (dk_at dksX6_init_14 15 rfl rfl)
theorem dX6_init_349 : decode cX6_init 349 = .ok (.iconst 0, 1) := dk_3 (dk_at dksX6_init_14 17 rfl rfl)
theorem dX6_init_350 : decode cX6_init 350 = .ok (.iastore, 1) := dk_79 (dk_at dksX6_init_14 18 rfl rfl)
theorem dX6_init_351 : decode cX6_init 351 = .ok (.dup, 1) := dk_89 (dk_at dksX6_init_14 19 rfl rfl)
theorem dX6_init_352 : decode cX6_init 352 = .ok (.bipush 16, 2) := dk_16 16 (dk_at dksX6_init_14 20 rfl rfl)
theorem dX6_init_354 : decode cX6_init 354 = .ok (.iconst 0, 1) := dk_3 (dk_at dksX6_init_14 22 rfl rfl)
theorem dX6_init_355 : decode cX6_init 355 = .ok (.iastore, 1) := dk_79 (dk_at dksX6_init_14 23 rfl rfl)
theorem dX6_init_356 : decode cX6_init 356 = .ok (.dup, 1) := dk_89 (dk_at dksX6_init_15 0 rfl rfl)
theorem dX6_init_357 : decode cX6_init 357 = .ok (.bipush 17, 2) := dk_16 17 (dk_at dksX6_init_15 1 rfl rfl)
theorem dX6_init_359 : decode cX6_init 359 = .ok (.bipush 60, 2) := dk_16 60 (dk_at dksX6_init_15 3 rfl rfl)
theorem dX6_init_361 : decode cX6_init 361 = .ok (.iastore, 1) := dk_79 (dk_at dksX6_init_15 5 rfl rfl)
theorem dX6_init_362 : decode cX6_init 362 = .ok (.dup, 1) := dk_89 (dk_at dksX6_init_15 6 rfl rfl)
theorem dX6_init_363 : decode cX6_init 363 = .ok (.bipush 18, 2) := dk_16 18 (dk_at dksX6_init_15 7 rfl rfl)
theorem dX6_init_365 : decode cX6_init 365 = .ok (.bipush 71, 2) := dk_16 71 (dk_at dksX6_init_15 9 rfl rfl)
theorem dX6_init_367 : decode cX6_init 367 = .ok (.iastore, 1) := dk_79 (dk_at dksX6_init_15 11 rfl rfl)
theorem dX6_init_368 : decode cX6_init 368 = .ok (.dup, 1) := dk_89 (dk_at dksX6_init_15 12 rfl rfl)
theorem dX6_init_369 : decode cX6_init 369 = .ok (.bipush 19, 2) := dk_16 19 (dk_at dksX6_init_15 13 rfl rfl)
theorem dX6_init_371 : decode cX6_init 371 = .ok (.bipush 70, 2) := dk_16 70 (dk_at dksX6_init_15 15 rfl rfl)
theorem dX6_init_373 : decode cX6_init 373 = .ok (.iastore, 1) := dk_79 (dk_at dksX6_init_15 17 rfl rfl)
theorem dX6_init_374 : decode cX6_init 374 = .ok (.dup, 1) := dk_89 (dk_at dksX6_init_15 18 rfl rfl)
theorem dX6_init_375 : decode cX6_init 375 = .ok (.bipush 20, 2) := dk_16 20 (dk_at dksX6_init_15 19 rfl rfl)
theorem dX6_init_377 : decode cX6_init 377 = .ok (.iconst 0, 1) := dk_3 (dk_at dksX6_init_15 21 rfl rfl)
theorem dX6_init_378 : decode cX6_init 378 = .ok (.iastore, 1) := dk_79 (dk_at dksX6_init_15 22 rfl rfl)
theorem dX6_init_379 : decode cX6_init 379 = .ok (.putfield 56, 3) := dk_181 0 56 (dk_at dksX6_init_16 0 rfl rfl)
theorem dX6_init_382 : decode cX6_init 382 = .ok (.aload_n 0, 1) := dk_42 (dk_at dksX6_init_16 3 rfl rfl)
theorem dX6_init_383 : decode cX6_init 383 = .ok (.bipush 20, 2) := dk_16 20 (dk_at dksX6_init_16 4 rfl rfl)
theorem dX6_init_385 : decode cX6_init 385 = .ok (.newarray .int, 2) := dk_188_10 (dk_at dksX6_init_16 6 rfl rfl)
theorem dX6_init_387 : decode cX6_init 387 = .ok (.putfield 59, 3) := dk_181 0 59 (dk_at dksX6_init_16 8 rfl rfl)
theorem dX6_init_390 : decode cX6_init 390 = .ok (.aload_n 0, 1) := dk_42 (dk_at dksX6_init_16 11 rfl rfl)
theorem dX6_init_391 : decode cX6_init 391 = .ok (.bipush 6, 2) := dk_16 6 (dk_at dksX6_init_16 12 rfl rfl)
theorem dX6_init_393 : decode cX6_init 393 = .ok (.newarray .int, 2) := dk_188_10 (dk_at dksX6_init_16 14 rfl rfl)
theorem dX6_init_395 : decode cX6_init 395 = .ok (.dup, 1) := dk_89 (dk_at dksX6_init_16 16 rfl rfl)
theorem dX6_init_396 : decode cX6_init 396 = .ok (.iconst 0, 1) := dk_3 (dk_at dksX6_init_16 17 rfl rfl)
theorem dX6_init_397 : decode cX6_init 397 = .ok (.iconst (-1), 1) := dk_2 (dk_at dksX6_init_16 18 rfl rfl)
theorem dX6_init_398 : decode cX6_init 398 = .ok (.iastore, 1) := dk_79 (dk_at dksX6_init_16 19 rfl rfl)
theorem dX6_init_399 : decode cX6_init 399 = .ok (.dup, 1) := dk_89 (dk_at dksX6_init_16 20 rfl rfl)
theorem dX6_init_400 : decode cX6_init 400 = .ok (.iconst 1, 1) := dk_4 (dk_at dksX6_init_16 21 rfl rfl)
theorem dX6_init_401 : decode cX6_init 401 = .ok (.iconst (-1), 1) := dk_2 (dk_at dksX6_init_16 22 rfl rfl)
theorem dX6_init_402 : decode cX6_init 402 = .ok (.iastore, 1) := dk_79 (dk_at dksX6_init_16 23 rfl rfl)
theorem dX6_init_403 : decode cX6_init 403 = .ok (.dup, 1) := dk_89 (dk_at dksX6_init_17 0 rfl rfl)
theorem dX6_init_404 : decode cX6_init 404 = .ok (.iconst 2, 1) := dk_5 (dk_at dksX6_init_17 1 rfl rfl)
theorem dX6_init_405 : decode cX6_init 405 = .ok (.iconst (-1), 1) := dk_2 (dk_at dksX6_init_17 2 rfl rfl)
theorem dX6_init_406 : decode cX6_init 406 = .ok (.iastore, 1) := dk_79 (dk_at dksX6_init_17 3 rfl rfl)
theorem dX6_init_407 : decode cX6_init 407 = .ok (.dup, 1) := dk_89 (dk_at dksX6_init_17 4 rfl rfl)
theorem dX6_init_408 : decode cX6_init 408 = .ok (.iconst 3, 1) := dk_6 (dk_at dksX6_init_17 5 rfl rfl)
theorem dX6_init_409 : decode cX6_init 409 = .ok (.iconst (-1), 1) := dk_2 (dk_at dksX6_init_17 6 rfl rfl)
theorem dX6_init_410 : decode cX6_init 410 = .ok (.iastore, 1) := dk_79 (dk_at dksX6_init_17 7 rfl rfl)
theorem dX6_init_411 : decode cX6_init 411 = .ok (.dup, 1) := dk_89 (dk_at dksX6_init_17 8 rfl rfl)
theorem dX6_init_412 : decode cX6_init 412 = .ok (.iconst 4, 1) := dk_7 (dk_at dksX6_init_17 9 rfl rfl)
theorem dX6_init_413 : decode cX6_init 413 = .ok (.iconst (-1), 1) := dk_2 (dk_at dksX6_init_17 10 rfl rfl)
theorem dX6_init_414 : decode cX6_init 414 = .ok (.iastore, 1) := dk_79 (dk_at dksX6_init_17 11 rfl rfl)
theorem dX6_init_415 : decode cX6_init 415 = .ok (.dup, 1) := dk_89 (dk_at dksX6_init_17 12 rfl rfl)
theorem dX6_init_416 : decode cX6_init 416 = .ok (.iconst 5, 1) := dk_8 (dk_at dksX6_init_17 13 rfl rfl)
theorem dX6_init_417 : decode cX6_init 417 = .ok (.iconst (-1), 1) := dk_2 (dk_at dksX6_init_17 14 rfl rfl)
theorem dX6_init_418 : decode cX6_init 418 = .ok (.iastore, 1) := dk_79 (dk_at dksX6_init_17 15 rfl rfl)
theorem dX6_init_419 : decode cX6_init 419 = .ok (.putfield 62, 3) := dk_181 0 62 (dk_at dksX6_init_17 16 rfl rfl)
theorem dX6_init_422 : decode cX6_init 422 = .ok (.aload_n 0, 1) := dk_42 (dk_at dksX6_init_17 19 rfl rfl)
theorem dX6_init_423 : decode cX6_init 423 = .ok (.bipush 6, 2) := dk_16 6 (dk_at dksX6_init_17 20 rfl rfl)
theorem dX6_init_425 : decode cX6_init 425 = .ok (.newarray .int, 2) := dk_188_10 (dk_at dksX6_init_17 22 rfl rfl)
theorem dX6_init_427 : decode cX6_init 427 = .ok (.putfield 65, 3) := dk_181 0 65 (dk_at dksX6_init_18 0 rfl rfl)
theorem dX6_init_430 : decode cX6_init 430 = .ok (.aload_n 0, 1) := dk_42 (dk_at dksX6_init_18 3 rfl rfl)
theorem dX6_init_431 : decode cX6_init 431 = .ok (.sipush 360, 3) := dk_17 1 104 (dk_at dksX6_init_18 4 rfl rfl)
theorem dX6_init_434 : decode cX6_init 434 = .ok (.newarray .long, 2) := dk_188_11 (dk_at dksX6_init_18 7 rfl rfl)
theorem dX6_init_436 : decode cX6_init 436 = .ok (.putfield 68, 3) := dk_181 0 68 (dk_at dksX6_init_18 9 rfl rfl)
theorem dX6_init_439 : decode cX6_init 439 = .ok (.aload_n 0, 1) := dk_42 (dk_at dksX6_init_18 12 rfl rfl)
theorem dX6_init_440 : decode cX6_init 440 = .ok (.bipush 60, 2) := dk_16 60 (dk_at dksX6_init_18 13 rfl rfl)
theorem dX6_init_442 : decode cX6_init 442 = .ok (.newarray .long, 2) := dk_188_11 (dk_at dksX6_init_18 15 rfl rfl)
theorem dX6_init_444 : decode cX6_init 444 = .ok (.putfield 72, 3) := dk_181 0 72 (dk_at dksX6_init_18 17 rfl rfl)
theorem dX6_init_447 : decode cX6_init 447 = .ok (.return_, 1) := dk_177 (dk_at dksX6_init_18 20 rfl rfl)
abbrev cX6_fresh : ByteArray := prog_23_method_3_code
def yX6_fresh : MethodName := ⟨RX6, "fresh", "()[I"⟩
def dkwX6_fresh_1 : List UInt8 := [42, 176]
abbrev dktX6_fresh_1 : List UInt8 := dkwX6_fresh_1 ++ []
def dkwX6_fresh_0 : List UInt8 := [17, 0, 138, 188, 10, 75, 3, 60, 27, 16, 8, 162, 0, 13, 42, 27, 8, 79, 132, 1, 1, 167, 255, 243]
abbrev dktX6_fresh_0 : List UInt8 := dkwX6_fresh_0 ++ dktX6_fresh_1
theorem dksX6_fresh_0 : cX6_fresh.data.toList.drop 0 = dktX6_fresh_0 := by decide +kernel
theorem dksX6_fresh_1 : cX6_fresh.data.toList.drop 24 = dktX6_fresh_1 := dk_seg dksX6_fresh_0 24 rfl rfl
theorem dX6_fresh_0 : decode cX6_fresh 0 = .ok (.sipush 138, 3) := dk_17 0 138 (dk_at dksX6_fresh_0 0 rfl rfl)
theorem dX6_fresh_3 : decode cX6_fresh 3 = .ok (.newarray .int, 2) := dk_188_10 (dk_at dksX6_fresh_0 3 rfl rfl)
theorem dX6_fresh_5 : decode cX6_fresh 5 = .ok (.astore_n 0, 1) := dk_75 (dk_at dksX6_fresh_0 5 rfl rfl)
theorem dX6_fresh_6 : decode cX6_fresh 6 = .ok (.iconst 0, 1) := dk_3 (dk_at dksX6_fresh_0 6 rfl rfl)
theorem dX6_fresh_7 : decode cX6_fresh 7 = .ok (.istore_n 1, 1) := dk_60 (dk_at dksX6_fresh_0 7 rfl rfl)
theorem dX6_fresh_8 : decode cX6_fresh 8 = .ok (.iload_n 1, 1) := dk_27 (dk_at dksX6_fresh_0 8 rfl rfl)
theorem dX6_fresh_9 : decode cX6_fresh 9 = .ok (.bipush 8, 2) := dk_16 8 (dk_at dksX6_fresh_0 9 rfl rfl)
theorem dX6_fresh_11 : decode cX6_fresh 11 = .ok (.if_icmp .ge 13, 3) := dk_162 0 13 (dk_at dksX6_fresh_0 11 rfl rfl)
theorem dX6_fresh_14 : decode cX6_fresh 14 = .ok (.aload_n 0, 1) := dk_42 (dk_at dksX6_fresh_0 14 rfl rfl)
theorem dX6_fresh_15 : decode cX6_fresh 15 = .ok (.iload_n 1, 1) := dk_27 (dk_at dksX6_fresh_0 15 rfl rfl)
theorem dX6_fresh_16 : decode cX6_fresh 16 = .ok (.iconst 5, 1) := dk_8 (dk_at dksX6_fresh_0 16 rfl rfl)
theorem dX6_fresh_17 : decode cX6_fresh 17 = .ok (.iastore, 1) := dk_79 (dk_at dksX6_fresh_0 17 rfl rfl)
theorem dX6_fresh_18 : decode cX6_fresh 18 = .ok (.iinc 1 1, 3) := dk_132 1 1 (dk_at dksX6_fresh_0 18 rfl rfl)
theorem dX6_fresh_21 : decode cX6_fresh 21 = .ok (.goto (-13), 3) := dk_167 255 243 (dk_at dksX6_fresh_0 21 rfl rfl)
theorem dX6_fresh_24 : decode cX6_fresh 24 = .ok (.aload_n 0, 1) := dk_42 (dk_at dksX6_fresh_1 0 rfl rfl)
theorem dX6_fresh_25 : decode cX6_fresh 25 = .ok (.areturn, 1) := dk_176 (dk_at dksX6_fresh_1 1 rfl rfl)
abbrev cX6_image : ByteArray := prog_23_method_6_code
def yX6_image : MethodName := ⟨RX6, "image", "()I"⟩
def dkwX6_image_1 : List UInt8 := [46, 79, 132, 1, 1, 167, 255, 234, 42, 180, 0, 15, 16, 80, 46, 172]
abbrev dktX6_image_1 : List UInt8 := dkwX6_image_1 ++ []
def dkwX6_image_0 : List UInt8 := [42, 4, 181, 0, 75, 3, 60, 27, 17, 0, 138, 162, 0, 21, 42, 180, 0, 22, 27, 42, 180, 0, 15, 27]
abbrev dktX6_image_0 : List UInt8 := dkwX6_image_0 ++ dktX6_image_1
theorem dksX6_image_0 : cX6_image.data.toList.drop 0 = dktX6_image_0 := by decide +kernel
theorem dksX6_image_1 : cX6_image.data.toList.drop 24 = dktX6_image_1 := dk_seg dksX6_image_0 24 rfl rfl
theorem dX6_image_0 : decode cX6_image 0 = .ok (.aload_n 0, 1) := dk_42 (dk_at dksX6_image_0 0 rfl rfl)
theorem dX6_image_1 : decode cX6_image 1 = .ok (.iconst 1, 1) := dk_4 (dk_at dksX6_image_0 1 rfl rfl)
theorem dX6_image_2 : decode cX6_image 2 = .ok (.putfield 75, 3) := dk_181 0 75 (dk_at dksX6_image_0 2 rfl rfl)
theorem dX6_image_5 : decode cX6_image 5 = .ok (.iconst 0, 1) := dk_3 (dk_at dksX6_image_0 5 rfl rfl)
theorem dX6_image_6 : decode cX6_image 6 = .ok (.istore_n 1, 1) := dk_60 (dk_at dksX6_image_0 6 rfl rfl)
theorem dX6_image_7 : decode cX6_image 7 = .ok (.iload_n 1, 1) := dk_27 (dk_at dksX6_image_0 7 rfl rfl)
theorem dX6_image_8 : decode cX6_image 8 = .ok (.sipush 138, 3) := dk_17 0 138 (dk_at dksX6_image_0 8 rfl rfl)
theorem dX6_image_11 : decode cX6_image 11 = .ok (.if_icmp .ge 21, 3) := dk_162 0 21 (dk_at dksX6_image_0 11 rfl rfl)
theorem dX6_image_14 : decode cX6_image 14 = .ok (.aload_n 0, 1) := dk_42 (dk_at dksX6_image_0 14 rfl rfl)
theorem dX6_image_15 : decode cX6_image 15 = .ok (.getfield 22, 3) := dk_180 0 22 (dk_at dksX6_image_0 15 rfl rfl)
theorem dX6_image_18 : decode cX6_image 18 = .ok (.iload_n 1, 1) := dk_27 (dk_at dksX6_image_0 18 rfl rfl)
theorem dX6_image_19 : decode cX6_image 19 = .ok (.aload_n 0, 1) := dk_42 (dk_at dksX6_image_0 19 rfl rfl)
theorem dX6_image_20 : decode cX6_image 20 = .ok (.getfield 15, 3) := dk_180 0 15 (dk_at dksX6_image_0 20 rfl rfl)
theorem dX6_image_23 : decode cX6_image 23 = .ok (.iload_n 1, 1) := dk_27 (dk_at dksX6_image_0 23 rfl rfl)
theorem dX6_image_24 : decode cX6_image 24 = .ok (.iaload, 1) := dk_46 (dk_at dksX6_image_1 0 rfl rfl)
theorem dX6_image_25 : decode cX6_image 25 = .ok (.iastore, 1) := dk_79 (dk_at dksX6_image_1 1 rfl rfl)
theorem dX6_image_26 : decode cX6_image 26 = .ok (.iinc 1 1, 3) := dk_132 1 1 (dk_at dksX6_image_1 2 rfl rfl)
theorem dX6_image_29 : decode cX6_image 29 = .ok (.goto (-22), 3) := dk_167 255 234 (dk_at dksX6_image_1 5 rfl rfl)
theorem dX6_image_32 : decode cX6_image 32 = .ok (.aload_n 0, 1) := dk_42 (dk_at dksX6_image_1 8 rfl rfl)
theorem dX6_image_33 : decode cX6_image 33 = .ok (.getfield 15, 3) := dk_180 0 15 (dk_at dksX6_image_1 9 rfl rfl)
theorem dX6_image_36 : decode cX6_image 36 = .ok (.bipush 80, 2) := dk_16 80 (dk_at dksX6_image_1 12 rfl rfl)
theorem dX6_image_38 : decode cX6_image 38 = .ok (.iaload, 1) := dk_46 (dk_at dksX6_image_1 14 rfl rfl)
theorem dX6_image_39 : decode cX6_image 39 = .ok (.ireturn, 1) := dk_172 (dk_at dksX6_image_1 15 rfl rfl)
abbrev cX6_undo : ByteArray := prog_23_method_7_code
def yX6_undo : MethodName := ⟨RX6, "undo", "()I"⟩
def dkwX6_undo_1 : List UInt8 := [42, 180, 0, 22, 27, 46, 79, 132, 1, 1, 167, 255, 234, 42, 180, 0, 15, 16, 80, 46, 172]
abbrev dktX6_undo_1 : List UInt8 := dkwX6_undo_1 ++ []
def dkwX6_undo_0 : List UInt8 := [42, 180, 0, 75, 154, 0, 6, 16, 253, 172, 3, 60, 27, 17, 0, 138, 162, 0, 21, 42, 180, 0, 15, 27]
abbrev dktX6_undo_0 : List UInt8 := dkwX6_undo_0 ++ dktX6_undo_1
theorem dksX6_undo_0 : cX6_undo.data.toList.drop 0 = dktX6_undo_0 := by decide +kernel
theorem dksX6_undo_1 : cX6_undo.data.toList.drop 24 = dktX6_undo_1 := dk_seg dksX6_undo_0 24 rfl rfl
theorem dX6_undo_0 : decode cX6_undo 0 = .ok (.aload_n 0, 1) := dk_42 (dk_at dksX6_undo_0 0 rfl rfl)
theorem dX6_undo_1 : decode cX6_undo 1 = .ok (.getfield 75, 3) := dk_180 0 75 (dk_at dksX6_undo_0 1 rfl rfl)
theorem dX6_undo_4 : decode cX6_undo 4 = .ok (.ifCond .ne 6, 3) := dk_154 0 6 (dk_at dksX6_undo_0 4 rfl rfl)
theorem dX6_undo_7 : decode cX6_undo 7 = .ok (.bipush (-3), 2) := dk_16 253 (dk_at dksX6_undo_0 7 rfl rfl)
theorem dX6_undo_9 : decode cX6_undo 9 = .ok (.ireturn, 1) := dk_172 (dk_at dksX6_undo_0 9 rfl rfl)
theorem dX6_undo_10 : decode cX6_undo 10 = .ok (.iconst 0, 1) := dk_3 (dk_at dksX6_undo_0 10 rfl rfl)
theorem dX6_undo_11 : decode cX6_undo 11 = .ok (.istore_n 1, 1) := dk_60 (dk_at dksX6_undo_0 11 rfl rfl)
theorem dX6_undo_12 : decode cX6_undo 12 = .ok (.iload_n 1, 1) := dk_27 (dk_at dksX6_undo_0 12 rfl rfl)
theorem dX6_undo_13 : decode cX6_undo 13 = .ok (.sipush 138, 3) := dk_17 0 138 (dk_at dksX6_undo_0 13 rfl rfl)
theorem dX6_undo_16 : decode cX6_undo 16 = .ok (.if_icmp .ge 21, 3) := dk_162 0 21 (dk_at dksX6_undo_0 16 rfl rfl)
theorem dX6_undo_19 : decode cX6_undo 19 = .ok (.aload_n 0, 1) := dk_42 (dk_at dksX6_undo_0 19 rfl rfl)
theorem dX6_undo_20 : decode cX6_undo 20 = .ok (.getfield 15, 3) := dk_180 0 15 (dk_at dksX6_undo_0 20 rfl rfl)
theorem dX6_undo_23 : decode cX6_undo 23 = .ok (.iload_n 1, 1) := dk_27 (dk_at dksX6_undo_0 23 rfl rfl)
theorem dX6_undo_24 : decode cX6_undo 24 = .ok (.aload_n 0, 1) := dk_42 (dk_at dksX6_undo_1 0 rfl rfl)
theorem dX6_undo_25 : decode cX6_undo 25 = .ok (.getfield 22, 3) := dk_180 0 22 (dk_at dksX6_undo_1 1 rfl rfl)
theorem dX6_undo_28 : decode cX6_undo 28 = .ok (.iload_n 1, 1) := dk_27 (dk_at dksX6_undo_1 4 rfl rfl)
theorem dX6_undo_29 : decode cX6_undo 29 = .ok (.iaload, 1) := dk_46 (dk_at dksX6_undo_1 5 rfl rfl)
theorem dX6_undo_30 : decode cX6_undo 30 = .ok (.iastore, 1) := dk_79 (dk_at dksX6_undo_1 6 rfl rfl)
theorem dX6_undo_31 : decode cX6_undo 31 = .ok (.iinc 1 1, 3) := dk_132 1 1 (dk_at dksX6_undo_1 7 rfl rfl)
theorem dX6_undo_34 : decode cX6_undo 34 = .ok (.goto (-22), 3) := dk_167 255 234 (dk_at dksX6_undo_1 10 rfl rfl)
theorem dX6_undo_37 : decode cX6_undo 37 = .ok (.aload_n 0, 1) := dk_42 (dk_at dksX6_undo_1 13 rfl rfl)
theorem dX6_undo_38 : decode cX6_undo 38 = .ok (.getfield 15, 3) := dk_180 0 15 (dk_at dksX6_undo_1 14 rfl rfl)
theorem dX6_undo_41 : decode cX6_undo 41 = .ok (.bipush 80, 2) := dk_16 80 (dk_at dksX6_undo_1 17 rfl rfl)
theorem dX6_undo_43 : decode cX6_undo 43 = .ok (.iaload, 1) := dk_46 (dk_at dksX6_undo_1 19 rfl rfl)
theorem dX6_undo_44 : decode cX6_undo 44 = .ok (.ireturn, 1) := dk_172 (dk_at dksX6_undo_1 20 rfl rfl)
abbrev cX6_gate : ByteArray := prog_23_method_14_code
def yX6_gate : MethodName := ⟨RX6, "gate", "(II)I"⟩
def dkwX6_gate_3 : List UInt8 := [16, 81, 92, 46, 4, 96, 79, 29, 172]
abbrev dktX6_gate_3 : List UInt8 := dkwX6_gate_3 ++ []
def dkwX6_gate_2 : List UInt8 := [29, 104, 96, 27, 79, 42, 180, 0, 15, 16, 8, 5, 29, 104, 96, 4, 96, 28, 79, 42, 180, 0, 15]
abbrev dktX6_gate_2 : List UInt8 := dkwX6_gate_2 ++ dktX6_gate_3
def dkwX6_gate_1 : List UInt8 := [42, 180, 0, 15, 16, 81, 46, 62, 29, 16, 9, 160, 0, 6, 16, 252, 172, 42, 180, 0, 15, 16, 8, 5]
abbrev dktX6_gate_1 : List UInt8 := dkwX6_gate_1 ++ dktX6_gate_2
def dkwX6_gate_0 : List UInt8 := [27, 184, 0, 87, 153, 0, 10, 28, 184, 0, 87, 154, 0, 5, 2, 172, 27, 28, 160, 0, 6, 16, 254, 172]
abbrev dktX6_gate_0 : List UInt8 := dkwX6_gate_0 ++ dktX6_gate_1
theorem dksX6_gate_0 : cX6_gate.data.toList.drop 0 = dktX6_gate_0 := by decide +kernel
theorem dksX6_gate_1 : cX6_gate.data.toList.drop 24 = dktX6_gate_1 := dk_seg dksX6_gate_0 24 rfl rfl
theorem dksX6_gate_2 : cX6_gate.data.toList.drop 48 = dktX6_gate_2 := dk_seg dksX6_gate_1 24 rfl rfl
theorem dksX6_gate_3 : cX6_gate.data.toList.drop 71 = dktX6_gate_3 := dk_seg dksX6_gate_2 23 rfl rfl
theorem dX6_gate_0 : decode cX6_gate 0 = .ok (.iload_n 1, 1) := dk_27 (dk_at dksX6_gate_0 0 rfl rfl)
theorem dX6_gate_1 : decode cX6_gate 1 = .ok (.invokestatic 87, 3) := dk_184 0 87 (dk_at dksX6_gate_0 1 rfl rfl)
theorem dX6_gate_4 : decode cX6_gate 4 = .ok (.ifCond .eq 10, 3) := dk_153 0 10 (dk_at dksX6_gate_0 4 rfl rfl)
theorem dX6_gate_7 : decode cX6_gate 7 = .ok (.iload_n 2, 1) := dk_28 (dk_at dksX6_gate_0 7 rfl rfl)
theorem dX6_gate_8 : decode cX6_gate 8 = .ok (.invokestatic 87, 3) := dk_184 0 87 (dk_at dksX6_gate_0 8 rfl rfl)
theorem dX6_gate_11 : decode cX6_gate 11 = .ok (.ifCond .ne 5, 3) := dk_154 0 5 (dk_at dksX6_gate_0 11 rfl rfl)
theorem dX6_gate_14 : decode cX6_gate 14 = .ok (.iconst (-1), 1) := dk_2 (dk_at dksX6_gate_0 14 rfl rfl)
theorem dX6_gate_15 : decode cX6_gate 15 = .ok (.ireturn, 1) := dk_172 (dk_at dksX6_gate_0 15 rfl rfl)
theorem dX6_gate_16 : decode cX6_gate 16 = .ok (.iload_n 1, 1) := dk_27 (dk_at dksX6_gate_0 16 rfl rfl)
theorem dX6_gate_17 : decode cX6_gate 17 = .ok (.iload_n 2, 1) := dk_28 (dk_at dksX6_gate_0 17 rfl rfl)
theorem dX6_gate_18 : decode cX6_gate 18 = .ok (.if_icmp .ne 6, 3) := dk_160 0 6 (dk_at dksX6_gate_0 18 rfl rfl)
theorem dX6_gate_21 : decode cX6_gate 21 = .ok (.bipush (-2), 2) := dk_16 254 (dk_at dksX6_gate_0 21 rfl rfl)
theorem dX6_gate_23 : decode cX6_gate 23 = .ok (.ireturn, 1) := dk_172 (dk_at dksX6_gate_0 23 rfl rfl)
theorem dX6_gate_24 : decode cX6_gate 24 = .ok (.aload_n 0, 1) := dk_42 (dk_at dksX6_gate_1 0 rfl rfl)
theorem dX6_gate_25 : decode cX6_gate 25 = .ok (.getfield 15, 3) := dk_180 0 15 (dk_at dksX6_gate_1 1 rfl rfl)
theorem dX6_gate_28 : decode cX6_gate 28 = .ok (.bipush 81, 2) := dk_16 81 (dk_at dksX6_gate_1 4 rfl rfl)
theorem dX6_gate_30 : decode cX6_gate 30 = .ok (.iaload, 1) := dk_46 (dk_at dksX6_gate_1 6 rfl rfl)
theorem dX6_gate_31 : decode cX6_gate 31 = .ok (.istore_n 3, 1) := dk_62 (dk_at dksX6_gate_1 7 rfl rfl)
theorem dX6_gate_32 : decode cX6_gate 32 = .ok (.iload_n 3, 1) := dk_29 (dk_at dksX6_gate_1 8 rfl rfl)
theorem dX6_gate_33 : decode cX6_gate 33 = .ok (.bipush 9, 2) := dk_16 9 (dk_at dksX6_gate_1 9 rfl rfl)
theorem dX6_gate_35 : decode cX6_gate 35 = .ok (.if_icmp .ne 6, 3) := dk_160 0 6 (dk_at dksX6_gate_1 11 rfl rfl)
theorem dX6_gate_38 : decode cX6_gate 38 = .ok (.bipush (-4), 2) := dk_16 252 (dk_at dksX6_gate_1 14 rfl rfl)
theorem dX6_gate_40 : decode cX6_gate 40 = .ok (.ireturn, 1) := dk_172 (dk_at dksX6_gate_1 16 rfl rfl)
theorem dX6_gate_41 : decode cX6_gate 41 = .ok (.aload_n 0, 1) := dk_42 (dk_at dksX6_gate_1 17 rfl rfl)
theorem dX6_gate_42 : decode cX6_gate 42 = .ok (.getfield 15, 3) := dk_180 0 15 (dk_at dksX6_gate_1 18 rfl rfl)
theorem dX6_gate_45 : decode cX6_gate 45 = .ok (.bipush 8, 2) := dk_16 8 (dk_at dksX6_gate_1 21 rfl rfl)
theorem dX6_gate_47 : decode cX6_gate 47 = .ok (.iconst 2, 1) := dk_5 (dk_at dksX6_gate_1 23 rfl rfl)
theorem dX6_gate_48 : decode cX6_gate 48 = .ok (.iload_n 3, 1) := dk_29 (dk_at dksX6_gate_2 0 rfl rfl)
theorem dX6_gate_49 : decode cX6_gate 49 = .ok (.imul, 1) := dk_104 (dk_at dksX6_gate_2 1 rfl rfl)
theorem dX6_gate_50 : decode cX6_gate 50 = .ok (.iadd, 1) := dk_96 (dk_at dksX6_gate_2 2 rfl rfl)
theorem dX6_gate_51 : decode cX6_gate 51 = .ok (.iload_n 1, 1) := dk_27 (dk_at dksX6_gate_2 3 rfl rfl)
theorem dX6_gate_52 : decode cX6_gate 52 = .ok (.iastore, 1) := dk_79 (dk_at dksX6_gate_2 4 rfl rfl)
theorem dX6_gate_53 : decode cX6_gate 53 = .ok (.aload_n 0, 1) := dk_42 (dk_at dksX6_gate_2 5 rfl rfl)
theorem dX6_gate_54 : decode cX6_gate 54 = .ok (.getfield 15, 3) := dk_180 0 15 (dk_at dksX6_gate_2 6 rfl rfl)
theorem dX6_gate_57 : decode cX6_gate 57 = .ok (.bipush 8, 2) := dk_16 8 (dk_at dksX6_gate_2 9 rfl rfl)
theorem dX6_gate_59 : decode cX6_gate 59 = .ok (.iconst 2, 1) := dk_5 (dk_at dksX6_gate_2 11 rfl rfl)
theorem dX6_gate_60 : decode cX6_gate 60 = .ok (.iload_n 3, 1) := dk_29 (dk_at dksX6_gate_2 12 rfl rfl)
theorem dX6_gate_61 : decode cX6_gate 61 = .ok (.imul, 1) := dk_104 (dk_at dksX6_gate_2 13 rfl rfl)
theorem dX6_gate_62 : decode cX6_gate 62 = .ok (.iadd, 1) := dk_96 (dk_at dksX6_gate_2 14 rfl rfl)
theorem dX6_gate_63 : decode cX6_gate 63 = .ok (.iconst 1, 1) := dk_4 (dk_at dksX6_gate_2 15 rfl rfl)
theorem dX6_gate_64 : decode cX6_gate 64 = .ok (.iadd, 1) := dk_96 (dk_at dksX6_gate_2 16 rfl rfl)
theorem dX6_gate_65 : decode cX6_gate 65 = .ok (.iload_n 2, 1) := dk_28 (dk_at dksX6_gate_2 17 rfl rfl)
theorem dX6_gate_66 : decode cX6_gate 66 = .ok (.iastore, 1) := dk_79 (dk_at dksX6_gate_2 18 rfl rfl)
theorem dX6_gate_67 : decode cX6_gate 67 = .ok (.aload_n 0, 1) := dk_42 (dk_at dksX6_gate_2 19 rfl rfl)
theorem dX6_gate_68 : decode cX6_gate 68 = .ok (.getfield 15, 3) := dk_180 0 15 (dk_at dksX6_gate_2 20 rfl rfl)
theorem dX6_gate_71 : decode cX6_gate 71 = .ok (.bipush 81, 2) := dk_16 81 (dk_at dksX6_gate_3 0 rfl rfl)
theorem dX6_gate_73 : decode cX6_gate 73 = .ok (.dup2, 1) := dk_92 (dk_at dksX6_gate_3 2 rfl rfl)
theorem dX6_gate_74 : decode cX6_gate 74 = .ok (.iaload, 1) := dk_46 (dk_at dksX6_gate_3 3 rfl rfl)
theorem dX6_gate_75 : decode cX6_gate 75 = .ok (.iconst 1, 1) := dk_4 (dk_at dksX6_gate_3 4 rfl rfl)
theorem dX6_gate_76 : decode cX6_gate 76 = .ok (.iadd, 1) := dk_96 (dk_at dksX6_gate_3 5 rfl rfl)
theorem dX6_gate_77 : decode cX6_gate 77 = .ok (.iastore, 1) := dk_79 (dk_at dksX6_gate_3 6 rfl rfl)
theorem dX6_gate_78 : decode cX6_gate 78 = .ok (.iload_n 3, 1) := dk_29 (dk_at dksX6_gate_3 7 rfl rfl)
theorem dX6_gate_79 : decode cX6_gate 79 = .ok (.ireturn, 1) := dk_172 (dk_at dksX6_gate_3 8 rfl rfl)
abbrev cX6_isCourt : ByteArray := prog_23_method_8_code
def yX6_isCourt : MethodName := ⟨RX6, "isCourt", "(I)Z"⟩
def dkwX6_isCourt_0 : List UInt8 := [26, 3, 16, 7, 184, 0, 79, 172]
abbrev dktX6_isCourt_0 : List UInt8 := dkwX6_isCourt_0 ++ []
theorem dksX6_isCourt_0 : cX6_isCourt.data.toList.drop 0 = dktX6_isCourt_0 := by decide +kernel
theorem dX6_isCourt_0 : decode cX6_isCourt 0 = .ok (.iload_n 0, 1) := dk_26 (dk_at dksX6_isCourt_0 0 rfl rfl)
theorem dX6_isCourt_1 : decode cX6_isCourt 1 = .ok (.iconst 0, 1) := dk_3 (dk_at dksX6_isCourt_0 1 rfl rfl)
theorem dX6_isCourt_2 : decode cX6_isCourt 2 = .ok (.bipush 7, 2) := dk_16 7 (dk_at dksX6_isCourt_0 2 rfl rfl)
theorem dX6_isCourt_4 : decode cX6_isCourt 4 = .ok (.invokestatic 79, 3) := dk_184 0 79 (dk_at dksX6_isCourt_0 4 rfl rfl)
theorem dX6_isCourt_7 : decode cX6_isCourt 7 = .ok (.ireturn, 1) := dk_172 (dk_at dksX6_isCourt_0 7 rfl rfl)
abbrev cX6_isIn : ByteArray := prog_23_method_2_code
def yX6_isIn : MethodName := ⟨RX6, "isIn", "(III)Z"⟩
def dkwX6_isIn_0 : List UInt8 := [26, 27, 161, 0, 12, 26, 28, 163, 0, 7, 4, 167, 0, 4, 3, 172]
abbrev dktX6_isIn_0 : List UInt8 := dkwX6_isIn_0 ++ []
theorem dksX6_isIn_0 : cX6_isIn.data.toList.drop 0 = dktX6_isIn_0 := by decide +kernel
theorem dX6_isIn_0 : decode cX6_isIn 0 = .ok (.iload_n 0, 1) := dk_26 (dk_at dksX6_isIn_0 0 rfl rfl)
theorem dX6_isIn_1 : decode cX6_isIn 1 = .ok (.iload_n 1, 1) := dk_27 (dk_at dksX6_isIn_0 1 rfl rfl)
theorem dX6_isIn_2 : decode cX6_isIn 2 = .ok (.if_icmp .lt 12, 3) := dk_161 0 12 (dk_at dksX6_isIn_0 2 rfl rfl)
theorem dX6_isIn_5 : decode cX6_isIn 5 = .ok (.iload_n 0, 1) := dk_26 (dk_at dksX6_isIn_0 5 rfl rfl)
theorem dX6_isIn_6 : decode cX6_isIn 6 = .ok (.iload_n 2, 1) := dk_28 (dk_at dksX6_isIn_0 6 rfl rfl)
theorem dX6_isIn_7 : decode cX6_isIn 7 = .ok (.if_icmp .gt 7, 3) := dk_163 0 7 (dk_at dksX6_isIn_0 7 rfl rfl)
theorem dX6_isIn_10 : decode cX6_isIn 10 = .ok (.iconst 1, 1) := dk_4 (dk_at dksX6_isIn_0 10 rfl rfl)
theorem dX6_isIn_11 : decode cX6_isIn 11 = .ok (.goto 4, 3) := dk_167 0 4 (dk_at dksX6_isIn_0 11 rfl rfl)
theorem dX6_isIn_14 : decode cX6_isIn 14 = .ok (.iconst 0, 1) := dk_3 (dk_at dksX6_isIn_0 14 rfl rfl)
theorem dX6_isIn_15 : decode cX6_isIn 15 = .ok (.ireturn, 1) := dk_172 (dk_at dksX6_isIn_0 15 rfl rfl)
abbrev cX6_goose : ByteArray := prog_23_method_15_code
def yX6_goose : MethodName := ⟨RX6, "goose", "(IIII)I"⟩
def dkwX6_goose_7 : List UInt8 := [180, 0, 15, 16, 80, 92, 46, 4, 96, 79, 21, 5, 172]
abbrev dktX6_goose_7 : List UInt8 := dkwX6_goose_7 ++ []
def dkwX6_goose_6 : List UInt8 := [5, 96, 29, 79, 42, 180, 0, 15, 16, 26, 16, 9, 21, 5, 104, 96, 6, 96, 21, 4, 79, 42]
abbrev dktX6_goose_6 : List UInt8 := dkwX6_goose_6 ++ dktX6_goose_7
def dkwX6_goose_5 : List UInt8 := [16, 26, 16, 9, 21, 5, 104, 96, 4, 96, 28, 79, 42, 180, 0, 15, 16, 26, 16, 9, 21, 5, 104, 96]
abbrev dktX6_goose_5 : List UInt8 := dkwX6_goose_5 ++ dktX6_goose_6
def dkwX6_goose_4 : List UInt8 := [132, 6, 1, 167, 255, 229, 42, 180, 0, 15, 16, 26, 16, 9, 21, 5, 104, 96, 27, 79, 42, 180, 0, 15]
abbrev dktX6_goose_4 : List UInt8 := dkwX6_goose_4 ++ dktX6_goose_5
def dkwX6_goose_3 : List UInt8 := [16, 9, 162, 0, 26, 42, 180, 0, 15, 16, 26, 16, 9, 21, 5, 104, 96, 21, 6, 96, 3, 79]
abbrev dktX6_goose_3 : List UInt8 := dkwX6_goose_3 ++ dktX6_goose_4
def dkwX6_goose_2 : List UInt8 := [180, 0, 15, 16, 80, 46, 54, 5, 21, 5, 16, 6, 160, 0, 6, 16, 252, 172, 3, 54, 6, 21, 6]
abbrev dktX6_goose_2 : List UInt8 := dkwX6_goose_2 ++ dktX6_goose_3
def dkwX6_goose_1 : List UInt8 := [184, 0, 79, 154, 0, 5, 2, 172, 28, 3, 16, 9, 184, 0, 79, 154, 0, 6, 16, 254, 172, 42]
abbrev dktX6_goose_1 : List UInt8 := dkwX6_goose_1 ++ dktX6_goose_2
def dkwX6_goose_0 : List UInt8 := [27, 3, 16, 6, 184, 0, 79, 153, 0, 21, 29, 184, 0, 87, 153, 0, 14, 21, 4, 2, 16, 8]
abbrev dktX6_goose_0 : List UInt8 := dkwX6_goose_0 ++ dktX6_goose_1
theorem dksX6_goose_0 : cX6_goose.data.toList.drop 0 = dktX6_goose_0 := by decide +kernel
theorem dksX6_goose_1 : cX6_goose.data.toList.drop 22 = dktX6_goose_1 := dk_seg dksX6_goose_0 22 rfl rfl
theorem dksX6_goose_2 : cX6_goose.data.toList.drop 44 = dktX6_goose_2 := dk_seg dksX6_goose_1 22 rfl rfl
theorem dksX6_goose_3 : cX6_goose.data.toList.drop 67 = dktX6_goose_3 := dk_seg dksX6_goose_2 23 rfl rfl
theorem dksX6_goose_4 : cX6_goose.data.toList.drop 89 = dktX6_goose_4 := dk_seg dksX6_goose_3 22 rfl rfl
theorem dksX6_goose_5 : cX6_goose.data.toList.drop 113 = dktX6_goose_5 := dk_seg dksX6_goose_4 24 rfl rfl
theorem dksX6_goose_6 : cX6_goose.data.toList.drop 137 = dktX6_goose_6 := dk_seg dksX6_goose_5 24 rfl rfl
theorem dksX6_goose_7 : cX6_goose.data.toList.drop 159 = dktX6_goose_7 := dk_seg dksX6_goose_6 22 rfl rfl
theorem dX6_goose_0 : decode cX6_goose 0 = .ok (.iload_n 1, 1) := dk_27 (dk_at dksX6_goose_0 0 rfl rfl)
theorem dX6_goose_1 : decode cX6_goose 1 = .ok (.iconst 0, 1) := dk_3 (dk_at dksX6_goose_0 1 rfl rfl)
theorem dX6_goose_2 : decode cX6_goose 2 = .ok (.bipush 6, 2) := dk_16 6 (dk_at dksX6_goose_0 2 rfl rfl)
theorem dX6_goose_4 : decode cX6_goose 4 = .ok (.invokestatic 79, 3) := dk_184 0 79 (dk_at dksX6_goose_0 4 rfl rfl)
theorem dX6_goose_7 : decode cX6_goose 7 = .ok (.ifCond .eq 21, 3) := dk_153 0 21 (dk_at dksX6_goose_0 7 rfl rfl)
theorem dX6_goose_10 : decode cX6_goose 10 = .ok (.iload_n 3, 1) := dk_29 (dk_at dksX6_goose_0 10 rfl rfl)
theorem dX6_goose_11 : decode cX6_goose 11 = .ok (.invokestatic 87, 3) := dk_184 0 87 (dk_at dksX6_goose_0 11 rfl rfl)
theorem dX6_goose_14 : decode cX6_goose 14 = .ok (.ifCond .eq 14, 3) := dk_153 0 14 (dk_at dksX6_goose_0 14 rfl rfl)
theorem dX6_goose_17 : decode cX6_goose 17 = .ok (.iload 4, 2) := dk_21 4 (dk_at dksX6_goose_0 17 rfl rfl)
theorem dX6_goose_19 : decode cX6_goose 19 = .ok (.iconst (-1), 1) := dk_2 (dk_at dksX6_goose_0 19 rfl rfl)
theorem dX6_goose_20 : decode cX6_goose 20 = .ok (.bipush 8, 2) := dk_16 8 (dk_at dksX6_goose_0 20 rfl rfl)
theorem dX6_goose_22 : decode cX6_goose 22 = .ok (.invokestatic 79, 3) := dk_184 0 79 (dk_at dksX6_goose_1 0 rfl rfl)
theorem dX6_goose_25 : decode cX6_goose 25 = .ok (.ifCond .ne 5, 3) := dk_154 0 5 (dk_at dksX6_goose_1 3 rfl rfl)
theorem dX6_goose_28 : decode cX6_goose 28 = .ok (.iconst (-1), 1) := dk_2 (dk_at dksX6_goose_1 6 rfl rfl)
theorem dX6_goose_29 : decode cX6_goose 29 = .ok (.ireturn, 1) := dk_172 (dk_at dksX6_goose_1 7 rfl rfl)
theorem dX6_goose_30 : decode cX6_goose 30 = .ok (.iload_n 2, 1) := dk_28 (dk_at dksX6_goose_1 8 rfl rfl)
theorem dX6_goose_31 : decode cX6_goose 31 = .ok (.iconst 0, 1) := dk_3 (dk_at dksX6_goose_1 9 rfl rfl)
theorem dX6_goose_32 : decode cX6_goose 32 = .ok (.bipush 9, 2) := dk_16 9 (dk_at dksX6_goose_1 10 rfl rfl)
theorem dX6_goose_34 : decode cX6_goose 34 = .ok (.invokestatic 79, 3) := dk_184 0 79 (dk_at dksX6_goose_1 12 rfl rfl)
theorem dX6_goose_37 : decode cX6_goose 37 = .ok (.ifCond .ne 6, 3) := dk_154 0 6 (dk_at dksX6_goose_1 15 rfl rfl)
theorem dX6_goose_40 : decode cX6_goose 40 = .ok (.bipush (-2), 2) := dk_16 254 (dk_at dksX6_goose_1 18 rfl rfl)
theorem dX6_goose_42 : decode cX6_goose 42 = .ok (.ireturn, 1) := dk_172 (dk_at dksX6_goose_1 20 rfl rfl)
theorem dX6_goose_43 : decode cX6_goose 43 = .ok (.aload_n 0, 1) := dk_42 (dk_at dksX6_goose_1 21 rfl rfl)
theorem dX6_goose_44 : decode cX6_goose 44 = .ok (.getfield 15, 3) := dk_180 0 15 (dk_at dksX6_goose_2 0 rfl rfl)
theorem dX6_goose_47 : decode cX6_goose 47 = .ok (.bipush 80, 2) := dk_16 80 (dk_at dksX6_goose_2 3 rfl rfl)
theorem dX6_goose_49 : decode cX6_goose 49 = .ok (.iaload, 1) := dk_46 (dk_at dksX6_goose_2 5 rfl rfl)
theorem dX6_goose_50 : decode cX6_goose 50 = .ok (.istore 5, 2) := dk_54 5 (dk_at dksX6_goose_2 6 rfl rfl)
theorem dX6_goose_52 : decode cX6_goose 52 = .ok (.iload 5, 2) := dk_21 5 (dk_at dksX6_goose_2 8 rfl rfl)
theorem dX6_goose_54 : decode cX6_goose 54 = .ok (.bipush 6, 2) := dk_16 6 (dk_at dksX6_goose_2 10 rfl rfl)
theorem dX6_goose_56 : decode cX6_goose 56 = .ok (.if_icmp .ne 6, 3) := dk_160 0 6 (dk_at dksX6_goose_2 12 rfl rfl)
theorem dX6_goose_59 : decode cX6_goose 59 = .ok (.bipush (-4), 2) := dk_16 252 (dk_at dksX6_goose_2 15 rfl rfl)
theorem dX6_goose_61 : decode cX6_goose 61 = .ok (.ireturn, 1) := dk_172 (dk_at dksX6_goose_2 17 rfl rfl)
theorem dX6_goose_62 : decode cX6_goose 62 = .ok (.iconst 0, 1) := dk_3 (dk_at dksX6_goose_2 18 rfl rfl)
theorem dX6_goose_63 : decode cX6_goose 63 = .ok (.istore 6, 2) := dk_54 6 (dk_at dksX6_goose_2 19 rfl rfl)
theorem dX6_goose_65 : decode cX6_goose 65 = .ok (.iload 6, 2) := dk_21 6 (dk_at dksX6_goose_2 21 rfl rfl)
theorem dX6_goose_67 : decode cX6_goose 67 = .ok (.bipush 9, 2) := dk_16 9 (dk_at dksX6_goose_3 0 rfl rfl)
theorem dX6_goose_69 : decode cX6_goose 69 = .ok (.if_icmp .ge 26, 3) := dk_162 0 26 (dk_at dksX6_goose_3 2 rfl rfl)
theorem dX6_goose_72 : decode cX6_goose 72 = .ok (.aload_n 0, 1) := dk_42 (dk_at dksX6_goose_3 5 rfl rfl)
theorem dX6_goose_73 : decode cX6_goose 73 = .ok (.getfield 15, 3) := dk_180 0 15 (dk_at dksX6_goose_3 6 rfl rfl)
theorem dX6_goose_76 : decode cX6_goose 76 = .ok (.bipush 26, 2) := dk_16 26 (dk_at dksX6_goose_3 9 rfl rfl)
theorem dX6_goose_78 : decode cX6_goose 78 = .ok (.bipush 9, 2) := dk_16 9 (dk_at dksX6_goose_3 11 rfl rfl)
theorem dX6_goose_80 : decode cX6_goose 80 = .ok (.iload 5, 2) := dk_21 5 (dk_at dksX6_goose_3 13 rfl rfl)
theorem dX6_goose_82 : decode cX6_goose 82 = .ok (.imul, 1) := dk_104 (dk_at dksX6_goose_3 15 rfl rfl)
theorem dX6_goose_83 : decode cX6_goose 83 = .ok (.iadd, 1) := dk_96 (dk_at dksX6_goose_3 16 rfl rfl)
theorem dX6_goose_84 : decode cX6_goose 84 = .ok (.iload 6, 2) := dk_21 6 (dk_at dksX6_goose_3 17 rfl rfl)
theorem dX6_goose_86 : decode cX6_goose 86 = .ok (.iadd, 1) := dk_96 (dk_at dksX6_goose_3 19 rfl rfl)
theorem dX6_goose_87 : decode cX6_goose 87 = .ok (.iconst 0, 1) := dk_3 (dk_at dksX6_goose_3 20 rfl rfl)
theorem dX6_goose_88 : decode cX6_goose 88 = .ok (.iastore, 1) := dk_79 (dk_at dksX6_goose_3 21 rfl rfl)
theorem dX6_goose_89 : decode cX6_goose 89 = .ok (.iinc 6 1, 3) := dk_132 6 1 (dk_at dksX6_goose_4 0 rfl rfl)
theorem dX6_goose_92 : decode cX6_goose 92 = .ok (.goto (-27), 3) := dk_167 255 229 (dk_at dksX6_goose_4 3 rfl rfl)
theorem dX6_goose_95 : decode cX6_goose 95 = .ok (.aload_n 0, 1) := dk_42 (dk_at dksX6_goose_4 6 rfl rfl)
theorem dX6_goose_96 : decode cX6_goose 96 = .ok (.getfield 15, 3) := dk_180 0 15 (dk_at dksX6_goose_4 7 rfl rfl)
theorem dX6_goose_99 : decode cX6_goose 99 = .ok (.bipush 26, 2) := dk_16 26 (dk_at dksX6_goose_4 10 rfl rfl)
theorem dX6_goose_101 : decode cX6_goose 101 = .ok (.bipush 9, 2) := dk_16 9 (dk_at dksX6_goose_4 12 rfl rfl)
theorem dX6_goose_103 : decode cX6_goose 103 = .ok (.iload 5, 2) := dk_21 5 (dk_at dksX6_goose_4 14 rfl rfl)
theorem dX6_goose_105 : decode cX6_goose 105 = .ok (.imul, 1) := dk_104 (dk_at dksX6_goose_4 16 rfl rfl)
theorem dX6_goose_106 : decode cX6_goose 106 = .ok (.iadd, 1) := dk_96 (dk_at dksX6_goose_4 17 rfl rfl)
theorem dX6_goose_107 : decode cX6_goose 107 = .ok (.iload_n 1, 1) := dk_27 (dk_at dksX6_goose_4 18 rfl rfl)
theorem dX6_goose_108 : decode cX6_goose 108 = .ok (.iastore, 1) := dk_79 (dk_at dksX6_goose_4 19 rfl rfl)
theorem dX6_goose_109 : decode cX6_goose 109 = .ok (.aload_n 0, 1) := dk_42 (dk_at dksX6_goose_4 20 rfl rfl)
theorem dX6_goose_110 : decode cX6_goose 110 = .ok (.getfield 15, 3) := dk_180 0 15 (dk_at dksX6_goose_4 21 rfl rfl)
theorem dX6_goose_113 : decode cX6_goose 113 = .ok (.bipush 26, 2) := dk_16 26 (dk_at dksX6_goose_5 0 rfl rfl)
theorem dX6_goose_115 : decode cX6_goose 115 = .ok (.bipush 9, 2) := dk_16 9 (dk_at dksX6_goose_5 2 rfl rfl)
theorem dX6_goose_117 : decode cX6_goose 117 = .ok (.iload 5, 2) := dk_21 5 (dk_at dksX6_goose_5 4 rfl rfl)
theorem dX6_goose_119 : decode cX6_goose 119 = .ok (.imul, 1) := dk_104 (dk_at dksX6_goose_5 6 rfl rfl)
theorem dX6_goose_120 : decode cX6_goose 120 = .ok (.iadd, 1) := dk_96 (dk_at dksX6_goose_5 7 rfl rfl)
theorem dX6_goose_121 : decode cX6_goose 121 = .ok (.iconst 1, 1) := dk_4 (dk_at dksX6_goose_5 8 rfl rfl)
theorem dX6_goose_122 : decode cX6_goose 122 = .ok (.iadd, 1) := dk_96 (dk_at dksX6_goose_5 9 rfl rfl)
theorem dX6_goose_123 : decode cX6_goose 123 = .ok (.iload_n 2, 1) := dk_28 (dk_at dksX6_goose_5 10 rfl rfl)
theorem dX6_goose_124 : decode cX6_goose 124 = .ok (.iastore, 1) := dk_79 (dk_at dksX6_goose_5 11 rfl rfl)
theorem dX6_goose_125 : decode cX6_goose 125 = .ok (.aload_n 0, 1) := dk_42 (dk_at dksX6_goose_5 12 rfl rfl)
theorem dX6_goose_126 : decode cX6_goose 126 = .ok (.getfield 15, 3) := dk_180 0 15 (dk_at dksX6_goose_5 13 rfl rfl)
theorem dX6_goose_129 : decode cX6_goose 129 = .ok (.bipush 26, 2) := dk_16 26 (dk_at dksX6_goose_5 16 rfl rfl)
theorem dX6_goose_131 : decode cX6_goose 131 = .ok (.bipush 9, 2) := dk_16 9 (dk_at dksX6_goose_5 18 rfl rfl)
theorem dX6_goose_133 : decode cX6_goose 133 = .ok (.iload 5, 2) := dk_21 5 (dk_at dksX6_goose_5 20 rfl rfl)
theorem dX6_goose_135 : decode cX6_goose 135 = .ok (.imul, 1) := dk_104 (dk_at dksX6_goose_5 22 rfl rfl)
theorem dX6_goose_136 : decode cX6_goose 136 = .ok (.iadd, 1) := dk_96 (dk_at dksX6_goose_5 23 rfl rfl)
theorem dX6_goose_137 : decode cX6_goose 137 = .ok (.iconst 2, 1) := dk_5 (dk_at dksX6_goose_6 0 rfl rfl)
theorem dX6_goose_138 : decode cX6_goose 138 = .ok (.iadd, 1) := dk_96 (dk_at dksX6_goose_6 1 rfl rfl)
theorem dX6_goose_139 : decode cX6_goose 139 = .ok (.iload_n 3, 1) := dk_29 (dk_at dksX6_goose_6 2 rfl rfl)
theorem dX6_goose_140 : decode cX6_goose 140 = .ok (.iastore, 1) := dk_79 (dk_at dksX6_goose_6 3 rfl rfl)
theorem dX6_goose_141 : decode cX6_goose 141 = .ok (.aload_n 0, 1) := dk_42 (dk_at dksX6_goose_6 4 rfl rfl)
theorem dX6_goose_142 : decode cX6_goose 142 = .ok (.getfield 15, 3) := dk_180 0 15 (dk_at dksX6_goose_6 5 rfl rfl)
theorem dX6_goose_145 : decode cX6_goose 145 = .ok (.bipush 26, 2) := dk_16 26 (dk_at dksX6_goose_6 8 rfl rfl)
theorem dX6_goose_147 : decode cX6_goose 147 = .ok (.bipush 9, 2) := dk_16 9 (dk_at dksX6_goose_6 10 rfl rfl)
theorem dX6_goose_149 : decode cX6_goose 149 = .ok (.iload 5, 2) := dk_21 5 (dk_at dksX6_goose_6 12 rfl rfl)
theorem dX6_goose_151 : decode cX6_goose 151 = .ok (.imul, 1) := dk_104 (dk_at dksX6_goose_6 14 rfl rfl)
theorem dX6_goose_152 : decode cX6_goose 152 = .ok (.iadd, 1) := dk_96 (dk_at dksX6_goose_6 15 rfl rfl)
theorem dX6_goose_153 : decode cX6_goose 153 = .ok (.iconst 3, 1) := dk_6 (dk_at dksX6_goose_6 16 rfl rfl)
theorem dX6_goose_154 : decode cX6_goose 154 = .ok (.iadd, 1) := dk_96 (dk_at dksX6_goose_6 17 rfl rfl)
theorem dX6_goose_155 : decode cX6_goose 155 = .ok (.iload 4, 2) := dk_21 4 (dk_at dksX6_goose_6 18 rfl rfl)
theorem dX6_goose_157 : decode cX6_goose 157 = .ok (.iastore, 1) := dk_79 (dk_at dksX6_goose_6 20 rfl rfl)
theorem dX6_goose_158 : decode cX6_goose 158 = .ok (.aload_n 0, 1) := dk_42 (dk_at dksX6_goose_6 21 rfl rfl)
theorem dX6_goose_159 : decode cX6_goose 159 = .ok (.getfield 15, 3) := dk_180 0 15 (dk_at dksX6_goose_7 0 rfl rfl)
theorem dX6_goose_162 : decode cX6_goose 162 = .ok (.bipush 80, 2) := dk_16 80 (dk_at dksX6_goose_7 3 rfl rfl)
theorem dX6_goose_164 : decode cX6_goose 164 = .ok (.dup2, 1) := dk_92 (dk_at dksX6_goose_7 5 rfl rfl)
theorem dX6_goose_165 : decode cX6_goose 165 = .ok (.iaload, 1) := dk_46 (dk_at dksX6_goose_7 6 rfl rfl)
theorem dX6_goose_166 : decode cX6_goose 166 = .ok (.iconst 1, 1) := dk_4 (dk_at dksX6_goose_7 7 rfl rfl)
theorem dX6_goose_167 : decode cX6_goose 167 = .ok (.iadd, 1) := dk_96 (dk_at dksX6_goose_7 8 rfl rfl)
theorem dX6_goose_168 : decode cX6_goose 168 = .ok (.iastore, 1) := dk_79 (dk_at dksX6_goose_7 9 rfl rfl)
theorem dX6_goose_169 : decode cX6_goose 169 = .ok (.iload 5, 2) := dk_21 5 (dk_at dksX6_goose_7 10 rfl rfl)
theorem dX6_goose_171 : decode cX6_goose 171 = .ok (.ireturn, 1) := dk_172 (dk_at dksX6_goose_7 12 rfl rfl)
abbrev cX6_of : ByteArray := prog_23_method_17_code
def yX6_of : MethodName := ⟨RX6, "of", "(II)I"⟩
def dkwX6_of_3 : List UInt8 := [16, 10, 100, 182, 0, 101, 167, 0, 6, 17, 216, 239, 172]
abbrev dktX6_of_3 : List UInt8 := dkwX6_of_3 ++ []
def dkwX6_of_2 : List UInt8 := [160, 0, 11, 42, 27, 182, 0, 98, 167, 0, 28, 28, 16, 10, 100, 184, 0, 87, 153, 0, 15, 42, 27, 28]
abbrev dktX6_of_2 : List UInt8 := dkwX6_of_2 ++ dktX6_of_3
def dkwX6_of_1 : List UInt8 := [160, 0, 15, 42, 27, 6, 182, 0, 83, 184, 0, 94, 167, 0, 9, 42, 27, 28, 182, 0, 83, 172, 28, 8]
abbrev dktX6_of_1 : List UInt8 := dkwX6_of_1 ++ dktX6_of_2
def dkwX6_of_0 : List UInt8 := [42, 27, 182, 0, 91, 154, 0, 7, 17, 216, 239, 172, 28, 3, 7, 184, 0, 79, 153, 0, 27, 28, 6]
abbrev dktX6_of_0 : List UInt8 := dkwX6_of_0 ++ dktX6_of_1
theorem dksX6_of_0 : cX6_of.data.toList.drop 0 = dktX6_of_0 := by decide +kernel
theorem dksX6_of_1 : cX6_of.data.toList.drop 23 = dktX6_of_1 := dk_seg dksX6_of_0 23 rfl rfl
theorem dksX6_of_2 : cX6_of.data.toList.drop 47 = dktX6_of_2 := dk_seg dksX6_of_1 24 rfl rfl
theorem dksX6_of_3 : cX6_of.data.toList.drop 71 = dktX6_of_3 := dk_seg dksX6_of_2 24 rfl rfl
theorem dX6_of_0 : decode cX6_of 0 = .ok (.aload_n 0, 1) := dk_42 (dk_at dksX6_of_0 0 rfl rfl)
theorem dX6_of_1 : decode cX6_of 1 = .ok (.iload_n 1, 1) := dk_27 (dk_at dksX6_of_0 1 rfl rfl)
theorem dX6_of_2 : decode cX6_of 2 = .ok (.invokevirtual 91, 3) := dk_182 0 91 (dk_at dksX6_of_0 2 rfl rfl)
theorem dX6_of_5 : decode cX6_of 5 = .ok (.ifCond .ne 7, 3) := dk_154 0 7 (dk_at dksX6_of_0 5 rfl rfl)
theorem dX6_of_8 : decode cX6_of 8 = .ok (.sipush (-10001), 3) := dk_17 216 239 (dk_at dksX6_of_0 8 rfl rfl)
theorem dX6_of_11 : decode cX6_of 11 = .ok (.ireturn, 1) := dk_172 (dk_at dksX6_of_0 11 rfl rfl)
theorem dX6_of_12 : decode cX6_of 12 = .ok (.iload_n 2, 1) := dk_28 (dk_at dksX6_of_0 12 rfl rfl)
theorem dX6_of_13 : decode cX6_of 13 = .ok (.iconst 0, 1) := dk_3 (dk_at dksX6_of_0 13 rfl rfl)
theorem dX6_of_14 : decode cX6_of 14 = .ok (.iconst 4, 1) := dk_7 (dk_at dksX6_of_0 14 rfl rfl)
theorem dX6_of_15 : decode cX6_of 15 = .ok (.invokestatic 79, 3) := dk_184 0 79 (dk_at dksX6_of_0 15 rfl rfl)
theorem dX6_of_18 : decode cX6_of 18 = .ok (.ifCond .eq 27, 3) := dk_153 0 27 (dk_at dksX6_of_0 18 rfl rfl)
theorem dX6_of_21 : decode cX6_of 21 = .ok (.iload_n 2, 1) := dk_28 (dk_at dksX6_of_0 21 rfl rfl)
theorem dX6_of_22 : decode cX6_of 22 = .ok (.iconst 3, 1) := dk_6 (dk_at dksX6_of_0 22 rfl rfl)
theorem dX6_of_23 : decode cX6_of 23 = .ok (.if_icmp .ne 15, 3) := dk_160 0 15 (dk_at dksX6_of_1 0 rfl rfl)
theorem dX6_of_26 : decode cX6_of 26 = .ok (.aload_n 0, 1) := dk_42 (dk_at dksX6_of_1 3 rfl rfl)
theorem dX6_of_27 : decode cX6_of 27 = .ok (.iload_n 1, 1) := dk_27 (dk_at dksX6_of_1 4 rfl rfl)
theorem dX6_of_28 : decode cX6_of 28 = .ok (.iconst 3, 1) := dk_6 (dk_at dksX6_of_1 5 rfl rfl)
theorem dX6_of_29 : decode cX6_of 29 = .ok (.invokevirtual 83, 3) := dk_182 0 83 (dk_at dksX6_of_1 6 rfl rfl)
theorem dX6_of_32 : decode cX6_of 32 = .ok (.invokestatic 94, 3) := dk_184 0 94 (dk_at dksX6_of_1 9 rfl rfl)
theorem dX6_of_35 : decode cX6_of 35 = .ok (.goto 9, 3) := dk_167 0 9 (dk_at dksX6_of_1 12 rfl rfl)
theorem dX6_of_38 : decode cX6_of 38 = .ok (.aload_n 0, 1) := dk_42 (dk_at dksX6_of_1 15 rfl rfl)
theorem dX6_of_39 : decode cX6_of 39 = .ok (.iload_n 1, 1) := dk_27 (dk_at dksX6_of_1 16 rfl rfl)
theorem dX6_of_40 : decode cX6_of 40 = .ok (.iload_n 2, 1) := dk_28 (dk_at dksX6_of_1 17 rfl rfl)
theorem dX6_of_41 : decode cX6_of 41 = .ok (.invokevirtual 83, 3) := dk_182 0 83 (dk_at dksX6_of_1 18 rfl rfl)
theorem dX6_of_44 : decode cX6_of 44 = .ok (.ireturn, 1) := dk_172 (dk_at dksX6_of_1 21 rfl rfl)
theorem dX6_of_45 : decode cX6_of 45 = .ok (.iload_n 2, 1) := dk_28 (dk_at dksX6_of_1 22 rfl rfl)
theorem dX6_of_46 : decode cX6_of 46 = .ok (.iconst 5, 1) := dk_8 (dk_at dksX6_of_1 23 rfl rfl)
theorem dX6_of_47 : decode cX6_of 47 = .ok (.if_icmp .ne 11, 3) := dk_160 0 11 (dk_at dksX6_of_2 0 rfl rfl)
theorem dX6_of_50 : decode cX6_of 50 = .ok (.aload_n 0, 1) := dk_42 (dk_at dksX6_of_2 3 rfl rfl)
theorem dX6_of_51 : decode cX6_of 51 = .ok (.iload_n 1, 1) := dk_27 (dk_at dksX6_of_2 4 rfl rfl)
theorem dX6_of_52 : decode cX6_of 52 = .ok (.invokevirtual 98, 3) := dk_182 0 98 (dk_at dksX6_of_2 5 rfl rfl)
theorem dX6_of_55 : decode cX6_of 55 = .ok (.goto 28, 3) := dk_167 0 28 (dk_at dksX6_of_2 8 rfl rfl)
theorem dX6_of_58 : decode cX6_of 58 = .ok (.iload_n 2, 1) := dk_28 (dk_at dksX6_of_2 11 rfl rfl)
theorem dX6_of_59 : decode cX6_of 59 = .ok (.bipush 10, 2) := dk_16 10 (dk_at dksX6_of_2 12 rfl rfl)
theorem dX6_of_61 : decode cX6_of 61 = .ok (.isub, 1) := dk_100 (dk_at dksX6_of_2 14 rfl rfl)
theorem dX6_of_62 : decode cX6_of 62 = .ok (.invokestatic 87, 3) := dk_184 0 87 (dk_at dksX6_of_2 15 rfl rfl)
theorem dX6_of_65 : decode cX6_of 65 = .ok (.ifCond .eq 15, 3) := dk_153 0 15 (dk_at dksX6_of_2 18 rfl rfl)
theorem dX6_of_68 : decode cX6_of 68 = .ok (.aload_n 0, 1) := dk_42 (dk_at dksX6_of_2 21 rfl rfl)
theorem dX6_of_69 : decode cX6_of 69 = .ok (.iload_n 1, 1) := dk_27 (dk_at dksX6_of_2 22 rfl rfl)
theorem dX6_of_70 : decode cX6_of 70 = .ok (.iload_n 2, 1) := dk_28 (dk_at dksX6_of_2 23 rfl rfl)
theorem dX6_of_71 : decode cX6_of 71 = .ok (.bipush 10, 2) := dk_16 10 (dk_at dksX6_of_3 0 rfl rfl)
theorem dX6_of_73 : decode cX6_of 73 = .ok (.isub, 1) := dk_100 (dk_at dksX6_of_3 2 rfl rfl)
theorem dX6_of_74 : decode cX6_of 74 = .ok (.invokevirtual 101, 3) := dk_182 0 101 (dk_at dksX6_of_3 3 rfl rfl)
theorem dX6_of_77 : decode cX6_of 77 = .ok (.goto 6, 3) := dk_167 0 6 (dk_at dksX6_of_3 6 rfl rfl)
theorem dX6_of_80 : decode cX6_of 80 = .ok (.sipush (-10001), 3) := dk_17 216 239 (dk_at dksX6_of_3 9 rfl rfl)
theorem dX6_of_83 : decode cX6_of 83 = .ok (.ireturn, 1) := dk_172 (dk_at dksX6_of_3 12 rfl rfl)
abbrev cX6_isGoose : ByteArray := prog_23_method_10_code
def yX6_isGoose : MethodName := ⟨RX6, "isGoose", "(I)Z"⟩
def dkwX6_isGoose_0 : List UInt8 := [27, 3, 42, 180, 0, 15, 16, 80, 46, 4, 100, 184, 0, 79, 172]
abbrev dktX6_isGoose_0 : List UInt8 := dkwX6_isGoose_0 ++ []
theorem dksX6_isGoose_0 : cX6_isGoose.data.toList.drop 0 = dktX6_isGoose_0 := by decide +kernel
theorem dX6_isGoose_0 : decode cX6_isGoose 0 = .ok (.iload_n 1, 1) := dk_27 (dk_at dksX6_isGoose_0 0 rfl rfl)
theorem dX6_isGoose_1 : decode cX6_isGoose 1 = .ok (.iconst 0, 1) := dk_3 (dk_at dksX6_isGoose_0 1 rfl rfl)
theorem dX6_isGoose_2 : decode cX6_isGoose 2 = .ok (.aload_n 0, 1) := dk_42 (dk_at dksX6_isGoose_0 2 rfl rfl)
theorem dX6_isGoose_3 : decode cX6_isGoose 3 = .ok (.getfield 15, 3) := dk_180 0 15 (dk_at dksX6_isGoose_0 3 rfl rfl)
theorem dX6_isGoose_6 : decode cX6_isGoose 6 = .ok (.bipush 80, 2) := dk_16 80 (dk_at dksX6_isGoose_0 6 rfl rfl)
theorem dX6_isGoose_8 : decode cX6_isGoose 8 = .ok (.iaload, 1) := dk_46 (dk_at dksX6_isGoose_0 8 rfl rfl)
theorem dX6_isGoose_9 : decode cX6_isGoose 9 = .ok (.iconst 1, 1) := dk_4 (dk_at dksX6_isGoose_0 9 rfl rfl)
theorem dX6_isGoose_10 : decode cX6_isGoose 10 = .ok (.isub, 1) := dk_100 (dk_at dksX6_isGoose_0 10 rfl rfl)
theorem dX6_isGoose_11 : decode cX6_isGoose 11 = .ok (.invokestatic 79, 3) := dk_184 0 79 (dk_at dksX6_isGoose_0 11 rfl rfl)
theorem dX6_isGoose_14 : decode cX6_isGoose 14 = .ok (.ireturn, 1) := dk_172 (dk_at dksX6_isGoose_0 14 rfl rfl)
abbrev cX6_goose_2 : ByteArray := prog_23_method_12_code
def yX6_goose_2 : MethodName := ⟨RX6, "goose", "(II)I"⟩
def dkwX6_goose_2_0 : List UInt8 := [42, 180, 0, 15, 16, 26, 16, 9, 27, 104, 96, 28, 96, 46, 172]
abbrev dktX6_goose_2_0 : List UInt8 := dkwX6_goose_2_0 ++ []
theorem dksX6_goose_2_0 : cX6_goose_2.data.toList.drop 0 = dktX6_goose_2_0 := by decide +kernel
theorem dX6_goose_2_0 : decode cX6_goose_2 0 = .ok (.aload_n 0, 1) := dk_42 (dk_at dksX6_goose_2_0 0 rfl rfl)
theorem dX6_goose_2_1 : decode cX6_goose_2 1 = .ok (.getfield 15, 3) := dk_180 0 15 (dk_at dksX6_goose_2_0 1 rfl rfl)
theorem dX6_goose_2_4 : decode cX6_goose_2 4 = .ok (.bipush 26, 2) := dk_16 26 (dk_at dksX6_goose_2_0 4 rfl rfl)
theorem dX6_goose_2_6 : decode cX6_goose_2 6 = .ok (.bipush 9, 2) := dk_16 9 (dk_at dksX6_goose_2_0 6 rfl rfl)
theorem dX6_goose_2_8 : decode cX6_goose_2 8 = .ok (.iload_n 1, 1) := dk_27 (dk_at dksX6_goose_2_0 8 rfl rfl)
theorem dX6_goose_2_9 : decode cX6_goose_2 9 = .ok (.imul, 1) := dk_104 (dk_at dksX6_goose_2_0 9 rfl rfl)
theorem dX6_goose_2_10 : decode cX6_goose_2 10 = .ok (.iadd, 1) := dk_96 (dk_at dksX6_goose_2_0 10 rfl rfl)
theorem dX6_goose_2_11 : decode cX6_goose_2 11 = .ok (.iload_n 2, 1) := dk_28 (dk_at dksX6_goose_2_0 11 rfl rfl)
theorem dX6_goose_2_12 : decode cX6_goose_2 12 = .ok (.iadd, 1) := dk_96 (dk_at dksX6_goose_2_0 12 rfl rfl)
theorem dX6_goose_2_13 : decode cX6_goose_2 13 = .ok (.iaload, 1) := dk_46 (dk_at dksX6_goose_2_0 13 rfl rfl)
theorem dX6_goose_2_14 : decode cX6_goose_2 14 = .ok (.ireturn, 1) := dk_172 (dk_at dksX6_goose_2_0 14 rfl rfl)
abbrev cX6_orNever : ByteArray := prog_23_method_16_code
def yX6_orNever : MethodName := ⟨RX6, "orNever", "(I)I"⟩
def dkwX6_orNever_0 : List UInt8 := [26, 2, 160, 0, 8, 16, 251, 167, 0, 4, 26, 172]
abbrev dktX6_orNever_0 : List UInt8 := dkwX6_orNever_0 ++ []
theorem dksX6_orNever_0 : cX6_orNever.data.toList.drop 0 = dktX6_orNever_0 := by decide +kernel
theorem dX6_orNever_0 : decode cX6_orNever 0 = .ok (.iload_n 0, 1) := dk_26 (dk_at dksX6_orNever_0 0 rfl rfl)
theorem dX6_orNever_1 : decode cX6_orNever 1 = .ok (.iconst (-1), 1) := dk_2 (dk_at dksX6_orNever_0 1 rfl rfl)
theorem dX6_orNever_2 : decode cX6_orNever 2 = .ok (.if_icmp .ne 8, 3) := dk_160 0 8 (dk_at dksX6_orNever_0 2 rfl rfl)
theorem dX6_orNever_5 : decode cX6_orNever 5 = .ok (.bipush (-5), 2) := dk_16 251 (dk_at dksX6_orNever_0 5 rfl rfl)
theorem dX6_orNever_7 : decode cX6_orNever 7 = .ok (.goto 4, 3) := dk_167 0 4 (dk_at dksX6_orNever_0 7 rfl rfl)
theorem dX6_orNever_10 : decode cX6_orNever 10 = .ok (.iload_n 0, 1) := dk_26 (dk_at dksX6_orNever_0 10 rfl rfl)
theorem dX6_orNever_11 : decode cX6_orNever 11 = .ok (.ireturn, 1) := dk_172 (dk_at dksX6_orNever_0 11 rfl rfl)
abbrev cX6_goesTo : ByteArray := prog_23_method_41_code
def yX6_goesTo : MethodName := ⟨RX6, "goesTo", "(I)I"⟩
def dkwX6_goesTo_5 : List UInt8 := [167, 255, 161, 29, 172]
abbrev dktX6_goesTo_5 : List UInt8 := dkwX6_goesTo_5 ++ []
def dkwX6_goesTo_4 : List UInt8 := [21, 6, 153, 0, 17, 21, 7, 21, 4, 164, 0, 10, 21, 5, 62, 21, 7, 54, 4, 132, 5, 1]
abbrev dktX6_goesTo_4 : List UInt8 := dkwX6_goesTo_4 ++ dktX6_goesTo_5
def dkwX6_goesTo_3 : List UInt8 := [132, 7, 1, 167, 255, 217, 21, 6, 153, 0, 13, 42, 27, 21, 5, 182, 0, 101, 167, 0, 4, 3, 54, 7]
abbrev dktX6_goesTo_3 : List UInt8 := dkwX6_goesTo_3 ++ dktX6_goesTo_4
def dkwX6_goesTo_2 : List UInt8 := [154, 0, 15, 42, 21, 7, 28, 182, 0, 186, 21, 5, 160, 0, 7, 4, 167, 0, 4, 3, 54, 6]
abbrev dktX6_goesTo_2 : List UInt8 := dkwX6_goesTo_2 ++ dktX6_goesTo_3
def dkwX6_goesTo_1 : List UInt8 := [162, 0, 94, 3, 54, 6, 3, 54, 7, 21, 7, 42, 180, 0, 15, 16, 81, 46, 162, 0, 33, 21, 6]
abbrev dktX6_goesTo_1 : List UInt8 := dkwX6_goesTo_1 ++ dktX6_goesTo_2
def dkwX6_goesTo_0 : List UInt8 := [42, 27, 5, 182, 0, 83, 61, 28, 62, 42, 27, 28, 182, 0, 101, 54, 4, 3, 54, 5, 21, 5, 16, 8]
abbrev dktX6_goesTo_0 : List UInt8 := dkwX6_goesTo_0 ++ dktX6_goesTo_1
theorem dksX6_goesTo_0 : cX6_goesTo.data.toList.drop 0 = dktX6_goesTo_0 := by decide +kernel
theorem dksX6_goesTo_1 : cX6_goesTo.data.toList.drop 24 = dktX6_goesTo_1 := dk_seg dksX6_goesTo_0 24 rfl rfl
theorem dksX6_goesTo_2 : cX6_goesTo.data.toList.drop 47 = dktX6_goesTo_2 := dk_seg dksX6_goesTo_1 23 rfl rfl
theorem dksX6_goesTo_3 : cX6_goesTo.data.toList.drop 69 = dktX6_goesTo_3 := dk_seg dksX6_goesTo_2 22 rfl rfl
theorem dksX6_goesTo_4 : cX6_goesTo.data.toList.drop 93 = dktX6_goesTo_4 := dk_seg dksX6_goesTo_3 24 rfl rfl
theorem dksX6_goesTo_5 : cX6_goesTo.data.toList.drop 115 = dktX6_goesTo_5 := dk_seg dksX6_goesTo_4 22 rfl rfl
theorem dX6_goesTo_0 : decode cX6_goesTo 0 = .ok (.aload_n 0, 1) := dk_42 (dk_at dksX6_goesTo_0 0 rfl rfl)
theorem dX6_goesTo_1 : decode cX6_goesTo 1 = .ok (.iload_n 1, 1) := dk_27 (dk_at dksX6_goesTo_0 1 rfl rfl)
theorem dX6_goesTo_2 : decode cX6_goesTo 2 = .ok (.iconst 2, 1) := dk_5 (dk_at dksX6_goesTo_0 2 rfl rfl)
theorem dX6_goesTo_3 : decode cX6_goesTo 3 = .ok (.invokevirtual 83, 3) := dk_182 0 83 (dk_at dksX6_goesTo_0 3 rfl rfl)
theorem dX6_goesTo_6 : decode cX6_goesTo 6 = .ok (.istore_n 2, 1) := dk_61 (dk_at dksX6_goesTo_0 6 rfl rfl)
theorem dX6_goesTo_7 : decode cX6_goesTo 7 = .ok (.iload_n 2, 1) := dk_28 (dk_at dksX6_goesTo_0 7 rfl rfl)
theorem dX6_goesTo_8 : decode cX6_goesTo 8 = .ok (.istore_n 3, 1) := dk_62 (dk_at dksX6_goesTo_0 8 rfl rfl)
theorem dX6_goesTo_9 : decode cX6_goesTo 9 = .ok (.aload_n 0, 1) := dk_42 (dk_at dksX6_goesTo_0 9 rfl rfl)
theorem dX6_goesTo_10 : decode cX6_goesTo 10 = .ok (.iload_n 1, 1) := dk_27 (dk_at dksX6_goesTo_0 10 rfl rfl)
theorem dX6_goesTo_11 : decode cX6_goesTo 11 = .ok (.iload_n 2, 1) := dk_28 (dk_at dksX6_goesTo_0 11 rfl rfl)
theorem dX6_goesTo_12 : decode cX6_goesTo 12 = .ok (.invokevirtual 101, 3) := dk_182 0 101 (dk_at dksX6_goesTo_0 12 rfl rfl)
theorem dX6_goesTo_15 : decode cX6_goesTo 15 = .ok (.istore 4, 2) := dk_54 4 (dk_at dksX6_goesTo_0 15 rfl rfl)
theorem dX6_goesTo_17 : decode cX6_goesTo 17 = .ok (.iconst 0, 1) := dk_3 (dk_at dksX6_goesTo_0 17 rfl rfl)
theorem dX6_goesTo_18 : decode cX6_goesTo 18 = .ok (.istore 5, 2) := dk_54 5 (dk_at dksX6_goesTo_0 18 rfl rfl)
theorem dX6_goesTo_20 : decode cX6_goesTo 20 = .ok (.iload 5, 2) := dk_21 5 (dk_at dksX6_goesTo_0 20 rfl rfl)
theorem dX6_goesTo_22 : decode cX6_goesTo 22 = .ok (.bipush 8, 2) := dk_16 8 (dk_at dksX6_goesTo_0 22 rfl rfl)
theorem dX6_goesTo_24 : decode cX6_goesTo 24 = .ok (.if_icmp .ge 94, 3) := dk_162 0 94 (dk_at dksX6_goesTo_1 0 rfl rfl)
theorem dX6_goesTo_27 : decode cX6_goesTo 27 = .ok (.iconst 0, 1) := dk_3 (dk_at dksX6_goesTo_1 3 rfl rfl)
theorem dX6_goesTo_28 : decode cX6_goesTo 28 = .ok (.istore 6, 2) := dk_54 6 (dk_at dksX6_goesTo_1 4 rfl rfl)
theorem dX6_goesTo_30 : decode cX6_goesTo 30 = .ok (.iconst 0, 1) := dk_3 (dk_at dksX6_goesTo_1 6 rfl rfl)
theorem dX6_goesTo_31 : decode cX6_goesTo 31 = .ok (.istore 7, 2) := dk_54 7 (dk_at dksX6_goesTo_1 7 rfl rfl)
theorem dX6_goesTo_33 : decode cX6_goesTo 33 = .ok (.iload 7, 2) := dk_21 7 (dk_at dksX6_goesTo_1 9 rfl rfl)
theorem dX6_goesTo_35 : decode cX6_goesTo 35 = .ok (.aload_n 0, 1) := dk_42 (dk_at dksX6_goesTo_1 11 rfl rfl)
theorem dX6_goesTo_36 : decode cX6_goesTo 36 = .ok (.getfield 15, 3) := dk_180 0 15 (dk_at dksX6_goesTo_1 12 rfl rfl)
theorem dX6_goesTo_39 : decode cX6_goesTo 39 = .ok (.bipush 81, 2) := dk_16 81 (dk_at dksX6_goesTo_1 15 rfl rfl)
theorem dX6_goesTo_41 : decode cX6_goesTo 41 = .ok (.iaload, 1) := dk_46 (dk_at dksX6_goesTo_1 17 rfl rfl)
theorem dX6_goesTo_42 : decode cX6_goesTo 42 = .ok (.if_icmp .ge 33, 3) := dk_162 0 33 (dk_at dksX6_goesTo_1 18 rfl rfl)
theorem dX6_goesTo_45 : decode cX6_goesTo 45 = .ok (.iload 6, 2) := dk_21 6 (dk_at dksX6_goesTo_1 21 rfl rfl)
theorem dX6_goesTo_47 : decode cX6_goesTo 47 = .ok (.ifCond .ne 15, 3) := dk_154 0 15 (dk_at dksX6_goesTo_2 0 rfl rfl)
theorem dX6_goesTo_50 : decode cX6_goesTo 50 = .ok (.aload_n 0, 1) := dk_42 (dk_at dksX6_goesTo_2 3 rfl rfl)
theorem dX6_goesTo_51 : decode cX6_goesTo 51 = .ok (.iload 7, 2) := dk_21 7 (dk_at dksX6_goesTo_2 4 rfl rfl)
theorem dX6_goesTo_53 : decode cX6_goesTo 53 = .ok (.iload_n 2, 1) := dk_28 (dk_at dksX6_goesTo_2 6 rfl rfl)
theorem dX6_goesTo_54 : decode cX6_goesTo 54 = .ok (.invokevirtual 186, 3) := dk_182 0 186 (dk_at dksX6_goesTo_2 7 rfl rfl)
theorem dX6_goesTo_57 : decode cX6_goesTo 57 = .ok (.iload 5, 2) := dk_21 5 (dk_at dksX6_goesTo_2 10 rfl rfl)
theorem dX6_goesTo_59 : decode cX6_goesTo 59 = .ok (.if_icmp .ne 7, 3) := dk_160 0 7 (dk_at dksX6_goesTo_2 12 rfl rfl)
theorem dX6_goesTo_62 : decode cX6_goesTo 62 = .ok (.iconst 1, 1) := dk_4 (dk_at dksX6_goesTo_2 15 rfl rfl)
theorem dX6_goesTo_63 : decode cX6_goesTo 63 = .ok (.goto 4, 3) := dk_167 0 4 (dk_at dksX6_goesTo_2 16 rfl rfl)
theorem dX6_goesTo_66 : decode cX6_goesTo 66 = .ok (.iconst 0, 1) := dk_3 (dk_at dksX6_goesTo_2 19 rfl rfl)
theorem dX6_goesTo_67 : decode cX6_goesTo 67 = .ok (.istore 6, 2) := dk_54 6 (dk_at dksX6_goesTo_2 20 rfl rfl)
theorem dX6_goesTo_69 : decode cX6_goesTo 69 = .ok (.iinc 7 1, 3) := dk_132 7 1 (dk_at dksX6_goesTo_3 0 rfl rfl)
theorem dX6_goesTo_72 : decode cX6_goesTo 72 = .ok (.goto (-39), 3) := dk_167 255 217 (dk_at dksX6_goesTo_3 3 rfl rfl)
theorem dX6_goesTo_75 : decode cX6_goesTo 75 = .ok (.iload 6, 2) := dk_21 6 (dk_at dksX6_goesTo_3 6 rfl rfl)
theorem dX6_goesTo_77 : decode cX6_goesTo 77 = .ok (.ifCond .eq 13, 3) := dk_153 0 13 (dk_at dksX6_goesTo_3 8 rfl rfl)
theorem dX6_goesTo_80 : decode cX6_goesTo 80 = .ok (.aload_n 0, 1) := dk_42 (dk_at dksX6_goesTo_3 11 rfl rfl)
theorem dX6_goesTo_81 : decode cX6_goesTo 81 = .ok (.iload_n 1, 1) := dk_27 (dk_at dksX6_goesTo_3 12 rfl rfl)
theorem dX6_goesTo_82 : decode cX6_goesTo 82 = .ok (.iload 5, 2) := dk_21 5 (dk_at dksX6_goesTo_3 13 rfl rfl)
theorem dX6_goesTo_84 : decode cX6_goesTo 84 = .ok (.invokevirtual 101, 3) := dk_182 0 101 (dk_at dksX6_goesTo_3 15 rfl rfl)
theorem dX6_goesTo_87 : decode cX6_goesTo 87 = .ok (.goto 4, 3) := dk_167 0 4 (dk_at dksX6_goesTo_3 18 rfl rfl)
theorem dX6_goesTo_90 : decode cX6_goesTo 90 = .ok (.iconst 0, 1) := dk_3 (dk_at dksX6_goesTo_3 21 rfl rfl)
theorem dX6_goesTo_91 : decode cX6_goesTo 91 = .ok (.istore 7, 2) := dk_54 7 (dk_at dksX6_goesTo_3 22 rfl rfl)
theorem dX6_goesTo_93 : decode cX6_goesTo 93 = .ok (.iload 6, 2) := dk_21 6 (dk_at dksX6_goesTo_4 0 rfl rfl)
theorem dX6_goesTo_95 : decode cX6_goesTo 95 = .ok (.ifCond .eq 17, 3) := dk_153 0 17 (dk_at dksX6_goesTo_4 2 rfl rfl)
theorem dX6_goesTo_98 : decode cX6_goesTo 98 = .ok (.iload 7, 2) := dk_21 7 (dk_at dksX6_goesTo_4 5 rfl rfl)
theorem dX6_goesTo_100 : decode cX6_goesTo 100 = .ok (.iload 4, 2) := dk_21 4 (dk_at dksX6_goesTo_4 7 rfl rfl)
theorem dX6_goesTo_102 : decode cX6_goesTo 102 = .ok (.if_icmp .le 10, 3) := dk_164 0 10 (dk_at dksX6_goesTo_4 9 rfl rfl)
theorem dX6_goesTo_105 : decode cX6_goesTo 105 = .ok (.iload 5, 2) := dk_21 5 (dk_at dksX6_goesTo_4 12 rfl rfl)
theorem dX6_goesTo_107 : decode cX6_goesTo 107 = .ok (.istore_n 3, 1) := dk_62 (dk_at dksX6_goesTo_4 14 rfl rfl)
theorem dX6_goesTo_108 : decode cX6_goesTo 108 = .ok (.iload 7, 2) := dk_21 7 (dk_at dksX6_goesTo_4 15 rfl rfl)
theorem dX6_goesTo_110 : decode cX6_goesTo 110 = .ok (.istore 4, 2) := dk_54 4 (dk_at dksX6_goesTo_4 17 rfl rfl)
theorem dX6_goesTo_112 : decode cX6_goesTo 112 = .ok (.iinc 5 1, 3) := dk_132 5 1 (dk_at dksX6_goesTo_4 19 rfl rfl)
theorem dX6_goesTo_115 : decode cX6_goesTo 115 = .ok (.goto (-95), 3) := dk_167 255 161 (dk_at dksX6_goesTo_5 0 rfl rfl)
theorem dX6_goesTo_118 : decode cX6_goesTo 118 = .ok (.iload_n 3, 1) := dk_29 (dk_at dksX6_goesTo_5 3 rfl rfl)
theorem dX6_goesTo_119 : decode cX6_goesTo 119 = .ok (.ireturn, 1) := dk_172 (dk_at dksX6_goesTo_5 4 rfl rfl)
abbrev cX6_pull : ByteArray := prog_23_method_39_code
def yX6_pull : MethodName := ⟨RX6, "pull", "(II)I"⟩
def dkwX6_pull_7 : List UInt8 := [172]
abbrev dktX6_pull_7 : List UInt8 := dkwX6_pull_7 ++ []
def dkwX6_pull_6 : List UInt8 := [167, 0, 4, 3, 96, 172, 21, 4, 42, 27, 8, 28, 7, 112, 96, 182, 0, 83, 96, 172, 42, 180, 0, 154]
abbrev dktX6_pull_6 : List UInt8 := dkwX6_pull_6 ++ dktX6_pull_7
def dkwX6_pull_5 : List UInt8 := [153, 0, 8, 16, 10, 167, 0, 4, 3, 96, 172, 42, 180, 0, 154, 5, 108, 28, 154, 0, 7, 8]
abbrev dktX6_pull_5 : List UInt8 := dkwX6_pull_5 ++ dktX6_pull_6
def dkwX6_pull_4 : List UInt8 := [29, 172, 42, 180, 0, 154, 5, 108, 172, 21, 4, 172, 29, 42, 42, 27, 6, 182, 0, 83, 28, 182, 0, 183]
abbrev dktX6_pull_4 : List UInt8 := dkwX6_pull_4 ++ dktX6_pull_5
def dkwX6_pull_3 : List UInt8 := [170, 0, 0, 0, 0, 0, 105, 0, 0, 0, 1, 0, 0, 0, 6, 0, 0, 0, 39, 0, 0, 0, 41, 0, 0, 0, 48, 0, 0, 0, 51, 0, 0, 0, 74, 0, 0, 0, 91]
abbrev dktX6_pull_3 : List UInt8 := dkwX6_pull_3 ++ dktX6_pull_4
def dkwX6_pull_2 : List UInt8 := [167, 0, 4, 3, 54, 4, 42, 27, 3, 182, 0, 83]
abbrev dktX6_pull_2 : List UInt8 := dkwX6_pull_2 ++ dktX6_pull_3
def dkwX6_pull_1 : List UInt8 := [182, 0, 83, 167, 0, 4, 3, 100, 62, 42, 27, 5, 182, 0, 83, 28, 160, 0, 10, 42, 180, 0, 154]
abbrev dktX6_pull_1 : List UInt8 := dkwX6_pull_1 ++ dktX6_pull_2
def dkwX6_pull_0 : List UInt8 := [42, 27, 28, 182, 0, 175, 42, 180, 0, 154, 42, 27, 28, 182, 0, 179, 153, 0, 12, 42, 27, 4]
abbrev dktX6_pull_0 : List UInt8 := dkwX6_pull_0 ++ dktX6_pull_1
theorem dksX6_pull_0 : cX6_pull.data.toList.drop 0 = dktX6_pull_0 := by decide +kernel
theorem dksX6_pull_1 : cX6_pull.data.toList.drop 22 = dktX6_pull_1 := dk_seg dksX6_pull_0 22 rfl rfl
theorem dksX6_pull_2 : cX6_pull.data.toList.drop 45 = dktX6_pull_2 := dk_seg dksX6_pull_1 23 rfl rfl
theorem dksX6_pull_3 : cX6_pull.data.toList.drop 57 = dktX6_pull_3 := dk_seg dksX6_pull_2 12 rfl rfl
theorem dksX6_pull_4 : cX6_pull.data.toList.drop 96 = dktX6_pull_4 := dk_seg dksX6_pull_3 39 rfl rfl
theorem dksX6_pull_5 : cX6_pull.data.toList.drop 120 = dktX6_pull_5 := dk_seg dksX6_pull_4 24 rfl rfl
theorem dksX6_pull_6 : cX6_pull.data.toList.drop 142 = dktX6_pull_6 := dk_seg dksX6_pull_5 22 rfl rfl
theorem dksX6_pull_7 : cX6_pull.data.toList.drop 166 = dktX6_pull_7 := dk_seg dksX6_pull_6 24 rfl rfl
theorem dX6_pull_0 : decode cX6_pull 0 = .ok (.aload_n 0, 1) := dk_42 (dk_at dksX6_pull_0 0 rfl rfl)
theorem dX6_pull_1 : decode cX6_pull 1 = .ok (.iload_n 1, 1) := dk_27 (dk_at dksX6_pull_0 1 rfl rfl)
theorem dX6_pull_2 : decode cX6_pull 2 = .ok (.iload_n 2, 1) := dk_28 (dk_at dksX6_pull_0 2 rfl rfl)
theorem dX6_pull_3 : decode cX6_pull 3 = .ok (.invokevirtual 175, 3) := dk_182 0 175 (dk_at dksX6_pull_0 3 rfl rfl)
theorem dX6_pull_6 : decode cX6_pull 6 = .ok (.aload_n 0, 1) := dk_42 (dk_at dksX6_pull_0 6 rfl rfl)
theorem dX6_pull_7 : decode cX6_pull 7 = .ok (.getfield 154, 3) := dk_180 0 154 (dk_at dksX6_pull_0 7 rfl rfl)
theorem dX6_pull_10 : decode cX6_pull 10 = .ok (.aload_n 0, 1) := dk_42 (dk_at dksX6_pull_0 10 rfl rfl)
theorem dX6_pull_11 : decode cX6_pull 11 = .ok (.iload_n 1, 1) := dk_27 (dk_at dksX6_pull_0 11 rfl rfl)
theorem dX6_pull_12 : decode cX6_pull 12 = .ok (.iload_n 2, 1) := dk_28 (dk_at dksX6_pull_0 12 rfl rfl)
theorem dX6_pull_13 : decode cX6_pull 13 = .ok (.invokevirtual 179, 3) := dk_182 0 179 (dk_at dksX6_pull_0 13 rfl rfl)
theorem dX6_pull_16 : decode cX6_pull 16 = .ok (.ifCond .eq 12, 3) := dk_153 0 12 (dk_at dksX6_pull_0 16 rfl rfl)
theorem dX6_pull_19 : decode cX6_pull 19 = .ok (.aload_n 0, 1) := dk_42 (dk_at dksX6_pull_0 19 rfl rfl)
theorem dX6_pull_20 : decode cX6_pull 20 = .ok (.iload_n 1, 1) := dk_27 (dk_at dksX6_pull_0 20 rfl rfl)
theorem dX6_pull_21 : decode cX6_pull 21 = .ok (.iconst 1, 1) := dk_4 (dk_at dksX6_pull_0 21 rfl rfl)
theorem dX6_pull_22 : decode cX6_pull 22 = .ok (.invokevirtual 83, 3) := dk_182 0 83 (dk_at dksX6_pull_1 0 rfl rfl)
theorem dX6_pull_25 : decode cX6_pull 25 = .ok (.goto 4, 3) := dk_167 0 4 (dk_at dksX6_pull_1 3 rfl rfl)
theorem dX6_pull_28 : decode cX6_pull 28 = .ok (.iconst 0, 1) := dk_3 (dk_at dksX6_pull_1 6 rfl rfl)
theorem dX6_pull_29 : decode cX6_pull 29 = .ok (.isub, 1) := dk_100 (dk_at dksX6_pull_1 7 rfl rfl)
theorem dX6_pull_30 : decode cX6_pull 30 = .ok (.istore_n 3, 1) := dk_62 (dk_at dksX6_pull_1 8 rfl rfl)
theorem dX6_pull_31 : decode cX6_pull 31 = .ok (.aload_n 0, 1) := dk_42 (dk_at dksX6_pull_1 9 rfl rfl)
theorem dX6_pull_32 : decode cX6_pull 32 = .ok (.iload_n 1, 1) := dk_27 (dk_at dksX6_pull_1 10 rfl rfl)
theorem dX6_pull_33 : decode cX6_pull 33 = .ok (.iconst 2, 1) := dk_5 (dk_at dksX6_pull_1 11 rfl rfl)
theorem dX6_pull_34 : decode cX6_pull 34 = .ok (.invokevirtual 83, 3) := dk_182 0 83 (dk_at dksX6_pull_1 12 rfl rfl)
theorem dX6_pull_37 : decode cX6_pull 37 = .ok (.iload_n 2, 1) := dk_28 (dk_at dksX6_pull_1 15 rfl rfl)
theorem dX6_pull_38 : decode cX6_pull 38 = .ok (.if_icmp .ne 10, 3) := dk_160 0 10 (dk_at dksX6_pull_1 16 rfl rfl)
theorem dX6_pull_41 : decode cX6_pull 41 = .ok (.aload_n 0, 1) := dk_42 (dk_at dksX6_pull_1 19 rfl rfl)
theorem dX6_pull_42 : decode cX6_pull 42 = .ok (.getfield 154, 3) := dk_180 0 154 (dk_at dksX6_pull_1 20 rfl rfl)
theorem dX6_pull_45 : decode cX6_pull 45 = .ok (.goto 4, 3) := dk_167 0 4 (dk_at dksX6_pull_2 0 rfl rfl)
theorem dX6_pull_48 : decode cX6_pull 48 = .ok (.iconst 0, 1) := dk_3 (dk_at dksX6_pull_2 3 rfl rfl)
theorem dX6_pull_49 : decode cX6_pull 49 = .ok (.istore 4, 2) := dk_54 4 (dk_at dksX6_pull_2 4 rfl rfl)
theorem dX6_pull_51 : decode cX6_pull 51 = .ok (.aload_n 0, 1) := dk_42 (dk_at dksX6_pull_2 6 rfl rfl)
theorem dX6_pull_52 : decode cX6_pull 52 = .ok (.iload_n 1, 1) := dk_27 (dk_at dksX6_pull_2 7 rfl rfl)
theorem dX6_pull_53 : decode cX6_pull 53 = .ok (.iconst 0, 1) := dk_3 (dk_at dksX6_pull_2 8 rfl rfl)
theorem dX6_pull_54 : decode cX6_pull 54 = .ok (.invokevirtual 83, 3) := dk_182 0 83 (dk_at dksX6_pull_2 9 rfl rfl)
theorem dX6_pull_57 : decode cX6_pull 57 = .ok (.tableswitch 105 1 6 #[39, 41, 48, 51, 74, 91], 39) := by decide +kernel
theorem dX6_pull_96 : decode cX6_pull 96 = .ok (.iload_n 3, 1) := dk_29 (dk_at dksX6_pull_4 0 rfl rfl)
theorem dX6_pull_97 : decode cX6_pull 97 = .ok (.ireturn, 1) := dk_172 (dk_at dksX6_pull_4 1 rfl rfl)
theorem dX6_pull_98 : decode cX6_pull 98 = .ok (.aload_n 0, 1) := dk_42 (dk_at dksX6_pull_4 2 rfl rfl)
theorem dX6_pull_99 : decode cX6_pull 99 = .ok (.getfield 154, 3) := dk_180 0 154 (dk_at dksX6_pull_4 3 rfl rfl)
theorem dX6_pull_102 : decode cX6_pull 102 = .ok (.iconst 2, 1) := dk_5 (dk_at dksX6_pull_4 6 rfl rfl)
theorem dX6_pull_103 : decode cX6_pull 103 = .ok (.idiv, 1) := dk_108 (dk_at dksX6_pull_4 7 rfl rfl)
theorem dX6_pull_104 : decode cX6_pull 104 = .ok (.ireturn, 1) := dk_172 (dk_at dksX6_pull_4 8 rfl rfl)
theorem dX6_pull_105 : decode cX6_pull 105 = .ok (.iload 4, 2) := dk_21 4 (dk_at dksX6_pull_4 9 rfl rfl)
theorem dX6_pull_107 : decode cX6_pull 107 = .ok (.ireturn, 1) := dk_172 (dk_at dksX6_pull_4 11 rfl rfl)
theorem dX6_pull_108 : decode cX6_pull 108 = .ok (.iload_n 3, 1) := dk_29 (dk_at dksX6_pull_4 12 rfl rfl)
theorem dX6_pull_109 : decode cX6_pull 109 = .ok (.aload_n 0, 1) := dk_42 (dk_at dksX6_pull_4 13 rfl rfl)
theorem dX6_pull_110 : decode cX6_pull 110 = .ok (.aload_n 0, 1) := dk_42 (dk_at dksX6_pull_4 14 rfl rfl)
theorem dX6_pull_111 : decode cX6_pull 111 = .ok (.iload_n 1, 1) := dk_27 (dk_at dksX6_pull_4 15 rfl rfl)
theorem dX6_pull_112 : decode cX6_pull 112 = .ok (.iconst 3, 1) := dk_6 (dk_at dksX6_pull_4 16 rfl rfl)
theorem dX6_pull_113 : decode cX6_pull 113 = .ok (.invokevirtual 83, 3) := dk_182 0 83 (dk_at dksX6_pull_4 17 rfl rfl)
theorem dX6_pull_116 : decode cX6_pull 116 = .ok (.iload_n 2, 1) := dk_28 (dk_at dksX6_pull_4 20 rfl rfl)
theorem dX6_pull_117 : decode cX6_pull 117 = .ok (.invokevirtual 183, 3) := dk_182 0 183 (dk_at dksX6_pull_4 21 rfl rfl)
theorem dX6_pull_120 : decode cX6_pull 120 = .ok (.ifCond .eq 8, 3) := dk_153 0 8 (dk_at dksX6_pull_5 0 rfl rfl)
theorem dX6_pull_123 : decode cX6_pull 123 = .ok (.bipush 10, 2) := dk_16 10 (dk_at dksX6_pull_5 3 rfl rfl)
theorem dX6_pull_125 : decode cX6_pull 125 = .ok (.goto 4, 3) := dk_167 0 4 (dk_at dksX6_pull_5 5 rfl rfl)
theorem dX6_pull_128 : decode cX6_pull 128 = .ok (.iconst 0, 1) := dk_3 (dk_at dksX6_pull_5 8 rfl rfl)
theorem dX6_pull_129 : decode cX6_pull 129 = .ok (.iadd, 1) := dk_96 (dk_at dksX6_pull_5 9 rfl rfl)
theorem dX6_pull_130 : decode cX6_pull 130 = .ok (.ireturn, 1) := dk_172 (dk_at dksX6_pull_5 10 rfl rfl)
theorem dX6_pull_131 : decode cX6_pull 131 = .ok (.aload_n 0, 1) := dk_42 (dk_at dksX6_pull_5 11 rfl rfl)
theorem dX6_pull_132 : decode cX6_pull 132 = .ok (.getfield 154, 3) := dk_180 0 154 (dk_at dksX6_pull_5 12 rfl rfl)
theorem dX6_pull_135 : decode cX6_pull 135 = .ok (.iconst 2, 1) := dk_5 (dk_at dksX6_pull_5 15 rfl rfl)
theorem dX6_pull_136 : decode cX6_pull 136 = .ok (.idiv, 1) := dk_108 (dk_at dksX6_pull_5 16 rfl rfl)
theorem dX6_pull_137 : decode cX6_pull 137 = .ok (.iload_n 2, 1) := dk_28 (dk_at dksX6_pull_5 17 rfl rfl)
theorem dX6_pull_138 : decode cX6_pull 138 = .ok (.ifCond .ne 7, 3) := dk_154 0 7 (dk_at dksX6_pull_5 18 rfl rfl)
theorem dX6_pull_141 : decode cX6_pull 141 = .ok (.iconst 5, 1) := dk_8 (dk_at dksX6_pull_5 21 rfl rfl)
theorem dX6_pull_142 : decode cX6_pull 142 = .ok (.goto 4, 3) := dk_167 0 4 (dk_at dksX6_pull_6 0 rfl rfl)
theorem dX6_pull_145 : decode cX6_pull 145 = .ok (.iconst 0, 1) := dk_3 (dk_at dksX6_pull_6 3 rfl rfl)
theorem dX6_pull_146 : decode cX6_pull 146 = .ok (.iadd, 1) := dk_96 (dk_at dksX6_pull_6 4 rfl rfl)
theorem dX6_pull_147 : decode cX6_pull 147 = .ok (.ireturn, 1) := dk_172 (dk_at dksX6_pull_6 5 rfl rfl)
theorem dX6_pull_148 : decode cX6_pull 148 = .ok (.iload 4, 2) := dk_21 4 (dk_at dksX6_pull_6 6 rfl rfl)
theorem dX6_pull_150 : decode cX6_pull 150 = .ok (.aload_n 0, 1) := dk_42 (dk_at dksX6_pull_6 8 rfl rfl)
theorem dX6_pull_151 : decode cX6_pull 151 = .ok (.iload_n 1, 1) := dk_27 (dk_at dksX6_pull_6 9 rfl rfl)
theorem dX6_pull_152 : decode cX6_pull 152 = .ok (.iconst 5, 1) := dk_8 (dk_at dksX6_pull_6 10 rfl rfl)
theorem dX6_pull_153 : decode cX6_pull 153 = .ok (.iload_n 2, 1) := dk_28 (dk_at dksX6_pull_6 11 rfl rfl)
theorem dX6_pull_154 : decode cX6_pull 154 = .ok (.iconst 4, 1) := dk_7 (dk_at dksX6_pull_6 12 rfl rfl)
theorem dX6_pull_155 : decode cX6_pull 155 = .ok (.irem, 1) := dk_112 (dk_at dksX6_pull_6 13 rfl rfl)
theorem dX6_pull_156 : decode cX6_pull 156 = .ok (.iadd, 1) := dk_96 (dk_at dksX6_pull_6 14 rfl rfl)
theorem dX6_pull_157 : decode cX6_pull 157 = .ok (.invokevirtual 83, 3) := dk_182 0 83 (dk_at dksX6_pull_6 15 rfl rfl)
theorem dX6_pull_160 : decode cX6_pull 160 = .ok (.iadd, 1) := dk_96 (dk_at dksX6_pull_6 18 rfl rfl)
theorem dX6_pull_161 : decode cX6_pull 161 = .ok (.ireturn, 1) := dk_172 (dk_at dksX6_pull_6 19 rfl rfl)
theorem dX6_pull_162 : decode cX6_pull 162 = .ok (.aload_n 0, 1) := dk_42 (dk_at dksX6_pull_6 20 rfl rfl)
theorem dX6_pull_163 : decode cX6_pull 163 = .ok (.getfield 154, 3) := dk_180 0 154 (dk_at dksX6_pull_6 21 rfl rfl)
theorem dX6_pull_166 : decode cX6_pull 166 = .ok (.ireturn, 1) := dk_172 (dk_at dksX6_pull_7 0 rfl rfl)
abbrev cX6_readFor : ByteArray := prog_23_method_35_code
def yX6_readFor : MethodName := ⟨RX6, "readFor", "(II)V"⟩
def dkwX6_readFor_6 : List UInt8 := [79, 132, 4, 1, 167, 255, 225, 42, 182, 0, 160, 87, 177]
abbrev dktX6_readFor_6 : List UInt8 := dkwX6_readFor_6 ++ []
def dkwX6_readFor_5 : List UInt8 := [180, 0, 118, 162, 0, 28, 42, 180, 0, 34, 21, 4, 42, 180, 0, 28, 16, 100, 29, 104, 21, 4, 96, 46]
abbrev dktX6_readFor_5 : List UInt8 := dkwX6_readFor_5 ++ dktX6_readFor_6
def dkwX6_readFor_4 : List UInt8 := [16, 83, 46, 4, 100, 62, 42, 42, 180, 0, 31, 29, 46, 181, 0, 118, 3, 54, 4, 21, 4, 42]
abbrev dktX6_readFor_4 : List UInt8 := dkwX6_readFor_4 ++ dktX6_readFor_5
def dkwX6_readFor_3 : List UInt8 := [46, 154, 0, 19, 42, 42, 180, 0, 15, 28, 46, 181, 0, 154, 42, 4, 181, 0, 151, 177, 42, 180, 0, 15]
abbrev dktX6_readFor_3 : List UInt8 := dkwX6_readFor_3 ++ dktX6_readFor_4
def dkwX6_readFor_2 : List UInt8 := [46, 79, 42, 180, 0, 37, 8, 42, 180, 0, 15, 16, 82, 46, 16, 10, 112, 79, 42, 180, 0, 15, 16, 83]
abbrev dktX6_readFor_2 : List UInt8 := dkwX6_readFor_2 ++ dktX6_readFor_3
def dkwX6_readFor_1 : List UInt8 := [42, 27, 4, 182, 0, 83, 79, 42, 180, 0, 37, 6, 28, 79, 42, 180, 0, 37, 7, 42, 180, 0, 15, 28]
abbrev dktX6_readFor_1 : List UInt8 := dkwX6_readFor_1 ++ dktX6_readFor_2
def dkwX6_readFor_0 : List UInt8 := [42, 180, 0, 37, 3, 27, 79, 42, 180, 0, 37, 4, 42, 27, 3, 182, 0, 83, 79, 42, 180, 0, 37, 5]
abbrev dktX6_readFor_0 : List UInt8 := dkwX6_readFor_0 ++ dktX6_readFor_1
theorem dksX6_readFor_0 : cX6_readFor.data.toList.drop 0 = dktX6_readFor_0 := by decide +kernel
theorem dksX6_readFor_1 : cX6_readFor.data.toList.drop 24 = dktX6_readFor_1 := dk_seg dksX6_readFor_0 24 rfl rfl
theorem dksX6_readFor_2 : cX6_readFor.data.toList.drop 48 = dktX6_readFor_2 := dk_seg dksX6_readFor_1 24 rfl rfl
theorem dksX6_readFor_3 : cX6_readFor.data.toList.drop 72 = dktX6_readFor_3 := dk_seg dksX6_readFor_2 24 rfl rfl
theorem dksX6_readFor_4 : cX6_readFor.data.toList.drop 96 = dktX6_readFor_4 := dk_seg dksX6_readFor_3 24 rfl rfl
theorem dksX6_readFor_5 : cX6_readFor.data.toList.drop 118 = dktX6_readFor_5 := dk_seg dksX6_readFor_4 22 rfl rfl
theorem dksX6_readFor_6 : cX6_readFor.data.toList.drop 142 = dktX6_readFor_6 := dk_seg dksX6_readFor_5 24 rfl rfl
theorem dX6_readFor_0 : decode cX6_readFor 0 = .ok (.aload_n 0, 1) := dk_42 (dk_at dksX6_readFor_0 0 rfl rfl)
theorem dX6_readFor_1 : decode cX6_readFor 1 = .ok (.getfield 37, 3) := dk_180 0 37 (dk_at dksX6_readFor_0 1 rfl rfl)
theorem dX6_readFor_4 : decode cX6_readFor 4 = .ok (.iconst 0, 1) := dk_3 (dk_at dksX6_readFor_0 4 rfl rfl)
theorem dX6_readFor_5 : decode cX6_readFor 5 = .ok (.iload_n 1, 1) := dk_27 (dk_at dksX6_readFor_0 5 rfl rfl)
theorem dX6_readFor_6 : decode cX6_readFor 6 = .ok (.iastore, 1) := dk_79 (dk_at dksX6_readFor_0 6 rfl rfl)
theorem dX6_readFor_7 : decode cX6_readFor 7 = .ok (.aload_n 0, 1) := dk_42 (dk_at dksX6_readFor_0 7 rfl rfl)
theorem dX6_readFor_8 : decode cX6_readFor 8 = .ok (.getfield 37, 3) := dk_180 0 37 (dk_at dksX6_readFor_0 8 rfl rfl)
theorem dX6_readFor_11 : decode cX6_readFor 11 = .ok (.iconst 1, 1) := dk_4 (dk_at dksX6_readFor_0 11 rfl rfl)
theorem dX6_readFor_12 : decode cX6_readFor 12 = .ok (.aload_n 0, 1) := dk_42 (dk_at dksX6_readFor_0 12 rfl rfl)
theorem dX6_readFor_13 : decode cX6_readFor 13 = .ok (.iload_n 1, 1) := dk_27 (dk_at dksX6_readFor_0 13 rfl rfl)
theorem dX6_readFor_14 : decode cX6_readFor 14 = .ok (.iconst 0, 1) := dk_3 (dk_at dksX6_readFor_0 14 rfl rfl)
theorem dX6_readFor_15 : decode cX6_readFor 15 = .ok (.invokevirtual 83, 3) := dk_182 0 83 (dk_at dksX6_readFor_0 15 rfl rfl)
theorem dX6_readFor_18 : decode cX6_readFor 18 = .ok (.iastore, 1) := dk_79 (dk_at dksX6_readFor_0 18 rfl rfl)
theorem dX6_readFor_19 : decode cX6_readFor 19 = .ok (.aload_n 0, 1) := dk_42 (dk_at dksX6_readFor_0 19 rfl rfl)
theorem dX6_readFor_20 : decode cX6_readFor 20 = .ok (.getfield 37, 3) := dk_180 0 37 (dk_at dksX6_readFor_0 20 rfl rfl)
theorem dX6_readFor_23 : decode cX6_readFor 23 = .ok (.iconst 2, 1) := dk_5 (dk_at dksX6_readFor_0 23 rfl rfl)
theorem dX6_readFor_24 : decode cX6_readFor 24 = .ok (.aload_n 0, 1) := dk_42 (dk_at dksX6_readFor_1 0 rfl rfl)
theorem dX6_readFor_25 : decode cX6_readFor 25 = .ok (.iload_n 1, 1) := dk_27 (dk_at dksX6_readFor_1 1 rfl rfl)
theorem dX6_readFor_26 : decode cX6_readFor 26 = .ok (.iconst 1, 1) := dk_4 (dk_at dksX6_readFor_1 2 rfl rfl)
theorem dX6_readFor_27 : decode cX6_readFor 27 = .ok (.invokevirtual 83, 3) := dk_182 0 83 (dk_at dksX6_readFor_1 3 rfl rfl)
theorem dX6_readFor_30 : decode cX6_readFor 30 = .ok (.iastore, 1) := dk_79 (dk_at dksX6_readFor_1 6 rfl rfl)
theorem dX6_readFor_31 : decode cX6_readFor 31 = .ok (.aload_n 0, 1) := dk_42 (dk_at dksX6_readFor_1 7 rfl rfl)
theorem dX6_readFor_32 : decode cX6_readFor 32 = .ok (.getfield 37, 3) := dk_180 0 37 (dk_at dksX6_readFor_1 8 rfl rfl)
theorem dX6_readFor_35 : decode cX6_readFor 35 = .ok (.iconst 3, 1) := dk_6 (dk_at dksX6_readFor_1 11 rfl rfl)
theorem dX6_readFor_36 : decode cX6_readFor 36 = .ok (.iload_n 2, 1) := dk_28 (dk_at dksX6_readFor_1 12 rfl rfl)
theorem dX6_readFor_37 : decode cX6_readFor 37 = .ok (.iastore, 1) := dk_79 (dk_at dksX6_readFor_1 13 rfl rfl)
theorem dX6_readFor_38 : decode cX6_readFor 38 = .ok (.aload_n 0, 1) := dk_42 (dk_at dksX6_readFor_1 14 rfl rfl)
theorem dX6_readFor_39 : decode cX6_readFor 39 = .ok (.getfield 37, 3) := dk_180 0 37 (dk_at dksX6_readFor_1 15 rfl rfl)
theorem dX6_readFor_42 : decode cX6_readFor 42 = .ok (.iconst 4, 1) := dk_7 (dk_at dksX6_readFor_1 18 rfl rfl)
theorem dX6_readFor_43 : decode cX6_readFor 43 = .ok (.aload_n 0, 1) := dk_42 (dk_at dksX6_readFor_1 19 rfl rfl)
theorem dX6_readFor_44 : decode cX6_readFor 44 = .ok (.getfield 15, 3) := dk_180 0 15 (dk_at dksX6_readFor_1 20 rfl rfl)
theorem dX6_readFor_47 : decode cX6_readFor 47 = .ok (.iload_n 2, 1) := dk_28 (dk_at dksX6_readFor_1 23 rfl rfl)
theorem dX6_readFor_48 : decode cX6_readFor 48 = .ok (.iaload, 1) := dk_46 (dk_at dksX6_readFor_2 0 rfl rfl)
theorem dX6_readFor_49 : decode cX6_readFor 49 = .ok (.iastore, 1) := dk_79 (dk_at dksX6_readFor_2 1 rfl rfl)
theorem dX6_readFor_50 : decode cX6_readFor 50 = .ok (.aload_n 0, 1) := dk_42 (dk_at dksX6_readFor_2 2 rfl rfl)
theorem dX6_readFor_51 : decode cX6_readFor 51 = .ok (.getfield 37, 3) := dk_180 0 37 (dk_at dksX6_readFor_2 3 rfl rfl)
theorem dX6_readFor_54 : decode cX6_readFor 54 = .ok (.iconst 5, 1) := dk_8 (dk_at dksX6_readFor_2 6 rfl rfl)
theorem dX6_readFor_55 : decode cX6_readFor 55 = .ok (.aload_n 0, 1) := dk_42 (dk_at dksX6_readFor_2 7 rfl rfl)
theorem dX6_readFor_56 : decode cX6_readFor 56 = .ok (.getfield 15, 3) := dk_180 0 15 (dk_at dksX6_readFor_2 8 rfl rfl)
theorem dX6_readFor_59 : decode cX6_readFor 59 = .ok (.bipush 82, 2) := dk_16 82 (dk_at dksX6_readFor_2 11 rfl rfl)
theorem dX6_readFor_61 : decode cX6_readFor 61 = .ok (.iaload, 1) := dk_46 (dk_at dksX6_readFor_2 13 rfl rfl)
theorem dX6_readFor_62 : decode cX6_readFor 62 = .ok (.bipush 10, 2) := dk_16 10 (dk_at dksX6_readFor_2 14 rfl rfl)
theorem dX6_readFor_64 : decode cX6_readFor 64 = .ok (.irem, 1) := dk_112 (dk_at dksX6_readFor_2 16 rfl rfl)
theorem dX6_readFor_65 : decode cX6_readFor 65 = .ok (.iastore, 1) := dk_79 (dk_at dksX6_readFor_2 17 rfl rfl)
theorem dX6_readFor_66 : decode cX6_readFor 66 = .ok (.aload_n 0, 1) := dk_42 (dk_at dksX6_readFor_2 18 rfl rfl)
theorem dX6_readFor_67 : decode cX6_readFor 67 = .ok (.getfield 15, 3) := dk_180 0 15 (dk_at dksX6_readFor_2 19 rfl rfl)
theorem dX6_readFor_70 : decode cX6_readFor 70 = .ok (.bipush 83, 2) := dk_16 83 (dk_at dksX6_readFor_2 22 rfl rfl)
theorem dX6_readFor_72 : decode cX6_readFor 72 = .ok (.iaload, 1) := dk_46 (dk_at dksX6_readFor_3 0 rfl rfl)
theorem dX6_readFor_73 : decode cX6_readFor 73 = .ok (.ifCond .ne 19, 3) := dk_154 0 19 (dk_at dksX6_readFor_3 1 rfl rfl)
theorem dX6_readFor_76 : decode cX6_readFor 76 = .ok (.aload_n 0, 1) := dk_42 (dk_at dksX6_readFor_3 4 rfl rfl)
theorem dX6_readFor_77 : decode cX6_readFor 77 = .ok (.aload_n 0, 1) := dk_42 (dk_at dksX6_readFor_3 5 rfl rfl)
theorem dX6_readFor_78 : decode cX6_readFor 78 = .ok (.getfield 15, 3) := dk_180 0 15 (dk_at dksX6_readFor_3 6 rfl rfl)
theorem dX6_readFor_81 : decode cX6_readFor 81 = .ok (.iload_n 2, 1) := dk_28 (dk_at dksX6_readFor_3 9 rfl rfl)
theorem dX6_readFor_82 : decode cX6_readFor 82 = .ok (.iaload, 1) := dk_46 (dk_at dksX6_readFor_3 10 rfl rfl)
theorem dX6_readFor_83 : decode cX6_readFor 83 = .ok (.putfield 154, 3) := dk_181 0 154 (dk_at dksX6_readFor_3 11 rfl rfl)
theorem dX6_readFor_86 : decode cX6_readFor 86 = .ok (.aload_n 0, 1) := dk_42 (dk_at dksX6_readFor_3 14 rfl rfl)
theorem dX6_readFor_87 : decode cX6_readFor 87 = .ok (.iconst 1, 1) := dk_4 (dk_at dksX6_readFor_3 15 rfl rfl)
theorem dX6_readFor_88 : decode cX6_readFor 88 = .ok (.putfield 151, 3) := dk_181 0 151 (dk_at dksX6_readFor_3 16 rfl rfl)
theorem dX6_readFor_91 : decode cX6_readFor 91 = .ok (.return_, 1) := dk_177 (dk_at dksX6_readFor_3 19 rfl rfl)
theorem dX6_readFor_92 : decode cX6_readFor 92 = .ok (.aload_n 0, 1) := dk_42 (dk_at dksX6_readFor_3 20 rfl rfl)
theorem dX6_readFor_93 : decode cX6_readFor 93 = .ok (.getfield 15, 3) := dk_180 0 15 (dk_at dksX6_readFor_3 21 rfl rfl)
theorem dX6_readFor_96 : decode cX6_readFor 96 = .ok (.bipush 83, 2) := dk_16 83 (dk_at dksX6_readFor_4 0 rfl rfl)
theorem dX6_readFor_98 : decode cX6_readFor 98 = .ok (.iaload, 1) := dk_46 (dk_at dksX6_readFor_4 2 rfl rfl)
theorem dX6_readFor_99 : decode cX6_readFor 99 = .ok (.iconst 1, 1) := dk_4 (dk_at dksX6_readFor_4 3 rfl rfl)
theorem dX6_readFor_100 : decode cX6_readFor 100 = .ok (.isub, 1) := dk_100 (dk_at dksX6_readFor_4 4 rfl rfl)
theorem dX6_readFor_101 : decode cX6_readFor 101 = .ok (.istore_n 3, 1) := dk_62 (dk_at dksX6_readFor_4 5 rfl rfl)
theorem dX6_readFor_102 : decode cX6_readFor 102 = .ok (.aload_n 0, 1) := dk_42 (dk_at dksX6_readFor_4 6 rfl rfl)
theorem dX6_readFor_103 : decode cX6_readFor 103 = .ok (.aload_n 0, 1) := dk_42 (dk_at dksX6_readFor_4 7 rfl rfl)
theorem dX6_readFor_104 : decode cX6_readFor 104 = .ok (.getfield 31, 3) := dk_180 0 31 (dk_at dksX6_readFor_4 8 rfl rfl)
theorem dX6_readFor_107 : decode cX6_readFor 107 = .ok (.iload_n 3, 1) := dk_29 (dk_at dksX6_readFor_4 11 rfl rfl)
theorem dX6_readFor_108 : decode cX6_readFor 108 = .ok (.iaload, 1) := dk_46 (dk_at dksX6_readFor_4 12 rfl rfl)
theorem dX6_readFor_109 : decode cX6_readFor 109 = .ok (.putfield 118, 3) := dk_181 0 118 (dk_at dksX6_readFor_4 13 rfl rfl)
theorem dX6_readFor_112 : decode cX6_readFor 112 = .ok (.iconst 0, 1) := dk_3 (dk_at dksX6_readFor_4 16 rfl rfl)
theorem dX6_readFor_113 : decode cX6_readFor 113 = .ok (.istore 4, 2) := dk_54 4 (dk_at dksX6_readFor_4 17 rfl rfl)
theorem dX6_readFor_115 : decode cX6_readFor 115 = .ok (.iload 4, 2) := dk_21 4 (dk_at dksX6_readFor_4 19 rfl rfl)
theorem dX6_readFor_117 : decode cX6_readFor 117 = .ok (.aload_n 0, 1) := dk_42 (dk_at dksX6_readFor_4 21 rfl rfl)
theorem dX6_readFor_118 : decode cX6_readFor 118 = .ok (.getfield 118, 3) := dk_180 0 118 (dk_at dksX6_readFor_5 0 rfl rfl)
theorem dX6_readFor_121 : decode cX6_readFor 121 = .ok (.if_icmp .ge 28, 3) := dk_162 0 28 (dk_at dksX6_readFor_5 3 rfl rfl)
theorem dX6_readFor_124 : decode cX6_readFor 124 = .ok (.aload_n 0, 1) := dk_42 (dk_at dksX6_readFor_5 6 rfl rfl)
theorem dX6_readFor_125 : decode cX6_readFor 125 = .ok (.getfield 34, 3) := dk_180 0 34 (dk_at dksX6_readFor_5 7 rfl rfl)
theorem dX6_readFor_128 : decode cX6_readFor 128 = .ok (.iload 4, 2) := dk_21 4 (dk_at dksX6_readFor_5 10 rfl rfl)
theorem dX6_readFor_130 : decode cX6_readFor 130 = .ok (.aload_n 0, 1) := dk_42 (dk_at dksX6_readFor_5 12 rfl rfl)
theorem dX6_readFor_131 : decode cX6_readFor 131 = .ok (.getfield 28, 3) := dk_180 0 28 (dk_at dksX6_readFor_5 13 rfl rfl)
theorem dX6_readFor_134 : decode cX6_readFor 134 = .ok (.bipush 100, 2) := dk_16 100 (dk_at dksX6_readFor_5 16 rfl rfl)
theorem dX6_readFor_136 : decode cX6_readFor 136 = .ok (.iload_n 3, 1) := dk_29 (dk_at dksX6_readFor_5 18 rfl rfl)
theorem dX6_readFor_137 : decode cX6_readFor 137 = .ok (.imul, 1) := dk_104 (dk_at dksX6_readFor_5 19 rfl rfl)
theorem dX6_readFor_138 : decode cX6_readFor 138 = .ok (.iload 4, 2) := dk_21 4 (dk_at dksX6_readFor_5 20 rfl rfl)
theorem dX6_readFor_140 : decode cX6_readFor 140 = .ok (.iadd, 1) := dk_96 (dk_at dksX6_readFor_5 22 rfl rfl)
theorem dX6_readFor_141 : decode cX6_readFor 141 = .ok (.iaload, 1) := dk_46 (dk_at dksX6_readFor_5 23 rfl rfl)
theorem dX6_readFor_142 : decode cX6_readFor 142 = .ok (.iastore, 1) := dk_79 (dk_at dksX6_readFor_6 0 rfl rfl)
theorem dX6_readFor_143 : decode cX6_readFor 143 = .ok (.iinc 4 1, 3) := dk_132 4 1 (dk_at dksX6_readFor_6 1 rfl rfl)
theorem dX6_readFor_146 : decode cX6_readFor 146 = .ok (.goto (-31), 3) := dk_167 255 225 (dk_at dksX6_readFor_6 4 rfl rfl)
theorem dX6_readFor_149 : decode cX6_readFor 149 = .ok (.aload_n 0, 1) := dk_42 (dk_at dksX6_readFor_6 7 rfl rfl)
theorem dX6_readFor_150 : decode cX6_readFor 150 = .ok (.invokevirtual 160, 3) := dk_182 0 160 (dk_at dksX6_readFor_6 8 rfl rfl)
theorem dX6_readFor_153 : decode cX6_readFor 153 = .ok (.pop, 1) := dk_87 (dk_at dksX6_readFor_6 11 rfl rfl)
theorem dX6_readFor_154 : decode cX6_readFor 154 = .ok (.return_, 1) := dk_177 (dk_at dksX6_readFor_6 12 rfl rfl)
abbrev cX6_readAll : ByteArray := prog_23_method_34_code
def yX6_readAll : MethodName := ⟨RX6, "readAll", "()Z"⟩
def dkwX6_readAll_3 : List UInt8 := [153, 0, 18, 42, 180, 0, 115, 42, 180, 0, 118, 160, 0, 7, 4, 167, 0, 4, 3, 172]
abbrev dktX6_readAll_3 : List UInt8 := dkwX6_readAll_3 ++ []
def dkwX6_readAll_2 : List UInt8 := [42, 89, 180, 0, 115, 4, 96, 181, 0, 115, 42, 182, 0, 157, 132, 1, 1, 167, 255, 224, 42, 180, 0, 112]
abbrev dktX6_readAll_2 : List UInt8 := dkwX6_readAll_2 ++ dktX6_readAll_3
def dkwX6_readAll_1 : List UInt8 := [181, 0, 151, 4, 60, 42, 182, 0, 157, 27, 16, 10, 162, 0, 32, 42, 16, 59, 182, 0, 121, 153, 0, 23]
abbrev dktX6_readAll_1 : List UInt8 := dkwX6_readAll_1 ++ dktX6_readAll_2
def dkwX6_readAll_0 : List UInt8 := [42, 3, 181, 0, 115, 42, 4, 181, 0, 112, 42, 42, 180, 0, 37, 7, 46, 181, 0, 154, 42, 4]
abbrev dktX6_readAll_0 : List UInt8 := dkwX6_readAll_0 ++ dktX6_readAll_1
theorem dksX6_readAll_0 : cX6_readAll.data.toList.drop 0 = dktX6_readAll_0 := by decide +kernel
theorem dksX6_readAll_1 : cX6_readAll.data.toList.drop 22 = dktX6_readAll_1 := dk_seg dksX6_readAll_0 22 rfl rfl
theorem dksX6_readAll_2 : cX6_readAll.data.toList.drop 46 = dktX6_readAll_2 := dk_seg dksX6_readAll_1 24 rfl rfl
theorem dksX6_readAll_3 : cX6_readAll.data.toList.drop 70 = dktX6_readAll_3 := dk_seg dksX6_readAll_2 24 rfl rfl
theorem dX6_readAll_0 : decode cX6_readAll 0 = .ok (.aload_n 0, 1) := dk_42 (dk_at dksX6_readAll_0 0 rfl rfl)
theorem dX6_readAll_1 : decode cX6_readAll 1 = .ok (.iconst 0, 1) := dk_3 (dk_at dksX6_readAll_0 1 rfl rfl)
theorem dX6_readAll_2 : decode cX6_readAll 2 = .ok (.putfield 115, 3) := dk_181 0 115 (dk_at dksX6_readAll_0 2 rfl rfl)
theorem dX6_readAll_5 : decode cX6_readAll 5 = .ok (.aload_n 0, 1) := dk_42 (dk_at dksX6_readAll_0 5 rfl rfl)
theorem dX6_readAll_6 : decode cX6_readAll 6 = .ok (.iconst 1, 1) := dk_4 (dk_at dksX6_readAll_0 6 rfl rfl)
theorem dX6_readAll_7 : decode cX6_readAll 7 = .ok (.putfield 112, 3) := dk_181 0 112 (dk_at dksX6_readAll_0 7 rfl rfl)
theorem dX6_readAll_10 : decode cX6_readAll 10 = .ok (.aload_n 0, 1) := dk_42 (dk_at dksX6_readAll_0 10 rfl rfl)
theorem dX6_readAll_11 : decode cX6_readAll 11 = .ok (.aload_n 0, 1) := dk_42 (dk_at dksX6_readAll_0 11 rfl rfl)
theorem dX6_readAll_12 : decode cX6_readAll 12 = .ok (.getfield 37, 3) := dk_180 0 37 (dk_at dksX6_readAll_0 12 rfl rfl)
theorem dX6_readAll_15 : decode cX6_readAll 15 = .ok (.iconst 4, 1) := dk_7 (dk_at dksX6_readAll_0 15 rfl rfl)
theorem dX6_readAll_16 : decode cX6_readAll 16 = .ok (.iaload, 1) := dk_46 (dk_at dksX6_readAll_0 16 rfl rfl)
theorem dX6_readAll_17 : decode cX6_readAll 17 = .ok (.putfield 154, 3) := dk_181 0 154 (dk_at dksX6_readAll_0 17 rfl rfl)
theorem dX6_readAll_20 : decode cX6_readAll 20 = .ok (.aload_n 0, 1) := dk_42 (dk_at dksX6_readAll_0 20 rfl rfl)
theorem dX6_readAll_21 : decode cX6_readAll 21 = .ok (.iconst 1, 1) := dk_4 (dk_at dksX6_readAll_0 21 rfl rfl)
theorem dX6_readAll_22 : decode cX6_readAll 22 = .ok (.putfield 151, 3) := dk_181 0 151 (dk_at dksX6_readAll_1 0 rfl rfl)
theorem dX6_readAll_25 : decode cX6_readAll 25 = .ok (.iconst 1, 1) := dk_4 (dk_at dksX6_readAll_1 3 rfl rfl)
theorem dX6_readAll_26 : decode cX6_readAll 26 = .ok (.istore_n 1, 1) := dk_60 (dk_at dksX6_readAll_1 4 rfl rfl)
theorem dX6_readAll_27 : decode cX6_readAll 27 = .ok (.aload_n 0, 1) := dk_42 (dk_at dksX6_readAll_1 5 rfl rfl)
theorem dX6_readAll_28 : decode cX6_readAll 28 = .ok (.invokevirtual 157, 3) := dk_182 0 157 (dk_at dksX6_readAll_1 6 rfl rfl)
theorem dX6_readAll_31 : decode cX6_readAll 31 = .ok (.iload_n 1, 1) := dk_27 (dk_at dksX6_readAll_1 9 rfl rfl)
theorem dX6_readAll_32 : decode cX6_readAll 32 = .ok (.bipush 10, 2) := dk_16 10 (dk_at dksX6_readAll_1 10 rfl rfl)
theorem dX6_readAll_34 : decode cX6_readAll 34 = .ok (.if_icmp .ge 32, 3) := dk_162 0 32 (dk_at dksX6_readAll_1 12 rfl rfl)
theorem dX6_readAll_37 : decode cX6_readAll 37 = .ok (.aload_n 0, 1) := dk_42 (dk_at dksX6_readAll_1 15 rfl rfl)
theorem dX6_readAll_38 : decode cX6_readAll 38 = .ok (.bipush 59, 2) := dk_16 59 (dk_at dksX6_readAll_1 16 rfl rfl)
theorem dX6_readAll_40 : decode cX6_readAll 40 = .ok (.invokevirtual 121, 3) := dk_182 0 121 (dk_at dksX6_readAll_1 18 rfl rfl)
theorem dX6_readAll_43 : decode cX6_readAll 43 = .ok (.ifCond .eq 23, 3) := dk_153 0 23 (dk_at dksX6_readAll_1 21 rfl rfl)
theorem dX6_readAll_46 : decode cX6_readAll 46 = .ok (.aload_n 0, 1) := dk_42 (dk_at dksX6_readAll_2 0 rfl rfl)
theorem dX6_readAll_47 : decode cX6_readAll 47 = .ok (.dup, 1) := dk_89 (dk_at dksX6_readAll_2 1 rfl rfl)
theorem dX6_readAll_48 : decode cX6_readAll 48 = .ok (.getfield 115, 3) := dk_180 0 115 (dk_at dksX6_readAll_2 2 rfl rfl)
theorem dX6_readAll_51 : decode cX6_readAll 51 = .ok (.iconst 1, 1) := dk_4 (dk_at dksX6_readAll_2 5 rfl rfl)
theorem dX6_readAll_52 : decode cX6_readAll 52 = .ok (.iadd, 1) := dk_96 (dk_at dksX6_readAll_2 6 rfl rfl)
theorem dX6_readAll_53 : decode cX6_readAll 53 = .ok (.putfield 115, 3) := dk_181 0 115 (dk_at dksX6_readAll_2 7 rfl rfl)
theorem dX6_readAll_56 : decode cX6_readAll 56 = .ok (.aload_n 0, 1) := dk_42 (dk_at dksX6_readAll_2 10 rfl rfl)
theorem dX6_readAll_57 : decode cX6_readAll 57 = .ok (.invokevirtual 157, 3) := dk_182 0 157 (dk_at dksX6_readAll_2 11 rfl rfl)
theorem dX6_readAll_60 : decode cX6_readAll 60 = .ok (.iinc 1 1, 3) := dk_132 1 1 (dk_at dksX6_readAll_2 14 rfl rfl)
theorem dX6_readAll_63 : decode cX6_readAll 63 = .ok (.goto (-32), 3) := dk_167 255 224 (dk_at dksX6_readAll_2 17 rfl rfl)
theorem dX6_readAll_66 : decode cX6_readAll 66 = .ok (.aload_n 0, 1) := dk_42 (dk_at dksX6_readAll_2 20 rfl rfl)
theorem dX6_readAll_67 : decode cX6_readAll 67 = .ok (.getfield 112, 3) := dk_180 0 112 (dk_at dksX6_readAll_2 21 rfl rfl)
theorem dX6_readAll_70 : decode cX6_readAll 70 = .ok (.ifCond .eq 18, 3) := dk_153 0 18 (dk_at dksX6_readAll_3 0 rfl rfl)
theorem dX6_readAll_73 : decode cX6_readAll 73 = .ok (.aload_n 0, 1) := dk_42 (dk_at dksX6_readAll_3 3 rfl rfl)
theorem dX6_readAll_74 : decode cX6_readAll 74 = .ok (.getfield 115, 3) := dk_180 0 115 (dk_at dksX6_readAll_3 4 rfl rfl)
theorem dX6_readAll_77 : decode cX6_readAll 77 = .ok (.aload_n 0, 1) := dk_42 (dk_at dksX6_readAll_3 7 rfl rfl)
theorem dX6_readAll_78 : decode cX6_readAll 78 = .ok (.getfield 118, 3) := dk_180 0 118 (dk_at dksX6_readAll_3 8 rfl rfl)
theorem dX6_readAll_81 : decode cX6_readAll 81 = .ok (.if_icmp .ne 7, 3) := dk_160 0 7 (dk_at dksX6_readAll_3 11 rfl rfl)
theorem dX6_readAll_84 : decode cX6_readAll 84 = .ok (.iconst 1, 1) := dk_4 (dk_at dksX6_readAll_3 14 rfl rfl)
theorem dX6_readAll_85 : decode cX6_readAll 85 = .ok (.goto 4, 3) := dk_167 0 4 (dk_at dksX6_readAll_3 15 rfl rfl)
theorem dX6_readAll_88 : decode cX6_readAll 88 = .ok (.iconst 0, 1) := dk_3 (dk_at dksX6_readAll_3 18 rfl rfl)
theorem dX6_readAll_89 : decode cX6_readAll 89 = .ok (.ireturn, 1) := dk_172 (dk_at dksX6_readAll_3 19 rfl rfl)
abbrev cX6_clause : ByteArray := prog_23_method_33_code
def yX6_clause : MethodName := ⟨RX6, "clause", "()V"⟩
def dkwX6_clause_6 : List UInt8 := [167, 0, 5, 28, 116, 96, 181, 0, 154, 177]
abbrev dktX6_clause_6 : List UInt8 := dkwX6_clause_6 ++ []
def dkwX6_clause_5 : List UInt8 := [182, 0, 142, 62, 42, 89, 180, 0, 154, 29, 154, 0, 7, 3, 167, 0, 13, 27, 154, 0, 7, 28]
abbrev dktX6_clause_5 : List UInt8 := dkwX6_clause_5 ++ dktX6_clause_6
def dkwX6_clause_4 : List UInt8 := [61, 27, 5, 160, 0, 9, 42, 28, 181, 0, 151, 177, 42, 16, 32, 182, 0, 128, 42, 3, 181, 0, 136, 42]
abbrev dktX6_clause_4 : List UInt8 := dkwX6_clause_4 ++ dktX6_clause_5
def dkwX6_clause_3 : List UInt8 := [27, 104, 28, 96, 52, 182, 0, 128, 132, 2, 1, 167, 255, 221, 42, 16, 32, 182, 0, 128, 42, 182, 0, 132]
abbrev dktX6_clause_3 : List UInt8 := dkwX6_clause_3 ++ dktX6_clause_4
def dkwX6_clause_2 : List UInt8 := [28, 8, 162, 0, 36, 42, 180, 0, 47, 8, 27, 104, 28, 96, 52, 153, 0, 23, 42, 42, 180, 0, 47, 8]
abbrev dktX6_clause_2 : List UInt8 := dkwX6_clause_2 ++ dktX6_clause_3
def dkwX6_clause_1 : List UInt8 := [167, 0, 4, 27, 60, 132, 2, 1, 167, 255, 229, 27, 2, 160, 0, 9, 42, 3, 181, 0, 112, 177, 3, 61]
abbrev dktX6_clause_1 : List UInt8 := dkwX6_clause_1 ++ dktX6_clause_2
def dkwX6_clause_0 : List UInt8 := [2, 60, 3, 61, 28, 6, 162, 0, 28, 42, 42, 180, 0, 44, 28, 52, 182, 0, 121, 153, 0, 7, 28]
abbrev dktX6_clause_0 : List UInt8 := dkwX6_clause_0 ++ dktX6_clause_1
theorem dksX6_clause_0 : cX6_clause.data.toList.drop 0 = dktX6_clause_0 := by decide +kernel
theorem dksX6_clause_1 : cX6_clause.data.toList.drop 23 = dktX6_clause_1 := dk_seg dksX6_clause_0 23 rfl rfl
theorem dksX6_clause_2 : cX6_clause.data.toList.drop 47 = dktX6_clause_2 := dk_seg dksX6_clause_1 24 rfl rfl
theorem dksX6_clause_3 : cX6_clause.data.toList.drop 71 = dktX6_clause_3 := dk_seg dksX6_clause_2 24 rfl rfl
theorem dksX6_clause_4 : cX6_clause.data.toList.drop 95 = dktX6_clause_4 := dk_seg dksX6_clause_3 24 rfl rfl
theorem dksX6_clause_5 : cX6_clause.data.toList.drop 119 = dktX6_clause_5 := dk_seg dksX6_clause_4 24 rfl rfl
theorem dksX6_clause_6 : cX6_clause.data.toList.drop 141 = dktX6_clause_6 := dk_seg dksX6_clause_5 22 rfl rfl
theorem dX6_clause_0 : decode cX6_clause 0 = .ok (.iconst (-1), 1) := dk_2 (dk_at dksX6_clause_0 0 rfl rfl)
theorem dX6_clause_1 : decode cX6_clause 1 = .ok (.istore_n 1, 1) := dk_60 (dk_at dksX6_clause_0 1 rfl rfl)
theorem dX6_clause_2 : decode cX6_clause 2 = .ok (.iconst 0, 1) := dk_3 (dk_at dksX6_clause_0 2 rfl rfl)
theorem dX6_clause_3 : decode cX6_clause 3 = .ok (.istore_n 2, 1) := dk_61 (dk_at dksX6_clause_0 3 rfl rfl)
theorem dX6_clause_4 : decode cX6_clause 4 = .ok (.iload_n 2, 1) := dk_28 (dk_at dksX6_clause_0 4 rfl rfl)
theorem dX6_clause_5 : decode cX6_clause 5 = .ok (.iconst 3, 1) := dk_6 (dk_at dksX6_clause_0 5 rfl rfl)
theorem dX6_clause_6 : decode cX6_clause 6 = .ok (.if_icmp .ge 28, 3) := dk_162 0 28 (dk_at dksX6_clause_0 6 rfl rfl)
theorem dX6_clause_9 : decode cX6_clause 9 = .ok (.aload_n 0, 1) := dk_42 (dk_at dksX6_clause_0 9 rfl rfl)
theorem dX6_clause_10 : decode cX6_clause 10 = .ok (.aload_n 0, 1) := dk_42 (dk_at dksX6_clause_0 10 rfl rfl)
theorem dX6_clause_11 : decode cX6_clause 11 = .ok (.getfield 44, 3) := dk_180 0 44 (dk_at dksX6_clause_0 11 rfl rfl)
theorem dX6_clause_14 : decode cX6_clause 14 = .ok (.iload_n 2, 1) := dk_28 (dk_at dksX6_clause_0 14 rfl rfl)
theorem dX6_clause_15 : decode cX6_clause 15 = .ok (.caload, 1) := dk_52 (dk_at dksX6_clause_0 15 rfl rfl)
theorem dX6_clause_16 : decode cX6_clause 16 = .ok (.invokevirtual 121, 3) := dk_182 0 121 (dk_at dksX6_clause_0 16 rfl rfl)
theorem dX6_clause_19 : decode cX6_clause 19 = .ok (.ifCond .eq 7, 3) := dk_153 0 7 (dk_at dksX6_clause_0 19 rfl rfl)
theorem dX6_clause_22 : decode cX6_clause 22 = .ok (.iload_n 2, 1) := dk_28 (dk_at dksX6_clause_0 22 rfl rfl)
theorem dX6_clause_23 : decode cX6_clause 23 = .ok (.goto 4, 3) := dk_167 0 4 (dk_at dksX6_clause_1 0 rfl rfl)
theorem dX6_clause_26 : decode cX6_clause 26 = .ok (.iload_n 1, 1) := dk_27 (dk_at dksX6_clause_1 3 rfl rfl)
theorem dX6_clause_27 : decode cX6_clause 27 = .ok (.istore_n 1, 1) := dk_60 (dk_at dksX6_clause_1 4 rfl rfl)
theorem dX6_clause_28 : decode cX6_clause 28 = .ok (.iinc 2 1, 3) := dk_132 2 1 (dk_at dksX6_clause_1 5 rfl rfl)
theorem dX6_clause_31 : decode cX6_clause 31 = .ok (.goto (-27), 3) := dk_167 255 229 (dk_at dksX6_clause_1 8 rfl rfl)
theorem dX6_clause_34 : decode cX6_clause 34 = .ok (.iload_n 1, 1) := dk_27 (dk_at dksX6_clause_1 11 rfl rfl)
theorem dX6_clause_35 : decode cX6_clause 35 = .ok (.iconst (-1), 1) := dk_2 (dk_at dksX6_clause_1 12 rfl rfl)
theorem dX6_clause_36 : decode cX6_clause 36 = .ok (.if_icmp .ne 9, 3) := dk_160 0 9 (dk_at dksX6_clause_1 13 rfl rfl)
theorem dX6_clause_39 : decode cX6_clause 39 = .ok (.aload_n 0, 1) := dk_42 (dk_at dksX6_clause_1 16 rfl rfl)
theorem dX6_clause_40 : decode cX6_clause 40 = .ok (.iconst 0, 1) := dk_3 (dk_at dksX6_clause_1 17 rfl rfl)
theorem dX6_clause_41 : decode cX6_clause 41 = .ok (.putfield 112, 3) := dk_181 0 112 (dk_at dksX6_clause_1 18 rfl rfl)
theorem dX6_clause_44 : decode cX6_clause 44 = .ok (.return_, 1) := dk_177 (dk_at dksX6_clause_1 21 rfl rfl)
theorem dX6_clause_45 : decode cX6_clause 45 = .ok (.iconst 0, 1) := dk_3 (dk_at dksX6_clause_1 22 rfl rfl)
theorem dX6_clause_46 : decode cX6_clause 46 = .ok (.istore_n 2, 1) := dk_61 (dk_at dksX6_clause_1 23 rfl rfl)
theorem dX6_clause_47 : decode cX6_clause 47 = .ok (.iload_n 2, 1) := dk_28 (dk_at dksX6_clause_2 0 rfl rfl)
theorem dX6_clause_48 : decode cX6_clause 48 = .ok (.iconst 5, 1) := dk_8 (dk_at dksX6_clause_2 1 rfl rfl)
theorem dX6_clause_49 : decode cX6_clause 49 = .ok (.if_icmp .ge 36, 3) := dk_162 0 36 (dk_at dksX6_clause_2 2 rfl rfl)
theorem dX6_clause_52 : decode cX6_clause 52 = .ok (.aload_n 0, 1) := dk_42 (dk_at dksX6_clause_2 5 rfl rfl)
theorem dX6_clause_53 : decode cX6_clause 53 = .ok (.getfield 47, 3) := dk_180 0 47 (dk_at dksX6_clause_2 6 rfl rfl)
theorem dX6_clause_56 : decode cX6_clause 56 = .ok (.iconst 5, 1) := dk_8 (dk_at dksX6_clause_2 9 rfl rfl)
theorem dX6_clause_57 : decode cX6_clause 57 = .ok (.iload_n 1, 1) := dk_27 (dk_at dksX6_clause_2 10 rfl rfl)
theorem dX6_clause_58 : decode cX6_clause 58 = .ok (.imul, 1) := dk_104 (dk_at dksX6_clause_2 11 rfl rfl)
theorem dX6_clause_59 : decode cX6_clause 59 = .ok (.iload_n 2, 1) := dk_28 (dk_at dksX6_clause_2 12 rfl rfl)
theorem dX6_clause_60 : decode cX6_clause 60 = .ok (.iadd, 1) := dk_96 (dk_at dksX6_clause_2 13 rfl rfl)
theorem dX6_clause_61 : decode cX6_clause 61 = .ok (.caload, 1) := dk_52 (dk_at dksX6_clause_2 14 rfl rfl)
theorem dX6_clause_62 : decode cX6_clause 62 = .ok (.ifCond .eq 23, 3) := dk_153 0 23 (dk_at dksX6_clause_2 15 rfl rfl)
theorem dX6_clause_65 : decode cX6_clause 65 = .ok (.aload_n 0, 1) := dk_42 (dk_at dksX6_clause_2 18 rfl rfl)
theorem dX6_clause_66 : decode cX6_clause 66 = .ok (.aload_n 0, 1) := dk_42 (dk_at dksX6_clause_2 19 rfl rfl)
theorem dX6_clause_67 : decode cX6_clause 67 = .ok (.getfield 47, 3) := dk_180 0 47 (dk_at dksX6_clause_2 20 rfl rfl)
theorem dX6_clause_70 : decode cX6_clause 70 = .ok (.iconst 5, 1) := dk_8 (dk_at dksX6_clause_2 23 rfl rfl)
theorem dX6_clause_71 : decode cX6_clause 71 = .ok (.iload_n 1, 1) := dk_27 (dk_at dksX6_clause_3 0 rfl rfl)
theorem dX6_clause_72 : decode cX6_clause 72 = .ok (.imul, 1) := dk_104 (dk_at dksX6_clause_3 1 rfl rfl)
theorem dX6_clause_73 : decode cX6_clause 73 = .ok (.iload_n 2, 1) := dk_28 (dk_at dksX6_clause_3 2 rfl rfl)
theorem dX6_clause_74 : decode cX6_clause 74 = .ok (.iadd, 1) := dk_96 (dk_at dksX6_clause_3 3 rfl rfl)
theorem dX6_clause_75 : decode cX6_clause 75 = .ok (.caload, 1) := dk_52 (dk_at dksX6_clause_3 4 rfl rfl)
theorem dX6_clause_76 : decode cX6_clause 76 = .ok (.invokevirtual 128, 3) := dk_182 0 128 (dk_at dksX6_clause_3 5 rfl rfl)
theorem dX6_clause_79 : decode cX6_clause 79 = .ok (.iinc 2 1, 3) := dk_132 2 1 (dk_at dksX6_clause_3 8 rfl rfl)
theorem dX6_clause_82 : decode cX6_clause 82 = .ok (.goto (-35), 3) := dk_167 255 221 (dk_at dksX6_clause_3 11 rfl rfl)
theorem dX6_clause_85 : decode cX6_clause 85 = .ok (.aload_n 0, 1) := dk_42 (dk_at dksX6_clause_3 14 rfl rfl)
theorem dX6_clause_86 : decode cX6_clause 86 = .ok (.bipush 32, 2) := dk_16 32 (dk_at dksX6_clause_3 15 rfl rfl)
theorem dX6_clause_88 : decode cX6_clause 88 = .ok (.invokevirtual 128, 3) := dk_182 0 128 (dk_at dksX6_clause_3 17 rfl rfl)
theorem dX6_clause_91 : decode cX6_clause 91 = .ok (.aload_n 0, 1) := dk_42 (dk_at dksX6_clause_3 20 rfl rfl)
theorem dX6_clause_92 : decode cX6_clause 92 = .ok (.invokevirtual 132, 3) := dk_182 0 132 (dk_at dksX6_clause_3 21 rfl rfl)
theorem dX6_clause_95 : decode cX6_clause 95 = .ok (.istore_n 2, 1) := dk_61 (dk_at dksX6_clause_4 0 rfl rfl)
theorem dX6_clause_96 : decode cX6_clause 96 = .ok (.iload_n 1, 1) := dk_27 (dk_at dksX6_clause_4 1 rfl rfl)
theorem dX6_clause_97 : decode cX6_clause 97 = .ok (.iconst 2, 1) := dk_5 (dk_at dksX6_clause_4 2 rfl rfl)
theorem dX6_clause_98 : decode cX6_clause 98 = .ok (.if_icmp .ne 9, 3) := dk_160 0 9 (dk_at dksX6_clause_4 3 rfl rfl)
theorem dX6_clause_101 : decode cX6_clause 101 = .ok (.aload_n 0, 1) := dk_42 (dk_at dksX6_clause_4 6 rfl rfl)
theorem dX6_clause_102 : decode cX6_clause 102 = .ok (.iload_n 2, 1) := dk_28 (dk_at dksX6_clause_4 7 rfl rfl)
theorem dX6_clause_103 : decode cX6_clause 103 = .ok (.putfield 151, 3) := dk_181 0 151 (dk_at dksX6_clause_4 8 rfl rfl)
theorem dX6_clause_106 : decode cX6_clause 106 = .ok (.return_, 1) := dk_177 (dk_at dksX6_clause_4 11 rfl rfl)
theorem dX6_clause_107 : decode cX6_clause 107 = .ok (.aload_n 0, 1) := dk_42 (dk_at dksX6_clause_4 12 rfl rfl)
theorem dX6_clause_108 : decode cX6_clause 108 = .ok (.bipush 32, 2) := dk_16 32 (dk_at dksX6_clause_4 13 rfl rfl)
theorem dX6_clause_110 : decode cX6_clause 110 = .ok (.invokevirtual 128, 3) := dk_182 0 128 (dk_at dksX6_clause_4 15 rfl rfl)
theorem dX6_clause_113 : decode cX6_clause 113 = .ok (.aload_n 0, 1) := dk_42 (dk_at dksX6_clause_4 18 rfl rfl)
theorem dX6_clause_114 : decode cX6_clause 114 = .ok (.iconst 0, 1) := dk_3 (dk_at dksX6_clause_4 19 rfl rfl)
theorem dX6_clause_115 : decode cX6_clause 115 = .ok (.putfield 136, 3) := dk_181 0 136 (dk_at dksX6_clause_4 20 rfl rfl)
theorem dX6_clause_118 : decode cX6_clause 118 = .ok (.aload_n 0, 1) := dk_42 (dk_at dksX6_clause_4 23 rfl rfl)
theorem dX6_clause_119 : decode cX6_clause 119 = .ok (.invokevirtual 142, 3) := dk_182 0 142 (dk_at dksX6_clause_5 0 rfl rfl)
theorem dX6_clause_122 : decode cX6_clause 122 = .ok (.istore_n 3, 1) := dk_62 (dk_at dksX6_clause_5 3 rfl rfl)
theorem dX6_clause_123 : decode cX6_clause 123 = .ok (.aload_n 0, 1) := dk_42 (dk_at dksX6_clause_5 4 rfl rfl)
theorem dX6_clause_124 : decode cX6_clause 124 = .ok (.dup, 1) := dk_89 (dk_at dksX6_clause_5 5 rfl rfl)
theorem dX6_clause_125 : decode cX6_clause 125 = .ok (.getfield 154, 3) := dk_180 0 154 (dk_at dksX6_clause_5 6 rfl rfl)
theorem dX6_clause_128 : decode cX6_clause 128 = .ok (.iload_n 3, 1) := dk_29 (dk_at dksX6_clause_5 9 rfl rfl)
theorem dX6_clause_129 : decode cX6_clause 129 = .ok (.ifCond .ne 7, 3) := dk_154 0 7 (dk_at dksX6_clause_5 10 rfl rfl)
theorem dX6_clause_132 : decode cX6_clause 132 = .ok (.iconst 0, 1) := dk_3 (dk_at dksX6_clause_5 13 rfl rfl)
theorem dX6_clause_133 : decode cX6_clause 133 = .ok (.goto 13, 3) := dk_167 0 13 (dk_at dksX6_clause_5 14 rfl rfl)
theorem dX6_clause_136 : decode cX6_clause 136 = .ok (.iload_n 1, 1) := dk_27 (dk_at dksX6_clause_5 17 rfl rfl)
theorem dX6_clause_137 : decode cX6_clause 137 = .ok (.ifCond .ne 7, 3) := dk_154 0 7 (dk_at dksX6_clause_5 18 rfl rfl)
theorem dX6_clause_140 : decode cX6_clause 140 = .ok (.iload_n 2, 1) := dk_28 (dk_at dksX6_clause_5 21 rfl rfl)
theorem dX6_clause_141 : decode cX6_clause 141 = .ok (.goto 5, 3) := dk_167 0 5 (dk_at dksX6_clause_6 0 rfl rfl)
theorem dX6_clause_144 : decode cX6_clause 144 = .ok (.iload_n 2, 1) := dk_28 (dk_at dksX6_clause_6 3 rfl rfl)
theorem dX6_clause_145 : decode cX6_clause 145 = .ok (.ineg, 1) := dk_116 (dk_at dksX6_clause_6 4 rfl rfl)
theorem dX6_clause_146 : decode cX6_clause 146 = .ok (.iadd, 1) := dk_96 (dk_at dksX6_clause_6 5 rfl rfl)
theorem dX6_clause_147 : decode cX6_clause 147 = .ok (.putfield 154, 3) := dk_181 0 154 (dk_at dksX6_clause_6 6 rfl rfl)
theorem dX6_clause_150 : decode cX6_clause 150 = .ok (.return_, 1) := dk_177 (dk_at dksX6_clause_6 9 rfl rfl)
abbrev cX6_isAt : ByteArray := prog_23_method_25_code
def yX6_isAt : MethodName := ⟨RX6, "isAt", "(I)Z"⟩
def dkwX6_isAt_1 : List UInt8 := [180, 0, 115, 46, 27, 160, 0, 7, 4, 167, 0, 4, 3, 172]
abbrev dktX6_isAt_1 : List UInt8 := dkwX6_isAt_1 ++ []
def dkwX6_isAt_0 : List UInt8 := [42, 180, 0, 112, 153, 0, 31, 42, 180, 0, 115, 42, 180, 0, 118, 162, 0, 20, 42, 180, 0, 34, 42]
abbrev dktX6_isAt_0 : List UInt8 := dkwX6_isAt_0 ++ dktX6_isAt_1
theorem dksX6_isAt_0 : cX6_isAt.data.toList.drop 0 = dktX6_isAt_0 := by decide +kernel
theorem dksX6_isAt_1 : cX6_isAt.data.toList.drop 23 = dktX6_isAt_1 := dk_seg dksX6_isAt_0 23 rfl rfl
theorem dX6_isAt_0 : decode cX6_isAt 0 = .ok (.aload_n 0, 1) := dk_42 (dk_at dksX6_isAt_0 0 rfl rfl)
theorem dX6_isAt_1 : decode cX6_isAt 1 = .ok (.getfield 112, 3) := dk_180 0 112 (dk_at dksX6_isAt_0 1 rfl rfl)
theorem dX6_isAt_4 : decode cX6_isAt 4 = .ok (.ifCond .eq 31, 3) := dk_153 0 31 (dk_at dksX6_isAt_0 4 rfl rfl)
theorem dX6_isAt_7 : decode cX6_isAt 7 = .ok (.aload_n 0, 1) := dk_42 (dk_at dksX6_isAt_0 7 rfl rfl)
theorem dX6_isAt_8 : decode cX6_isAt 8 = .ok (.getfield 115, 3) := dk_180 0 115 (dk_at dksX6_isAt_0 8 rfl rfl)
theorem dX6_isAt_11 : decode cX6_isAt 11 = .ok (.aload_n 0, 1) := dk_42 (dk_at dksX6_isAt_0 11 rfl rfl)
theorem dX6_isAt_12 : decode cX6_isAt 12 = .ok (.getfield 118, 3) := dk_180 0 118 (dk_at dksX6_isAt_0 12 rfl rfl)
theorem dX6_isAt_15 : decode cX6_isAt 15 = .ok (.if_icmp .ge 20, 3) := dk_162 0 20 (dk_at dksX6_isAt_0 15 rfl rfl)
theorem dX6_isAt_18 : decode cX6_isAt 18 = .ok (.aload_n 0, 1) := dk_42 (dk_at dksX6_isAt_0 18 rfl rfl)
theorem dX6_isAt_19 : decode cX6_isAt 19 = .ok (.getfield 34, 3) := dk_180 0 34 (dk_at dksX6_isAt_0 19 rfl rfl)
theorem dX6_isAt_22 : decode cX6_isAt 22 = .ok (.aload_n 0, 1) := dk_42 (dk_at dksX6_isAt_0 22 rfl rfl)
theorem dX6_isAt_23 : decode cX6_isAt 23 = .ok (.getfield 115, 3) := dk_180 0 115 (dk_at dksX6_isAt_1 0 rfl rfl)
theorem dX6_isAt_26 : decode cX6_isAt 26 = .ok (.iaload, 1) := dk_46 (dk_at dksX6_isAt_1 3 rfl rfl)
theorem dX6_isAt_27 : decode cX6_isAt 27 = .ok (.iload_n 1, 1) := dk_27 (dk_at dksX6_isAt_1 4 rfl rfl)
theorem dX6_isAt_28 : decode cX6_isAt 28 = .ok (.if_icmp .ne 7, 3) := dk_160 0 7 (dk_at dksX6_isAt_1 5 rfl rfl)
theorem dX6_isAt_31 : decode cX6_isAt 31 = .ok (.iconst 1, 1) := dk_4 (dk_at dksX6_isAt_1 8 rfl rfl)
theorem dX6_isAt_32 : decode cX6_isAt 32 = .ok (.goto 4, 3) := dk_167 0 4 (dk_at dksX6_isAt_1 9 rfl rfl)
theorem dX6_isAt_35 : decode cX6_isAt 35 = .ok (.iconst 0, 1) := dk_3 (dk_at dksX6_isAt_1 12 rfl rfl)
theorem dX6_isAt_36 : decode cX6_isAt 36 = .ok (.ireturn, 1) := dk_172 (dk_at dksX6_isAt_1 13 rfl rfl)
abbrev cX6_takes : ByteArray := prog_23_method_26_code
def yX6_takes : MethodName := ⟨RX6, "takes", "(I)V"⟩
def dkwX6_takes_1 : List UInt8 := [181, 0, 112, 177]
abbrev dktX6_takes_1 : List UInt8 := dkwX6_takes_1 ++ []
def dkwX6_takes_0 : List UInt8 := [42, 27, 182, 0, 121, 153, 0, 16, 42, 89, 180, 0, 115, 4, 96, 181, 0, 115, 167, 0, 8, 42, 3]
abbrev dktX6_takes_0 : List UInt8 := dkwX6_takes_0 ++ dktX6_takes_1
theorem dksX6_takes_0 : cX6_takes.data.toList.drop 0 = dktX6_takes_0 := by decide +kernel
theorem dksX6_takes_1 : cX6_takes.data.toList.drop 23 = dktX6_takes_1 := dk_seg dksX6_takes_0 23 rfl rfl
theorem dX6_takes_0 : decode cX6_takes 0 = .ok (.aload_n 0, 1) := dk_42 (dk_at dksX6_takes_0 0 rfl rfl)
theorem dX6_takes_1 : decode cX6_takes 1 = .ok (.iload_n 1, 1) := dk_27 (dk_at dksX6_takes_0 1 rfl rfl)
theorem dX6_takes_2 : decode cX6_takes 2 = .ok (.invokevirtual 121, 3) := dk_182 0 121 (dk_at dksX6_takes_0 2 rfl rfl)
theorem dX6_takes_5 : decode cX6_takes 5 = .ok (.ifCond .eq 16, 3) := dk_153 0 16 (dk_at dksX6_takes_0 5 rfl rfl)
theorem dX6_takes_8 : decode cX6_takes 8 = .ok (.aload_n 0, 1) := dk_42 (dk_at dksX6_takes_0 8 rfl rfl)
theorem dX6_takes_9 : decode cX6_takes 9 = .ok (.dup, 1) := dk_89 (dk_at dksX6_takes_0 9 rfl rfl)
theorem dX6_takes_10 : decode cX6_takes 10 = .ok (.getfield 115, 3) := dk_180 0 115 (dk_at dksX6_takes_0 10 rfl rfl)
theorem dX6_takes_13 : decode cX6_takes 13 = .ok (.iconst 1, 1) := dk_4 (dk_at dksX6_takes_0 13 rfl rfl)
theorem dX6_takes_14 : decode cX6_takes 14 = .ok (.iadd, 1) := dk_96 (dk_at dksX6_takes_0 14 rfl rfl)
theorem dX6_takes_15 : decode cX6_takes 15 = .ok (.putfield 115, 3) := dk_181 0 115 (dk_at dksX6_takes_0 15 rfl rfl)
theorem dX6_takes_18 : decode cX6_takes 18 = .ok (.goto 8, 3) := dk_167 0 8 (dk_at dksX6_takes_0 18 rfl rfl)
theorem dX6_takes_21 : decode cX6_takes 21 = .ok (.aload_n 0, 1) := dk_42 (dk_at dksX6_takes_0 21 rfl rfl)
theorem dX6_takes_22 : decode cX6_takes 22 = .ok (.iconst 0, 1) := dk_3 (dk_at dksX6_takes_0 22 rfl rfl)
theorem dX6_takes_23 : decode cX6_takes 23 = .ok (.putfield 112, 3) := dk_181 0 112 (dk_at dksX6_takes_1 0 rfl rfl)
theorem dX6_takes_26 : decode cX6_takes 26 = .ok (.return_, 1) := dk_177 (dk_at dksX6_takes_1 3 rfl rfl)
abbrev cX6_number : ByteArray := prog_23_method_28_code
def yX6_number : MethodName := ⟨RX6, "number", "()I"⟩
def dkwX6_number_3 : List UInt8 := [181, 0, 115, 27, 172]
abbrev dktX6_number_3 : List UInt8 := dkwX6_number_3 ++ []
def dkwX6_number_2 : List UInt8 := [104, 42, 180, 0, 34, 42, 180, 0, 115, 46, 96, 16, 48, 100, 60, 42, 89, 180, 0, 115, 4, 96]
abbrev dktX6_number_2 : List UInt8 := dkwX6_number_2 ++ dktX6_number_3
def dkwX6_number_1 : List UInt8 := [16, 48, 100, 60, 42, 89, 180, 0, 115, 4, 96, 181, 0, 115, 42, 182, 0, 124, 153, 0, 31, 16, 10, 27]
abbrev dktX6_number_1 : List UInt8 := dkwX6_number_1 ++ dktX6_number_2
def dkwX6_number_0 : List UInt8 := [42, 182, 0, 124, 154, 0, 10, 42, 3, 181, 0, 112, 3, 172, 42, 180, 0, 34, 42, 180, 0, 115, 46]
abbrev dktX6_number_0 : List UInt8 := dkwX6_number_0 ++ dktX6_number_1
theorem dksX6_number_0 : cX6_number.data.toList.drop 0 = dktX6_number_0 := by decide +kernel
theorem dksX6_number_1 : cX6_number.data.toList.drop 23 = dktX6_number_1 := dk_seg dksX6_number_0 23 rfl rfl
theorem dksX6_number_2 : cX6_number.data.toList.drop 47 = dktX6_number_2 := dk_seg dksX6_number_1 24 rfl rfl
theorem dksX6_number_3 : cX6_number.data.toList.drop 69 = dktX6_number_3 := dk_seg dksX6_number_2 22 rfl rfl
theorem dX6_number_0 : decode cX6_number 0 = .ok (.aload_n 0, 1) := dk_42 (dk_at dksX6_number_0 0 rfl rfl)
theorem dX6_number_1 : decode cX6_number 1 = .ok (.invokevirtual 124, 3) := dk_182 0 124 (dk_at dksX6_number_0 1 rfl rfl)
theorem dX6_number_4 : decode cX6_number 4 = .ok (.ifCond .ne 10, 3) := dk_154 0 10 (dk_at dksX6_number_0 4 rfl rfl)
theorem dX6_number_7 : decode cX6_number 7 = .ok (.aload_n 0, 1) := dk_42 (dk_at dksX6_number_0 7 rfl rfl)
theorem dX6_number_8 : decode cX6_number 8 = .ok (.iconst 0, 1) := dk_3 (dk_at dksX6_number_0 8 rfl rfl)
theorem dX6_number_9 : decode cX6_number 9 = .ok (.putfield 112, 3) := dk_181 0 112 (dk_at dksX6_number_0 9 rfl rfl)
theorem dX6_number_12 : decode cX6_number 12 = .ok (.iconst 0, 1) := dk_3 (dk_at dksX6_number_0 12 rfl rfl)
theorem dX6_number_13 : decode cX6_number 13 = .ok (.ireturn, 1) := dk_172 (dk_at dksX6_number_0 13 rfl rfl)
theorem dX6_number_14 : decode cX6_number 14 = .ok (.aload_n 0, 1) := dk_42 (dk_at dksX6_number_0 14 rfl rfl)
theorem dX6_number_15 : decode cX6_number 15 = .ok (.getfield 34, 3) := dk_180 0 34 (dk_at dksX6_number_0 15 rfl rfl)
theorem dX6_number_18 : decode cX6_number 18 = .ok (.aload_n 0, 1) := dk_42 (dk_at dksX6_number_0 18 rfl rfl)
theorem dX6_number_19 : decode cX6_number 19 = .ok (.getfield 115, 3) := dk_180 0 115 (dk_at dksX6_number_0 19 rfl rfl)
theorem dX6_number_22 : decode cX6_number 22 = .ok (.iaload, 1) := dk_46 (dk_at dksX6_number_0 22 rfl rfl)
theorem dX6_number_23 : decode cX6_number 23 = .ok (.bipush 48, 2) := dk_16 48 (dk_at dksX6_number_1 0 rfl rfl)
theorem dX6_number_25 : decode cX6_number 25 = .ok (.isub, 1) := dk_100 (dk_at dksX6_number_1 2 rfl rfl)
theorem dX6_number_26 : decode cX6_number 26 = .ok (.istore_n 1, 1) := dk_60 (dk_at dksX6_number_1 3 rfl rfl)
theorem dX6_number_27 : decode cX6_number 27 = .ok (.aload_n 0, 1) := dk_42 (dk_at dksX6_number_1 4 rfl rfl)
theorem dX6_number_28 : decode cX6_number 28 = .ok (.dup, 1) := dk_89 (dk_at dksX6_number_1 5 rfl rfl)
theorem dX6_number_29 : decode cX6_number 29 = .ok (.getfield 115, 3) := dk_180 0 115 (dk_at dksX6_number_1 6 rfl rfl)
theorem dX6_number_32 : decode cX6_number 32 = .ok (.iconst 1, 1) := dk_4 (dk_at dksX6_number_1 9 rfl rfl)
theorem dX6_number_33 : decode cX6_number 33 = .ok (.iadd, 1) := dk_96 (dk_at dksX6_number_1 10 rfl rfl)
theorem dX6_number_34 : decode cX6_number 34 = .ok (.putfield 115, 3) := dk_181 0 115 (dk_at dksX6_number_1 11 rfl rfl)
theorem dX6_number_37 : decode cX6_number 37 = .ok (.aload_n 0, 1) := dk_42 (dk_at dksX6_number_1 14 rfl rfl)
theorem dX6_number_38 : decode cX6_number 38 = .ok (.invokevirtual 124, 3) := dk_182 0 124 (dk_at dksX6_number_1 15 rfl rfl)
theorem dX6_number_41 : decode cX6_number 41 = .ok (.ifCond .eq 31, 3) := dk_153 0 31 (dk_at dksX6_number_1 18 rfl rfl)
theorem dX6_number_44 : decode cX6_number 44 = .ok (.bipush 10, 2) := dk_16 10 (dk_at dksX6_number_1 21 rfl rfl)
theorem dX6_number_46 : decode cX6_number 46 = .ok (.iload_n 1, 1) := dk_27 (dk_at dksX6_number_1 23 rfl rfl)
theorem dX6_number_47 : decode cX6_number 47 = .ok (.imul, 1) := dk_104 (dk_at dksX6_number_2 0 rfl rfl)
theorem dX6_number_48 : decode cX6_number 48 = .ok (.aload_n 0, 1) := dk_42 (dk_at dksX6_number_2 1 rfl rfl)
theorem dX6_number_49 : decode cX6_number 49 = .ok (.getfield 34, 3) := dk_180 0 34 (dk_at dksX6_number_2 2 rfl rfl)
theorem dX6_number_52 : decode cX6_number 52 = .ok (.aload_n 0, 1) := dk_42 (dk_at dksX6_number_2 5 rfl rfl)
theorem dX6_number_53 : decode cX6_number 53 = .ok (.getfield 115, 3) := dk_180 0 115 (dk_at dksX6_number_2 6 rfl rfl)
theorem dX6_number_56 : decode cX6_number 56 = .ok (.iaload, 1) := dk_46 (dk_at dksX6_number_2 9 rfl rfl)
theorem dX6_number_57 : decode cX6_number 57 = .ok (.iadd, 1) := dk_96 (dk_at dksX6_number_2 10 rfl rfl)
theorem dX6_number_58 : decode cX6_number 58 = .ok (.bipush 48, 2) := dk_16 48 (dk_at dksX6_number_2 11 rfl rfl)
theorem dX6_number_60 : decode cX6_number 60 = .ok (.isub, 1) := dk_100 (dk_at dksX6_number_2 13 rfl rfl)
theorem dX6_number_61 : decode cX6_number 61 = .ok (.istore_n 1, 1) := dk_60 (dk_at dksX6_number_2 14 rfl rfl)
theorem dX6_number_62 : decode cX6_number 62 = .ok (.aload_n 0, 1) := dk_42 (dk_at dksX6_number_2 15 rfl rfl)
theorem dX6_number_63 : decode cX6_number 63 = .ok (.dup, 1) := dk_89 (dk_at dksX6_number_2 16 rfl rfl)
theorem dX6_number_64 : decode cX6_number 64 = .ok (.getfield 115, 3) := dk_180 0 115 (dk_at dksX6_number_2 17 rfl rfl)
theorem dX6_number_67 : decode cX6_number 67 = .ok (.iconst 1, 1) := dk_4 (dk_at dksX6_number_2 20 rfl rfl)
theorem dX6_number_68 : decode cX6_number 68 = .ok (.iadd, 1) := dk_96 (dk_at dksX6_number_2 21 rfl rfl)
theorem dX6_number_69 : decode cX6_number 69 = .ok (.putfield 115, 3) := dk_181 0 115 (dk_at dksX6_number_3 0 rfl rfl)
theorem dX6_number_72 : decode cX6_number 72 = .ok (.iload_n 1, 1) := dk_27 (dk_at dksX6_number_3 3 rfl rfl)
theorem dX6_number_73 : decode cX6_number 73 = .ok (.ireturn, 1) := dk_172 (dk_at dksX6_number_3 4 rfl rfl)
abbrev cX6_isDigit : ByteArray := prog_23_method_27_code
def yX6_isDigit : MethodName := ⟨RX6, "isDigit", "()Z"⟩
def dkwX6_isDigit_2 : List UInt8 := [167, 0, 4, 3, 172]
abbrev dktX6_isDigit_2 : List UInt8 := dkwX6_isDigit_2 ++ []
def dkwX6_isDigit_1 : List UInt8 := [180, 0, 115, 46, 16, 48, 161, 0, 21, 42, 180, 0, 34, 42, 180, 0, 115, 46, 16, 57, 163, 0, 7, 4]
abbrev dktX6_isDigit_1 : List UInt8 := dkwX6_isDigit_1 ++ dktX6_isDigit_2
def dkwX6_isDigit_0 : List UInt8 := [42, 180, 0, 112, 153, 0, 46, 42, 180, 0, 115, 42, 180, 0, 118, 162, 0, 35, 42, 180, 0, 34, 42]
abbrev dktX6_isDigit_0 : List UInt8 := dkwX6_isDigit_0 ++ dktX6_isDigit_1
theorem dksX6_isDigit_0 : cX6_isDigit.data.toList.drop 0 = dktX6_isDigit_0 := by decide +kernel
theorem dksX6_isDigit_1 : cX6_isDigit.data.toList.drop 23 = dktX6_isDigit_1 := dk_seg dksX6_isDigit_0 23 rfl rfl
theorem dksX6_isDigit_2 : cX6_isDigit.data.toList.drop 47 = dktX6_isDigit_2 := dk_seg dksX6_isDigit_1 24 rfl rfl
theorem dX6_isDigit_0 : decode cX6_isDigit 0 = .ok (.aload_n 0, 1) := dk_42 (dk_at dksX6_isDigit_0 0 rfl rfl)
theorem dX6_isDigit_1 : decode cX6_isDigit 1 = .ok (.getfield 112, 3) := dk_180 0 112 (dk_at dksX6_isDigit_0 1 rfl rfl)
theorem dX6_isDigit_4 : decode cX6_isDigit 4 = .ok (.ifCond .eq 46, 3) := dk_153 0 46 (dk_at dksX6_isDigit_0 4 rfl rfl)
theorem dX6_isDigit_7 : decode cX6_isDigit 7 = .ok (.aload_n 0, 1) := dk_42 (dk_at dksX6_isDigit_0 7 rfl rfl)
theorem dX6_isDigit_8 : decode cX6_isDigit 8 = .ok (.getfield 115, 3) := dk_180 0 115 (dk_at dksX6_isDigit_0 8 rfl rfl)
theorem dX6_isDigit_11 : decode cX6_isDigit 11 = .ok (.aload_n 0, 1) := dk_42 (dk_at dksX6_isDigit_0 11 rfl rfl)
theorem dX6_isDigit_12 : decode cX6_isDigit 12 = .ok (.getfield 118, 3) := dk_180 0 118 (dk_at dksX6_isDigit_0 12 rfl rfl)
theorem dX6_isDigit_15 : decode cX6_isDigit 15 = .ok (.if_icmp .ge 35, 3) := dk_162 0 35 (dk_at dksX6_isDigit_0 15 rfl rfl)
theorem dX6_isDigit_18 : decode cX6_isDigit 18 = .ok (.aload_n 0, 1) := dk_42 (dk_at dksX6_isDigit_0 18 rfl rfl)
theorem dX6_isDigit_19 : decode cX6_isDigit 19 = .ok (.getfield 34, 3) := dk_180 0 34 (dk_at dksX6_isDigit_0 19 rfl rfl)
theorem dX6_isDigit_22 : decode cX6_isDigit 22 = .ok (.aload_n 0, 1) := dk_42 (dk_at dksX6_isDigit_0 22 rfl rfl)
theorem dX6_isDigit_23 : decode cX6_isDigit 23 = .ok (.getfield 115, 3) := dk_180 0 115 (dk_at dksX6_isDigit_1 0 rfl rfl)
theorem dX6_isDigit_26 : decode cX6_isDigit 26 = .ok (.iaload, 1) := dk_46 (dk_at dksX6_isDigit_1 3 rfl rfl)
theorem dX6_isDigit_27 : decode cX6_isDigit 27 = .ok (.bipush 48, 2) := dk_16 48 (dk_at dksX6_isDigit_1 4 rfl rfl)
theorem dX6_isDigit_29 : decode cX6_isDigit 29 = .ok (.if_icmp .lt 21, 3) := dk_161 0 21 (dk_at dksX6_isDigit_1 6 rfl rfl)
theorem dX6_isDigit_32 : decode cX6_isDigit 32 = .ok (.aload_n 0, 1) := dk_42 (dk_at dksX6_isDigit_1 9 rfl rfl)
theorem dX6_isDigit_33 : decode cX6_isDigit 33 = .ok (.getfield 34, 3) := dk_180 0 34 (dk_at dksX6_isDigit_1 10 rfl rfl)
theorem dX6_isDigit_36 : decode cX6_isDigit 36 = .ok (.aload_n 0, 1) := dk_42 (dk_at dksX6_isDigit_1 13 rfl rfl)
theorem dX6_isDigit_37 : decode cX6_isDigit 37 = .ok (.getfield 115, 3) := dk_180 0 115 (dk_at dksX6_isDigit_1 14 rfl rfl)
theorem dX6_isDigit_40 : decode cX6_isDigit 40 = .ok (.iaload, 1) := dk_46 (dk_at dksX6_isDigit_1 17 rfl rfl)
theorem dX6_isDigit_41 : decode cX6_isDigit 41 = .ok (.bipush 57, 2) := dk_16 57 (dk_at dksX6_isDigit_1 18 rfl rfl)
theorem dX6_isDigit_43 : decode cX6_isDigit 43 = .ok (.if_icmp .gt 7, 3) := dk_163 0 7 (dk_at dksX6_isDigit_1 20 rfl rfl)
theorem dX6_isDigit_46 : decode cX6_isDigit 46 = .ok (.iconst 1, 1) := dk_4 (dk_at dksX6_isDigit_1 23 rfl rfl)
theorem dX6_isDigit_47 : decode cX6_isDigit 47 = .ok (.goto 4, 3) := dk_167 0 4 (dk_at dksX6_isDigit_2 0 rfl rfl)
theorem dX6_isDigit_50 : decode cX6_isDigit 50 = .ok (.iconst 0, 1) := dk_3 (dk_at dksX6_isDigit_2 3 rfl rfl)
theorem dX6_isDigit_51 : decode cX6_isDigit 51 = .ok (.ireturn, 1) := dk_172 (dk_at dksX6_isDigit_2 4 rfl rfl)
abbrev cX6_any : ByteArray := prog_23_method_32_code
def yX6_any : MethodName := ⟨RX6, "any", "()Z"⟩
def dkwX6_any_1 : List UInt8 := [42, 182, 0, 148, 61, 27, 154, 0, 7, 28, 153, 0, 7, 4, 167, 0, 4, 3, 60, 167, 255, 218, 27, 172]
abbrev dktX6_any_1 : List UInt8 := dkwX6_any_1 ++ []
def dkwX6_any_0 : List UInt8 := [42, 182, 0, 148, 60, 42, 16, 124, 182, 0, 121, 153, 0, 35, 42, 89, 180, 0, 115, 4, 96, 181, 0, 115]
abbrev dktX6_any_0 : List UInt8 := dkwX6_any_0 ++ dktX6_any_1
theorem dksX6_any_0 : cX6_any.data.toList.drop 0 = dktX6_any_0 := by decide +kernel
theorem dksX6_any_1 : cX6_any.data.toList.drop 24 = dktX6_any_1 := dk_seg dksX6_any_0 24 rfl rfl
theorem dX6_any_0 : decode cX6_any 0 = .ok (.aload_n 0, 1) := dk_42 (dk_at dksX6_any_0 0 rfl rfl)
theorem dX6_any_1 : decode cX6_any 1 = .ok (.invokevirtual 148, 3) := dk_182 0 148 (dk_at dksX6_any_0 1 rfl rfl)
theorem dX6_any_4 : decode cX6_any 4 = .ok (.istore_n 1, 1) := dk_60 (dk_at dksX6_any_0 4 rfl rfl)
theorem dX6_any_5 : decode cX6_any 5 = .ok (.aload_n 0, 1) := dk_42 (dk_at dksX6_any_0 5 rfl rfl)
theorem dX6_any_6 : decode cX6_any 6 = .ok (.bipush 124, 2) := dk_16 124 (dk_at dksX6_any_0 6 rfl rfl)
theorem dX6_any_8 : decode cX6_any 8 = .ok (.invokevirtual 121, 3) := dk_182 0 121 (dk_at dksX6_any_0 8 rfl rfl)
theorem dX6_any_11 : decode cX6_any 11 = .ok (.ifCond .eq 35, 3) := dk_153 0 35 (dk_at dksX6_any_0 11 rfl rfl)
theorem dX6_any_14 : decode cX6_any 14 = .ok (.aload_n 0, 1) := dk_42 (dk_at dksX6_any_0 14 rfl rfl)
theorem dX6_any_15 : decode cX6_any 15 = .ok (.dup, 1) := dk_89 (dk_at dksX6_any_0 15 rfl rfl)
theorem dX6_any_16 : decode cX6_any 16 = .ok (.getfield 115, 3) := dk_180 0 115 (dk_at dksX6_any_0 16 rfl rfl)
theorem dX6_any_19 : decode cX6_any 19 = .ok (.iconst 1, 1) := dk_4 (dk_at dksX6_any_0 19 rfl rfl)
theorem dX6_any_20 : decode cX6_any 20 = .ok (.iadd, 1) := dk_96 (dk_at dksX6_any_0 20 rfl rfl)
theorem dX6_any_21 : decode cX6_any 21 = .ok (.putfield 115, 3) := dk_181 0 115 (dk_at dksX6_any_0 21 rfl rfl)
theorem dX6_any_24 : decode cX6_any 24 = .ok (.aload_n 0, 1) := dk_42 (dk_at dksX6_any_1 0 rfl rfl)
theorem dX6_any_25 : decode cX6_any 25 = .ok (.invokevirtual 148, 3) := dk_182 0 148 (dk_at dksX6_any_1 1 rfl rfl)
theorem dX6_any_28 : decode cX6_any 28 = .ok (.istore_n 2, 1) := dk_61 (dk_at dksX6_any_1 4 rfl rfl)
theorem dX6_any_29 : decode cX6_any 29 = .ok (.iload_n 1, 1) := dk_27 (dk_at dksX6_any_1 5 rfl rfl)
theorem dX6_any_30 : decode cX6_any 30 = .ok (.ifCond .ne 7, 3) := dk_154 0 7 (dk_at dksX6_any_1 6 rfl rfl)
theorem dX6_any_33 : decode cX6_any 33 = .ok (.iload_n 2, 1) := dk_28 (dk_at dksX6_any_1 9 rfl rfl)
theorem dX6_any_34 : decode cX6_any 34 = .ok (.ifCond .eq 7, 3) := dk_153 0 7 (dk_at dksX6_any_1 10 rfl rfl)
theorem dX6_any_37 : decode cX6_any 37 = .ok (.iconst 1, 1) := dk_4 (dk_at dksX6_any_1 13 rfl rfl)
theorem dX6_any_38 : decode cX6_any 38 = .ok (.goto 4, 3) := dk_167 0 4 (dk_at dksX6_any_1 14 rfl rfl)
theorem dX6_any_41 : decode cX6_any 41 = .ok (.iconst 0, 1) := dk_3 (dk_at dksX6_any_1 17 rfl rfl)
theorem dX6_any_42 : decode cX6_any 42 = .ok (.istore_n 1, 1) := dk_60 (dk_at dksX6_any_1 18 rfl rfl)
theorem dX6_any_43 : decode cX6_any 43 = .ok (.goto (-38), 3) := dk_167 255 218 (dk_at dksX6_any_1 19 rfl rfl)
theorem dX6_any_46 : decode cX6_any 46 = .ok (.iload_n 1, 1) := dk_27 (dk_at dksX6_any_1 22 rfl rfl)
theorem dX6_any_47 : decode cX6_any 47 = .ok (.ireturn, 1) := dk_172 (dk_at dksX6_any_1 23 rfl rfl)
abbrev cX6_both : ByteArray := prog_23_method_31_code
def yX6_both : MethodName := ⟨RX6, "both", "()Z"⟩
def dkwX6_both_1 : List UInt8 := [42, 182, 0, 139, 61, 27, 153, 0, 11, 28, 153, 0, 7, 4, 167, 0, 4, 3, 60, 167, 255, 218, 27, 172]
abbrev dktX6_both_1 : List UInt8 := dkwX6_both_1 ++ []
def dkwX6_both_0 : List UInt8 := [42, 182, 0, 139, 60, 42, 16, 38, 182, 0, 121, 153, 0, 35, 42, 89, 180, 0, 115, 4, 96, 181, 0, 115]
abbrev dktX6_both_0 : List UInt8 := dkwX6_both_0 ++ dktX6_both_1
theorem dksX6_both_0 : cX6_both.data.toList.drop 0 = dktX6_both_0 := by decide +kernel
theorem dksX6_both_1 : cX6_both.data.toList.drop 24 = dktX6_both_1 := dk_seg dksX6_both_0 24 rfl rfl
theorem dX6_both_0 : decode cX6_both 0 = .ok (.aload_n 0, 1) := dk_42 (dk_at dksX6_both_0 0 rfl rfl)
theorem dX6_both_1 : decode cX6_both 1 = .ok (.invokevirtual 139, 3) := dk_182 0 139 (dk_at dksX6_both_0 1 rfl rfl)
theorem dX6_both_4 : decode cX6_both 4 = .ok (.istore_n 1, 1) := dk_60 (dk_at dksX6_both_0 4 rfl rfl)
theorem dX6_both_5 : decode cX6_both 5 = .ok (.aload_n 0, 1) := dk_42 (dk_at dksX6_both_0 5 rfl rfl)
theorem dX6_both_6 : decode cX6_both 6 = .ok (.bipush 38, 2) := dk_16 38 (dk_at dksX6_both_0 6 rfl rfl)
theorem dX6_both_8 : decode cX6_both 8 = .ok (.invokevirtual 121, 3) := dk_182 0 121 (dk_at dksX6_both_0 8 rfl rfl)
theorem dX6_both_11 : decode cX6_both 11 = .ok (.ifCond .eq 35, 3) := dk_153 0 35 (dk_at dksX6_both_0 11 rfl rfl)
theorem dX6_both_14 : decode cX6_both 14 = .ok (.aload_n 0, 1) := dk_42 (dk_at dksX6_both_0 14 rfl rfl)
theorem dX6_both_15 : decode cX6_both 15 = .ok (.dup, 1) := dk_89 (dk_at dksX6_both_0 15 rfl rfl)
theorem dX6_both_16 : decode cX6_both 16 = .ok (.getfield 115, 3) := dk_180 0 115 (dk_at dksX6_both_0 16 rfl rfl)
theorem dX6_both_19 : decode cX6_both 19 = .ok (.iconst 1, 1) := dk_4 (dk_at dksX6_both_0 19 rfl rfl)
theorem dX6_both_20 : decode cX6_both 20 = .ok (.iadd, 1) := dk_96 (dk_at dksX6_both_0 20 rfl rfl)
theorem dX6_both_21 : decode cX6_both 21 = .ok (.putfield 115, 3) := dk_181 0 115 (dk_at dksX6_both_0 21 rfl rfl)
theorem dX6_both_24 : decode cX6_both 24 = .ok (.aload_n 0, 1) := dk_42 (dk_at dksX6_both_1 0 rfl rfl)
theorem dX6_both_25 : decode cX6_both 25 = .ok (.invokevirtual 139, 3) := dk_182 0 139 (dk_at dksX6_both_1 1 rfl rfl)
theorem dX6_both_28 : decode cX6_both 28 = .ok (.istore_n 2, 1) := dk_61 (dk_at dksX6_both_1 4 rfl rfl)
theorem dX6_both_29 : decode cX6_both 29 = .ok (.iload_n 1, 1) := dk_27 (dk_at dksX6_both_1 5 rfl rfl)
theorem dX6_both_30 : decode cX6_both 30 = .ok (.ifCond .eq 11, 3) := dk_153 0 11 (dk_at dksX6_both_1 6 rfl rfl)
theorem dX6_both_33 : decode cX6_both 33 = .ok (.iload_n 2, 1) := dk_28 (dk_at dksX6_both_1 9 rfl rfl)
theorem dX6_both_34 : decode cX6_both 34 = .ok (.ifCond .eq 7, 3) := dk_153 0 7 (dk_at dksX6_both_1 10 rfl rfl)
theorem dX6_both_37 : decode cX6_both 37 = .ok (.iconst 1, 1) := dk_4 (dk_at dksX6_both_1 13 rfl rfl)
theorem dX6_both_38 : decode cX6_both 38 = .ok (.goto 4, 3) := dk_167 0 4 (dk_at dksX6_both_1 14 rfl rfl)
theorem dX6_both_41 : decode cX6_both 41 = .ok (.iconst 0, 1) := dk_3 (dk_at dksX6_both_1 17 rfl rfl)
theorem dX6_both_42 : decode cX6_both 42 = .ok (.istore_n 1, 1) := dk_60 (dk_at dksX6_both_1 18 rfl rfl)
theorem dX6_both_43 : decode cX6_both 43 = .ok (.goto (-38), 3) := dk_167 255 218 (dk_at dksX6_both_1 19 rfl rfl)
theorem dX6_both_46 : decode cX6_both 46 = .ok (.iload_n 1, 1) := dk_27 (dk_at dksX6_both_1 22 rfl rfl)
theorem dX6_both_47 : decode cX6_both 47 = .ok (.ireturn, 1) := dk_172 (dk_at dksX6_both_1 23 rfl rfl)
abbrev cX6_factor : ByteArray := prog_23_method_30_code
def yX6_factor : MethodName := ⟨RX6, "factor", "()Z"⟩
def dkwX6_factor_5 : List UInt8 := [182, 0, 128, 167, 0, 8, 42, 182, 0, 145, 60, 27, 172]
abbrev dktX6_factor_5 : List UInt8 := dkwX6_factor_5 ++ []
def dkwX6_factor_4 : List UInt8 := [96, 181, 0, 136, 42, 182, 0, 142, 60, 42, 89, 180, 0, 136, 4, 100, 181, 0, 136, 42, 16, 41]
abbrev dktX6_factor_4 : List UInt8 := dkwX6_factor_4 ++ dktX6_factor_5
def dkwX6_factor_3 : List UInt8 := [16, 40, 182, 0, 121, 153, 0, 47, 42, 89, 180, 0, 115, 4, 96, 181, 0, 115, 42, 89, 180, 0, 136, 4]
abbrev dktX6_factor_3 : List UInt8 := dkwX6_factor_3 ++ dktX6_factor_4
def dkwX6_factor_2 : List UInt8 := [3, 60, 42, 89, 180, 0, 136, 4, 100, 181, 0, 136, 167, 0, 69, 42, 180, 0, 136, 7, 162, 0, 56, 42]
abbrev dktX6_factor_2 : List UInt8 := dkwX6_factor_2 ++ dktX6_factor_3
def dkwX6_factor_1 : List UInt8 := [181, 0, 115, 42, 89, 180, 0, 136, 4, 96, 181, 0, 136, 42, 182, 0, 139, 154, 0, 7, 4, 167, 0, 4]
abbrev dktX6_factor_1 : List UInt8 := dkwX6_factor_1 ++ dktX6_factor_2
def dkwX6_factor_0 : List UInt8 := [42, 180, 0, 136, 7, 162, 0, 58, 42, 16, 33, 182, 0, 121, 153, 0, 49, 42, 89, 180, 0, 115, 4, 96]
abbrev dktX6_factor_0 : List UInt8 := dkwX6_factor_0 ++ dktX6_factor_1
theorem dksX6_factor_0 : cX6_factor.data.toList.drop 0 = dktX6_factor_0 := by decide +kernel
theorem dksX6_factor_1 : cX6_factor.data.toList.drop 24 = dktX6_factor_1 := dk_seg dksX6_factor_0 24 rfl rfl
theorem dksX6_factor_2 : cX6_factor.data.toList.drop 48 = dktX6_factor_2 := dk_seg dksX6_factor_1 24 rfl rfl
theorem dksX6_factor_3 : cX6_factor.data.toList.drop 72 = dktX6_factor_3 := dk_seg dksX6_factor_2 24 rfl rfl
theorem dksX6_factor_4 : cX6_factor.data.toList.drop 96 = dktX6_factor_4 := dk_seg dksX6_factor_3 24 rfl rfl
theorem dksX6_factor_5 : cX6_factor.data.toList.drop 118 = dktX6_factor_5 := dk_seg dksX6_factor_4 22 rfl rfl
theorem dX6_factor_0 : decode cX6_factor 0 = .ok (.aload_n 0, 1) := dk_42 (dk_at dksX6_factor_0 0 rfl rfl)
theorem dX6_factor_1 : decode cX6_factor 1 = .ok (.getfield 136, 3) := dk_180 0 136 (dk_at dksX6_factor_0 1 rfl rfl)
theorem dX6_factor_4 : decode cX6_factor 4 = .ok (.iconst 4, 1) := dk_7 (dk_at dksX6_factor_0 4 rfl rfl)
theorem dX6_factor_5 : decode cX6_factor 5 = .ok (.if_icmp .ge 58, 3) := dk_162 0 58 (dk_at dksX6_factor_0 5 rfl rfl)
theorem dX6_factor_8 : decode cX6_factor 8 = .ok (.aload_n 0, 1) := dk_42 (dk_at dksX6_factor_0 8 rfl rfl)
theorem dX6_factor_9 : decode cX6_factor 9 = .ok (.bipush 33, 2) := dk_16 33 (dk_at dksX6_factor_0 9 rfl rfl)
theorem dX6_factor_11 : decode cX6_factor 11 = .ok (.invokevirtual 121, 3) := dk_182 0 121 (dk_at dksX6_factor_0 11 rfl rfl)
theorem dX6_factor_14 : decode cX6_factor 14 = .ok (.ifCond .eq 49, 3) := dk_153 0 49 (dk_at dksX6_factor_0 14 rfl rfl)
theorem dX6_factor_17 : decode cX6_factor 17 = .ok (.aload_n 0, 1) := dk_42 (dk_at dksX6_factor_0 17 rfl rfl)
theorem dX6_factor_18 : decode cX6_factor 18 = .ok (.dup, 1) := dk_89 (dk_at dksX6_factor_0 18 rfl rfl)
theorem dX6_factor_19 : decode cX6_factor 19 = .ok (.getfield 115, 3) := dk_180 0 115 (dk_at dksX6_factor_0 19 rfl rfl)
theorem dX6_factor_22 : decode cX6_factor 22 = .ok (.iconst 1, 1) := dk_4 (dk_at dksX6_factor_0 22 rfl rfl)
theorem dX6_factor_23 : decode cX6_factor 23 = .ok (.iadd, 1) := dk_96 (dk_at dksX6_factor_0 23 rfl rfl)
theorem dX6_factor_24 : decode cX6_factor 24 = .ok (.putfield 115, 3) := dk_181 0 115 (dk_at dksX6_factor_1 0 rfl rfl)
theorem dX6_factor_27 : decode cX6_factor 27 = .ok (.aload_n 0, 1) := dk_42 (dk_at dksX6_factor_1 3 rfl rfl)
theorem dX6_factor_28 : decode cX6_factor 28 = .ok (.dup, 1) := dk_89 (dk_at dksX6_factor_1 4 rfl rfl)
theorem dX6_factor_29 : decode cX6_factor 29 = .ok (.getfield 136, 3) := dk_180 0 136 (dk_at dksX6_factor_1 5 rfl rfl)
theorem dX6_factor_32 : decode cX6_factor 32 = .ok (.iconst 1, 1) := dk_4 (dk_at dksX6_factor_1 8 rfl rfl)
theorem dX6_factor_33 : decode cX6_factor 33 = .ok (.iadd, 1) := dk_96 (dk_at dksX6_factor_1 9 rfl rfl)
theorem dX6_factor_34 : decode cX6_factor 34 = .ok (.putfield 136, 3) := dk_181 0 136 (dk_at dksX6_factor_1 10 rfl rfl)
theorem dX6_factor_37 : decode cX6_factor 37 = .ok (.aload_n 0, 1) := dk_42 (dk_at dksX6_factor_1 13 rfl rfl)
theorem dX6_factor_38 : decode cX6_factor 38 = .ok (.invokevirtual 139, 3) := dk_182 0 139 (dk_at dksX6_factor_1 14 rfl rfl)
theorem dX6_factor_41 : decode cX6_factor 41 = .ok (.ifCond .ne 7, 3) := dk_154 0 7 (dk_at dksX6_factor_1 17 rfl rfl)
theorem dX6_factor_44 : decode cX6_factor 44 = .ok (.iconst 1, 1) := dk_4 (dk_at dksX6_factor_1 20 rfl rfl)
theorem dX6_factor_45 : decode cX6_factor 45 = .ok (.goto 4, 3) := dk_167 0 4 (dk_at dksX6_factor_1 21 rfl rfl)
theorem dX6_factor_48 : decode cX6_factor 48 = .ok (.iconst 0, 1) := dk_3 (dk_at dksX6_factor_2 0 rfl rfl)
theorem dX6_factor_49 : decode cX6_factor 49 = .ok (.istore_n 1, 1) := dk_60 (dk_at dksX6_factor_2 1 rfl rfl)
theorem dX6_factor_50 : decode cX6_factor 50 = .ok (.aload_n 0, 1) := dk_42 (dk_at dksX6_factor_2 2 rfl rfl)
theorem dX6_factor_51 : decode cX6_factor 51 = .ok (.dup, 1) := dk_89 (dk_at dksX6_factor_2 3 rfl rfl)
theorem dX6_factor_52 : decode cX6_factor 52 = .ok (.getfield 136, 3) := dk_180 0 136 (dk_at dksX6_factor_2 4 rfl rfl)
theorem dX6_factor_55 : decode cX6_factor 55 = .ok (.iconst 1, 1) := dk_4 (dk_at dksX6_factor_2 7 rfl rfl)
theorem dX6_factor_56 : decode cX6_factor 56 = .ok (.isub, 1) := dk_100 (dk_at dksX6_factor_2 8 rfl rfl)
theorem dX6_factor_57 : decode cX6_factor 57 = .ok (.putfield 136, 3) := dk_181 0 136 (dk_at dksX6_factor_2 9 rfl rfl)
theorem dX6_factor_60 : decode cX6_factor 60 = .ok (.goto 69, 3) := dk_167 0 69 (dk_at dksX6_factor_2 12 rfl rfl)
theorem dX6_factor_63 : decode cX6_factor 63 = .ok (.aload_n 0, 1) := dk_42 (dk_at dksX6_factor_2 15 rfl rfl)
theorem dX6_factor_64 : decode cX6_factor 64 = .ok (.getfield 136, 3) := dk_180 0 136 (dk_at dksX6_factor_2 16 rfl rfl)
theorem dX6_factor_67 : decode cX6_factor 67 = .ok (.iconst 4, 1) := dk_7 (dk_at dksX6_factor_2 19 rfl rfl)
theorem dX6_factor_68 : decode cX6_factor 68 = .ok (.if_icmp .ge 56, 3) := dk_162 0 56 (dk_at dksX6_factor_2 20 rfl rfl)
theorem dX6_factor_71 : decode cX6_factor 71 = .ok (.aload_n 0, 1) := dk_42 (dk_at dksX6_factor_2 23 rfl rfl)
theorem dX6_factor_72 : decode cX6_factor 72 = .ok (.bipush 40, 2) := dk_16 40 (dk_at dksX6_factor_3 0 rfl rfl)
theorem dX6_factor_74 : decode cX6_factor 74 = .ok (.invokevirtual 121, 3) := dk_182 0 121 (dk_at dksX6_factor_3 2 rfl rfl)
theorem dX6_factor_77 : decode cX6_factor 77 = .ok (.ifCond .eq 47, 3) := dk_153 0 47 (dk_at dksX6_factor_3 5 rfl rfl)
theorem dX6_factor_80 : decode cX6_factor 80 = .ok (.aload_n 0, 1) := dk_42 (dk_at dksX6_factor_3 8 rfl rfl)
theorem dX6_factor_81 : decode cX6_factor 81 = .ok (.dup, 1) := dk_89 (dk_at dksX6_factor_3 9 rfl rfl)
theorem dX6_factor_82 : decode cX6_factor 82 = .ok (.getfield 115, 3) := dk_180 0 115 (dk_at dksX6_factor_3 10 rfl rfl)
theorem dX6_factor_85 : decode cX6_factor 85 = .ok (.iconst 1, 1) := dk_4 (dk_at dksX6_factor_3 13 rfl rfl)
theorem dX6_factor_86 : decode cX6_factor 86 = .ok (.iadd, 1) := dk_96 (dk_at dksX6_factor_3 14 rfl rfl)
theorem dX6_factor_87 : decode cX6_factor 87 = .ok (.putfield 115, 3) := dk_181 0 115 (dk_at dksX6_factor_3 15 rfl rfl)
theorem dX6_factor_90 : decode cX6_factor 90 = .ok (.aload_n 0, 1) := dk_42 (dk_at dksX6_factor_3 18 rfl rfl)
theorem dX6_factor_91 : decode cX6_factor 91 = .ok (.dup, 1) := dk_89 (dk_at dksX6_factor_3 19 rfl rfl)
theorem dX6_factor_92 : decode cX6_factor 92 = .ok (.getfield 136, 3) := dk_180 0 136 (dk_at dksX6_factor_3 20 rfl rfl)
theorem dX6_factor_95 : decode cX6_factor 95 = .ok (.iconst 1, 1) := dk_4 (dk_at dksX6_factor_3 23 rfl rfl)
theorem dX6_factor_96 : decode cX6_factor 96 = .ok (.iadd, 1) := dk_96 (dk_at dksX6_factor_4 0 rfl rfl)
theorem dX6_factor_97 : decode cX6_factor 97 = .ok (.putfield 136, 3) := dk_181 0 136 (dk_at dksX6_factor_4 1 rfl rfl)
theorem dX6_factor_100 : decode cX6_factor 100 = .ok (.aload_n 0, 1) := dk_42 (dk_at dksX6_factor_4 4 rfl rfl)
theorem dX6_factor_101 : decode cX6_factor 101 = .ok (.invokevirtual 142, 3) := dk_182 0 142 (dk_at dksX6_factor_4 5 rfl rfl)
theorem dX6_factor_104 : decode cX6_factor 104 = .ok (.istore_n 1, 1) := dk_60 (dk_at dksX6_factor_4 8 rfl rfl)
theorem dX6_factor_105 : decode cX6_factor 105 = .ok (.aload_n 0, 1) := dk_42 (dk_at dksX6_factor_4 9 rfl rfl)
theorem dX6_factor_106 : decode cX6_factor 106 = .ok (.dup, 1) := dk_89 (dk_at dksX6_factor_4 10 rfl rfl)
theorem dX6_factor_107 : decode cX6_factor 107 = .ok (.getfield 136, 3) := dk_180 0 136 (dk_at dksX6_factor_4 11 rfl rfl)
theorem dX6_factor_110 : decode cX6_factor 110 = .ok (.iconst 1, 1) := dk_4 (dk_at dksX6_factor_4 14 rfl rfl)
theorem dX6_factor_111 : decode cX6_factor 111 = .ok (.isub, 1) := dk_100 (dk_at dksX6_factor_4 15 rfl rfl)
theorem dX6_factor_112 : decode cX6_factor 112 = .ok (.putfield 136, 3) := dk_181 0 136 (dk_at dksX6_factor_4 16 rfl rfl)
theorem dX6_factor_115 : decode cX6_factor 115 = .ok (.aload_n 0, 1) := dk_42 (dk_at dksX6_factor_4 19 rfl rfl)
theorem dX6_factor_116 : decode cX6_factor 116 = .ok (.bipush 41, 2) := dk_16 41 (dk_at dksX6_factor_4 20 rfl rfl)
theorem dX6_factor_118 : decode cX6_factor 118 = .ok (.invokevirtual 128, 3) := dk_182 0 128 (dk_at dksX6_factor_5 0 rfl rfl)
theorem dX6_factor_121 : decode cX6_factor 121 = .ok (.goto 8, 3) := dk_167 0 8 (dk_at dksX6_factor_5 3 rfl rfl)
theorem dX6_factor_124 : decode cX6_factor 124 = .ok (.aload_n 0, 1) := dk_42 (dk_at dksX6_factor_5 6 rfl rfl)
theorem dX6_factor_125 : decode cX6_factor 125 = .ok (.invokevirtual 145, 3) := dk_182 0 145 (dk_at dksX6_factor_5 7 rfl rfl)
theorem dX6_factor_128 : decode cX6_factor 128 = .ok (.istore_n 1, 1) := dk_60 (dk_at dksX6_factor_5 10 rfl rfl)
theorem dX6_factor_129 : decode cX6_factor 129 = .ok (.iload_n 1, 1) := dk_27 (dk_at dksX6_factor_5 11 rfl rfl)
theorem dX6_factor_130 : decode cX6_factor 130 = .ok (.ireturn, 1) := dk_172 (dk_at dksX6_factor_5 12 rfl rfl)
abbrev cX6_test : ByteArray := prog_23_method_29_code
def yX6_test : MethodName := ⟨RX6, "test", "()Z"⟩
def dkwX6_test_7 : List UInt8 := [160, 0, 7, 4, 167, 0, 4, 3, 172]
abbrev dktX6_test_7 : List UInt8 := dkwX6_test_7 ++ []
def dkwX6_test_6 : List UInt8 := [180, 0, 37, 27, 46, 29, 164, 0, 7, 4, 167, 0, 22, 3, 167, 0, 18, 42, 180, 0, 37, 27, 46, 29]
abbrev dktX6_test_6 : List UInt8 := dkwX6_test_6 ++ dktX6_test_7
def dkwX6_test_5 : List UInt8 := [180, 0, 37, 27, 46, 29, 162, 0, 7, 4, 167, 0, 44, 3, 167, 0, 40, 28, 158, 0, 21, 42]
abbrev dktX6_test_5 : List UInt8 := dkwX6_test_5 ++ dktX6_test_6
def dkwX6_test_4 : List UInt8 := [28, 158, 0, 8, 16, 62, 167, 0, 5, 16, 61, 182, 0, 128, 42, 182, 0, 132, 62, 28, 156, 0, 21, 42]
abbrev dktX6_test_4 : List UInt8 := dkwX6_test_4 ++ dktX6_test_5
def dkwX6_test_3 : List UInt8 := [16, 62, 182, 0, 121, 153, 0, 7, 4, 167, 0, 4, 3, 61, 42, 28, 156, 0, 8, 16, 60, 167, 0, 14]
abbrev dktX6_test_3 : List UInt8 := dkwX6_test_3 ++ dktX6_test_4
def dkwX6_test_2 : List UInt8 := [89, 180, 0, 115, 4, 96, 181, 0, 115, 42, 16, 60, 182, 0, 121, 153, 0, 7, 2, 167, 0, 17, 42]
abbrev dktX6_test_2 : List UInt8 := dkwX6_test_2 ++ dktX6_test_3
def dkwX6_test_1 : List UInt8 := [167, 0, 4, 27, 60, 132, 2, 1, 167, 255, 228, 27, 2, 160, 0, 10, 42, 3, 181, 0, 112, 3, 172, 42]
abbrev dktX6_test_1 : List UInt8 := dkwX6_test_1 ++ dktX6_test_2
def dkwX6_test_0 : List UInt8 := [2, 60, 3, 61, 28, 16, 6, 162, 0, 28, 42, 42, 180, 0, 40, 28, 52, 182, 0, 121, 153, 0, 7, 28]
abbrev dktX6_test_0 : List UInt8 := dkwX6_test_0 ++ dktX6_test_1
theorem dksX6_test_0 : cX6_test.data.toList.drop 0 = dktX6_test_0 := by decide +kernel
theorem dksX6_test_1 : cX6_test.data.toList.drop 24 = dktX6_test_1 := dk_seg dksX6_test_0 24 rfl rfl
theorem dksX6_test_2 : cX6_test.data.toList.drop 48 = dktX6_test_2 := dk_seg dksX6_test_1 24 rfl rfl
theorem dksX6_test_3 : cX6_test.data.toList.drop 71 = dktX6_test_3 := dk_seg dksX6_test_2 23 rfl rfl
theorem dksX6_test_4 : cX6_test.data.toList.drop 95 = dktX6_test_4 := dk_seg dksX6_test_3 24 rfl rfl
theorem dksX6_test_5 : cX6_test.data.toList.drop 119 = dktX6_test_5 := dk_seg dksX6_test_4 24 rfl rfl
theorem dksX6_test_6 : cX6_test.data.toList.drop 141 = dktX6_test_6 := dk_seg dksX6_test_5 22 rfl rfl
theorem dksX6_test_7 : cX6_test.data.toList.drop 165 = dktX6_test_7 := dk_seg dksX6_test_6 24 rfl rfl
theorem dX6_test_0 : decode cX6_test 0 = .ok (.iconst (-1), 1) := dk_2 (dk_at dksX6_test_0 0 rfl rfl)
theorem dX6_test_1 : decode cX6_test 1 = .ok (.istore_n 1, 1) := dk_60 (dk_at dksX6_test_0 1 rfl rfl)
theorem dX6_test_2 : decode cX6_test 2 = .ok (.iconst 0, 1) := dk_3 (dk_at dksX6_test_0 2 rfl rfl)
theorem dX6_test_3 : decode cX6_test 3 = .ok (.istore_n 2, 1) := dk_61 (dk_at dksX6_test_0 3 rfl rfl)
theorem dX6_test_4 : decode cX6_test 4 = .ok (.iload_n 2, 1) := dk_28 (dk_at dksX6_test_0 4 rfl rfl)
theorem dX6_test_5 : decode cX6_test 5 = .ok (.bipush 6, 2) := dk_16 6 (dk_at dksX6_test_0 5 rfl rfl)
theorem dX6_test_7 : decode cX6_test 7 = .ok (.if_icmp .ge 28, 3) := dk_162 0 28 (dk_at dksX6_test_0 7 rfl rfl)
theorem dX6_test_10 : decode cX6_test 10 = .ok (.aload_n 0, 1) := dk_42 (dk_at dksX6_test_0 10 rfl rfl)
theorem dX6_test_11 : decode cX6_test 11 = .ok (.aload_n 0, 1) := dk_42 (dk_at dksX6_test_0 11 rfl rfl)
theorem dX6_test_12 : decode cX6_test 12 = .ok (.getfield 40, 3) := dk_180 0 40 (dk_at dksX6_test_0 12 rfl rfl)
theorem dX6_test_15 : decode cX6_test 15 = .ok (.iload_n 2, 1) := dk_28 (dk_at dksX6_test_0 15 rfl rfl)
theorem dX6_test_16 : decode cX6_test 16 = .ok (.caload, 1) := dk_52 (dk_at dksX6_test_0 16 rfl rfl)
theorem dX6_test_17 : decode cX6_test 17 = .ok (.invokevirtual 121, 3) := dk_182 0 121 (dk_at dksX6_test_0 17 rfl rfl)
theorem dX6_test_20 : decode cX6_test 20 = .ok (.ifCond .eq 7, 3) := dk_153 0 7 (dk_at dksX6_test_0 20 rfl rfl)
theorem dX6_test_23 : decode cX6_test 23 = .ok (.iload_n 2, 1) := dk_28 (dk_at dksX6_test_0 23 rfl rfl)
theorem dX6_test_24 : decode cX6_test 24 = .ok (.goto 4, 3) := dk_167 0 4 (dk_at dksX6_test_1 0 rfl rfl)
theorem dX6_test_27 : decode cX6_test 27 = .ok (.iload_n 1, 1) := dk_27 (dk_at dksX6_test_1 3 rfl rfl)
theorem dX6_test_28 : decode cX6_test 28 = .ok (.istore_n 1, 1) := dk_60 (dk_at dksX6_test_1 4 rfl rfl)
theorem dX6_test_29 : decode cX6_test 29 = .ok (.iinc 2 1, 3) := dk_132 2 1 (dk_at dksX6_test_1 5 rfl rfl)
theorem dX6_test_32 : decode cX6_test 32 = .ok (.goto (-28), 3) := dk_167 255 228 (dk_at dksX6_test_1 8 rfl rfl)
theorem dX6_test_35 : decode cX6_test 35 = .ok (.iload_n 1, 1) := dk_27 (dk_at dksX6_test_1 11 rfl rfl)
theorem dX6_test_36 : decode cX6_test 36 = .ok (.iconst (-1), 1) := dk_2 (dk_at dksX6_test_1 12 rfl rfl)
theorem dX6_test_37 : decode cX6_test 37 = .ok (.if_icmp .ne 10, 3) := dk_160 0 10 (dk_at dksX6_test_1 13 rfl rfl)
theorem dX6_test_40 : decode cX6_test 40 = .ok (.aload_n 0, 1) := dk_42 (dk_at dksX6_test_1 16 rfl rfl)
theorem dX6_test_41 : decode cX6_test 41 = .ok (.iconst 0, 1) := dk_3 (dk_at dksX6_test_1 17 rfl rfl)
theorem dX6_test_42 : decode cX6_test 42 = .ok (.putfield 112, 3) := dk_181 0 112 (dk_at dksX6_test_1 18 rfl rfl)
theorem dX6_test_45 : decode cX6_test 45 = .ok (.iconst 0, 1) := dk_3 (dk_at dksX6_test_1 21 rfl rfl)
theorem dX6_test_46 : decode cX6_test 46 = .ok (.ireturn, 1) := dk_172 (dk_at dksX6_test_1 22 rfl rfl)
theorem dX6_test_47 : decode cX6_test 47 = .ok (.aload_n 0, 1) := dk_42 (dk_at dksX6_test_1 23 rfl rfl)
theorem dX6_test_48 : decode cX6_test 48 = .ok (.dup, 1) := dk_89 (dk_at dksX6_test_2 0 rfl rfl)
theorem dX6_test_49 : decode cX6_test 49 = .ok (.getfield 115, 3) := dk_180 0 115 (dk_at dksX6_test_2 1 rfl rfl)
theorem dX6_test_52 : decode cX6_test 52 = .ok (.iconst 1, 1) := dk_4 (dk_at dksX6_test_2 4 rfl rfl)
theorem dX6_test_53 : decode cX6_test 53 = .ok (.iadd, 1) := dk_96 (dk_at dksX6_test_2 5 rfl rfl)
theorem dX6_test_54 : decode cX6_test 54 = .ok (.putfield 115, 3) := dk_181 0 115 (dk_at dksX6_test_2 6 rfl rfl)
theorem dX6_test_57 : decode cX6_test 57 = .ok (.aload_n 0, 1) := dk_42 (dk_at dksX6_test_2 9 rfl rfl)
theorem dX6_test_58 : decode cX6_test 58 = .ok (.bipush 60, 2) := dk_16 60 (dk_at dksX6_test_2 10 rfl rfl)
theorem dX6_test_60 : decode cX6_test 60 = .ok (.invokevirtual 121, 3) := dk_182 0 121 (dk_at dksX6_test_2 12 rfl rfl)
theorem dX6_test_63 : decode cX6_test 63 = .ok (.ifCond .eq 7, 3) := dk_153 0 7 (dk_at dksX6_test_2 15 rfl rfl)
theorem dX6_test_66 : decode cX6_test 66 = .ok (.iconst (-1), 1) := dk_2 (dk_at dksX6_test_2 18 rfl rfl)
theorem dX6_test_67 : decode cX6_test 67 = .ok (.goto 17, 3) := dk_167 0 17 (dk_at dksX6_test_2 19 rfl rfl)
theorem dX6_test_70 : decode cX6_test 70 = .ok (.aload_n 0, 1) := dk_42 (dk_at dksX6_test_2 22 rfl rfl)
theorem dX6_test_71 : decode cX6_test 71 = .ok (.bipush 62, 2) := dk_16 62 (dk_at dksX6_test_3 0 rfl rfl)
theorem dX6_test_73 : decode cX6_test 73 = .ok (.invokevirtual 121, 3) := dk_182 0 121 (dk_at dksX6_test_3 2 rfl rfl)
theorem dX6_test_76 : decode cX6_test 76 = .ok (.ifCond .eq 7, 3) := dk_153 0 7 (dk_at dksX6_test_3 5 rfl rfl)
theorem dX6_test_79 : decode cX6_test 79 = .ok (.iconst 1, 1) := dk_4 (dk_at dksX6_test_3 8 rfl rfl)
theorem dX6_test_80 : decode cX6_test 80 = .ok (.goto 4, 3) := dk_167 0 4 (dk_at dksX6_test_3 9 rfl rfl)
theorem dX6_test_83 : decode cX6_test 83 = .ok (.iconst 0, 1) := dk_3 (dk_at dksX6_test_3 12 rfl rfl)
theorem dX6_test_84 : decode cX6_test 84 = .ok (.istore_n 2, 1) := dk_61 (dk_at dksX6_test_3 13 rfl rfl)
theorem dX6_test_85 : decode cX6_test 85 = .ok (.aload_n 0, 1) := dk_42 (dk_at dksX6_test_3 14 rfl rfl)
theorem dX6_test_86 : decode cX6_test 86 = .ok (.iload_n 2, 1) := dk_28 (dk_at dksX6_test_3 15 rfl rfl)
theorem dX6_test_87 : decode cX6_test 87 = .ok (.ifCond .ge 8, 3) := dk_156 0 8 (dk_at dksX6_test_3 16 rfl rfl)
theorem dX6_test_90 : decode cX6_test 90 = .ok (.bipush 60, 2) := dk_16 60 (dk_at dksX6_test_3 19 rfl rfl)
theorem dX6_test_92 : decode cX6_test 92 = .ok (.goto 14, 3) := dk_167 0 14 (dk_at dksX6_test_3 21 rfl rfl)
theorem dX6_test_95 : decode cX6_test 95 = .ok (.iload_n 2, 1) := dk_28 (dk_at dksX6_test_4 0 rfl rfl)
theorem dX6_test_96 : decode cX6_test 96 = .ok (.ifCond .le 8, 3) := dk_158 0 8 (dk_at dksX6_test_4 1 rfl rfl)
theorem dX6_test_99 : decode cX6_test 99 = .ok (.bipush 62, 2) := dk_16 62 (dk_at dksX6_test_4 4 rfl rfl)
theorem dX6_test_101 : decode cX6_test 101 = .ok (.goto 5, 3) := dk_167 0 5 (dk_at dksX6_test_4 6 rfl rfl)
theorem dX6_test_104 : decode cX6_test 104 = .ok (.bipush 61, 2) := dk_16 61 (dk_at dksX6_test_4 9 rfl rfl)
theorem dX6_test_106 : decode cX6_test 106 = .ok (.invokevirtual 128, 3) := dk_182 0 128 (dk_at dksX6_test_4 11 rfl rfl)
theorem dX6_test_109 : decode cX6_test 109 = .ok (.aload_n 0, 1) := dk_42 (dk_at dksX6_test_4 14 rfl rfl)
theorem dX6_test_110 : decode cX6_test 110 = .ok (.invokevirtual 132, 3) := dk_182 0 132 (dk_at dksX6_test_4 15 rfl rfl)
theorem dX6_test_113 : decode cX6_test 113 = .ok (.istore_n 3, 1) := dk_62 (dk_at dksX6_test_4 18 rfl rfl)
theorem dX6_test_114 : decode cX6_test 114 = .ok (.iload_n 2, 1) := dk_28 (dk_at dksX6_test_4 19 rfl rfl)
theorem dX6_test_115 : decode cX6_test 115 = .ok (.ifCond .ge 21, 3) := dk_156 0 21 (dk_at dksX6_test_4 20 rfl rfl)
theorem dX6_test_118 : decode cX6_test 118 = .ok (.aload_n 0, 1) := dk_42 (dk_at dksX6_test_4 23 rfl rfl)
theorem dX6_test_119 : decode cX6_test 119 = .ok (.getfield 37, 3) := dk_180 0 37 (dk_at dksX6_test_5 0 rfl rfl)
theorem dX6_test_122 : decode cX6_test 122 = .ok (.iload_n 1, 1) := dk_27 (dk_at dksX6_test_5 3 rfl rfl)
theorem dX6_test_123 : decode cX6_test 123 = .ok (.iaload, 1) := dk_46 (dk_at dksX6_test_5 4 rfl rfl)
theorem dX6_test_124 : decode cX6_test 124 = .ok (.iload_n 3, 1) := dk_29 (dk_at dksX6_test_5 5 rfl rfl)
theorem dX6_test_125 : decode cX6_test 125 = .ok (.if_icmp .ge 7, 3) := dk_162 0 7 (dk_at dksX6_test_5 6 rfl rfl)
theorem dX6_test_128 : decode cX6_test 128 = .ok (.iconst 1, 1) := dk_4 (dk_at dksX6_test_5 9 rfl rfl)
theorem dX6_test_129 : decode cX6_test 129 = .ok (.goto 44, 3) := dk_167 0 44 (dk_at dksX6_test_5 10 rfl rfl)
theorem dX6_test_132 : decode cX6_test 132 = .ok (.iconst 0, 1) := dk_3 (dk_at dksX6_test_5 13 rfl rfl)
theorem dX6_test_133 : decode cX6_test 133 = .ok (.goto 40, 3) := dk_167 0 40 (dk_at dksX6_test_5 14 rfl rfl)
theorem dX6_test_136 : decode cX6_test 136 = .ok (.iload_n 2, 1) := dk_28 (dk_at dksX6_test_5 17 rfl rfl)
theorem dX6_test_137 : decode cX6_test 137 = .ok (.ifCond .le 21, 3) := dk_158 0 21 (dk_at dksX6_test_5 18 rfl rfl)
theorem dX6_test_140 : decode cX6_test 140 = .ok (.aload_n 0, 1) := dk_42 (dk_at dksX6_test_5 21 rfl rfl)
theorem dX6_test_141 : decode cX6_test 141 = .ok (.getfield 37, 3) := dk_180 0 37 (dk_at dksX6_test_6 0 rfl rfl)
theorem dX6_test_144 : decode cX6_test 144 = .ok (.iload_n 1, 1) := dk_27 (dk_at dksX6_test_6 3 rfl rfl)
theorem dX6_test_145 : decode cX6_test 145 = .ok (.iaload, 1) := dk_46 (dk_at dksX6_test_6 4 rfl rfl)
theorem dX6_test_146 : decode cX6_test 146 = .ok (.iload_n 3, 1) := dk_29 (dk_at dksX6_test_6 5 rfl rfl)
theorem dX6_test_147 : decode cX6_test 147 = .ok (.if_icmp .le 7, 3) := dk_164 0 7 (dk_at dksX6_test_6 6 rfl rfl)
theorem dX6_test_150 : decode cX6_test 150 = .ok (.iconst 1, 1) := dk_4 (dk_at dksX6_test_6 9 rfl rfl)
theorem dX6_test_151 : decode cX6_test 151 = .ok (.goto 22, 3) := dk_167 0 22 (dk_at dksX6_test_6 10 rfl rfl)
theorem dX6_test_154 : decode cX6_test 154 = .ok (.iconst 0, 1) := dk_3 (dk_at dksX6_test_6 13 rfl rfl)
theorem dX6_test_155 : decode cX6_test 155 = .ok (.goto 18, 3) := dk_167 0 18 (dk_at dksX6_test_6 14 rfl rfl)
theorem dX6_test_158 : decode cX6_test 158 = .ok (.aload_n 0, 1) := dk_42 (dk_at dksX6_test_6 17 rfl rfl)
theorem dX6_test_159 : decode cX6_test 159 = .ok (.getfield 37, 3) := dk_180 0 37 (dk_at dksX6_test_6 18 rfl rfl)
theorem dX6_test_162 : decode cX6_test 162 = .ok (.iload_n 1, 1) := dk_27 (dk_at dksX6_test_6 21 rfl rfl)
theorem dX6_test_163 : decode cX6_test 163 = .ok (.iaload, 1) := dk_46 (dk_at dksX6_test_6 22 rfl rfl)
theorem dX6_test_164 : decode cX6_test 164 = .ok (.iload_n 3, 1) := dk_29 (dk_at dksX6_test_6 23 rfl rfl)
theorem dX6_test_165 : decode cX6_test 165 = .ok (.if_icmp .ne 7, 3) := dk_160 0 7 (dk_at dksX6_test_7 0 rfl rfl)
theorem dX6_test_168 : decode cX6_test 168 = .ok (.iconst 1, 1) := dk_4 (dk_at dksX6_test_7 3 rfl rfl)
theorem dX6_test_169 : decode cX6_test 169 = .ok (.goto 4, 3) := dk_167 0 4 (dk_at dksX6_test_7 4 rfl rfl)
theorem dX6_test_172 : decode cX6_test 172 = .ok (.iconst 0, 1) := dk_3 (dk_at dksX6_test_7 7 rfl rfl)
theorem dX6_test_173 : decode cX6_test 173 = .ok (.ireturn, 1) := dk_172 (dk_at dksX6_test_7 8 rfl rfl)
abbrev cX6_isAnother : ByteArray := prog_23_method_37_code
def yX6_isAnother : MethodName := ⟨RX6, "isAnother", "(II)Z"⟩
def dkwX6_isAnother_2 : List UInt8 := [167, 0, 4, 3, 62, 132, 4, 1, 167, 255, 205, 29, 172]
abbrev dktX6_isAnother_2 : List UInt8 := dkwX6_isAnother_2 ++ []
def dkwX6_isAnother_1 : List UInt8 := [159, 0, 27, 42, 21, 4, 182, 0, 166, 154, 0, 18, 42, 21, 4, 5, 182, 0, 83, 28, 160, 0, 7, 4]
abbrev dktX6_isAnother_1 : List UInt8 := dkwX6_isAnother_1 ++ dktX6_isAnother_2
def dkwX6_isAnother_0 : List UInt8 := [3, 62, 3, 54, 4, 21, 4, 42, 180, 0, 15, 16, 80, 46, 162, 0, 45, 29, 154, 0, 29, 21, 4, 27]
abbrev dktX6_isAnother_0 : List UInt8 := dkwX6_isAnother_0 ++ dktX6_isAnother_1
theorem dksX6_isAnother_0 : cX6_isAnother.data.toList.drop 0 = dktX6_isAnother_0 := by decide +kernel
theorem dksX6_isAnother_1 : cX6_isAnother.data.toList.drop 24 = dktX6_isAnother_1 := dk_seg dksX6_isAnother_0 24 rfl rfl
theorem dksX6_isAnother_2 : cX6_isAnother.data.toList.drop 48 = dktX6_isAnother_2 := dk_seg dksX6_isAnother_1 24 rfl rfl
theorem dX6_isAnother_0 : decode cX6_isAnother 0 = .ok (.iconst 0, 1) := dk_3 (dk_at dksX6_isAnother_0 0 rfl rfl)
theorem dX6_isAnother_1 : decode cX6_isAnother 1 = .ok (.istore_n 3, 1) := dk_62 (dk_at dksX6_isAnother_0 1 rfl rfl)
theorem dX6_isAnother_2 : decode cX6_isAnother 2 = .ok (.iconst 0, 1) := dk_3 (dk_at dksX6_isAnother_0 2 rfl rfl)
theorem dX6_isAnother_3 : decode cX6_isAnother 3 = .ok (.istore 4, 2) := dk_54 4 (dk_at dksX6_isAnother_0 3 rfl rfl)
theorem dX6_isAnother_5 : decode cX6_isAnother 5 = .ok (.iload 4, 2) := dk_21 4 (dk_at dksX6_isAnother_0 5 rfl rfl)
theorem dX6_isAnother_7 : decode cX6_isAnother 7 = .ok (.aload_n 0, 1) := dk_42 (dk_at dksX6_isAnother_0 7 rfl rfl)
theorem dX6_isAnother_8 : decode cX6_isAnother 8 = .ok (.getfield 15, 3) := dk_180 0 15 (dk_at dksX6_isAnother_0 8 rfl rfl)
theorem dX6_isAnother_11 : decode cX6_isAnother 11 = .ok (.bipush 80, 2) := dk_16 80 (dk_at dksX6_isAnother_0 11 rfl rfl)
theorem dX6_isAnother_13 : decode cX6_isAnother 13 = .ok (.iaload, 1) := dk_46 (dk_at dksX6_isAnother_0 13 rfl rfl)
theorem dX6_isAnother_14 : decode cX6_isAnother 14 = .ok (.if_icmp .ge 45, 3) := dk_162 0 45 (dk_at dksX6_isAnother_0 14 rfl rfl)
theorem dX6_isAnother_17 : decode cX6_isAnother 17 = .ok (.iload_n 3, 1) := dk_29 (dk_at dksX6_isAnother_0 17 rfl rfl)
theorem dX6_isAnother_18 : decode cX6_isAnother 18 = .ok (.ifCond .ne 29, 3) := dk_154 0 29 (dk_at dksX6_isAnother_0 18 rfl rfl)
theorem dX6_isAnother_21 : decode cX6_isAnother 21 = .ok (.iload 4, 2) := dk_21 4 (dk_at dksX6_isAnother_0 21 rfl rfl)
theorem dX6_isAnother_23 : decode cX6_isAnother 23 = .ok (.iload_n 1, 1) := dk_27 (dk_at dksX6_isAnother_0 23 rfl rfl)
theorem dX6_isAnother_24 : decode cX6_isAnother 24 = .ok (.if_icmp .eq 27, 3) := dk_159 0 27 (dk_at dksX6_isAnother_1 0 rfl rfl)
theorem dX6_isAnother_27 : decode cX6_isAnother 27 = .ok (.aload_n 0, 1) := dk_42 (dk_at dksX6_isAnother_1 3 rfl rfl)
theorem dX6_isAnother_28 : decode cX6_isAnother 28 = .ok (.iload 4, 2) := dk_21 4 (dk_at dksX6_isAnother_1 4 rfl rfl)
theorem dX6_isAnother_30 : decode cX6_isAnother 30 = .ok (.invokevirtual 166, 3) := dk_182 0 166 (dk_at dksX6_isAnother_1 6 rfl rfl)
theorem dX6_isAnother_33 : decode cX6_isAnother 33 = .ok (.ifCond .ne 18, 3) := dk_154 0 18 (dk_at dksX6_isAnother_1 9 rfl rfl)
theorem dX6_isAnother_36 : decode cX6_isAnother 36 = .ok (.aload_n 0, 1) := dk_42 (dk_at dksX6_isAnother_1 12 rfl rfl)
theorem dX6_isAnother_37 : decode cX6_isAnother 37 = .ok (.iload 4, 2) := dk_21 4 (dk_at dksX6_isAnother_1 13 rfl rfl)
theorem dX6_isAnother_39 : decode cX6_isAnother 39 = .ok (.iconst 2, 1) := dk_5 (dk_at dksX6_isAnother_1 15 rfl rfl)
theorem dX6_isAnother_40 : decode cX6_isAnother 40 = .ok (.invokevirtual 83, 3) := dk_182 0 83 (dk_at dksX6_isAnother_1 16 rfl rfl)
theorem dX6_isAnother_43 : decode cX6_isAnother 43 = .ok (.iload_n 2, 1) := dk_28 (dk_at dksX6_isAnother_1 19 rfl rfl)
theorem dX6_isAnother_44 : decode cX6_isAnother 44 = .ok (.if_icmp .ne 7, 3) := dk_160 0 7 (dk_at dksX6_isAnother_1 20 rfl rfl)
theorem dX6_isAnother_47 : decode cX6_isAnother 47 = .ok (.iconst 1, 1) := dk_4 (dk_at dksX6_isAnother_1 23 rfl rfl)
theorem dX6_isAnother_48 : decode cX6_isAnother 48 = .ok (.goto 4, 3) := dk_167 0 4 (dk_at dksX6_isAnother_2 0 rfl rfl)
theorem dX6_isAnother_51 : decode cX6_isAnother 51 = .ok (.iconst 0, 1) := dk_3 (dk_at dksX6_isAnother_2 3 rfl rfl)
theorem dX6_isAnother_52 : decode cX6_isAnother 52 = .ok (.istore_n 3, 1) := dk_62 (dk_at dksX6_isAnother_2 4 rfl rfl)
theorem dX6_isAnother_53 : decode cX6_isAnother 53 = .ok (.iinc 4 1, 3) := dk_132 4 1 (dk_at dksX6_isAnother_2 5 rfl rfl)
theorem dX6_isAnother_56 : decode cX6_isAnother 56 = .ok (.goto (-51), 3) := dk_167 255 205 (dk_at dksX6_isAnother_2 8 rfl rfl)
theorem dX6_isAnother_59 : decode cX6_isAnother 59 = .ok (.iload_n 3, 1) := dk_29 (dk_at dksX6_isAnother_2 11 rfl rfl)
theorem dX6_isAnother_60 : decode cX6_isAnother 60 = .ok (.ireturn, 1) := dk_172 (dk_at dksX6_isAnother_2 12 rfl rfl)
abbrev cX6_isTaken : ByteArray := prog_23_method_13_code
def yX6_isTaken : MethodName := ⟨RX6, "isTaken", "(I)Z"⟩
def dkwX6_isTaken_0 : List UInt8 := [42, 27, 7, 182, 0, 83, 4, 160, 0, 7, 4, 167, 0, 4, 3, 172]
abbrev dktX6_isTaken_0 : List UInt8 := dkwX6_isTaken_0 ++ []
theorem dksX6_isTaken_0 : cX6_isTaken.data.toList.drop 0 = dktX6_isTaken_0 := by decide +kernel
theorem dX6_isTaken_0 : decode cX6_isTaken 0 = .ok (.aload_n 0, 1) := dk_42 (dk_at dksX6_isTaken_0 0 rfl rfl)
theorem dX6_isTaken_1 : decode cX6_isTaken 1 = .ok (.iload_n 1, 1) := dk_27 (dk_at dksX6_isTaken_0 1 rfl rfl)
theorem dX6_isTaken_2 : decode cX6_isTaken 2 = .ok (.iconst 4, 1) := dk_7 (dk_at dksX6_isTaken_0 2 rfl rfl)
theorem dX6_isTaken_3 : decode cX6_isTaken 3 = .ok (.invokevirtual 83, 3) := dk_182 0 83 (dk_at dksX6_isTaken_0 3 rfl rfl)
theorem dX6_isTaken_6 : decode cX6_isTaken 6 = .ok (.iconst 1, 1) := dk_4 (dk_at dksX6_isTaken_0 6 rfl rfl)
theorem dX6_isTaken_7 : decode cX6_isTaken 7 = .ok (.if_icmp .ne 7, 3) := dk_160 0 7 (dk_at dksX6_isTaken_0 7 rfl rfl)
theorem dX6_isTaken_10 : decode cX6_isTaken 10 = .ok (.iconst 1, 1) := dk_4 (dk_at dksX6_isTaken_0 10 rfl rfl)
theorem dX6_isTaken_11 : decode cX6_isTaken 11 = .ok (.goto 4, 3) := dk_167 0 4 (dk_at dksX6_isTaken_0 11 rfl rfl)
theorem dX6_isTaken_14 : decode cX6_isTaken 14 = .ok (.iconst 0, 1) := dk_3 (dk_at dksX6_isTaken_0 14 rfl rfl)
theorem dX6_isTaken_15 : decode cX6_isTaken 15 = .ok (.ireturn, 1) := dk_172 (dk_at dksX6_isTaken_0 15 rfl rfl)
abbrev cX6_isEnd : ByteArray := prog_23_method_38_code
def yX6_isEnd : MethodName := ⟨RX6, "isEnd", "(II)Z"⟩
def dkwX6_isEnd_1 : List UInt8 := [28, 160, 0, 7, 4, 167, 0, 4, 3, 172]
abbrev dktX6_isEnd_1 : List UInt8 := dkwX6_isEnd_1 ++ []
def dkwX6_isEnd_0 : List UInt8 := [42, 27, 182, 0, 169, 153, 0, 27, 42, 27, 3, 182, 0, 172, 28, 159, 0, 13, 42, 27, 4, 182, 0, 172]
abbrev dktX6_isEnd_0 : List UInt8 := dkwX6_isEnd_0 ++ dktX6_isEnd_1
theorem dksX6_isEnd_0 : cX6_isEnd.data.toList.drop 0 = dktX6_isEnd_0 := by decide +kernel
theorem dksX6_isEnd_1 : cX6_isEnd.data.toList.drop 24 = dktX6_isEnd_1 := dk_seg dksX6_isEnd_0 24 rfl rfl
theorem dX6_isEnd_0 : decode cX6_isEnd 0 = .ok (.aload_n 0, 1) := dk_42 (dk_at dksX6_isEnd_0 0 rfl rfl)
theorem dX6_isEnd_1 : decode cX6_isEnd 1 = .ok (.iload_n 1, 1) := dk_27 (dk_at dksX6_isEnd_0 1 rfl rfl)
theorem dX6_isEnd_2 : decode cX6_isEnd 2 = .ok (.invokevirtual 169, 3) := dk_182 0 169 (dk_at dksX6_isEnd_0 2 rfl rfl)
theorem dX6_isEnd_5 : decode cX6_isEnd 5 = .ok (.ifCond .eq 27, 3) := dk_153 0 27 (dk_at dksX6_isEnd_0 5 rfl rfl)
theorem dX6_isEnd_8 : decode cX6_isEnd 8 = .ok (.aload_n 0, 1) := dk_42 (dk_at dksX6_isEnd_0 8 rfl rfl)
theorem dX6_isEnd_9 : decode cX6_isEnd 9 = .ok (.iload_n 1, 1) := dk_27 (dk_at dksX6_isEnd_0 9 rfl rfl)
theorem dX6_isEnd_10 : decode cX6_isEnd 10 = .ok (.iconst 0, 1) := dk_3 (dk_at dksX6_isEnd_0 10 rfl rfl)
theorem dX6_isEnd_11 : decode cX6_isEnd 11 = .ok (.invokevirtual 172, 3) := dk_182 0 172 (dk_at dksX6_isEnd_0 11 rfl rfl)
theorem dX6_isEnd_14 : decode cX6_isEnd 14 = .ok (.iload_n 2, 1) := dk_28 (dk_at dksX6_isEnd_0 14 rfl rfl)
theorem dX6_isEnd_15 : decode cX6_isEnd 15 = .ok (.if_icmp .eq 13, 3) := dk_159 0 13 (dk_at dksX6_isEnd_0 15 rfl rfl)
theorem dX6_isEnd_18 : decode cX6_isEnd 18 = .ok (.aload_n 0, 1) := dk_42 (dk_at dksX6_isEnd_0 18 rfl rfl)
theorem dX6_isEnd_19 : decode cX6_isEnd 19 = .ok (.iload_n 1, 1) := dk_27 (dk_at dksX6_isEnd_0 19 rfl rfl)
theorem dX6_isEnd_20 : decode cX6_isEnd 20 = .ok (.iconst 1, 1) := dk_4 (dk_at dksX6_isEnd_0 20 rfl rfl)
theorem dX6_isEnd_21 : decode cX6_isEnd 21 = .ok (.invokevirtual 172, 3) := dk_182 0 172 (dk_at dksX6_isEnd_0 21 rfl rfl)
theorem dX6_isEnd_24 : decode cX6_isEnd 24 = .ok (.iload_n 2, 1) := dk_28 (dk_at dksX6_isEnd_1 0 rfl rfl)
theorem dX6_isEnd_25 : decode cX6_isEnd 25 = .ok (.if_icmp .ne 7, 3) := dk_160 0 7 (dk_at dksX6_isEnd_1 1 rfl rfl)
theorem dX6_isEnd_28 : decode cX6_isEnd 28 = .ok (.iconst 1, 1) := dk_4 (dk_at dksX6_isEnd_1 4 rfl rfl)
theorem dX6_isEnd_29 : decode cX6_isEnd 29 = .ok (.goto 4, 3) := dk_167 0 4 (dk_at dksX6_isEnd_1 5 rfl rfl)
theorem dX6_isEnd_32 : decode cX6_isEnd 32 = .ok (.iconst 0, 1) := dk_3 (dk_at dksX6_isEnd_1 8 rfl rfl)
theorem dX6_isEnd_33 : decode cX6_isEnd 33 = .ok (.ireturn, 1) := dk_172 (dk_at dksX6_isEnd_1 9 rfl rfl)
abbrev cX6_isGate : ByteArray := prog_23_method_9_code
def yX6_isGate : MethodName := ⟨RX6, "isGate", "(I)Z"⟩
def dkwX6_isGate_0 : List UInt8 := [27, 3, 42, 180, 0, 15, 16, 81, 46, 4, 100, 184, 0, 79, 172]
abbrev dktX6_isGate_0 : List UInt8 := dkwX6_isGate_0 ++ []
theorem dksX6_isGate_0 : cX6_isGate.data.toList.drop 0 = dktX6_isGate_0 := by decide +kernel
theorem dX6_isGate_0 : decode cX6_isGate 0 = .ok (.iload_n 1, 1) := dk_27 (dk_at dksX6_isGate_0 0 rfl rfl)
theorem dX6_isGate_1 : decode cX6_isGate 1 = .ok (.iconst 0, 1) := dk_3 (dk_at dksX6_isGate_0 1 rfl rfl)
theorem dX6_isGate_2 : decode cX6_isGate 2 = .ok (.aload_n 0, 1) := dk_42 (dk_at dksX6_isGate_0 2 rfl rfl)
theorem dX6_isGate_3 : decode cX6_isGate 3 = .ok (.getfield 15, 3) := dk_180 0 15 (dk_at dksX6_isGate_0 3 rfl rfl)
theorem dX6_isGate_6 : decode cX6_isGate 6 = .ok (.bipush 81, 2) := dk_16 81 (dk_at dksX6_isGate_0 6 rfl rfl)
theorem dX6_isGate_8 : decode cX6_isGate 8 = .ok (.iaload, 1) := dk_46 (dk_at dksX6_isGate_0 8 rfl rfl)
theorem dX6_isGate_9 : decode cX6_isGate 9 = .ok (.iconst 1, 1) := dk_4 (dk_at dksX6_isGate_0 9 rfl rfl)
theorem dX6_isGate_10 : decode cX6_isGate 10 = .ok (.isub, 1) := dk_100 (dk_at dksX6_isGate_0 10 rfl rfl)
theorem dX6_isGate_11 : decode cX6_isGate 11 = .ok (.invokestatic 79, 3) := dk_184 0 79 (dk_at dksX6_isGate_0 11 rfl rfl)
theorem dX6_isGate_14 : decode cX6_isGate 14 = .ok (.ireturn, 1) := dk_172 (dk_at dksX6_isGate_0 14 rfl rfl)
abbrev cX6_end : ByteArray := prog_23_method_11_code
def yX6_end : MethodName := ⟨RX6, "end", "(II)I"⟩
def dkwX6_end_0 : List UInt8 := [42, 180, 0, 15, 16, 8, 5, 27, 104, 96, 28, 96, 46, 172]
abbrev dktX6_end_0 : List UInt8 := dkwX6_end_0 ++ []
theorem dksX6_end_0 : cX6_end.data.toList.drop 0 = dktX6_end_0 := by decide +kernel
theorem dX6_end_0 : decode cX6_end 0 = .ok (.aload_n 0, 1) := dk_42 (dk_at dksX6_end_0 0 rfl rfl)
theorem dX6_end_1 : decode cX6_end 1 = .ok (.getfield 15, 3) := dk_180 0 15 (dk_at dksX6_end_0 1 rfl rfl)
theorem dX6_end_4 : decode cX6_end 4 = .ok (.bipush 8, 2) := dk_16 8 (dk_at dksX6_end_0 4 rfl rfl)
theorem dX6_end_6 : decode cX6_end 6 = .ok (.iconst 2, 1) := dk_5 (dk_at dksX6_end_0 6 rfl rfl)
theorem dX6_end_7 : decode cX6_end 7 = .ok (.iload_n 1, 1) := dk_27 (dk_at dksX6_end_0 7 rfl rfl)
theorem dX6_end_8 : decode cX6_end 8 = .ok (.imul, 1) := dk_104 (dk_at dksX6_end_0 8 rfl rfl)
theorem dX6_end_9 : decode cX6_end 9 = .ok (.iadd, 1) := dk_96 (dk_at dksX6_end_0 9 rfl rfl)
theorem dX6_end_10 : decode cX6_end 10 = .ok (.iload_n 2, 1) := dk_28 (dk_at dksX6_end_0 10 rfl rfl)
theorem dX6_end_11 : decode cX6_end 11 = .ok (.iadd, 1) := dk_96 (dk_at dksX6_end_0 11 rfl rfl)
theorem dX6_end_12 : decode cX6_end 12 = .ok (.iaload, 1) := dk_46 (dk_at dksX6_end_0 12 rfl rfl)
theorem dX6_end_13 : decode cX6_end 13 = .ok (.ireturn, 1) := dk_172 (dk_at dksX6_end_0 13 rfl rfl)
abbrev cX6_beyond : ByteArray := prog_23_method_40_code
def yX6_beyond : MethodName := ⟨RX6, "beyond", "(II)I"⟩
def dkwX6_beyond_1 : List UInt8 := [182, 0, 172, 28, 160, 0, 12, 42, 27, 3, 182, 0, 172, 167, 0, 4, 2, 172]
abbrev dktX6_beyond_1 : List UInt8 := dkwX6_beyond_1 ++ []
def dkwX6_beyond_0 : List UInt8 := [42, 27, 3, 182, 0, 172, 28, 160, 0, 12, 42, 27, 4, 182, 0, 172, 167, 0, 23, 42, 27, 4]
abbrev dktX6_beyond_0 : List UInt8 := dkwX6_beyond_0 ++ dktX6_beyond_1
theorem dksX6_beyond_0 : cX6_beyond.data.toList.drop 0 = dktX6_beyond_0 := by decide +kernel
theorem dksX6_beyond_1 : cX6_beyond.data.toList.drop 22 = dktX6_beyond_1 := dk_seg dksX6_beyond_0 22 rfl rfl
theorem dX6_beyond_0 : decode cX6_beyond 0 = .ok (.aload_n 0, 1) := dk_42 (dk_at dksX6_beyond_0 0 rfl rfl)
theorem dX6_beyond_1 : decode cX6_beyond 1 = .ok (.iload_n 1, 1) := dk_27 (dk_at dksX6_beyond_0 1 rfl rfl)
theorem dX6_beyond_2 : decode cX6_beyond 2 = .ok (.iconst 0, 1) := dk_3 (dk_at dksX6_beyond_0 2 rfl rfl)
theorem dX6_beyond_3 : decode cX6_beyond 3 = .ok (.invokevirtual 172, 3) := dk_182 0 172 (dk_at dksX6_beyond_0 3 rfl rfl)
theorem dX6_beyond_6 : decode cX6_beyond 6 = .ok (.iload_n 2, 1) := dk_28 (dk_at dksX6_beyond_0 6 rfl rfl)
theorem dX6_beyond_7 : decode cX6_beyond 7 = .ok (.if_icmp .ne 12, 3) := dk_160 0 12 (dk_at dksX6_beyond_0 7 rfl rfl)
theorem dX6_beyond_10 : decode cX6_beyond 10 = .ok (.aload_n 0, 1) := dk_42 (dk_at dksX6_beyond_0 10 rfl rfl)
theorem dX6_beyond_11 : decode cX6_beyond 11 = .ok (.iload_n 1, 1) := dk_27 (dk_at dksX6_beyond_0 11 rfl rfl)
theorem dX6_beyond_12 : decode cX6_beyond 12 = .ok (.iconst 1, 1) := dk_4 (dk_at dksX6_beyond_0 12 rfl rfl)
theorem dX6_beyond_13 : decode cX6_beyond 13 = .ok (.invokevirtual 172, 3) := dk_182 0 172 (dk_at dksX6_beyond_0 13 rfl rfl)
theorem dX6_beyond_16 : decode cX6_beyond 16 = .ok (.goto 23, 3) := dk_167 0 23 (dk_at dksX6_beyond_0 16 rfl rfl)
theorem dX6_beyond_19 : decode cX6_beyond 19 = .ok (.aload_n 0, 1) := dk_42 (dk_at dksX6_beyond_0 19 rfl rfl)
theorem dX6_beyond_20 : decode cX6_beyond 20 = .ok (.iload_n 1, 1) := dk_27 (dk_at dksX6_beyond_0 20 rfl rfl)
theorem dX6_beyond_21 : decode cX6_beyond 21 = .ok (.iconst 1, 1) := dk_4 (dk_at dksX6_beyond_0 21 rfl rfl)
theorem dX6_beyond_22 : decode cX6_beyond 22 = .ok (.invokevirtual 172, 3) := dk_182 0 172 (dk_at dksX6_beyond_1 0 rfl rfl)
theorem dX6_beyond_25 : decode cX6_beyond 25 = .ok (.iload_n 2, 1) := dk_28 (dk_at dksX6_beyond_1 3 rfl rfl)
theorem dX6_beyond_26 : decode cX6_beyond 26 = .ok (.if_icmp .ne 12, 3) := dk_160 0 12 (dk_at dksX6_beyond_1 4 rfl rfl)
theorem dX6_beyond_29 : decode cX6_beyond 29 = .ok (.aload_n 0, 1) := dk_42 (dk_at dksX6_beyond_1 7 rfl rfl)
theorem dX6_beyond_30 : decode cX6_beyond 30 = .ok (.iload_n 1, 1) := dk_27 (dk_at dksX6_beyond_1 8 rfl rfl)
theorem dX6_beyond_31 : decode cX6_beyond 31 = .ok (.iconst 0, 1) := dk_3 (dk_at dksX6_beyond_1 9 rfl rfl)
theorem dX6_beyond_32 : decode cX6_beyond 32 = .ok (.invokevirtual 172, 3) := dk_182 0 172 (dk_at dksX6_beyond_1 10 rfl rfl)
theorem dX6_beyond_35 : decode cX6_beyond 35 = .ok (.goto 4, 3) := dk_167 0 4 (dk_at dksX6_beyond_1 13 rfl rfl)
theorem dX6_beyond_38 : decode cX6_beyond 38 = .ok (.iconst (-1), 1) := dk_2 (dk_at dksX6_beyond_1 16 rfl rfl)
theorem dX6_beyond_39 : decode cX6_beyond 39 = .ok (.ireturn, 1) := dk_172 (dk_at dksX6_beyond_1 17 rfl rfl)
abbrev cX6_key : ByteArray := prog_23_method_19_code
def yX6_key : MethodName := ⟨RX6, "key", "(II)I"⟩
def dkwX6_key_1 : List UInt8 := [182, 0, 104, 184, 0, 94, 167, 0, 4, 2, 172]
abbrev dktX6_key_1 : List UInt8 := dkwX6_key_1 ++ []
def dkwX6_key_0 : List UInt8 := [42, 27, 182, 0, 91, 153, 0, 26, 28, 2, 16, 8, 184, 0, 79, 153, 0, 16, 42, 27, 6, 28]
abbrev dktX6_key_0 : List UInt8 := dkwX6_key_0 ++ dktX6_key_1
theorem dksX6_key_0 : cX6_key.data.toList.drop 0 = dktX6_key_0 := by decide +kernel
theorem dksX6_key_1 : cX6_key.data.toList.drop 22 = dktX6_key_1 := dk_seg dksX6_key_0 22 rfl rfl
theorem dX6_key_0 : decode cX6_key 0 = .ok (.aload_n 0, 1) := dk_42 (dk_at dksX6_key_0 0 rfl rfl)
theorem dX6_key_1 : decode cX6_key 1 = .ok (.iload_n 1, 1) := dk_27 (dk_at dksX6_key_0 1 rfl rfl)
theorem dX6_key_2 : decode cX6_key 2 = .ok (.invokevirtual 91, 3) := dk_182 0 91 (dk_at dksX6_key_0 2 rfl rfl)
theorem dX6_key_5 : decode cX6_key 5 = .ok (.ifCond .eq 26, 3) := dk_153 0 26 (dk_at dksX6_key_0 5 rfl rfl)
theorem dX6_key_8 : decode cX6_key 8 = .ok (.iload_n 2, 1) := dk_28 (dk_at dksX6_key_0 8 rfl rfl)
theorem dX6_key_9 : decode cX6_key 9 = .ok (.iconst (-1), 1) := dk_2 (dk_at dksX6_key_0 9 rfl rfl)
theorem dX6_key_10 : decode cX6_key 10 = .ok (.bipush 8, 2) := dk_16 8 (dk_at dksX6_key_0 10 rfl rfl)
theorem dX6_key_12 : decode cX6_key 12 = .ok (.invokestatic 79, 3) := dk_184 0 79 (dk_at dksX6_key_0 12 rfl rfl)
theorem dX6_key_15 : decode cX6_key 15 = .ok (.ifCond .eq 16, 3) := dk_153 0 16 (dk_at dksX6_key_0 15 rfl rfl)
theorem dX6_key_18 : decode cX6_key 18 = .ok (.aload_n 0, 1) := dk_42 (dk_at dksX6_key_0 18 rfl rfl)
theorem dX6_key_19 : decode cX6_key 19 = .ok (.iload_n 1, 1) := dk_27 (dk_at dksX6_key_0 19 rfl rfl)
theorem dX6_key_20 : decode cX6_key 20 = .ok (.iconst 3, 1) := dk_6 (dk_at dksX6_key_0 20 rfl rfl)
theorem dX6_key_21 : decode cX6_key 21 = .ok (.iload_n 2, 1) := dk_28 (dk_at dksX6_key_0 21 rfl rfl)
theorem dX6_key_22 : decode cX6_key 22 = .ok (.invokevirtual 104, 3) := dk_182 0 104 (dk_at dksX6_key_1 0 rfl rfl)
theorem dX6_key_25 : decode cX6_key 25 = .ok (.invokestatic 94, 3) := dk_184 0 94 (dk_at dksX6_key_1 3 rfl rfl)
theorem dX6_key_28 : decode cX6_key 28 = .ok (.goto 4, 3) := dk_167 0 4 (dk_at dksX6_key_1 6 rfl rfl)
theorem dX6_key_31 : decode cX6_key 31 = .ok (.iconst (-1), 1) := dk_2 (dk_at dksX6_key_1 9 rfl rfl)
theorem dX6_key_32 : decode cX6_key 32 = .ok (.ireturn, 1) := dk_172 (dk_at dksX6_key_1 10 rfl rfl)
abbrev cX6_change : ByteArray := prog_23_method_18_code
def yX6_change : MethodName := ⟨RX6, "change", "(III)I"⟩
def dkwX6_change_1 : List UInt8 := [21, 4, 172]
abbrev dktX6_change_1 : List UInt8 := dkwX6_change_1 ++ []
def dkwX6_change_0 : List UInt8 := [42, 27, 28, 182, 0, 83, 54, 4, 42, 180, 0, 15, 16, 26, 16, 9, 27, 104, 96, 28, 96, 29, 79]
abbrev dktX6_change_0 : List UInt8 := dkwX6_change_0 ++ dktX6_change_1
theorem dksX6_change_0 : cX6_change.data.toList.drop 0 = dktX6_change_0 := by decide +kernel
theorem dksX6_change_1 : cX6_change.data.toList.drop 23 = dktX6_change_1 := dk_seg dksX6_change_0 23 rfl rfl
theorem dX6_change_0 : decode cX6_change 0 = .ok (.aload_n 0, 1) := dk_42 (dk_at dksX6_change_0 0 rfl rfl)
theorem dX6_change_1 : decode cX6_change 1 = .ok (.iload_n 1, 1) := dk_27 (dk_at dksX6_change_0 1 rfl rfl)
theorem dX6_change_2 : decode cX6_change 2 = .ok (.iload_n 2, 1) := dk_28 (dk_at dksX6_change_0 2 rfl rfl)
theorem dX6_change_3 : decode cX6_change 3 = .ok (.invokevirtual 83, 3) := dk_182 0 83 (dk_at dksX6_change_0 3 rfl rfl)
theorem dX6_change_6 : decode cX6_change 6 = .ok (.istore 4, 2) := dk_54 4 (dk_at dksX6_change_0 6 rfl rfl)
theorem dX6_change_8 : decode cX6_change 8 = .ok (.aload_n 0, 1) := dk_42 (dk_at dksX6_change_0 8 rfl rfl)
theorem dX6_change_9 : decode cX6_change 9 = .ok (.getfield 15, 3) := dk_180 0 15 (dk_at dksX6_change_0 9 rfl rfl)
theorem dX6_change_12 : decode cX6_change 12 = .ok (.bipush 26, 2) := dk_16 26 (dk_at dksX6_change_0 12 rfl rfl)
theorem dX6_change_14 : decode cX6_change 14 = .ok (.bipush 9, 2) := dk_16 9 (dk_at dksX6_change_0 14 rfl rfl)
theorem dX6_change_16 : decode cX6_change 16 = .ok (.iload_n 1, 1) := dk_27 (dk_at dksX6_change_0 16 rfl rfl)
theorem dX6_change_17 : decode cX6_change 17 = .ok (.imul, 1) := dk_104 (dk_at dksX6_change_0 17 rfl rfl)
theorem dX6_change_18 : decode cX6_change 18 = .ok (.iadd, 1) := dk_96 (dk_at dksX6_change_0 18 rfl rfl)
theorem dX6_change_19 : decode cX6_change 19 = .ok (.iload_n 2, 1) := dk_28 (dk_at dksX6_change_0 19 rfl rfl)
theorem dX6_change_20 : decode cX6_change 20 = .ok (.iadd, 1) := dk_96 (dk_at dksX6_change_0 20 rfl rfl)
theorem dX6_change_21 : decode cX6_change 21 = .ok (.iload_n 3, 1) := dk_29 (dk_at dksX6_change_0 21 rfl rfl)
theorem dX6_change_22 : decode cX6_change 22 = .ok (.iastore, 1) := dk_79 (dk_at dksX6_change_0 22 rfl rfl)
theorem dX6_change_23 : decode cX6_change 23 = .ok (.iload 4, 2) := dk_21 4 (dk_at dksX6_change_1 0 rfl rfl)
theorem dX6_change_25 : decode cX6_change 25 = .ok (.ireturn, 1) := dk_172 (dk_at dksX6_change_1 2 rfl rfl)
abbrev cX6_put : ByteArray := prog_23_method_20_code
def yX6_put : MethodName := ⟨RX6, "put", "(II)I"⟩
def dkwX6_put_1 : List UInt8 := [167, 0, 4, 2, 172]
abbrev dktX6_put_1 : List UInt8 := dkwX6_put_1 ++ []
def dkwX6_put_0 : List UInt8 := [42, 27, 182, 0, 91, 153, 0, 20, 28, 184, 0, 87, 153, 0, 13, 42, 27, 5, 28, 182, 0, 104]
abbrev dktX6_put_0 : List UInt8 := dkwX6_put_0 ++ dktX6_put_1
theorem dksX6_put_0 : cX6_put.data.toList.drop 0 = dktX6_put_0 := by decide +kernel
theorem dksX6_put_1 : cX6_put.data.toList.drop 22 = dktX6_put_1 := dk_seg dksX6_put_0 22 rfl rfl
theorem dX6_put_0 : decode cX6_put 0 = .ok (.aload_n 0, 1) := dk_42 (dk_at dksX6_put_0 0 rfl rfl)
theorem dX6_put_1 : decode cX6_put 1 = .ok (.iload_n 1, 1) := dk_27 (dk_at dksX6_put_0 1 rfl rfl)
theorem dX6_put_2 : decode cX6_put 2 = .ok (.invokevirtual 91, 3) := dk_182 0 91 (dk_at dksX6_put_0 2 rfl rfl)
theorem dX6_put_5 : decode cX6_put 5 = .ok (.ifCond .eq 20, 3) := dk_153 0 20 (dk_at dksX6_put_0 5 rfl rfl)
theorem dX6_put_8 : decode cX6_put 8 = .ok (.iload_n 2, 1) := dk_28 (dk_at dksX6_put_0 8 rfl rfl)
theorem dX6_put_9 : decode cX6_put 9 = .ok (.invokestatic 87, 3) := dk_184 0 87 (dk_at dksX6_put_0 9 rfl rfl)
theorem dX6_put_12 : decode cX6_put 12 = .ok (.ifCond .eq 13, 3) := dk_153 0 13 (dk_at dksX6_put_0 12 rfl rfl)
theorem dX6_put_15 : decode cX6_put 15 = .ok (.aload_n 0, 1) := dk_42 (dk_at dksX6_put_0 15 rfl rfl)
theorem dX6_put_16 : decode cX6_put 16 = .ok (.iload_n 1, 1) := dk_27 (dk_at dksX6_put_0 16 rfl rfl)
theorem dX6_put_17 : decode cX6_put 17 = .ok (.iconst 2, 1) := dk_5 (dk_at dksX6_put_0 17 rfl rfl)
theorem dX6_put_18 : decode cX6_put 18 = .ok (.iload_n 2, 1) := dk_28 (dk_at dksX6_put_0 18 rfl rfl)
theorem dX6_put_19 : decode cX6_put 19 = .ok (.invokevirtual 104, 3) := dk_182 0 104 (dk_at dksX6_put_0 19 rfl rfl)
theorem dX6_put_22 : decode cX6_put 22 = .ok (.goto 4, 3) := dk_167 0 4 (dk_at dksX6_put_1 0 rfl rfl)
theorem dX6_put_25 : decode cX6_put 25 = .ok (.iconst (-1), 1) := dk_2 (dk_at dksX6_put_1 3 rfl rfl)
theorem dX6_put_26 : decode cX6_put 26 = .ok (.ireturn, 1) := dk_172 (dk_at dksX6_put_1 4 rfl rfl)
abbrev cX6_take : ByteArray := prog_23_method_21_code
def yX6_take : MethodName := ⟨RX6, "take", "(IZ)I"⟩
def dkwX6_take_1 : List UInt8 := [167, 0, 4, 2, 172]
abbrev dktX6_take_1 : List UInt8 := dkwX6_take_1 ++ []
def dkwX6_take_0 : List UInt8 := [42, 27, 182, 0, 91, 153, 0, 21, 42, 27, 7, 28, 153, 0, 7, 4, 167, 0, 4, 3, 182, 0, 104]
abbrev dktX6_take_0 : List UInt8 := dkwX6_take_0 ++ dktX6_take_1
theorem dksX6_take_0 : cX6_take.data.toList.drop 0 = dktX6_take_0 := by decide +kernel
theorem dksX6_take_1 : cX6_take.data.toList.drop 23 = dktX6_take_1 := dk_seg dksX6_take_0 23 rfl rfl
theorem dX6_take_0 : decode cX6_take 0 = .ok (.aload_n 0, 1) := dk_42 (dk_at dksX6_take_0 0 rfl rfl)
theorem dX6_take_1 : decode cX6_take 1 = .ok (.iload_n 1, 1) := dk_27 (dk_at dksX6_take_0 1 rfl rfl)
theorem dX6_take_2 : decode cX6_take 2 = .ok (.invokevirtual 91, 3) := dk_182 0 91 (dk_at dksX6_take_0 2 rfl rfl)
theorem dX6_take_5 : decode cX6_take 5 = .ok (.ifCond .eq 21, 3) := dk_153 0 21 (dk_at dksX6_take_0 5 rfl rfl)
theorem dX6_take_8 : decode cX6_take 8 = .ok (.aload_n 0, 1) := dk_42 (dk_at dksX6_take_0 8 rfl rfl)
theorem dX6_take_9 : decode cX6_take 9 = .ok (.iload_n 1, 1) := dk_27 (dk_at dksX6_take_0 9 rfl rfl)
theorem dX6_take_10 : decode cX6_take 10 = .ok (.iconst 4, 1) := dk_7 (dk_at dksX6_take_0 10 rfl rfl)
theorem dX6_take_11 : decode cX6_take 11 = .ok (.iload_n 2, 1) := dk_28 (dk_at dksX6_take_0 11 rfl rfl)
theorem dX6_take_12 : decode cX6_take 12 = .ok (.ifCond .eq 7, 3) := dk_153 0 7 (dk_at dksX6_take_0 12 rfl rfl)
theorem dX6_take_15 : decode cX6_take 15 = .ok (.iconst 1, 1) := dk_4 (dk_at dksX6_take_0 15 rfl rfl)
theorem dX6_take_16 : decode cX6_take 16 = .ok (.goto 4, 3) := dk_167 0 4 (dk_at dksX6_take_0 16 rfl rfl)
theorem dX6_take_19 : decode cX6_take 19 = .ok (.iconst 0, 1) := dk_3 (dk_at dksX6_take_0 19 rfl rfl)
theorem dX6_take_20 : decode cX6_take 20 = .ok (.invokevirtual 104, 3) := dk_182 0 104 (dk_at dksX6_take_0 20 rfl rfl)
theorem dX6_take_23 : decode cX6_take 23 = .ok (.goto 4, 3) := dk_167 0 4 (dk_at dksX6_take_1 0 rfl rfl)
theorem dX6_take_26 : decode cX6_take 26 = .ok (.iconst (-1), 1) := dk_2 (dk_at dksX6_take_1 3 rfl rfl)
theorem dX6_take_27 : decode cX6_take 27 = .ok (.ireturn, 1) := dk_172 (dk_at dksX6_take_1 4 rfl rfl)
abbrev cX6_grain : ByteArray := prog_23_method_22_code
def yX6_grain : MethodName := ⟨RX6, "grain", "(II)I"⟩
def dkwX6_grain_1 : List UInt8 := [180, 0, 15, 27, 46, 62, 42, 180, 0, 15, 27, 28, 79, 29, 172]
abbrev dktX6_grain_1 : List UInt8 := dkwX6_grain_1 ++ []
def dkwX6_grain_0 : List UInt8 := [27, 184, 0, 87, 154, 0, 5, 2, 172, 28, 3, 16, 99, 184, 0, 79, 154, 0, 6, 16, 254, 172, 42]
abbrev dktX6_grain_0 : List UInt8 := dkwX6_grain_0 ++ dktX6_grain_1
theorem dksX6_grain_0 : cX6_grain.data.toList.drop 0 = dktX6_grain_0 := by decide +kernel
theorem dksX6_grain_1 : cX6_grain.data.toList.drop 23 = dktX6_grain_1 := dk_seg dksX6_grain_0 23 rfl rfl
theorem dX6_grain_0 : decode cX6_grain 0 = .ok (.iload_n 1, 1) := dk_27 (dk_at dksX6_grain_0 0 rfl rfl)
theorem dX6_grain_1 : decode cX6_grain 1 = .ok (.invokestatic 87, 3) := dk_184 0 87 (dk_at dksX6_grain_0 1 rfl rfl)
theorem dX6_grain_4 : decode cX6_grain 4 = .ok (.ifCond .ne 5, 3) := dk_154 0 5 (dk_at dksX6_grain_0 4 rfl rfl)
theorem dX6_grain_7 : decode cX6_grain 7 = .ok (.iconst (-1), 1) := dk_2 (dk_at dksX6_grain_0 7 rfl rfl)
theorem dX6_grain_8 : decode cX6_grain 8 = .ok (.ireturn, 1) := dk_172 (dk_at dksX6_grain_0 8 rfl rfl)
theorem dX6_grain_9 : decode cX6_grain 9 = .ok (.iload_n 2, 1) := dk_28 (dk_at dksX6_grain_0 9 rfl rfl)
theorem dX6_grain_10 : decode cX6_grain 10 = .ok (.iconst 0, 1) := dk_3 (dk_at dksX6_grain_0 10 rfl rfl)
theorem dX6_grain_11 : decode cX6_grain 11 = .ok (.bipush 99, 2) := dk_16 99 (dk_at dksX6_grain_0 11 rfl rfl)
theorem dX6_grain_13 : decode cX6_grain 13 = .ok (.invokestatic 79, 3) := dk_184 0 79 (dk_at dksX6_grain_0 13 rfl rfl)
theorem dX6_grain_16 : decode cX6_grain 16 = .ok (.ifCond .ne 6, 3) := dk_154 0 6 (dk_at dksX6_grain_0 16 rfl rfl)
theorem dX6_grain_19 : decode cX6_grain 19 = .ok (.bipush (-2), 2) := dk_16 254 (dk_at dksX6_grain_0 19 rfl rfl)
theorem dX6_grain_21 : decode cX6_grain 21 = .ok (.ireturn, 1) := dk_172 (dk_at dksX6_grain_0 21 rfl rfl)
theorem dX6_grain_22 : decode cX6_grain 22 = .ok (.aload_n 0, 1) := dk_42 (dk_at dksX6_grain_0 22 rfl rfl)
theorem dX6_grain_23 : decode cX6_grain 23 = .ok (.getfield 15, 3) := dk_180 0 15 (dk_at dksX6_grain_1 0 rfl rfl)
theorem dX6_grain_26 : decode cX6_grain 26 = .ok (.iload_n 1, 1) := dk_27 (dk_at dksX6_grain_1 3 rfl rfl)
theorem dX6_grain_27 : decode cX6_grain 27 = .ok (.iaload, 1) := dk_46 (dk_at dksX6_grain_1 4 rfl rfl)
theorem dX6_grain_28 : decode cX6_grain 28 = .ok (.istore_n 3, 1) := dk_62 (dk_at dksX6_grain_1 5 rfl rfl)
theorem dX6_grain_29 : decode cX6_grain 29 = .ok (.aload_n 0, 1) := dk_42 (dk_at dksX6_grain_1 6 rfl rfl)
theorem dX6_grain_30 : decode cX6_grain 30 = .ok (.getfield 15, 3) := dk_180 0 15 (dk_at dksX6_grain_1 7 rfl rfl)
theorem dX6_grain_33 : decode cX6_grain 33 = .ok (.iload_n 1, 1) := dk_27 (dk_at dksX6_grain_1 10 rfl rfl)
theorem dX6_grain_34 : decode cX6_grain 34 = .ok (.iload_n 2, 1) := dk_28 (dk_at dksX6_grain_1 11 rfl rfl)
theorem dX6_grain_35 : decode cX6_grain 35 = .ok (.iastore, 1) := dk_79 (dk_at dksX6_grain_1 12 rfl rfl)
theorem dX6_grain_36 : decode cX6_grain 36 = .ok (.iload_n 3, 1) := dk_29 (dk_at dksX6_grain_1 13 rfl rfl)
theorem dX6_grain_37 : decode cX6_grain 37 = .ok (.ireturn, 1) := dk_172 (dk_at dksX6_grain_1 14 rfl rfl)
abbrev cX6_row : ByteArray := prog_23_method_23_code
def yX6_row : MethodName := ⟨RX6, "row", "(III)I"⟩
def dkwX6_row_2 : List UInt8 := [96, 29, 182, 0, 104, 167, 0, 5, 16, 253, 172]
abbrev dktX6_row_2 : List UInt8 := dkwX6_row_2 ++ []
def dkwX6_row_1 : List UInt8 := [184, 0, 79, 154, 0, 6, 16, 254, 172, 42, 27, 3, 182, 0, 83, 16, 6, 160, 0, 15, 42, 27, 8, 28]
abbrev dktX6_row_1 : List UInt8 := dkwX6_row_1 ++ dktX6_row_2
def dkwX6_row_0 : List UInt8 := [42, 27, 182, 0, 91, 153, 0, 12, 28, 3, 6, 184, 0, 79, 154, 0, 5, 2, 172, 29, 3, 16, 9]
abbrev dktX6_row_0 : List UInt8 := dkwX6_row_0 ++ dktX6_row_1
theorem dksX6_row_0 : cX6_row.data.toList.drop 0 = dktX6_row_0 := by decide +kernel
theorem dksX6_row_1 : cX6_row.data.toList.drop 23 = dktX6_row_1 := dk_seg dksX6_row_0 23 rfl rfl
theorem dksX6_row_2 : cX6_row.data.toList.drop 47 = dktX6_row_2 := dk_seg dksX6_row_1 24 rfl rfl
theorem dX6_row_0 : decode cX6_row 0 = .ok (.aload_n 0, 1) := dk_42 (dk_at dksX6_row_0 0 rfl rfl)
theorem dX6_row_1 : decode cX6_row 1 = .ok (.iload_n 1, 1) := dk_27 (dk_at dksX6_row_0 1 rfl rfl)
theorem dX6_row_2 : decode cX6_row 2 = .ok (.invokevirtual 91, 3) := dk_182 0 91 (dk_at dksX6_row_0 2 rfl rfl)
theorem dX6_row_5 : decode cX6_row 5 = .ok (.ifCond .eq 12, 3) := dk_153 0 12 (dk_at dksX6_row_0 5 rfl rfl)
theorem dX6_row_8 : decode cX6_row 8 = .ok (.iload_n 2, 1) := dk_28 (dk_at dksX6_row_0 8 rfl rfl)
theorem dX6_row_9 : decode cX6_row 9 = .ok (.iconst 0, 1) := dk_3 (dk_at dksX6_row_0 9 rfl rfl)
theorem dX6_row_10 : decode cX6_row 10 = .ok (.iconst 3, 1) := dk_6 (dk_at dksX6_row_0 10 rfl rfl)
theorem dX6_row_11 : decode cX6_row 11 = .ok (.invokestatic 79, 3) := dk_184 0 79 (dk_at dksX6_row_0 11 rfl rfl)
theorem dX6_row_14 : decode cX6_row 14 = .ok (.ifCond .ne 5, 3) := dk_154 0 5 (dk_at dksX6_row_0 14 rfl rfl)
theorem dX6_row_17 : decode cX6_row 17 = .ok (.iconst (-1), 1) := dk_2 (dk_at dksX6_row_0 17 rfl rfl)
theorem dX6_row_18 : decode cX6_row 18 = .ok (.ireturn, 1) := dk_172 (dk_at dksX6_row_0 18 rfl rfl)
theorem dX6_row_19 : decode cX6_row 19 = .ok (.iload_n 3, 1) := dk_29 (dk_at dksX6_row_0 19 rfl rfl)
theorem dX6_row_20 : decode cX6_row 20 = .ok (.iconst 0, 1) := dk_3 (dk_at dksX6_row_0 20 rfl rfl)
theorem dX6_row_21 : decode cX6_row 21 = .ok (.bipush 9, 2) := dk_16 9 (dk_at dksX6_row_0 21 rfl rfl)
theorem dX6_row_23 : decode cX6_row 23 = .ok (.invokestatic 79, 3) := dk_184 0 79 (dk_at dksX6_row_1 0 rfl rfl)
theorem dX6_row_26 : decode cX6_row 26 = .ok (.ifCond .ne 6, 3) := dk_154 0 6 (dk_at dksX6_row_1 3 rfl rfl)
theorem dX6_row_29 : decode cX6_row 29 = .ok (.bipush (-2), 2) := dk_16 254 (dk_at dksX6_row_1 6 rfl rfl)
theorem dX6_row_31 : decode cX6_row 31 = .ok (.ireturn, 1) := dk_172 (dk_at dksX6_row_1 8 rfl rfl)
theorem dX6_row_32 : decode cX6_row 32 = .ok (.aload_n 0, 1) := dk_42 (dk_at dksX6_row_1 9 rfl rfl)
theorem dX6_row_33 : decode cX6_row 33 = .ok (.iload_n 1, 1) := dk_27 (dk_at dksX6_row_1 10 rfl rfl)
theorem dX6_row_34 : decode cX6_row 34 = .ok (.iconst 0, 1) := dk_3 (dk_at dksX6_row_1 11 rfl rfl)
theorem dX6_row_35 : decode cX6_row 35 = .ok (.invokevirtual 83, 3) := dk_182 0 83 (dk_at dksX6_row_1 12 rfl rfl)
theorem dX6_row_38 : decode cX6_row 38 = .ok (.bipush 6, 2) := dk_16 6 (dk_at dksX6_row_1 15 rfl rfl)
theorem dX6_row_40 : decode cX6_row 40 = .ok (.if_icmp .ne 15, 3) := dk_160 0 15 (dk_at dksX6_row_1 17 rfl rfl)
theorem dX6_row_43 : decode cX6_row 43 = .ok (.aload_n 0, 1) := dk_42 (dk_at dksX6_row_1 20 rfl rfl)
theorem dX6_row_44 : decode cX6_row 44 = .ok (.iload_n 1, 1) := dk_27 (dk_at dksX6_row_1 21 rfl rfl)
theorem dX6_row_45 : decode cX6_row 45 = .ok (.iconst 5, 1) := dk_8 (dk_at dksX6_row_1 22 rfl rfl)
theorem dX6_row_46 : decode cX6_row 46 = .ok (.iload_n 2, 1) := dk_28 (dk_at dksX6_row_1 23 rfl rfl)
theorem dX6_row_47 : decode cX6_row 47 = .ok (.iadd, 1) := dk_96 (dk_at dksX6_row_2 0 rfl rfl)
theorem dX6_row_48 : decode cX6_row 48 = .ok (.iload_n 3, 1) := dk_29 (dk_at dksX6_row_2 1 rfl rfl)
theorem dX6_row_49 : decode cX6_row 49 = .ok (.invokevirtual 104, 3) := dk_182 0 104 (dk_at dksX6_row_2 2 rfl rfl)
theorem dX6_row_52 : decode cX6_row 52 = .ok (.goto 5, 3) := dk_167 0 5 (dk_at dksX6_row_2 5 rfl rfl)
theorem dX6_row_55 : decode cX6_row 55 = .ok (.bipush (-3), 2) := dk_16 253 (dk_at dksX6_row_2 8 rfl rfl)
theorem dX6_row_57 : decode cX6_row 57 = .ok (.ireturn, 1) := dk_172 (dk_at dksX6_row_2 10 rfl rfl)
abbrev cX6_feed : ByteArray := prog_23_method_24_code
def yX6_feed : MethodName := ⟨RX6, "feed", "(I)I"⟩
def dkwX6_feed_2 : List UInt8 := [180, 0, 108, 172]
abbrev dktX6_feed_2 : List UInt8 := dkwX6_feed_2 ++ []
def dkwX6_feed_1 : List UInt8 := [172, 42, 180, 0, 25, 42, 180, 0, 108, 27, 79, 42, 89, 180, 0, 108, 4, 96, 181, 0, 108, 42]
abbrev dktX6_feed_1 : List UInt8 := dkwX6_feed_1 ++ dktX6_feed_2
def dkwX6_feed_0 : List UInt8 := [27, 3, 16, 127, 184, 0, 79, 154, 0, 6, 16, 254, 172, 42, 180, 0, 108, 16, 100, 160, 0, 6, 16, 252]
abbrev dktX6_feed_0 : List UInt8 := dkwX6_feed_0 ++ dktX6_feed_1
theorem dksX6_feed_0 : cX6_feed.data.toList.drop 0 = dktX6_feed_0 := by decide +kernel
theorem dksX6_feed_1 : cX6_feed.data.toList.drop 24 = dktX6_feed_1 := dk_seg dksX6_feed_0 24 rfl rfl
theorem dksX6_feed_2 : cX6_feed.data.toList.drop 46 = dktX6_feed_2 := dk_seg dksX6_feed_1 22 rfl rfl
theorem dX6_feed_0 : decode cX6_feed 0 = .ok (.iload_n 1, 1) := dk_27 (dk_at dksX6_feed_0 0 rfl rfl)
theorem dX6_feed_1 : decode cX6_feed 1 = .ok (.iconst 0, 1) := dk_3 (dk_at dksX6_feed_0 1 rfl rfl)
theorem dX6_feed_2 : decode cX6_feed 2 = .ok (.bipush 127, 2) := dk_16 127 (dk_at dksX6_feed_0 2 rfl rfl)
theorem dX6_feed_4 : decode cX6_feed 4 = .ok (.invokestatic 79, 3) := dk_184 0 79 (dk_at dksX6_feed_0 4 rfl rfl)
theorem dX6_feed_7 : decode cX6_feed 7 = .ok (.ifCond .ne 6, 3) := dk_154 0 6 (dk_at dksX6_feed_0 7 rfl rfl)
theorem dX6_feed_10 : decode cX6_feed 10 = .ok (.bipush (-2), 2) := dk_16 254 (dk_at dksX6_feed_0 10 rfl rfl)
theorem dX6_feed_12 : decode cX6_feed 12 = .ok (.ireturn, 1) := dk_172 (dk_at dksX6_feed_0 12 rfl rfl)
theorem dX6_feed_13 : decode cX6_feed 13 = .ok (.aload_n 0, 1) := dk_42 (dk_at dksX6_feed_0 13 rfl rfl)
theorem dX6_feed_14 : decode cX6_feed 14 = .ok (.getfield 108, 3) := dk_180 0 108 (dk_at dksX6_feed_0 14 rfl rfl)
theorem dX6_feed_17 : decode cX6_feed 17 = .ok (.bipush 100, 2) := dk_16 100 (dk_at dksX6_feed_0 17 rfl rfl)
theorem dX6_feed_19 : decode cX6_feed 19 = .ok (.if_icmp .ne 6, 3) := dk_160 0 6 (dk_at dksX6_feed_0 19 rfl rfl)
theorem dX6_feed_22 : decode cX6_feed 22 = .ok (.bipush (-4), 2) := dk_16 252 (dk_at dksX6_feed_0 22 rfl rfl)
theorem dX6_feed_24 : decode cX6_feed 24 = .ok (.ireturn, 1) := dk_172 (dk_at dksX6_feed_1 0 rfl rfl)
theorem dX6_feed_25 : decode cX6_feed 25 = .ok (.aload_n 0, 1) := dk_42 (dk_at dksX6_feed_1 1 rfl rfl)
theorem dX6_feed_26 : decode cX6_feed 26 = .ok (.getfield 25, 3) := dk_180 0 25 (dk_at dksX6_feed_1 2 rfl rfl)
theorem dX6_feed_29 : decode cX6_feed 29 = .ok (.aload_n 0, 1) := dk_42 (dk_at dksX6_feed_1 5 rfl rfl)
theorem dX6_feed_30 : decode cX6_feed 30 = .ok (.getfield 108, 3) := dk_180 0 108 (dk_at dksX6_feed_1 6 rfl rfl)
theorem dX6_feed_33 : decode cX6_feed 33 = .ok (.iload_n 1, 1) := dk_27 (dk_at dksX6_feed_1 9 rfl rfl)
theorem dX6_feed_34 : decode cX6_feed 34 = .ok (.iastore, 1) := dk_79 (dk_at dksX6_feed_1 10 rfl rfl)
theorem dX6_feed_35 : decode cX6_feed 35 = .ok (.aload_n 0, 1) := dk_42 (dk_at dksX6_feed_1 11 rfl rfl)
theorem dX6_feed_36 : decode cX6_feed 36 = .ok (.dup, 1) := dk_89 (dk_at dksX6_feed_1 12 rfl rfl)
theorem dX6_feed_37 : decode cX6_feed 37 = .ok (.getfield 108, 3) := dk_180 0 108 (dk_at dksX6_feed_1 13 rfl rfl)
theorem dX6_feed_40 : decode cX6_feed 40 = .ok (.iconst 1, 1) := dk_4 (dk_at dksX6_feed_1 16 rfl rfl)
theorem dX6_feed_41 : decode cX6_feed 41 = .ok (.iadd, 1) := dk_96 (dk_at dksX6_feed_1 17 rfl rfl)
theorem dX6_feed_42 : decode cX6_feed 42 = .ok (.putfield 108, 3) := dk_181 0 108 (dk_at dksX6_feed_1 18 rfl rfl)
theorem dX6_feed_45 : decode cX6_feed 45 = .ok (.aload_n 0, 1) := dk_42 (dk_at dksX6_feed_1 21 rfl rfl)
theorem dX6_feed_46 : decode cX6_feed 46 = .ok (.getfield 108, 3) := dk_180 0 108 (dk_at dksX6_feed_2 0 rfl rfl)
theorem dX6_feed_49 : decode cX6_feed 49 = .ok (.ireturn, 1) := dk_172 (dk_at dksX6_feed_2 3 rfl rfl)
abbrev cX6_fortress : ByteArray := prog_23_method_36_code
def yX6_fortress : MethodName := ⟨RX6, "fortress", "()I"⟩
def dkwX6_fortress_6 : List UInt8 := [100, 172]
abbrev dktX6_fortress_6 : List UInt8 := dkwX6_fortress_6 ++ []
def dkwX6_fortress_5 : List UInt8 := [180, 0, 163, 4, 96, 181, 0, 163, 42, 180, 0, 15, 16, 83, 42, 180, 0, 163, 79, 42, 180, 0, 163, 4]
abbrev dktX6_fortress_5 : List UInt8 := dkwX6_fortress_5 ++ dktX6_fortress_6
def dkwX6_fortress_4 : List UInt8 := [46, 79, 132, 1, 1, 167, 255, 225, 42, 180, 0, 31, 42, 180, 0, 163, 42, 180, 0, 118, 79, 42, 89]
abbrev dktX6_fortress_4 : List UInt8 := dkwX6_fortress_4 ++ dktX6_fortress_5
def dkwX6_fortress_3 : List UInt8 := [180, 0, 118, 162, 0, 29, 42, 180, 0, 28, 16, 100, 42, 180, 0, 163, 104, 27, 96, 42, 180, 0, 34, 27]
abbrev dktX6_fortress_3 : List UInt8 := dkwX6_fortress_3 ++ dktX6_fortress_4
def dkwX6_fortress_2 : List UInt8 := [42, 3, 181, 0, 108, 42, 182, 0, 160, 154, 0, 11, 16, 246, 42, 180, 0, 115, 100, 172, 3, 60, 27, 42]
abbrev dktX6_fortress_2 : List UInt8 := dkwX6_fortress_2 ++ dktX6_fortress_3
def dkwX6_fortress_1 : List UInt8 := [180, 0, 118, 162, 0, 21, 42, 180, 0, 34, 27, 42, 180, 0, 25, 27, 46, 79, 132, 1, 1, 167, 255, 233]
abbrev dktX6_fortress_1 : List UInt8 := dkwX6_fortress_1 ++ dktX6_fortress_2
def dkwX6_fortress_0 : List UInt8 := [42, 180, 0, 163, 16, 6, 160, 0, 6, 16, 252, 172, 42, 42, 180, 0, 108, 181, 0, 118, 3, 60, 27, 42]
abbrev dktX6_fortress_0 : List UInt8 := dkwX6_fortress_0 ++ dktX6_fortress_1
theorem dksX6_fortress_0 : cX6_fortress.data.toList.drop 0 = dktX6_fortress_0 := by decide +kernel
theorem dksX6_fortress_1 : cX6_fortress.data.toList.drop 24 = dktX6_fortress_1 := dk_seg dksX6_fortress_0 24 rfl rfl
theorem dksX6_fortress_2 : cX6_fortress.data.toList.drop 48 = dktX6_fortress_2 := dk_seg dksX6_fortress_1 24 rfl rfl
theorem dksX6_fortress_3 : cX6_fortress.data.toList.drop 72 = dktX6_fortress_3 := dk_seg dksX6_fortress_2 24 rfl rfl
theorem dksX6_fortress_4 : cX6_fortress.data.toList.drop 96 = dktX6_fortress_4 := dk_seg dksX6_fortress_3 24 rfl rfl
theorem dksX6_fortress_5 : cX6_fortress.data.toList.drop 119 = dktX6_fortress_5 := dk_seg dksX6_fortress_4 23 rfl rfl
theorem dksX6_fortress_6 : cX6_fortress.data.toList.drop 143 = dktX6_fortress_6 := dk_seg dksX6_fortress_5 24 rfl rfl
theorem dX6_fortress_0 : decode cX6_fortress 0 = .ok (.aload_n 0, 1) := dk_42 (dk_at dksX6_fortress_0 0 rfl rfl)
theorem dX6_fortress_1 : decode cX6_fortress 1 = .ok (.getfield 163, 3) := dk_180 0 163 (dk_at dksX6_fortress_0 1 rfl rfl)
theorem dX6_fortress_4 : decode cX6_fortress 4 = .ok (.bipush 6, 2) := dk_16 6 (dk_at dksX6_fortress_0 4 rfl rfl)
theorem dX6_fortress_6 : decode cX6_fortress 6 = .ok (.if_icmp .ne 6, 3) := dk_160 0 6 (dk_at dksX6_fortress_0 6 rfl rfl)
theorem dX6_fortress_9 : decode cX6_fortress 9 = .ok (.bipush (-4), 2) := dk_16 252 (dk_at dksX6_fortress_0 9 rfl rfl)
theorem dX6_fortress_11 : decode cX6_fortress 11 = .ok (.ireturn, 1) := dk_172 (dk_at dksX6_fortress_0 11 rfl rfl)
theorem dX6_fortress_12 : decode cX6_fortress 12 = .ok (.aload_n 0, 1) := dk_42 (dk_at dksX6_fortress_0 12 rfl rfl)
theorem dX6_fortress_13 : decode cX6_fortress 13 = .ok (.aload_n 0, 1) := dk_42 (dk_at dksX6_fortress_0 13 rfl rfl)
theorem dX6_fortress_14 : decode cX6_fortress 14 = .ok (.getfield 108, 3) := dk_180 0 108 (dk_at dksX6_fortress_0 14 rfl rfl)
theorem dX6_fortress_17 : decode cX6_fortress 17 = .ok (.putfield 118, 3) := dk_181 0 118 (dk_at dksX6_fortress_0 17 rfl rfl)
theorem dX6_fortress_20 : decode cX6_fortress 20 = .ok (.iconst 0, 1) := dk_3 (dk_at dksX6_fortress_0 20 rfl rfl)
theorem dX6_fortress_21 : decode cX6_fortress 21 = .ok (.istore_n 1, 1) := dk_60 (dk_at dksX6_fortress_0 21 rfl rfl)
theorem dX6_fortress_22 : decode cX6_fortress 22 = .ok (.iload_n 1, 1) := dk_27 (dk_at dksX6_fortress_0 22 rfl rfl)
theorem dX6_fortress_23 : decode cX6_fortress 23 = .ok (.aload_n 0, 1) := dk_42 (dk_at dksX6_fortress_0 23 rfl rfl)
theorem dX6_fortress_24 : decode cX6_fortress 24 = .ok (.getfield 118, 3) := dk_180 0 118 (dk_at dksX6_fortress_1 0 rfl rfl)
theorem dX6_fortress_27 : decode cX6_fortress 27 = .ok (.if_icmp .ge 21, 3) := dk_162 0 21 (dk_at dksX6_fortress_1 3 rfl rfl)
theorem dX6_fortress_30 : decode cX6_fortress 30 = .ok (.aload_n 0, 1) := dk_42 (dk_at dksX6_fortress_1 6 rfl rfl)
theorem dX6_fortress_31 : decode cX6_fortress 31 = .ok (.getfield 34, 3) := dk_180 0 34 (dk_at dksX6_fortress_1 7 rfl rfl)
theorem dX6_fortress_34 : decode cX6_fortress 34 = .ok (.iload_n 1, 1) := dk_27 (dk_at dksX6_fortress_1 10 rfl rfl)
theorem dX6_fortress_35 : decode cX6_fortress 35 = .ok (.aload_n 0, 1) := dk_42 (dk_at dksX6_fortress_1 11 rfl rfl)
theorem dX6_fortress_36 : decode cX6_fortress 36 = .ok (.getfield 25, 3) := dk_180 0 25 (dk_at dksX6_fortress_1 12 rfl rfl)
theorem dX6_fortress_39 : decode cX6_fortress 39 = .ok (.iload_n 1, 1) := dk_27 (dk_at dksX6_fortress_1 15 rfl rfl)
theorem dX6_fortress_40 : decode cX6_fortress 40 = .ok (.iaload, 1) := dk_46 (dk_at dksX6_fortress_1 16 rfl rfl)
theorem dX6_fortress_41 : decode cX6_fortress 41 = .ok (.iastore, 1) := dk_79 (dk_at dksX6_fortress_1 17 rfl rfl)
theorem dX6_fortress_42 : decode cX6_fortress 42 = .ok (.iinc 1 1, 3) := dk_132 1 1 (dk_at dksX6_fortress_1 18 rfl rfl)
theorem dX6_fortress_45 : decode cX6_fortress 45 = .ok (.goto (-23), 3) := dk_167 255 233 (dk_at dksX6_fortress_1 21 rfl rfl)
theorem dX6_fortress_48 : decode cX6_fortress 48 = .ok (.aload_n 0, 1) := dk_42 (dk_at dksX6_fortress_2 0 rfl rfl)
theorem dX6_fortress_49 : decode cX6_fortress 49 = .ok (.iconst 0, 1) := dk_3 (dk_at dksX6_fortress_2 1 rfl rfl)
theorem dX6_fortress_50 : decode cX6_fortress 50 = .ok (.putfield 108, 3) := dk_181 0 108 (dk_at dksX6_fortress_2 2 rfl rfl)
theorem dX6_fortress_53 : decode cX6_fortress 53 = .ok (.aload_n 0, 1) := dk_42 (dk_at dksX6_fortress_2 5 rfl rfl)
theorem dX6_fortress_54 : decode cX6_fortress 54 = .ok (.invokevirtual 160, 3) := dk_182 0 160 (dk_at dksX6_fortress_2 6 rfl rfl)
theorem dX6_fortress_57 : decode cX6_fortress 57 = .ok (.ifCond .ne 11, 3) := dk_154 0 11 (dk_at dksX6_fortress_2 9 rfl rfl)
theorem dX6_fortress_60 : decode cX6_fortress 60 = .ok (.bipush (-10), 2) := dk_16 246 (dk_at dksX6_fortress_2 12 rfl rfl)
theorem dX6_fortress_62 : decode cX6_fortress 62 = .ok (.aload_n 0, 1) := dk_42 (dk_at dksX6_fortress_2 14 rfl rfl)
theorem dX6_fortress_63 : decode cX6_fortress 63 = .ok (.getfield 115, 3) := dk_180 0 115 (dk_at dksX6_fortress_2 15 rfl rfl)
theorem dX6_fortress_66 : decode cX6_fortress 66 = .ok (.isub, 1) := dk_100 (dk_at dksX6_fortress_2 18 rfl rfl)
theorem dX6_fortress_67 : decode cX6_fortress 67 = .ok (.ireturn, 1) := dk_172 (dk_at dksX6_fortress_2 19 rfl rfl)
theorem dX6_fortress_68 : decode cX6_fortress 68 = .ok (.iconst 0, 1) := dk_3 (dk_at dksX6_fortress_2 20 rfl rfl)
theorem dX6_fortress_69 : decode cX6_fortress 69 = .ok (.istore_n 1, 1) := dk_60 (dk_at dksX6_fortress_2 21 rfl rfl)
theorem dX6_fortress_70 : decode cX6_fortress 70 = .ok (.iload_n 1, 1) := dk_27 (dk_at dksX6_fortress_2 22 rfl rfl)
theorem dX6_fortress_71 : decode cX6_fortress 71 = .ok (.aload_n 0, 1) := dk_42 (dk_at dksX6_fortress_2 23 rfl rfl)
theorem dX6_fortress_72 : decode cX6_fortress 72 = .ok (.getfield 118, 3) := dk_180 0 118 (dk_at dksX6_fortress_3 0 rfl rfl)
theorem dX6_fortress_75 : decode cX6_fortress 75 = .ok (.if_icmp .ge 29, 3) := dk_162 0 29 (dk_at dksX6_fortress_3 3 rfl rfl)
theorem dX6_fortress_78 : decode cX6_fortress 78 = .ok (.aload_n 0, 1) := dk_42 (dk_at dksX6_fortress_3 6 rfl rfl)
theorem dX6_fortress_79 : decode cX6_fortress 79 = .ok (.getfield 28, 3) := dk_180 0 28 (dk_at dksX6_fortress_3 7 rfl rfl)
theorem dX6_fortress_82 : decode cX6_fortress 82 = .ok (.bipush 100, 2) := dk_16 100 (dk_at dksX6_fortress_3 10 rfl rfl)
theorem dX6_fortress_84 : decode cX6_fortress 84 = .ok (.aload_n 0, 1) := dk_42 (dk_at dksX6_fortress_3 12 rfl rfl)
theorem dX6_fortress_85 : decode cX6_fortress 85 = .ok (.getfield 163, 3) := dk_180 0 163 (dk_at dksX6_fortress_3 13 rfl rfl)
theorem dX6_fortress_88 : decode cX6_fortress 88 = .ok (.imul, 1) := dk_104 (dk_at dksX6_fortress_3 16 rfl rfl)
theorem dX6_fortress_89 : decode cX6_fortress 89 = .ok (.iload_n 1, 1) := dk_27 (dk_at dksX6_fortress_3 17 rfl rfl)
theorem dX6_fortress_90 : decode cX6_fortress 90 = .ok (.iadd, 1) := dk_96 (dk_at dksX6_fortress_3 18 rfl rfl)
theorem dX6_fortress_91 : decode cX6_fortress 91 = .ok (.aload_n 0, 1) := dk_42 (dk_at dksX6_fortress_3 19 rfl rfl)
theorem dX6_fortress_92 : decode cX6_fortress 92 = .ok (.getfield 34, 3) := dk_180 0 34 (dk_at dksX6_fortress_3 20 rfl rfl)
theorem dX6_fortress_95 : decode cX6_fortress 95 = .ok (.iload_n 1, 1) := dk_27 (dk_at dksX6_fortress_3 23 rfl rfl)
theorem dX6_fortress_96 : decode cX6_fortress 96 = .ok (.iaload, 1) := dk_46 (dk_at dksX6_fortress_4 0 rfl rfl)
theorem dX6_fortress_97 : decode cX6_fortress 97 = .ok (.iastore, 1) := dk_79 (dk_at dksX6_fortress_4 1 rfl rfl)
theorem dX6_fortress_98 : decode cX6_fortress 98 = .ok (.iinc 1 1, 3) := dk_132 1 1 (dk_at dksX6_fortress_4 2 rfl rfl)
theorem dX6_fortress_101 : decode cX6_fortress 101 = .ok (.goto (-31), 3) := dk_167 255 225 (dk_at dksX6_fortress_4 5 rfl rfl)
theorem dX6_fortress_104 : decode cX6_fortress 104 = .ok (.aload_n 0, 1) := dk_42 (dk_at dksX6_fortress_4 8 rfl rfl)
theorem dX6_fortress_105 : decode cX6_fortress 105 = .ok (.getfield 31, 3) := dk_180 0 31 (dk_at dksX6_fortress_4 9 rfl rfl)
theorem dX6_fortress_108 : decode cX6_fortress 108 = .ok (.aload_n 0, 1) := dk_42 (dk_at dksX6_fortress_4 12 rfl rfl)
theorem dX6_fortress_109 : decode cX6_fortress 109 = .ok (.getfield 163, 3) := dk_180 0 163 (dk_at dksX6_fortress_4 13 rfl rfl)
theorem dX6_fortress_112 : decode cX6_fortress 112 = .ok (.aload_n 0, 1) := dk_42 (dk_at dksX6_fortress_4 16 rfl rfl)
theorem dX6_fortress_113 : decode cX6_fortress 113 = .ok (.getfield 118, 3) := dk_180 0 118 (dk_at dksX6_fortress_4 17 rfl rfl)
theorem dX6_fortress_116 : decode cX6_fortress 116 = .ok (.iastore, 1) := dk_79 (dk_at dksX6_fortress_4 20 rfl rfl)
theorem dX6_fortress_117 : decode cX6_fortress 117 = .ok (.aload_n 0, 1) := dk_42 (dk_at dksX6_fortress_4 21 rfl rfl)
theorem dX6_fortress_118 : decode cX6_fortress 118 = .ok (.dup, 1) := dk_89 (dk_at dksX6_fortress_4 22 rfl rfl)
theorem dX6_fortress_119 : decode cX6_fortress 119 = .ok (.getfield 163, 3) := dk_180 0 163 (dk_at dksX6_fortress_5 0 rfl rfl)
theorem dX6_fortress_122 : decode cX6_fortress 122 = .ok (.iconst 1, 1) := dk_4 (dk_at dksX6_fortress_5 3 rfl rfl)
theorem dX6_fortress_123 : decode cX6_fortress 123 = .ok (.iadd, 1) := dk_96 (dk_at dksX6_fortress_5 4 rfl rfl)
theorem dX6_fortress_124 : decode cX6_fortress 124 = .ok (.putfield 163, 3) := dk_181 0 163 (dk_at dksX6_fortress_5 5 rfl rfl)
theorem dX6_fortress_127 : decode cX6_fortress 127 = .ok (.aload_n 0, 1) := dk_42 (dk_at dksX6_fortress_5 8 rfl rfl)
theorem dX6_fortress_128 : decode cX6_fortress 128 = .ok (.getfield 15, 3) := dk_180 0 15 (dk_at dksX6_fortress_5 9 rfl rfl)
theorem dX6_fortress_131 : decode cX6_fortress 131 = .ok (.bipush 83, 2) := dk_16 83 (dk_at dksX6_fortress_5 12 rfl rfl)
theorem dX6_fortress_133 : decode cX6_fortress 133 = .ok (.aload_n 0, 1) := dk_42 (dk_at dksX6_fortress_5 14 rfl rfl)
theorem dX6_fortress_134 : decode cX6_fortress 134 = .ok (.getfield 163, 3) := dk_180 0 163 (dk_at dksX6_fortress_5 15 rfl rfl)
theorem dX6_fortress_137 : decode cX6_fortress 137 = .ok (.iastore, 1) := dk_79 (dk_at dksX6_fortress_5 18 rfl rfl)
theorem dX6_fortress_138 : decode cX6_fortress 138 = .ok (.aload_n 0, 1) := dk_42 (dk_at dksX6_fortress_5 19 rfl rfl)
theorem dX6_fortress_139 : decode cX6_fortress 139 = .ok (.getfield 163, 3) := dk_180 0 163 (dk_at dksX6_fortress_5 20 rfl rfl)
theorem dX6_fortress_142 : decode cX6_fortress 142 = .ok (.iconst 1, 1) := dk_4 (dk_at dksX6_fortress_5 23 rfl rfl)
theorem dX6_fortress_143 : decode cX6_fortress 143 = .ok (.isub, 1) := dk_100 (dk_at dksX6_fortress_6 0 rfl rfl)
theorem dX6_fortress_144 : decode cX6_fortress 144 = .ok (.ireturn, 1) := dk_172 (dk_at dksX6_fortress_6 1 rfl rfl)
abbrev cX6_told : ByteArray := prog_23_method_51_code
def yX6_told : MethodName := ⟨RX6, "told", "(I)I"⟩
def dkwX6_told_5 : List UInt8 := [2, 172]
abbrev dktX6_told_5 : List UInt8 := dkwX6_told_5 ++ []
def dkwX6_told_4 : List UInt8 := [167, 0, 25, 27, 16, 20, 100, 184, 0, 87, 153, 0, 14, 42, 27, 16, 20, 100, 182, 0, 218, 167, 0, 4]
abbrev dktX6_told_4 : List UInt8 := dkwX6_told_4 ++ dktX6_told_5
def dkwX6_told_3 : List UInt8 := [182, 0, 215, 172, 27, 16, 10, 100, 184, 0, 87, 153, 0, 15, 42, 180, 0, 15, 27, 16, 10, 100, 46]
abbrev dktX6_told_3 : List UInt8 := dkwX6_told_3 ++ dktX6_told_4
def dkwX6_told_2 : List UInt8 := [42, 180, 0, 15, 16, 82, 46, 172, 42, 182, 0, 189, 172, 42, 182, 0, 200, 172, 42, 182, 0, 212, 172, 42]
abbrev dktX6_told_2 : List UInt8 := dkwX6_told_2 ++ dktX6_told_3
def dkwX6_told_1 : List UInt8 := [170, 0, 0, 0, 0, 0, 63, 0, 0, 0, 0, 0, 0, 0, 4, 0, 0, 0, 35, 0, 0, 0, 43, 0, 0, 0, 48, 0, 0, 0, 53, 0, 0, 0, 58]
abbrev dktX6_told_1 : List UInt8 := dkwX6_told_1 ++ dktX6_told_2
def dkwX6_told_0 : List UInt8 := [27]
abbrev dktX6_told_0 : List UInt8 := dkwX6_told_0 ++ dktX6_told_1
theorem dksX6_told_0 : cX6_told.data.toList.drop 0 = dktX6_told_0 := by decide +kernel
theorem dksX6_told_1 : cX6_told.data.toList.drop 1 = dktX6_told_1 := dk_seg dksX6_told_0 1 rfl rfl
theorem dksX6_told_2 : cX6_told.data.toList.drop 36 = dktX6_told_2 := dk_seg dksX6_told_1 35 rfl rfl
theorem dksX6_told_3 : cX6_told.data.toList.drop 60 = dktX6_told_3 := dk_seg dksX6_told_2 24 rfl rfl
theorem dksX6_told_4 : cX6_told.data.toList.drop 83 = dktX6_told_4 := dk_seg dksX6_told_3 23 rfl rfl
theorem dksX6_told_5 : cX6_told.data.toList.drop 107 = dktX6_told_5 := dk_seg dksX6_told_4 24 rfl rfl
theorem dX6_told_0 : decode cX6_told 0 = .ok (.iload_n 1, 1) := dk_27 (dk_at dksX6_told_0 0 rfl rfl)
theorem dX6_told_1 : decode cX6_told 1 = .ok (.tableswitch 63 0 4 #[35, 43, 48, 53, 58], 35) := by decide +kernel
theorem dX6_told_36 : decode cX6_told 36 = .ok (.aload_n 0, 1) := dk_42 (dk_at dksX6_told_2 0 rfl rfl)
theorem dX6_told_37 : decode cX6_told 37 = .ok (.getfield 15, 3) := dk_180 0 15 (dk_at dksX6_told_2 1 rfl rfl)
theorem dX6_told_40 : decode cX6_told 40 = .ok (.bipush 82, 2) := dk_16 82 (dk_at dksX6_told_2 4 rfl rfl)
theorem dX6_told_42 : decode cX6_told 42 = .ok (.iaload, 1) := dk_46 (dk_at dksX6_told_2 6 rfl rfl)
theorem dX6_told_43 : decode cX6_told 43 = .ok (.ireturn, 1) := dk_172 (dk_at dksX6_told_2 7 rfl rfl)
theorem dX6_told_44 : decode cX6_told 44 = .ok (.aload_n 0, 1) := dk_42 (dk_at dksX6_told_2 8 rfl rfl)
theorem dX6_told_45 : decode cX6_told 45 = .ok (.invokevirtual 189, 3) := dk_182 0 189 (dk_at dksX6_told_2 9 rfl rfl)
theorem dX6_told_48 : decode cX6_told 48 = .ok (.ireturn, 1) := dk_172 (dk_at dksX6_told_2 12 rfl rfl)
theorem dX6_told_49 : decode cX6_told 49 = .ok (.aload_n 0, 1) := dk_42 (dk_at dksX6_told_2 13 rfl rfl)
theorem dX6_told_50 : decode cX6_told 50 = .ok (.invokevirtual 200, 3) := dk_182 0 200 (dk_at dksX6_told_2 14 rfl rfl)
theorem dX6_told_53 : decode cX6_told 53 = .ok (.ireturn, 1) := dk_172 (dk_at dksX6_told_2 17 rfl rfl)
theorem dX6_told_54 : decode cX6_told 54 = .ok (.aload_n 0, 1) := dk_42 (dk_at dksX6_told_2 18 rfl rfl)
theorem dX6_told_55 : decode cX6_told 55 = .ok (.invokevirtual 212, 3) := dk_182 0 212 (dk_at dksX6_told_2 19 rfl rfl)
theorem dX6_told_58 : decode cX6_told 58 = .ok (.ireturn, 1) := dk_172 (dk_at dksX6_told_2 22 rfl rfl)
theorem dX6_told_59 : decode cX6_told 59 = .ok (.aload_n 0, 1) := dk_42 (dk_at dksX6_told_2 23 rfl rfl)
theorem dX6_told_60 : decode cX6_told 60 = .ok (.invokevirtual 215, 3) := dk_182 0 215 (dk_at dksX6_told_3 0 rfl rfl)
theorem dX6_told_63 : decode cX6_told 63 = .ok (.ireturn, 1) := dk_172 (dk_at dksX6_told_3 3 rfl rfl)
theorem dX6_told_64 : decode cX6_told 64 = .ok (.iload_n 1, 1) := dk_27 (dk_at dksX6_told_3 4 rfl rfl)
theorem dX6_told_65 : decode cX6_told 65 = .ok (.bipush 10, 2) := dk_16 10 (dk_at dksX6_told_3 5 rfl rfl)
theorem dX6_told_67 : decode cX6_told 67 = .ok (.isub, 1) := dk_100 (dk_at dksX6_told_3 7 rfl rfl)
theorem dX6_told_68 : decode cX6_told 68 = .ok (.invokestatic 87, 3) := dk_184 0 87 (dk_at dksX6_told_3 8 rfl rfl)
theorem dX6_told_71 : decode cX6_told 71 = .ok (.ifCond .eq 15, 3) := dk_153 0 15 (dk_at dksX6_told_3 11 rfl rfl)
theorem dX6_told_74 : decode cX6_told 74 = .ok (.aload_n 0, 1) := dk_42 (dk_at dksX6_told_3 14 rfl rfl)
theorem dX6_told_75 : decode cX6_told 75 = .ok (.getfield 15, 3) := dk_180 0 15 (dk_at dksX6_told_3 15 rfl rfl)
theorem dX6_told_78 : decode cX6_told 78 = .ok (.iload_n 1, 1) := dk_27 (dk_at dksX6_told_3 18 rfl rfl)
theorem dX6_told_79 : decode cX6_told 79 = .ok (.bipush 10, 2) := dk_16 10 (dk_at dksX6_told_3 19 rfl rfl)
theorem dX6_told_81 : decode cX6_told 81 = .ok (.isub, 1) := dk_100 (dk_at dksX6_told_3 21 rfl rfl)
theorem dX6_told_82 : decode cX6_told 82 = .ok (.iaload, 1) := dk_46 (dk_at dksX6_told_3 22 rfl rfl)
theorem dX6_told_83 : decode cX6_told 83 = .ok (.goto 25, 3) := dk_167 0 25 (dk_at dksX6_told_4 0 rfl rfl)
theorem dX6_told_86 : decode cX6_told 86 = .ok (.iload_n 1, 1) := dk_27 (dk_at dksX6_told_4 3 rfl rfl)
theorem dX6_told_87 : decode cX6_told 87 = .ok (.bipush 20, 2) := dk_16 20 (dk_at dksX6_told_4 4 rfl rfl)
theorem dX6_told_89 : decode cX6_told 89 = .ok (.isub, 1) := dk_100 (dk_at dksX6_told_4 6 rfl rfl)
theorem dX6_told_90 : decode cX6_told 90 = .ok (.invokestatic 87, 3) := dk_184 0 87 (dk_at dksX6_told_4 7 rfl rfl)
theorem dX6_told_93 : decode cX6_told 93 = .ok (.ifCond .eq 14, 3) := dk_153 0 14 (dk_at dksX6_told_4 10 rfl rfl)
theorem dX6_told_96 : decode cX6_told 96 = .ok (.aload_n 0, 1) := dk_42 (dk_at dksX6_told_4 13 rfl rfl)
theorem dX6_told_97 : decode cX6_told 97 = .ok (.iload_n 1, 1) := dk_27 (dk_at dksX6_told_4 14 rfl rfl)
theorem dX6_told_98 : decode cX6_told 98 = .ok (.bipush 20, 2) := dk_16 20 (dk_at dksX6_told_4 15 rfl rfl)
theorem dX6_told_100 : decode cX6_told 100 = .ok (.isub, 1) := dk_100 (dk_at dksX6_told_4 17 rfl rfl)
theorem dX6_told_101 : decode cX6_told 101 = .ok (.invokevirtual 218, 3) := dk_182 0 218 (dk_at dksX6_told_4 18 rfl rfl)
theorem dX6_told_104 : decode cX6_told 104 = .ok (.goto 4, 3) := dk_167 0 4 (dk_at dksX6_told_4 21 rfl rfl)
theorem dX6_told_107 : decode cX6_told 107 = .ok (.iconst (-1), 1) := dk_2 (dk_at dksX6_told_5 0 rfl rfl)
theorem dX6_told_108 : decode cX6_told 108 = .ok (.ireturn, 1) := dk_172 (dk_at dksX6_told_5 1 rfl rfl)
abbrev cX6_eatNow : ByteArray := prog_23_method_42_code
def yX6_eatNow : MethodName := ⟨RX6, "eatNow", "()I"⟩
def dkwX6_eatNow_0 : List UInt8 := [42, 3, 3, 182, 0, 175, 42, 180, 0, 151, 172]
abbrev dktX6_eatNow_0 : List UInt8 := dkwX6_eatNow_0 ++ []
theorem dksX6_eatNow_0 : cX6_eatNow.data.toList.drop 0 = dktX6_eatNow_0 := by decide +kernel
theorem dX6_eatNow_0 : decode cX6_eatNow 0 = .ok (.aload_n 0, 1) := dk_42 (dk_at dksX6_eatNow_0 0 rfl rfl)
theorem dX6_eatNow_1 : decode cX6_eatNow 1 = .ok (.iconst 0, 1) := dk_3 (dk_at dksX6_eatNow_0 1 rfl rfl)
theorem dX6_eatNow_2 : decode cX6_eatNow 2 = .ok (.iconst 0, 1) := dk_3 (dk_at dksX6_eatNow_0 2 rfl rfl)
theorem dX6_eatNow_3 : decode cX6_eatNow 3 = .ok (.invokevirtual 175, 3) := dk_182 0 175 (dk_at dksX6_eatNow_0 3 rfl rfl)
theorem dX6_eatNow_6 : decode cX6_eatNow 6 = .ok (.aload_n 0, 1) := dk_42 (dk_at dksX6_eatNow_0 6 rfl rfl)
theorem dX6_eatNow_7 : decode cX6_eatNow 7 = .ok (.getfield 151, 3) := dk_180 0 151 (dk_at dksX6_eatNow_0 7 rfl rfl)
theorem dX6_eatNow_10 : decode cX6_eatNow 10 = .ok (.ireturn, 1) := dk_172 (dk_at dksX6_eatNow_0 10 rfl rfl)
abbrev cX6_open : ByteArray := prog_23_method_44_code
def yX6_open : MethodName := ⟨RX6, "open", "()I"⟩
def dkwX6_open_2 : List UInt8 := [182, 0, 83, 120, 167, 0, 4, 3, 128, 60, 132, 2, 1, 167, 255, 200, 27, 172]
abbrev dktX6_open_2 : List UInt8 := dkwX6_open_2 ++ []
def dkwX6_open_1 : List UInt8 := [42, 42, 28, 6, 182, 0, 83, 42, 28, 5, 182, 0, 83, 182, 0, 183, 153, 0, 14, 4, 42, 28, 6]
abbrev dktX6_open_1 : List UInt8 := dkwX6_open_1 ++ dktX6_open_2
def dkwX6_open_0 : List UInt8 := [3, 60, 3, 61, 28, 42, 180, 0, 15, 16, 80, 46, 162, 0, 51, 27, 42, 28, 182, 0, 166, 154, 0, 33]
abbrev dktX6_open_0 : List UInt8 := dkwX6_open_0 ++ dktX6_open_1
theorem dksX6_open_0 : cX6_open.data.toList.drop 0 = dktX6_open_0 := by decide +kernel
theorem dksX6_open_1 : cX6_open.data.toList.drop 24 = dktX6_open_1 := dk_seg dksX6_open_0 24 rfl rfl
theorem dksX6_open_2 : cX6_open.data.toList.drop 47 = dktX6_open_2 := dk_seg dksX6_open_1 23 rfl rfl
theorem dX6_open_0 : decode cX6_open 0 = .ok (.iconst 0, 1) := dk_3 (dk_at dksX6_open_0 0 rfl rfl)
theorem dX6_open_1 : decode cX6_open 1 = .ok (.istore_n 1, 1) := dk_60 (dk_at dksX6_open_0 1 rfl rfl)
theorem dX6_open_2 : decode cX6_open 2 = .ok (.iconst 0, 1) := dk_3 (dk_at dksX6_open_0 2 rfl rfl)
theorem dX6_open_3 : decode cX6_open 3 = .ok (.istore_n 2, 1) := dk_61 (dk_at dksX6_open_0 3 rfl rfl)
theorem dX6_open_4 : decode cX6_open 4 = .ok (.iload_n 2, 1) := dk_28 (dk_at dksX6_open_0 4 rfl rfl)
theorem dX6_open_5 : decode cX6_open 5 = .ok (.aload_n 0, 1) := dk_42 (dk_at dksX6_open_0 5 rfl rfl)
theorem dX6_open_6 : decode cX6_open 6 = .ok (.getfield 15, 3) := dk_180 0 15 (dk_at dksX6_open_0 6 rfl rfl)
theorem dX6_open_9 : decode cX6_open 9 = .ok (.bipush 80, 2) := dk_16 80 (dk_at dksX6_open_0 9 rfl rfl)
theorem dX6_open_11 : decode cX6_open 11 = .ok (.iaload, 1) := dk_46 (dk_at dksX6_open_0 11 rfl rfl)
theorem dX6_open_12 : decode cX6_open 12 = .ok (.if_icmp .ge 51, 3) := dk_162 0 51 (dk_at dksX6_open_0 12 rfl rfl)
theorem dX6_open_15 : decode cX6_open 15 = .ok (.iload_n 1, 1) := dk_27 (dk_at dksX6_open_0 15 rfl rfl)
theorem dX6_open_16 : decode cX6_open 16 = .ok (.aload_n 0, 1) := dk_42 (dk_at dksX6_open_0 16 rfl rfl)
theorem dX6_open_17 : decode cX6_open 17 = .ok (.iload_n 2, 1) := dk_28 (dk_at dksX6_open_0 17 rfl rfl)
theorem dX6_open_18 : decode cX6_open 18 = .ok (.invokevirtual 166, 3) := dk_182 0 166 (dk_at dksX6_open_0 18 rfl rfl)
theorem dX6_open_21 : decode cX6_open 21 = .ok (.ifCond .ne 33, 3) := dk_154 0 33 (dk_at dksX6_open_0 21 rfl rfl)
theorem dX6_open_24 : decode cX6_open 24 = .ok (.aload_n 0, 1) := dk_42 (dk_at dksX6_open_1 0 rfl rfl)
theorem dX6_open_25 : decode cX6_open 25 = .ok (.aload_n 0, 1) := dk_42 (dk_at dksX6_open_1 1 rfl rfl)
theorem dX6_open_26 : decode cX6_open 26 = .ok (.iload_n 2, 1) := dk_28 (dk_at dksX6_open_1 2 rfl rfl)
theorem dX6_open_27 : decode cX6_open 27 = .ok (.iconst 3, 1) := dk_6 (dk_at dksX6_open_1 3 rfl rfl)
theorem dX6_open_28 : decode cX6_open 28 = .ok (.invokevirtual 83, 3) := dk_182 0 83 (dk_at dksX6_open_1 4 rfl rfl)
theorem dX6_open_31 : decode cX6_open 31 = .ok (.aload_n 0, 1) := dk_42 (dk_at dksX6_open_1 7 rfl rfl)
theorem dX6_open_32 : decode cX6_open 32 = .ok (.iload_n 2, 1) := dk_28 (dk_at dksX6_open_1 8 rfl rfl)
theorem dX6_open_33 : decode cX6_open 33 = .ok (.iconst 2, 1) := dk_5 (dk_at dksX6_open_1 9 rfl rfl)
theorem dX6_open_34 : decode cX6_open 34 = .ok (.invokevirtual 83, 3) := dk_182 0 83 (dk_at dksX6_open_1 10 rfl rfl)
theorem dX6_open_37 : decode cX6_open 37 = .ok (.invokevirtual 183, 3) := dk_182 0 183 (dk_at dksX6_open_1 13 rfl rfl)
theorem dX6_open_40 : decode cX6_open 40 = .ok (.ifCond .eq 14, 3) := dk_153 0 14 (dk_at dksX6_open_1 16 rfl rfl)
theorem dX6_open_43 : decode cX6_open 43 = .ok (.iconst 1, 1) := dk_4 (dk_at dksX6_open_1 19 rfl rfl)
theorem dX6_open_44 : decode cX6_open 44 = .ok (.aload_n 0, 1) := dk_42 (dk_at dksX6_open_1 20 rfl rfl)
theorem dX6_open_45 : decode cX6_open 45 = .ok (.iload_n 2, 1) := dk_28 (dk_at dksX6_open_1 21 rfl rfl)
theorem dX6_open_46 : decode cX6_open 46 = .ok (.iconst 3, 1) := dk_6 (dk_at dksX6_open_1 22 rfl rfl)
theorem dX6_open_47 : decode cX6_open 47 = .ok (.invokevirtual 83, 3) := dk_182 0 83 (dk_at dksX6_open_2 0 rfl rfl)
theorem dX6_open_50 : decode cX6_open 50 = .ok (.ishl, 1) := dk_120 (dk_at dksX6_open_2 3 rfl rfl)
theorem dX6_open_51 : decode cX6_open 51 = .ok (.goto 4, 3) := dk_167 0 4 (dk_at dksX6_open_2 4 rfl rfl)
theorem dX6_open_54 : decode cX6_open 54 = .ok (.iconst 0, 1) := dk_3 (dk_at dksX6_open_2 7 rfl rfl)
theorem dX6_open_55 : decode cX6_open 55 = .ok (.ior, 1) := dk_128 (dk_at dksX6_open_2 8 rfl rfl)
theorem dX6_open_56 : decode cX6_open 56 = .ok (.istore_n 1, 1) := dk_60 (dk_at dksX6_open_2 9 rfl rfl)
theorem dX6_open_57 : decode cX6_open 57 = .ok (.iinc 2 1, 3) := dk_132 2 1 (dk_at dksX6_open_2 10 rfl rfl)
theorem dX6_open_60 : decode cX6_open 60 = .ok (.goto (-56), 3) := dk_167 255 200 (dk_at dksX6_open_2 13 rfl rfl)
theorem dX6_open_63 : decode cX6_open 63 = .ok (.iload_n 1, 1) := dk_27 (dk_at dksX6_open_2 16 rfl rfl)
theorem dX6_open_64 : decode cX6_open 64 = .ok (.ireturn, 1) := dk_172 (dk_at dksX6_open_2 17 rfl rfl)
abbrev cX6_shut : ByteArray := prog_23_method_47_code
def yX6_shut : MethodName := ⟨RX6, "shut", "()I"⟩
def dkwX6_shut_2 : List UInt8 := [182, 0, 206, 27, 172]
abbrev dktX6_shut_2 : List UInt8 := dkwX6_shut_2 ++ []
def dkwX6_shut_1 : List UInt8 := [163, 0, 22, 27, 42, 182, 0, 200, 2, 130, 126, 60, 42, 182, 0, 203, 132, 2, 1, 167, 255, 234, 42, 3]
abbrev dktX6_shut_1 : List UInt8 := dkwX6_shut_1 ++ dktX6_shut_2
def dkwX6_shut_0 : List UInt8 := [42, 3, 182, 0, 197, 4, 42, 180, 0, 15, 16, 81, 46, 120, 4, 100, 60, 3, 61, 28, 16, 20]
abbrev dktX6_shut_0 : List UInt8 := dkwX6_shut_0 ++ dktX6_shut_1
theorem dksX6_shut_0 : cX6_shut.data.toList.drop 0 = dktX6_shut_0 := by decide +kernel
theorem dksX6_shut_1 : cX6_shut.data.toList.drop 22 = dktX6_shut_1 := dk_seg dksX6_shut_0 22 rfl rfl
theorem dksX6_shut_2 : cX6_shut.data.toList.drop 46 = dktX6_shut_2 := dk_seg dksX6_shut_1 24 rfl rfl
theorem dX6_shut_0 : decode cX6_shut 0 = .ok (.aload_n 0, 1) := dk_42 (dk_at dksX6_shut_0 0 rfl rfl)
theorem dX6_shut_1 : decode cX6_shut 1 = .ok (.iconst 0, 1) := dk_3 (dk_at dksX6_shut_0 1 rfl rfl)
theorem dX6_shut_2 : decode cX6_shut 2 = .ok (.invokevirtual 197, 3) := dk_182 0 197 (dk_at dksX6_shut_0 2 rfl rfl)
theorem dX6_shut_5 : decode cX6_shut 5 = .ok (.iconst 1, 1) := dk_4 (dk_at dksX6_shut_0 5 rfl rfl)
theorem dX6_shut_6 : decode cX6_shut 6 = .ok (.aload_n 0, 1) := dk_42 (dk_at dksX6_shut_0 6 rfl rfl)
theorem dX6_shut_7 : decode cX6_shut 7 = .ok (.getfield 15, 3) := dk_180 0 15 (dk_at dksX6_shut_0 7 rfl rfl)
theorem dX6_shut_10 : decode cX6_shut 10 = .ok (.bipush 81, 2) := dk_16 81 (dk_at dksX6_shut_0 10 rfl rfl)
theorem dX6_shut_12 : decode cX6_shut 12 = .ok (.iaload, 1) := dk_46 (dk_at dksX6_shut_0 12 rfl rfl)
theorem dX6_shut_13 : decode cX6_shut 13 = .ok (.ishl, 1) := dk_120 (dk_at dksX6_shut_0 13 rfl rfl)
theorem dX6_shut_14 : decode cX6_shut 14 = .ok (.iconst 1, 1) := dk_4 (dk_at dksX6_shut_0 14 rfl rfl)
theorem dX6_shut_15 : decode cX6_shut 15 = .ok (.isub, 1) := dk_100 (dk_at dksX6_shut_0 15 rfl rfl)
theorem dX6_shut_16 : decode cX6_shut 16 = .ok (.istore_n 1, 1) := dk_60 (dk_at dksX6_shut_0 16 rfl rfl)
theorem dX6_shut_17 : decode cX6_shut 17 = .ok (.iconst 0, 1) := dk_3 (dk_at dksX6_shut_0 17 rfl rfl)
theorem dX6_shut_18 : decode cX6_shut 18 = .ok (.istore_n 2, 1) := dk_61 (dk_at dksX6_shut_0 18 rfl rfl)
theorem dX6_shut_19 : decode cX6_shut 19 = .ok (.iload_n 2, 1) := dk_28 (dk_at dksX6_shut_0 19 rfl rfl)
theorem dX6_shut_20 : decode cX6_shut 20 = .ok (.bipush 20, 2) := dk_16 20 (dk_at dksX6_shut_0 20 rfl rfl)
theorem dX6_shut_22 : decode cX6_shut 22 = .ok (.if_icmp .gt 22, 3) := dk_163 0 22 (dk_at dksX6_shut_1 0 rfl rfl)
theorem dX6_shut_25 : decode cX6_shut 25 = .ok (.iload_n 1, 1) := dk_27 (dk_at dksX6_shut_1 3 rfl rfl)
theorem dX6_shut_26 : decode cX6_shut 26 = .ok (.aload_n 0, 1) := dk_42 (dk_at dksX6_shut_1 4 rfl rfl)
theorem dX6_shut_27 : decode cX6_shut 27 = .ok (.invokevirtual 200, 3) := dk_182 0 200 (dk_at dksX6_shut_1 5 rfl rfl)
theorem dX6_shut_30 : decode cX6_shut 30 = .ok (.iconst (-1), 1) := dk_2 (dk_at dksX6_shut_1 8 rfl rfl)
theorem dX6_shut_31 : decode cX6_shut 31 = .ok (.ixor, 1) := dk_130 (dk_at dksX6_shut_1 9 rfl rfl)
theorem dX6_shut_32 : decode cX6_shut 32 = .ok (.iand, 1) := dk_126 (dk_at dksX6_shut_1 10 rfl rfl)
theorem dX6_shut_33 : decode cX6_shut 33 = .ok (.istore_n 1, 1) := dk_60 (dk_at dksX6_shut_1 11 rfl rfl)
theorem dX6_shut_34 : decode cX6_shut 34 = .ok (.aload_n 0, 1) := dk_42 (dk_at dksX6_shut_1 12 rfl rfl)
theorem dX6_shut_35 : decode cX6_shut 35 = .ok (.invokevirtual 203, 3) := dk_182 0 203 (dk_at dksX6_shut_1 13 rfl rfl)
theorem dX6_shut_38 : decode cX6_shut 38 = .ok (.iinc 2 1, 3) := dk_132 2 1 (dk_at dksX6_shut_1 16 rfl rfl)
theorem dX6_shut_41 : decode cX6_shut 41 = .ok (.goto (-22), 3) := dk_167 255 234 (dk_at dksX6_shut_1 19 rfl rfl)
theorem dX6_shut_44 : decode cX6_shut 44 = .ok (.aload_n 0, 1) := dk_42 (dk_at dksX6_shut_1 22 rfl rfl)
theorem dX6_shut_45 : decode cX6_shut 45 = .ok (.iconst 0, 1) := dk_3 (dk_at dksX6_shut_1 23 rfl rfl)
theorem dX6_shut_46 : decode cX6_shut 46 = .ok (.invokevirtual 206, 3) := dk_182 0 206 (dk_at dksX6_shut_2 0 rfl rfl)
theorem dX6_shut_49 : decode cX6_shut 49 = .ok (.iload_n 1, 1) := dk_27 (dk_at dksX6_shut_2 3 rfl rfl)
theorem dX6_shut_50 : decode cX6_shut 50 = .ok (.ireturn, 1) := dk_172 (dk_at dksX6_shut_2 4 rfl rfl)
abbrev cX6_keep : ByteArray := prog_23_method_4_code
def yX6_keep : MethodName := ⟨RX6, "keep", "(I)V"⟩
def dkwX6_keep_1 : List UInt8 := [28, 46, 79, 132, 2, 1, 167, 255, 228, 177]
abbrev dktX6_keep_1 : List UInt8 := dkwX6_keep_1 ++ []
def dkwX6_keep_0 : List UInt8 := [3, 61, 28, 17, 0, 138, 162, 0, 27, 42, 180, 0, 19, 17, 0, 138, 27, 104, 28, 96, 42, 180, 0, 15]
abbrev dktX6_keep_0 : List UInt8 := dkwX6_keep_0 ++ dktX6_keep_1
theorem dksX6_keep_0 : cX6_keep.data.toList.drop 0 = dktX6_keep_0 := by decide +kernel
theorem dksX6_keep_1 : cX6_keep.data.toList.drop 24 = dktX6_keep_1 := dk_seg dksX6_keep_0 24 rfl rfl
theorem dX6_keep_0 : decode cX6_keep 0 = .ok (.iconst 0, 1) := dk_3 (dk_at dksX6_keep_0 0 rfl rfl)
theorem dX6_keep_1 : decode cX6_keep 1 = .ok (.istore_n 2, 1) := dk_61 (dk_at dksX6_keep_0 1 rfl rfl)
theorem dX6_keep_2 : decode cX6_keep 2 = .ok (.iload_n 2, 1) := dk_28 (dk_at dksX6_keep_0 2 rfl rfl)
theorem dX6_keep_3 : decode cX6_keep 3 = .ok (.sipush 138, 3) := dk_17 0 138 (dk_at dksX6_keep_0 3 rfl rfl)
theorem dX6_keep_6 : decode cX6_keep 6 = .ok (.if_icmp .ge 27, 3) := dk_162 0 27 (dk_at dksX6_keep_0 6 rfl rfl)
theorem dX6_keep_9 : decode cX6_keep 9 = .ok (.aload_n 0, 1) := dk_42 (dk_at dksX6_keep_0 9 rfl rfl)
theorem dX6_keep_10 : decode cX6_keep 10 = .ok (.getfield 19, 3) := dk_180 0 19 (dk_at dksX6_keep_0 10 rfl rfl)
theorem dX6_keep_13 : decode cX6_keep 13 = .ok (.sipush 138, 3) := dk_17 0 138 (dk_at dksX6_keep_0 13 rfl rfl)
theorem dX6_keep_16 : decode cX6_keep 16 = .ok (.iload_n 1, 1) := dk_27 (dk_at dksX6_keep_0 16 rfl rfl)
theorem dX6_keep_17 : decode cX6_keep 17 = .ok (.imul, 1) := dk_104 (dk_at dksX6_keep_0 17 rfl rfl)
theorem dX6_keep_18 : decode cX6_keep 18 = .ok (.iload_n 2, 1) := dk_28 (dk_at dksX6_keep_0 18 rfl rfl)
theorem dX6_keep_19 : decode cX6_keep 19 = .ok (.iadd, 1) := dk_96 (dk_at dksX6_keep_0 19 rfl rfl)
theorem dX6_keep_20 : decode cX6_keep 20 = .ok (.aload_n 0, 1) := dk_42 (dk_at dksX6_keep_0 20 rfl rfl)
theorem dX6_keep_21 : decode cX6_keep 21 = .ok (.getfield 15, 3) := dk_180 0 15 (dk_at dksX6_keep_0 21 rfl rfl)
theorem dX6_keep_24 : decode cX6_keep 24 = .ok (.iload_n 2, 1) := dk_28 (dk_at dksX6_keep_1 0 rfl rfl)
theorem dX6_keep_25 : decode cX6_keep 25 = .ok (.iaload, 1) := dk_46 (dk_at dksX6_keep_1 1 rfl rfl)
theorem dX6_keep_26 : decode cX6_keep 26 = .ok (.iastore, 1) := dk_79 (dk_at dksX6_keep_1 2 rfl rfl)
theorem dX6_keep_27 : decode cX6_keep 27 = .ok (.iinc 2 1, 3) := dk_132 2 1 (dk_at dksX6_keep_1 3 rfl rfl)
theorem dX6_keep_30 : decode cX6_keep 30 = .ok (.goto (-28), 3) := dk_167 255 228 (dk_at dksX6_keep_1 6 rfl rfl)
theorem dX6_keep_33 : decode cX6_keep 33 = .ok (.return_, 1) := dk_177 (dk_at dksX6_keep_1 9 rfl rfl)
abbrev cX6_hour : ByteArray := prog_23_method_43_code
def yX6_hour : MethodName := ⟨RX6, "hour", "()V"⟩
def dkwX6_hour_3 : List UInt8 := [46, 4, 96, 79, 177]
abbrev dktX6_hour_3 : List UInt8 := dkwX6_hour_3 ++ []
def dkwX6_hour_2 : List UInt8 := [180, 0, 15, 29, 46, 27, 100, 184, 0, 192, 79, 132, 2, 1, 167, 255, 202, 42, 180, 0, 15, 16, 82, 92]
abbrev dktX6_hour_2 : List UInt8 := dkwX6_hour_2 ++ dktX6_hour_3
def dkwX6_hour_1 : List UInt8 := [154, 0, 35, 42, 28, 182, 0, 98, 62, 42, 28, 5, 29, 182, 0, 104, 87, 42, 180, 0, 15, 29, 3, 42]
abbrev dktX6_hour_1 : List UInt8 := dkwX6_hour_1 ++ dktX6_hour_2
def dkwX6_hour_0 : List UInt8 := [42, 182, 0, 189, 60, 3, 61, 28, 42, 180, 0, 15, 16, 80, 46, 162, 0, 49, 42, 28, 182, 0, 166]
abbrev dktX6_hour_0 : List UInt8 := dkwX6_hour_0 ++ dktX6_hour_1
theorem dksX6_hour_0 : cX6_hour.data.toList.drop 0 = dktX6_hour_0 := by decide +kernel
theorem dksX6_hour_1 : cX6_hour.data.toList.drop 23 = dktX6_hour_1 := dk_seg dksX6_hour_0 23 rfl rfl
theorem dksX6_hour_2 : cX6_hour.data.toList.drop 47 = dktX6_hour_2 := dk_seg dksX6_hour_1 24 rfl rfl
theorem dksX6_hour_3 : cX6_hour.data.toList.drop 71 = dktX6_hour_3 := dk_seg dksX6_hour_2 24 rfl rfl
theorem dX6_hour_0 : decode cX6_hour 0 = .ok (.aload_n 0, 1) := dk_42 (dk_at dksX6_hour_0 0 rfl rfl)
theorem dX6_hour_1 : decode cX6_hour 1 = .ok (.invokevirtual 189, 3) := dk_182 0 189 (dk_at dksX6_hour_0 1 rfl rfl)
theorem dX6_hour_4 : decode cX6_hour 4 = .ok (.istore_n 1, 1) := dk_60 (dk_at dksX6_hour_0 4 rfl rfl)
theorem dX6_hour_5 : decode cX6_hour 5 = .ok (.iconst 0, 1) := dk_3 (dk_at dksX6_hour_0 5 rfl rfl)
theorem dX6_hour_6 : decode cX6_hour 6 = .ok (.istore_n 2, 1) := dk_61 (dk_at dksX6_hour_0 6 rfl rfl)
theorem dX6_hour_7 : decode cX6_hour 7 = .ok (.iload_n 2, 1) := dk_28 (dk_at dksX6_hour_0 7 rfl rfl)
theorem dX6_hour_8 : decode cX6_hour 8 = .ok (.aload_n 0, 1) := dk_42 (dk_at dksX6_hour_0 8 rfl rfl)
theorem dX6_hour_9 : decode cX6_hour 9 = .ok (.getfield 15, 3) := dk_180 0 15 (dk_at dksX6_hour_0 9 rfl rfl)
theorem dX6_hour_12 : decode cX6_hour 12 = .ok (.bipush 80, 2) := dk_16 80 (dk_at dksX6_hour_0 12 rfl rfl)
theorem dX6_hour_14 : decode cX6_hour 14 = .ok (.iaload, 1) := dk_46 (dk_at dksX6_hour_0 14 rfl rfl)
theorem dX6_hour_15 : decode cX6_hour 15 = .ok (.if_icmp .ge 49, 3) := dk_162 0 49 (dk_at dksX6_hour_0 15 rfl rfl)
theorem dX6_hour_18 : decode cX6_hour 18 = .ok (.aload_n 0, 1) := dk_42 (dk_at dksX6_hour_0 18 rfl rfl)
theorem dX6_hour_19 : decode cX6_hour 19 = .ok (.iload_n 2, 1) := dk_28 (dk_at dksX6_hour_0 19 rfl rfl)
theorem dX6_hour_20 : decode cX6_hour 20 = .ok (.invokevirtual 166, 3) := dk_182 0 166 (dk_at dksX6_hour_0 20 rfl rfl)
theorem dX6_hour_23 : decode cX6_hour 23 = .ok (.ifCond .ne 35, 3) := dk_154 0 35 (dk_at dksX6_hour_1 0 rfl rfl)
theorem dX6_hour_26 : decode cX6_hour 26 = .ok (.aload_n 0, 1) := dk_42 (dk_at dksX6_hour_1 3 rfl rfl)
theorem dX6_hour_27 : decode cX6_hour 27 = .ok (.iload_n 2, 1) := dk_28 (dk_at dksX6_hour_1 4 rfl rfl)
theorem dX6_hour_28 : decode cX6_hour 28 = .ok (.invokevirtual 98, 3) := dk_182 0 98 (dk_at dksX6_hour_1 5 rfl rfl)
theorem dX6_hour_31 : decode cX6_hour 31 = .ok (.istore_n 3, 1) := dk_62 (dk_at dksX6_hour_1 8 rfl rfl)
theorem dX6_hour_32 : decode cX6_hour 32 = .ok (.aload_n 0, 1) := dk_42 (dk_at dksX6_hour_1 9 rfl rfl)
theorem dX6_hour_33 : decode cX6_hour 33 = .ok (.iload_n 2, 1) := dk_28 (dk_at dksX6_hour_1 10 rfl rfl)
theorem dX6_hour_34 : decode cX6_hour 34 = .ok (.iconst 2, 1) := dk_5 (dk_at dksX6_hour_1 11 rfl rfl)
theorem dX6_hour_35 : decode cX6_hour 35 = .ok (.iload_n 3, 1) := dk_29 (dk_at dksX6_hour_1 12 rfl rfl)
theorem dX6_hour_36 : decode cX6_hour 36 = .ok (.invokevirtual 104, 3) := dk_182 0 104 (dk_at dksX6_hour_1 13 rfl rfl)
theorem dX6_hour_39 : decode cX6_hour 39 = .ok (.pop, 1) := dk_87 (dk_at dksX6_hour_1 16 rfl rfl)
theorem dX6_hour_40 : decode cX6_hour 40 = .ok (.aload_n 0, 1) := dk_42 (dk_at dksX6_hour_1 17 rfl rfl)
theorem dX6_hour_41 : decode cX6_hour 41 = .ok (.getfield 15, 3) := dk_180 0 15 (dk_at dksX6_hour_1 18 rfl rfl)
theorem dX6_hour_44 : decode cX6_hour 44 = .ok (.iload_n 3, 1) := dk_29 (dk_at dksX6_hour_1 21 rfl rfl)
theorem dX6_hour_45 : decode cX6_hour 45 = .ok (.iconst 0, 1) := dk_3 (dk_at dksX6_hour_1 22 rfl rfl)
theorem dX6_hour_46 : decode cX6_hour 46 = .ok (.aload_n 0, 1) := dk_42 (dk_at dksX6_hour_1 23 rfl rfl)
theorem dX6_hour_47 : decode cX6_hour 47 = .ok (.getfield 15, 3) := dk_180 0 15 (dk_at dksX6_hour_2 0 rfl rfl)
theorem dX6_hour_50 : decode cX6_hour 50 = .ok (.iload_n 3, 1) := dk_29 (dk_at dksX6_hour_2 3 rfl rfl)
theorem dX6_hour_51 : decode cX6_hour 51 = .ok (.iaload, 1) := dk_46 (dk_at dksX6_hour_2 4 rfl rfl)
theorem dX6_hour_52 : decode cX6_hour 52 = .ok (.iload_n 1, 1) := dk_27 (dk_at dksX6_hour_2 5 rfl rfl)
theorem dX6_hour_53 : decode cX6_hour 53 = .ok (.isub, 1) := dk_100 (dk_at dksX6_hour_2 6 rfl rfl)
theorem dX6_hour_54 : decode cX6_hour 54 = .ok (.invokestatic 192, 3) := dk_184 0 192 (dk_at dksX6_hour_2 7 rfl rfl)
theorem dX6_hour_57 : decode cX6_hour 57 = .ok (.iastore, 1) := dk_79 (dk_at dksX6_hour_2 10 rfl rfl)
theorem dX6_hour_58 : decode cX6_hour 58 = .ok (.iinc 2 1, 3) := dk_132 2 1 (dk_at dksX6_hour_2 11 rfl rfl)
theorem dX6_hour_61 : decode cX6_hour 61 = .ok (.goto (-54), 3) := dk_167 255 202 (dk_at dksX6_hour_2 14 rfl rfl)
theorem dX6_hour_64 : decode cX6_hour 64 = .ok (.aload_n 0, 1) := dk_42 (dk_at dksX6_hour_2 17 rfl rfl)
theorem dX6_hour_65 : decode cX6_hour 65 = .ok (.getfield 15, 3) := dk_180 0 15 (dk_at dksX6_hour_2 18 rfl rfl)
theorem dX6_hour_68 : decode cX6_hour 68 = .ok (.bipush 82, 2) := dk_16 82 (dk_at dksX6_hour_2 21 rfl rfl)
theorem dX6_hour_70 : decode cX6_hour 70 = .ok (.dup2, 1) := dk_92 (dk_at dksX6_hour_2 23 rfl rfl)
theorem dX6_hour_71 : decode cX6_hour 71 = .ok (.iaload, 1) := dk_46 (dk_at dksX6_hour_3 0 rfl rfl)
theorem dX6_hour_72 : decode cX6_hour 72 = .ok (.iconst 1, 1) := dk_4 (dk_at dksX6_hour_3 1 rfl rfl)
theorem dX6_hour_73 : decode cX6_hour 73 = .ok (.iadd, 1) := dk_96 (dk_at dksX6_hour_3 2 rfl rfl)
theorem dX6_hour_74 : decode cX6_hour 74 = .ok (.iastore, 1) := dk_79 (dk_at dksX6_hour_3 3 rfl rfl)
theorem dX6_hour_75 : decode cX6_hour 75 = .ok (.return_, 1) := dk_177 (dk_at dksX6_hour_3 4 rfl rfl)
abbrev cX6_lay : ByteArray := prog_23_method_5_code
def yX6_lay : MethodName := ⟨RX6, "lay", "(I)V"⟩
def dkwX6_lay_1 : List UInt8 := [96, 46, 79, 132, 2, 1, 167, 255, 228, 177]
abbrev dktX6_lay_1 : List UInt8 := dkwX6_lay_1 ++ []
def dkwX6_lay_0 : List UInt8 := [3, 61, 28, 17, 0, 138, 162, 0, 27, 42, 180, 0, 15, 28, 42, 180, 0, 19, 17, 0, 138, 27, 104, 28]
abbrev dktX6_lay_0 : List UInt8 := dkwX6_lay_0 ++ dktX6_lay_1
theorem dksX6_lay_0 : cX6_lay.data.toList.drop 0 = dktX6_lay_0 := by decide +kernel
theorem dksX6_lay_1 : cX6_lay.data.toList.drop 24 = dktX6_lay_1 := dk_seg dksX6_lay_0 24 rfl rfl
theorem dX6_lay_0 : decode cX6_lay 0 = .ok (.iconst 0, 1) := dk_3 (dk_at dksX6_lay_0 0 rfl rfl)
theorem dX6_lay_1 : decode cX6_lay 1 = .ok (.istore_n 2, 1) := dk_61 (dk_at dksX6_lay_0 1 rfl rfl)
theorem dX6_lay_2 : decode cX6_lay 2 = .ok (.iload_n 2, 1) := dk_28 (dk_at dksX6_lay_0 2 rfl rfl)
theorem dX6_lay_3 : decode cX6_lay 3 = .ok (.sipush 138, 3) := dk_17 0 138 (dk_at dksX6_lay_0 3 rfl rfl)
theorem dX6_lay_6 : decode cX6_lay 6 = .ok (.if_icmp .ge 27, 3) := dk_162 0 27 (dk_at dksX6_lay_0 6 rfl rfl)
theorem dX6_lay_9 : decode cX6_lay 9 = .ok (.aload_n 0, 1) := dk_42 (dk_at dksX6_lay_0 9 rfl rfl)
theorem dX6_lay_10 : decode cX6_lay 10 = .ok (.getfield 15, 3) := dk_180 0 15 (dk_at dksX6_lay_0 10 rfl rfl)
theorem dX6_lay_13 : decode cX6_lay 13 = .ok (.iload_n 2, 1) := dk_28 (dk_at dksX6_lay_0 13 rfl rfl)
theorem dX6_lay_14 : decode cX6_lay 14 = .ok (.aload_n 0, 1) := dk_42 (dk_at dksX6_lay_0 14 rfl rfl)
theorem dX6_lay_15 : decode cX6_lay 15 = .ok (.getfield 19, 3) := dk_180 0 19 (dk_at dksX6_lay_0 15 rfl rfl)
theorem dX6_lay_18 : decode cX6_lay 18 = .ok (.sipush 138, 3) := dk_17 0 138 (dk_at dksX6_lay_0 18 rfl rfl)
theorem dX6_lay_21 : decode cX6_lay 21 = .ok (.iload_n 1, 1) := dk_27 (dk_at dksX6_lay_0 21 rfl rfl)
theorem dX6_lay_22 : decode cX6_lay 22 = .ok (.imul, 1) := dk_104 (dk_at dksX6_lay_0 22 rfl rfl)
theorem dX6_lay_23 : decode cX6_lay 23 = .ok (.iload_n 2, 1) := dk_28 (dk_at dksX6_lay_0 23 rfl rfl)
theorem dX6_lay_24 : decode cX6_lay 24 = .ok (.iadd, 1) := dk_96 (dk_at dksX6_lay_1 0 rfl rfl)
theorem dX6_lay_25 : decode cX6_lay 25 = .ok (.iaload, 1) := dk_46 (dk_at dksX6_lay_1 1 rfl rfl)
theorem dX6_lay_26 : decode cX6_lay 26 = .ok (.iastore, 1) := dk_79 (dk_at dksX6_lay_1 2 rfl rfl)
theorem dX6_lay_27 : decode cX6_lay 27 = .ok (.iinc 2 1, 3) := dk_132 2 1 (dk_at dksX6_lay_1 3 rfl rfl)
theorem dX6_lay_30 : decode cX6_lay 30 = .ok (.goto (-28), 3) := dk_167 255 228 (dk_at dksX6_lay_1 6 rfl rfl)
theorem dX6_lay_33 : decode cX6_lay 33 = .ok (.return_, 1) := dk_177 (dk_at dksX6_lay_1 9 rfl rfl)
abbrev cX6_grains : ByteArray := prog_23_method_45_code
def yX6_grains : MethodName := ⟨RX6, "grains", "()I"⟩
def dkwX6_grains_1 : List UInt8 := [167, 255, 238, 27, 172]
abbrev dktX6_grains_1 : List UInt8 := dkwX6_grains_1 ++ []
def dkwX6_grains_0 : List UInt8 := [3, 60, 3, 61, 28, 16, 8, 162, 0, 18, 27, 42, 180, 0, 15, 28, 46, 96, 60, 132, 2, 1]
abbrev dktX6_grains_0 : List UInt8 := dkwX6_grains_0 ++ dktX6_grains_1
theorem dksX6_grains_0 : cX6_grains.data.toList.drop 0 = dktX6_grains_0 := by decide +kernel
theorem dksX6_grains_1 : cX6_grains.data.toList.drop 22 = dktX6_grains_1 := dk_seg dksX6_grains_0 22 rfl rfl
theorem dX6_grains_0 : decode cX6_grains 0 = .ok (.iconst 0, 1) := dk_3 (dk_at dksX6_grains_0 0 rfl rfl)
theorem dX6_grains_1 : decode cX6_grains 1 = .ok (.istore_n 1, 1) := dk_60 (dk_at dksX6_grains_0 1 rfl rfl)
theorem dX6_grains_2 : decode cX6_grains 2 = .ok (.iconst 0, 1) := dk_3 (dk_at dksX6_grains_0 2 rfl rfl)
theorem dX6_grains_3 : decode cX6_grains 3 = .ok (.istore_n 2, 1) := dk_61 (dk_at dksX6_grains_0 3 rfl rfl)
theorem dX6_grains_4 : decode cX6_grains 4 = .ok (.iload_n 2, 1) := dk_28 (dk_at dksX6_grains_0 4 rfl rfl)
theorem dX6_grains_5 : decode cX6_grains 5 = .ok (.bipush 8, 2) := dk_16 8 (dk_at dksX6_grains_0 5 rfl rfl)
theorem dX6_grains_7 : decode cX6_grains 7 = .ok (.if_icmp .ge 18, 3) := dk_162 0 18 (dk_at dksX6_grains_0 7 rfl rfl)
theorem dX6_grains_10 : decode cX6_grains 10 = .ok (.iload_n 1, 1) := dk_27 (dk_at dksX6_grains_0 10 rfl rfl)
theorem dX6_grains_11 : decode cX6_grains 11 = .ok (.aload_n 0, 1) := dk_42 (dk_at dksX6_grains_0 11 rfl rfl)
theorem dX6_grains_12 : decode cX6_grains 12 = .ok (.getfield 15, 3) := dk_180 0 15 (dk_at dksX6_grains_0 12 rfl rfl)
theorem dX6_grains_15 : decode cX6_grains 15 = .ok (.iload_n 2, 1) := dk_28 (dk_at dksX6_grains_0 15 rfl rfl)
theorem dX6_grains_16 : decode cX6_grains 16 = .ok (.iaload, 1) := dk_46 (dk_at dksX6_grains_0 16 rfl rfl)
theorem dX6_grains_17 : decode cX6_grains 17 = .ok (.iadd, 1) := dk_96 (dk_at dksX6_grains_0 17 rfl rfl)
theorem dX6_grains_18 : decode cX6_grains 18 = .ok (.istore_n 1, 1) := dk_60 (dk_at dksX6_grains_0 18 rfl rfl)
theorem dX6_grains_19 : decode cX6_grains 19 = .ok (.iinc 2 1, 3) := dk_132 2 1 (dk_at dksX6_grains_0 19 rfl rfl)
theorem dX6_grains_22 : decode cX6_grains 22 = .ok (.goto (-18), 3) := dk_167 255 238 (dk_at dksX6_grains_1 0 rfl rfl)
theorem dX6_grains_25 : decode cX6_grains 25 = .ok (.iload_n 1, 1) := dk_27 (dk_at dksX6_grains_1 3 rfl rfl)
theorem dX6_grains_26 : decode cX6_grains 26 = .ok (.ireturn, 1) := dk_172 (dk_at dksX6_grains_1 4 rfl rfl)
abbrev cX6_far : ByteArray := prog_23_method_50_code
def yX6_far : MethodName := ⟨RX6, "far", "(I)I"⟩
def dkwX6_far_0 : List UInt8 := [42, 27, 182, 0, 209, 42, 180, 0, 50, 16, 15, 46, 172]
abbrev dktX6_far_0 : List UInt8 := dkwX6_far_0 ++ []
theorem dksX6_far_0 : cX6_far.data.toList.drop 0 = dktX6_far_0 := by decide +kernel
theorem dX6_far_0 : decode cX6_far 0 = .ok (.aload_n 0, 1) := dk_42 (dk_at dksX6_far_0 0 rfl rfl)
theorem dX6_far_1 : decode cX6_far 1 = .ok (.iload_n 1, 1) := dk_27 (dk_at dksX6_far_0 1 rfl rfl)
theorem dX6_far_2 : decode cX6_far 2 = .ok (.invokevirtual 209, 3) := dk_182 0 209 (dk_at dksX6_far_0 2 rfl rfl)
theorem dX6_far_5 : decode cX6_far 5 = .ok (.aload_n 0, 1) := dk_42 (dk_at dksX6_far_0 5 rfl rfl)
theorem dX6_far_6 : decode cX6_far 6 = .ok (.getfield 50, 3) := dk_180 0 50 (dk_at dksX6_far_0 6 rfl rfl)
theorem dX6_far_9 : decode cX6_far 9 = .ok (.bipush 15, 2) := dk_16 15 (dk_at dksX6_far_0 9 rfl rfl)
theorem dX6_far_11 : decode cX6_far 11 = .ok (.iaload, 1) := dk_46 (dk_at dksX6_far_0 11 rfl rfl)
theorem dX6_far_12 : decode cX6_far 12 = .ok (.ireturn, 1) := dk_172 (dk_at dksX6_far_0 12 rfl rfl)
abbrev cX6_walk : ByteArray := prog_23_method_48_code
def yX6_walk : MethodName := ⟨RX6, "walk", "(I)V"⟩
def dkwX6_walk_6 : List UInt8 := [132, 4, 1, 167, 255, 156, 42, 182, 0, 203, 132, 2, 1, 167, 255, 118, 42, 3, 182, 0, 206, 177]
abbrev dktX6_walk_6 : List UInt8 := dkwX6_walk_6 ++ []
def dkwX6_walk_5 : List UInt8 := [21, 4, 4, 21, 5, 100, 182, 0, 172, 120, 167, 0, 4, 3, 128, 79, 132, 5, 1, 167, 255, 177]
abbrev dktX6_walk_5 : List UInt8 := dkwX6_walk_5 ++ dktX6_walk_6
def dkwX6_walk_4 : List UInt8 := [160, 0, 7, 4, 167, 0, 4, 3, 54, 6, 42, 180, 0, 50, 28, 92, 46, 21, 6, 153, 0, 18, 4, 42]
abbrev dktX6_walk_4 : List UInt8 := dkwX6_walk_4 ++ dktX6_walk_5
def dkwX6_walk_3 : List UInt8 := [4, 160, 0, 30, 42, 180, 0, 50, 28, 4, 100, 46, 42, 21, 4, 21, 5, 182, 0, 172, 122, 4, 126, 4]
abbrev dktX6_walk_3 : List UInt8 := dkwX6_walk_3 ++ dktX6_walk_4
def dkwX6_walk_2 : List UInt8 := [180, 0, 15, 16, 81, 46, 162, 0, 94, 3, 54, 5, 21, 5, 5, 162, 0, 79, 29, 21, 4, 122, 4, 126]
abbrev dktX6_walk_2 : List UInt8 := dkwX6_walk_2 ++ dktX6_walk_3
def dkwX6_walk_1 : List UInt8 := [182, 0, 200, 62, 42, 180, 0, 50, 28, 42, 180, 0, 50, 28, 4, 100, 46, 79, 3, 54, 4, 21, 4, 42]
abbrev dktX6_walk_1 : List UInt8 := dkwX6_walk_1 ++ dktX6_walk_2
def dkwX6_walk_0 : List UInt8 := [42, 3, 182, 0, 197, 42, 180, 0, 50, 3, 4, 27, 120, 79, 4, 61, 28, 16, 16, 162, 0, 138, 42]
abbrev dktX6_walk_0 : List UInt8 := dkwX6_walk_0 ++ dktX6_walk_1
theorem dksX6_walk_0 : cX6_walk.data.toList.drop 0 = dktX6_walk_0 := by decide +kernel
theorem dksX6_walk_1 : cX6_walk.data.toList.drop 23 = dktX6_walk_1 := dk_seg dksX6_walk_0 23 rfl rfl
theorem dksX6_walk_2 : cX6_walk.data.toList.drop 47 = dktX6_walk_2 := dk_seg dksX6_walk_1 24 rfl rfl
theorem dksX6_walk_3 : cX6_walk.data.toList.drop 71 = dktX6_walk_3 := dk_seg dksX6_walk_2 24 rfl rfl
theorem dksX6_walk_4 : cX6_walk.data.toList.drop 95 = dktX6_walk_4 := dk_seg dksX6_walk_3 24 rfl rfl
theorem dksX6_walk_5 : cX6_walk.data.toList.drop 119 = dktX6_walk_5 := dk_seg dksX6_walk_4 24 rfl rfl
theorem dksX6_walk_6 : cX6_walk.data.toList.drop 141 = dktX6_walk_6 := dk_seg dksX6_walk_5 22 rfl rfl
theorem dX6_walk_0 : decode cX6_walk 0 = .ok (.aload_n 0, 1) := dk_42 (dk_at dksX6_walk_0 0 rfl rfl)
theorem dX6_walk_1 : decode cX6_walk 1 = .ok (.iconst 0, 1) := dk_3 (dk_at dksX6_walk_0 1 rfl rfl)
theorem dX6_walk_2 : decode cX6_walk 2 = .ok (.invokevirtual 197, 3) := dk_182 0 197 (dk_at dksX6_walk_0 2 rfl rfl)
theorem dX6_walk_5 : decode cX6_walk 5 = .ok (.aload_n 0, 1) := dk_42 (dk_at dksX6_walk_0 5 rfl rfl)
theorem dX6_walk_6 : decode cX6_walk 6 = .ok (.getfield 50, 3) := dk_180 0 50 (dk_at dksX6_walk_0 6 rfl rfl)
theorem dX6_walk_9 : decode cX6_walk 9 = .ok (.iconst 0, 1) := dk_3 (dk_at dksX6_walk_0 9 rfl rfl)
theorem dX6_walk_10 : decode cX6_walk 10 = .ok (.iconst 1, 1) := dk_4 (dk_at dksX6_walk_0 10 rfl rfl)
theorem dX6_walk_11 : decode cX6_walk 11 = .ok (.iload_n 1, 1) := dk_27 (dk_at dksX6_walk_0 11 rfl rfl)
theorem dX6_walk_12 : decode cX6_walk 12 = .ok (.ishl, 1) := dk_120 (dk_at dksX6_walk_0 12 rfl rfl)
theorem dX6_walk_13 : decode cX6_walk 13 = .ok (.iastore, 1) := dk_79 (dk_at dksX6_walk_0 13 rfl rfl)
theorem dX6_walk_14 : decode cX6_walk 14 = .ok (.iconst 1, 1) := dk_4 (dk_at dksX6_walk_0 14 rfl rfl)
theorem dX6_walk_15 : decode cX6_walk 15 = .ok (.istore_n 2, 1) := dk_61 (dk_at dksX6_walk_0 15 rfl rfl)
theorem dX6_walk_16 : decode cX6_walk 16 = .ok (.iload_n 2, 1) := dk_28 (dk_at dksX6_walk_0 16 rfl rfl)
theorem dX6_walk_17 : decode cX6_walk 17 = .ok (.bipush 16, 2) := dk_16 16 (dk_at dksX6_walk_0 17 rfl rfl)
theorem dX6_walk_19 : decode cX6_walk 19 = .ok (.if_icmp .ge 138, 3) := dk_162 0 138 (dk_at dksX6_walk_0 19 rfl rfl)
theorem dX6_walk_22 : decode cX6_walk 22 = .ok (.aload_n 0, 1) := dk_42 (dk_at dksX6_walk_0 22 rfl rfl)
theorem dX6_walk_23 : decode cX6_walk 23 = .ok (.invokevirtual 200, 3) := dk_182 0 200 (dk_at dksX6_walk_1 0 rfl rfl)
theorem dX6_walk_26 : decode cX6_walk 26 = .ok (.istore_n 3, 1) := dk_62 (dk_at dksX6_walk_1 3 rfl rfl)
theorem dX6_walk_27 : decode cX6_walk 27 = .ok (.aload_n 0, 1) := dk_42 (dk_at dksX6_walk_1 4 rfl rfl)
theorem dX6_walk_28 : decode cX6_walk 28 = .ok (.getfield 50, 3) := dk_180 0 50 (dk_at dksX6_walk_1 5 rfl rfl)
theorem dX6_walk_31 : decode cX6_walk 31 = .ok (.iload_n 2, 1) := dk_28 (dk_at dksX6_walk_1 8 rfl rfl)
theorem dX6_walk_32 : decode cX6_walk 32 = .ok (.aload_n 0, 1) := dk_42 (dk_at dksX6_walk_1 9 rfl rfl)
theorem dX6_walk_33 : decode cX6_walk 33 = .ok (.getfield 50, 3) := dk_180 0 50 (dk_at dksX6_walk_1 10 rfl rfl)
theorem dX6_walk_36 : decode cX6_walk 36 = .ok (.iload_n 2, 1) := dk_28 (dk_at dksX6_walk_1 13 rfl rfl)
theorem dX6_walk_37 : decode cX6_walk 37 = .ok (.iconst 1, 1) := dk_4 (dk_at dksX6_walk_1 14 rfl rfl)
theorem dX6_walk_38 : decode cX6_walk 38 = .ok (.isub, 1) := dk_100 (dk_at dksX6_walk_1 15 rfl rfl)
theorem dX6_walk_39 : decode cX6_walk 39 = .ok (.iaload, 1) := dk_46 (dk_at dksX6_walk_1 16 rfl rfl)
theorem dX6_walk_40 : decode cX6_walk 40 = .ok (.iastore, 1) := dk_79 (dk_at dksX6_walk_1 17 rfl rfl)
theorem dX6_walk_41 : decode cX6_walk 41 = .ok (.iconst 0, 1) := dk_3 (dk_at dksX6_walk_1 18 rfl rfl)
theorem dX6_walk_42 : decode cX6_walk 42 = .ok (.istore 4, 2) := dk_54 4 (dk_at dksX6_walk_1 19 rfl rfl)
theorem dX6_walk_44 : decode cX6_walk 44 = .ok (.iload 4, 2) := dk_21 4 (dk_at dksX6_walk_1 21 rfl rfl)
theorem dX6_walk_46 : decode cX6_walk 46 = .ok (.aload_n 0, 1) := dk_42 (dk_at dksX6_walk_1 23 rfl rfl)
theorem dX6_walk_47 : decode cX6_walk 47 = .ok (.getfield 15, 3) := dk_180 0 15 (dk_at dksX6_walk_2 0 rfl rfl)
theorem dX6_walk_50 : decode cX6_walk 50 = .ok (.bipush 81, 2) := dk_16 81 (dk_at dksX6_walk_2 3 rfl rfl)
theorem dX6_walk_52 : decode cX6_walk 52 = .ok (.iaload, 1) := dk_46 (dk_at dksX6_walk_2 5 rfl rfl)
theorem dX6_walk_53 : decode cX6_walk 53 = .ok (.if_icmp .ge 94, 3) := dk_162 0 94 (dk_at dksX6_walk_2 6 rfl rfl)
theorem dX6_walk_56 : decode cX6_walk 56 = .ok (.iconst 0, 1) := dk_3 (dk_at dksX6_walk_2 9 rfl rfl)
theorem dX6_walk_57 : decode cX6_walk 57 = .ok (.istore 5, 2) := dk_54 5 (dk_at dksX6_walk_2 10 rfl rfl)
theorem dX6_walk_59 : decode cX6_walk 59 = .ok (.iload 5, 2) := dk_21 5 (dk_at dksX6_walk_2 12 rfl rfl)
theorem dX6_walk_61 : decode cX6_walk 61 = .ok (.iconst 2, 1) := dk_5 (dk_at dksX6_walk_2 14 rfl rfl)
theorem dX6_walk_62 : decode cX6_walk 62 = .ok (.if_icmp .ge 79, 3) := dk_162 0 79 (dk_at dksX6_walk_2 15 rfl rfl)
theorem dX6_walk_65 : decode cX6_walk 65 = .ok (.iload_n 3, 1) := dk_29 (dk_at dksX6_walk_2 18 rfl rfl)
theorem dX6_walk_66 : decode cX6_walk 66 = .ok (.iload 4, 2) := dk_21 4 (dk_at dksX6_walk_2 19 rfl rfl)
theorem dX6_walk_68 : decode cX6_walk 68 = .ok (.ishr, 1) := dk_122 (dk_at dksX6_walk_2 21 rfl rfl)
theorem dX6_walk_69 : decode cX6_walk 69 = .ok (.iconst 1, 1) := dk_4 (dk_at dksX6_walk_2 22 rfl rfl)
theorem dX6_walk_70 : decode cX6_walk 70 = .ok (.iand, 1) := dk_126 (dk_at dksX6_walk_2 23 rfl rfl)
theorem dX6_walk_71 : decode cX6_walk 71 = .ok (.iconst 1, 1) := dk_4 (dk_at dksX6_walk_3 0 rfl rfl)
theorem dX6_walk_72 : decode cX6_walk 72 = .ok (.if_icmp .ne 30, 3) := dk_160 0 30 (dk_at dksX6_walk_3 1 rfl rfl)
theorem dX6_walk_75 : decode cX6_walk 75 = .ok (.aload_n 0, 1) := dk_42 (dk_at dksX6_walk_3 4 rfl rfl)
theorem dX6_walk_76 : decode cX6_walk 76 = .ok (.getfield 50, 3) := dk_180 0 50 (dk_at dksX6_walk_3 5 rfl rfl)
theorem dX6_walk_79 : decode cX6_walk 79 = .ok (.iload_n 2, 1) := dk_28 (dk_at dksX6_walk_3 8 rfl rfl)
theorem dX6_walk_80 : decode cX6_walk 80 = .ok (.iconst 1, 1) := dk_4 (dk_at dksX6_walk_3 9 rfl rfl)
theorem dX6_walk_81 : decode cX6_walk 81 = .ok (.isub, 1) := dk_100 (dk_at dksX6_walk_3 10 rfl rfl)
theorem dX6_walk_82 : decode cX6_walk 82 = .ok (.iaload, 1) := dk_46 (dk_at dksX6_walk_3 11 rfl rfl)
theorem dX6_walk_83 : decode cX6_walk 83 = .ok (.aload_n 0, 1) := dk_42 (dk_at dksX6_walk_3 12 rfl rfl)
theorem dX6_walk_84 : decode cX6_walk 84 = .ok (.iload 4, 2) := dk_21 4 (dk_at dksX6_walk_3 13 rfl rfl)
theorem dX6_walk_86 : decode cX6_walk 86 = .ok (.iload 5, 2) := dk_21 5 (dk_at dksX6_walk_3 15 rfl rfl)
theorem dX6_walk_88 : decode cX6_walk 88 = .ok (.invokevirtual 172, 3) := dk_182 0 172 (dk_at dksX6_walk_3 17 rfl rfl)
theorem dX6_walk_91 : decode cX6_walk 91 = .ok (.ishr, 1) := dk_122 (dk_at dksX6_walk_3 20 rfl rfl)
theorem dX6_walk_92 : decode cX6_walk 92 = .ok (.iconst 1, 1) := dk_4 (dk_at dksX6_walk_3 21 rfl rfl)
theorem dX6_walk_93 : decode cX6_walk 93 = .ok (.iand, 1) := dk_126 (dk_at dksX6_walk_3 22 rfl rfl)
theorem dX6_walk_94 : decode cX6_walk 94 = .ok (.iconst 1, 1) := dk_4 (dk_at dksX6_walk_3 23 rfl rfl)
theorem dX6_walk_95 : decode cX6_walk 95 = .ok (.if_icmp .ne 7, 3) := dk_160 0 7 (dk_at dksX6_walk_4 0 rfl rfl)
theorem dX6_walk_98 : decode cX6_walk 98 = .ok (.iconst 1, 1) := dk_4 (dk_at dksX6_walk_4 3 rfl rfl)
theorem dX6_walk_99 : decode cX6_walk 99 = .ok (.goto 4, 3) := dk_167 0 4 (dk_at dksX6_walk_4 4 rfl rfl)
theorem dX6_walk_102 : decode cX6_walk 102 = .ok (.iconst 0, 1) := dk_3 (dk_at dksX6_walk_4 7 rfl rfl)
theorem dX6_walk_103 : decode cX6_walk 103 = .ok (.istore 6, 2) := dk_54 6 (dk_at dksX6_walk_4 8 rfl rfl)
theorem dX6_walk_105 : decode cX6_walk 105 = .ok (.aload_n 0, 1) := dk_42 (dk_at dksX6_walk_4 10 rfl rfl)
theorem dX6_walk_106 : decode cX6_walk 106 = .ok (.getfield 50, 3) := dk_180 0 50 (dk_at dksX6_walk_4 11 rfl rfl)
theorem dX6_walk_109 : decode cX6_walk 109 = .ok (.iload_n 2, 1) := dk_28 (dk_at dksX6_walk_4 14 rfl rfl)
theorem dX6_walk_110 : decode cX6_walk 110 = .ok (.dup2, 1) := dk_92 (dk_at dksX6_walk_4 15 rfl rfl)
theorem dX6_walk_111 : decode cX6_walk 111 = .ok (.iaload, 1) := dk_46 (dk_at dksX6_walk_4 16 rfl rfl)
theorem dX6_walk_112 : decode cX6_walk 112 = .ok (.iload 6, 2) := dk_21 6 (dk_at dksX6_walk_4 17 rfl rfl)
theorem dX6_walk_114 : decode cX6_walk 114 = .ok (.ifCond .eq 18, 3) := dk_153 0 18 (dk_at dksX6_walk_4 19 rfl rfl)
theorem dX6_walk_117 : decode cX6_walk 117 = .ok (.iconst 1, 1) := dk_4 (dk_at dksX6_walk_4 22 rfl rfl)
theorem dX6_walk_118 : decode cX6_walk 118 = .ok (.aload_n 0, 1) := dk_42 (dk_at dksX6_walk_4 23 rfl rfl)
theorem dX6_walk_119 : decode cX6_walk 119 = .ok (.iload 4, 2) := dk_21 4 (dk_at dksX6_walk_5 0 rfl rfl)
theorem dX6_walk_121 : decode cX6_walk 121 = .ok (.iconst 1, 1) := dk_4 (dk_at dksX6_walk_5 2 rfl rfl)
theorem dX6_walk_122 : decode cX6_walk 122 = .ok (.iload 5, 2) := dk_21 5 (dk_at dksX6_walk_5 3 rfl rfl)
theorem dX6_walk_124 : decode cX6_walk 124 = .ok (.isub, 1) := dk_100 (dk_at dksX6_walk_5 5 rfl rfl)
theorem dX6_walk_125 : decode cX6_walk 125 = .ok (.invokevirtual 172, 3) := dk_182 0 172 (dk_at dksX6_walk_5 6 rfl rfl)
theorem dX6_walk_128 : decode cX6_walk 128 = .ok (.ishl, 1) := dk_120 (dk_at dksX6_walk_5 9 rfl rfl)
theorem dX6_walk_129 : decode cX6_walk 129 = .ok (.goto 4, 3) := dk_167 0 4 (dk_at dksX6_walk_5 10 rfl rfl)
theorem dX6_walk_132 : decode cX6_walk 132 = .ok (.iconst 0, 1) := dk_3 (dk_at dksX6_walk_5 13 rfl rfl)
theorem dX6_walk_133 : decode cX6_walk 133 = .ok (.ior, 1) := dk_128 (dk_at dksX6_walk_5 14 rfl rfl)
theorem dX6_walk_134 : decode cX6_walk 134 = .ok (.iastore, 1) := dk_79 (dk_at dksX6_walk_5 15 rfl rfl)
theorem dX6_walk_135 : decode cX6_walk 135 = .ok (.iinc 5 1, 3) := dk_132 5 1 (dk_at dksX6_walk_5 16 rfl rfl)
theorem dX6_walk_138 : decode cX6_walk 138 = .ok (.goto (-79), 3) := dk_167 255 177 (dk_at dksX6_walk_5 19 rfl rfl)
theorem dX6_walk_141 : decode cX6_walk 141 = .ok (.iinc 4 1, 3) := dk_132 4 1 (dk_at dksX6_walk_6 0 rfl rfl)
theorem dX6_walk_144 : decode cX6_walk 144 = .ok (.goto (-100), 3) := dk_167 255 156 (dk_at dksX6_walk_6 3 rfl rfl)
theorem dX6_walk_147 : decode cX6_walk 147 = .ok (.aload_n 0, 1) := dk_42 (dk_at dksX6_walk_6 6 rfl rfl)
theorem dX6_walk_148 : decode cX6_walk 148 = .ok (.invokevirtual 203, 3) := dk_182 0 203 (dk_at dksX6_walk_6 7 rfl rfl)
theorem dX6_walk_151 : decode cX6_walk 151 = .ok (.iinc 2 1, 3) := dk_132 2 1 (dk_at dksX6_walk_6 10 rfl rfl)
theorem dX6_walk_154 : decode cX6_walk 154 = .ok (.goto (-138), 3) := dk_167 255 118 (dk_at dksX6_walk_6 13 rfl rfl)
theorem dX6_walk_157 : decode cX6_walk 157 = .ok (.aload_n 0, 1) := dk_42 (dk_at dksX6_walk_6 16 rfl rfl)
theorem dX6_walk_158 : decode cX6_walk 158 = .ok (.iconst 0, 1) := dk_3 (dk_at dksX6_walk_6 17 rfl rfl)
theorem dX6_walk_159 : decode cX6_walk 159 = .ok (.invokevirtual 206, 3) := dk_182 0 206 (dk_at dksX6_walk_6 18 rfl rfl)
theorem dX6_walk_162 : decode cX6_walk 162 = .ok (.return_, 1) := dk_177 (dk_at dksX6_walk_6 21 rfl rfl)
abbrev cX6_pass : ByteArray := prog_23_method_52_code
def yX6_pass : MethodName := ⟨RX6, "pass", "(I)I"⟩
def dkwX6_pass_2 : List UInt8 := [167, 255, 244, 42, 180, 0, 15, 16, 82, 46, 172]
abbrev dktX6_pass_2 : List UInt8 := dkwX6_pass_2 ++ []
def dkwX6_pass_1 : List UInt8 := [17, 39, 15, 164, 0, 6, 16, 253, 172, 3, 61, 28, 27, 162, 0, 13, 42, 182, 0, 203, 132, 2, 1]
abbrev dktX6_pass_1 : List UInt8 := dkwX6_pass_1 ++ dktX6_pass_2
def dkwX6_pass_0 : List UInt8 := [27, 3, 16, 60, 184, 0, 79, 154, 0, 6, 16, 254, 172, 42, 180, 0, 15, 16, 82, 46, 27, 96]
abbrev dktX6_pass_0 : List UInt8 := dkwX6_pass_0 ++ dktX6_pass_1
theorem dksX6_pass_0 : cX6_pass.data.toList.drop 0 = dktX6_pass_0 := by decide +kernel
theorem dksX6_pass_1 : cX6_pass.data.toList.drop 22 = dktX6_pass_1 := dk_seg dksX6_pass_0 22 rfl rfl
theorem dksX6_pass_2 : cX6_pass.data.toList.drop 45 = dktX6_pass_2 := dk_seg dksX6_pass_1 23 rfl rfl
theorem dX6_pass_0 : decode cX6_pass 0 = .ok (.iload_n 1, 1) := dk_27 (dk_at dksX6_pass_0 0 rfl rfl)
theorem dX6_pass_1 : decode cX6_pass 1 = .ok (.iconst 0, 1) := dk_3 (dk_at dksX6_pass_0 1 rfl rfl)
theorem dX6_pass_2 : decode cX6_pass 2 = .ok (.bipush 60, 2) := dk_16 60 (dk_at dksX6_pass_0 2 rfl rfl)
theorem dX6_pass_4 : decode cX6_pass 4 = .ok (.invokestatic 79, 3) := dk_184 0 79 (dk_at dksX6_pass_0 4 rfl rfl)
theorem dX6_pass_7 : decode cX6_pass 7 = .ok (.ifCond .ne 6, 3) := dk_154 0 6 (dk_at dksX6_pass_0 7 rfl rfl)
theorem dX6_pass_10 : decode cX6_pass 10 = .ok (.bipush (-2), 2) := dk_16 254 (dk_at dksX6_pass_0 10 rfl rfl)
theorem dX6_pass_12 : decode cX6_pass 12 = .ok (.ireturn, 1) := dk_172 (dk_at dksX6_pass_0 12 rfl rfl)
theorem dX6_pass_13 : decode cX6_pass 13 = .ok (.aload_n 0, 1) := dk_42 (dk_at dksX6_pass_0 13 rfl rfl)
theorem dX6_pass_14 : decode cX6_pass 14 = .ok (.getfield 15, 3) := dk_180 0 15 (dk_at dksX6_pass_0 14 rfl rfl)
theorem dX6_pass_17 : decode cX6_pass 17 = .ok (.bipush 82, 2) := dk_16 82 (dk_at dksX6_pass_0 17 rfl rfl)
theorem dX6_pass_19 : decode cX6_pass 19 = .ok (.iaload, 1) := dk_46 (dk_at dksX6_pass_0 19 rfl rfl)
theorem dX6_pass_20 : decode cX6_pass 20 = .ok (.iload_n 1, 1) := dk_27 (dk_at dksX6_pass_0 20 rfl rfl)
theorem dX6_pass_21 : decode cX6_pass 21 = .ok (.iadd, 1) := dk_96 (dk_at dksX6_pass_0 21 rfl rfl)
theorem dX6_pass_22 : decode cX6_pass 22 = .ok (.sipush 9999, 3) := dk_17 39 15 (dk_at dksX6_pass_1 0 rfl rfl)
theorem dX6_pass_25 : decode cX6_pass 25 = .ok (.if_icmp .le 6, 3) := dk_164 0 6 (dk_at dksX6_pass_1 3 rfl rfl)
theorem dX6_pass_28 : decode cX6_pass 28 = .ok (.bipush (-3), 2) := dk_16 253 (dk_at dksX6_pass_1 6 rfl rfl)
theorem dX6_pass_30 : decode cX6_pass 30 = .ok (.ireturn, 1) := dk_172 (dk_at dksX6_pass_1 8 rfl rfl)
theorem dX6_pass_31 : decode cX6_pass 31 = .ok (.iconst 0, 1) := dk_3 (dk_at dksX6_pass_1 9 rfl rfl)
theorem dX6_pass_32 : decode cX6_pass 32 = .ok (.istore_n 2, 1) := dk_61 (dk_at dksX6_pass_1 10 rfl rfl)
theorem dX6_pass_33 : decode cX6_pass 33 = .ok (.iload_n 2, 1) := dk_28 (dk_at dksX6_pass_1 11 rfl rfl)
theorem dX6_pass_34 : decode cX6_pass 34 = .ok (.iload_n 1, 1) := dk_27 (dk_at dksX6_pass_1 12 rfl rfl)
theorem dX6_pass_35 : decode cX6_pass 35 = .ok (.if_icmp .ge 13, 3) := dk_162 0 13 (dk_at dksX6_pass_1 13 rfl rfl)
theorem dX6_pass_38 : decode cX6_pass 38 = .ok (.aload_n 0, 1) := dk_42 (dk_at dksX6_pass_1 16 rfl rfl)
theorem dX6_pass_39 : decode cX6_pass 39 = .ok (.invokevirtual 203, 3) := dk_182 0 203 (dk_at dksX6_pass_1 17 rfl rfl)
theorem dX6_pass_42 : decode cX6_pass 42 = .ok (.iinc 2 1, 3) := dk_132 2 1 (dk_at dksX6_pass_1 20 rfl rfl)
theorem dX6_pass_45 : decode cX6_pass 45 = .ok (.goto (-12), 3) := dk_167 255 244 (dk_at dksX6_pass_2 0 rfl rfl)
theorem dX6_pass_48 : decode cX6_pass 48 = .ok (.aload_n 0, 1) := dk_42 (dk_at dksX6_pass_2 3 rfl rfl)
theorem dX6_pass_49 : decode cX6_pass 49 = .ok (.getfield 15, 3) := dk_180 0 15 (dk_at dksX6_pass_2 4 rfl rfl)
theorem dX6_pass_52 : decode cX6_pass 52 = .ok (.bipush 82, 2) := dk_16 82 (dk_at dksX6_pass_2 7 rfl rfl)
theorem dX6_pass_54 : decode cX6_pass 54 = .ok (.iaload, 1) := dk_46 (dk_at dksX6_pass_2 9 rfl rfl)
theorem dX6_pass_55 : decode cX6_pass 55 = .ok (.ireturn, 1) := dk_172 (dk_at dksX6_pass_2 10 rfl rfl)
abbrev cX6_on : ByteArray := prog_23_method_53_code
def yX6_on : MethodName := ⟨RX6, "on", "(II)I"⟩
def dkwX6_on_4 : List UInt8 := [16, 20, 100, 5, 182, 0, 83, 62, 42, 3, 182, 0, 206, 29, 172]
abbrev dktX6_on_4 : List UInt8 := dkwX6_on_4 ++ []
def dkwX6_on_3 : List UInt8 := [167, 0, 30, 28, 16, 20, 162, 0, 15, 42, 180, 0, 15, 28, 16, 10, 100, 46, 167, 0, 12, 42, 28]
abbrev dktX6_on_3 : List UInt8 := dkwX6_on_3 ++ dktX6_on_4
def dkwX6_on_2 : List UInt8 := [62, 29, 27, 162, 0, 13, 42, 182, 0, 203, 132, 3, 1, 167, 255, 244, 28, 154, 0, 10, 42, 182, 0, 200]
abbrev dktX6_on_2 : List UInt8 := dkwX6_on_2 ++ dktX6_on_3
def dkwX6_on_1 : List UInt8 := [154, 0, 5, 2, 172, 27, 3, 16, 60, 184, 0, 79, 154, 0, 6, 16, 254, 172, 42, 3, 182, 0, 197, 3]
abbrev dktX6_on_1 : List UInt8 := dkwX6_on_1 ++ dktX6_on_2
def dkwX6_on_0 : List UInt8 := [28, 153, 0, 26, 28, 16, 10, 100, 184, 0, 87, 154, 0, 16, 42, 28, 16, 20, 100, 182, 0, 91]
abbrev dktX6_on_0 : List UInt8 := dkwX6_on_0 ++ dktX6_on_1
theorem dksX6_on_0 : cX6_on.data.toList.drop 0 = dktX6_on_0 := by decide +kernel
theorem dksX6_on_1 : cX6_on.data.toList.drop 22 = dktX6_on_1 := dk_seg dksX6_on_0 22 rfl rfl
theorem dksX6_on_2 : cX6_on.data.toList.drop 46 = dktX6_on_2 := dk_seg dksX6_on_1 24 rfl rfl
theorem dksX6_on_3 : cX6_on.data.toList.drop 70 = dktX6_on_3 := dk_seg dksX6_on_2 24 rfl rfl
theorem dksX6_on_4 : cX6_on.data.toList.drop 93 = dktX6_on_4 := dk_seg dksX6_on_3 23 rfl rfl
theorem dX6_on_0 : decode cX6_on 0 = .ok (.iload_n 2, 1) := dk_28 (dk_at dksX6_on_0 0 rfl rfl)
theorem dX6_on_1 : decode cX6_on 1 = .ok (.ifCond .eq 26, 3) := dk_153 0 26 (dk_at dksX6_on_0 1 rfl rfl)
theorem dX6_on_4 : decode cX6_on 4 = .ok (.iload_n 2, 1) := dk_28 (dk_at dksX6_on_0 4 rfl rfl)
theorem dX6_on_5 : decode cX6_on 5 = .ok (.bipush 10, 2) := dk_16 10 (dk_at dksX6_on_0 5 rfl rfl)
theorem dX6_on_7 : decode cX6_on 7 = .ok (.isub, 1) := dk_100 (dk_at dksX6_on_0 7 rfl rfl)
theorem dX6_on_8 : decode cX6_on 8 = .ok (.invokestatic 87, 3) := dk_184 0 87 (dk_at dksX6_on_0 8 rfl rfl)
theorem dX6_on_11 : decode cX6_on 11 = .ok (.ifCond .ne 16, 3) := dk_154 0 16 (dk_at dksX6_on_0 11 rfl rfl)
theorem dX6_on_14 : decode cX6_on 14 = .ok (.aload_n 0, 1) := dk_42 (dk_at dksX6_on_0 14 rfl rfl)
theorem dX6_on_15 : decode cX6_on 15 = .ok (.iload_n 2, 1) := dk_28 (dk_at dksX6_on_0 15 rfl rfl)
theorem dX6_on_16 : decode cX6_on 16 = .ok (.bipush 20, 2) := dk_16 20 (dk_at dksX6_on_0 16 rfl rfl)
theorem dX6_on_18 : decode cX6_on 18 = .ok (.isub, 1) := dk_100 (dk_at dksX6_on_0 18 rfl rfl)
theorem dX6_on_19 : decode cX6_on 19 = .ok (.invokevirtual 91, 3) := dk_182 0 91 (dk_at dksX6_on_0 19 rfl rfl)
theorem dX6_on_22 : decode cX6_on 22 = .ok (.ifCond .ne 5, 3) := dk_154 0 5 (dk_at dksX6_on_1 0 rfl rfl)
theorem dX6_on_25 : decode cX6_on 25 = .ok (.iconst (-1), 1) := dk_2 (dk_at dksX6_on_1 3 rfl rfl)
theorem dX6_on_26 : decode cX6_on 26 = .ok (.ireturn, 1) := dk_172 (dk_at dksX6_on_1 4 rfl rfl)
theorem dX6_on_27 : decode cX6_on 27 = .ok (.iload_n 1, 1) := dk_27 (dk_at dksX6_on_1 5 rfl rfl)
theorem dX6_on_28 : decode cX6_on 28 = .ok (.iconst 0, 1) := dk_3 (dk_at dksX6_on_1 6 rfl rfl)
theorem dX6_on_29 : decode cX6_on 29 = .ok (.bipush 60, 2) := dk_16 60 (dk_at dksX6_on_1 7 rfl rfl)
theorem dX6_on_31 : decode cX6_on 31 = .ok (.invokestatic 79, 3) := dk_184 0 79 (dk_at dksX6_on_1 9 rfl rfl)
theorem dX6_on_34 : decode cX6_on 34 = .ok (.ifCond .ne 6, 3) := dk_154 0 6 (dk_at dksX6_on_1 12 rfl rfl)
theorem dX6_on_37 : decode cX6_on 37 = .ok (.bipush (-2), 2) := dk_16 254 (dk_at dksX6_on_1 15 rfl rfl)
theorem dX6_on_39 : decode cX6_on 39 = .ok (.ireturn, 1) := dk_172 (dk_at dksX6_on_1 17 rfl rfl)
theorem dX6_on_40 : decode cX6_on 40 = .ok (.aload_n 0, 1) := dk_42 (dk_at dksX6_on_1 18 rfl rfl)
theorem dX6_on_41 : decode cX6_on 41 = .ok (.iconst 0, 1) := dk_3 (dk_at dksX6_on_1 19 rfl rfl)
theorem dX6_on_42 : decode cX6_on 42 = .ok (.invokevirtual 197, 3) := dk_182 0 197 (dk_at dksX6_on_1 20 rfl rfl)
theorem dX6_on_45 : decode cX6_on 45 = .ok (.iconst 0, 1) := dk_3 (dk_at dksX6_on_1 23 rfl rfl)
theorem dX6_on_46 : decode cX6_on 46 = .ok (.istore_n 3, 1) := dk_62 (dk_at dksX6_on_2 0 rfl rfl)
theorem dX6_on_47 : decode cX6_on 47 = .ok (.iload_n 3, 1) := dk_29 (dk_at dksX6_on_2 1 rfl rfl)
theorem dX6_on_48 : decode cX6_on 48 = .ok (.iload_n 1, 1) := dk_27 (dk_at dksX6_on_2 2 rfl rfl)
theorem dX6_on_49 : decode cX6_on 49 = .ok (.if_icmp .ge 13, 3) := dk_162 0 13 (dk_at dksX6_on_2 3 rfl rfl)
theorem dX6_on_52 : decode cX6_on 52 = .ok (.aload_n 0, 1) := dk_42 (dk_at dksX6_on_2 6 rfl rfl)
theorem dX6_on_53 : decode cX6_on 53 = .ok (.invokevirtual 203, 3) := dk_182 0 203 (dk_at dksX6_on_2 7 rfl rfl)
theorem dX6_on_56 : decode cX6_on 56 = .ok (.iinc 3 1, 3) := dk_132 3 1 (dk_at dksX6_on_2 10 rfl rfl)
theorem dX6_on_59 : decode cX6_on 59 = .ok (.goto (-12), 3) := dk_167 255 244 (dk_at dksX6_on_2 13 rfl rfl)
theorem dX6_on_62 : decode cX6_on 62 = .ok (.iload_n 2, 1) := dk_28 (dk_at dksX6_on_2 16 rfl rfl)
theorem dX6_on_63 : decode cX6_on 63 = .ok (.ifCond .ne 10, 3) := dk_154 0 10 (dk_at dksX6_on_2 17 rfl rfl)
theorem dX6_on_66 : decode cX6_on 66 = .ok (.aload_n 0, 1) := dk_42 (dk_at dksX6_on_2 20 rfl rfl)
theorem dX6_on_67 : decode cX6_on 67 = .ok (.invokevirtual 200, 3) := dk_182 0 200 (dk_at dksX6_on_2 21 rfl rfl)
theorem dX6_on_70 : decode cX6_on 70 = .ok (.goto 30, 3) := dk_167 0 30 (dk_at dksX6_on_3 0 rfl rfl)
theorem dX6_on_73 : decode cX6_on 73 = .ok (.iload_n 2, 1) := dk_28 (dk_at dksX6_on_3 3 rfl rfl)
theorem dX6_on_74 : decode cX6_on 74 = .ok (.bipush 20, 2) := dk_16 20 (dk_at dksX6_on_3 4 rfl rfl)
theorem dX6_on_76 : decode cX6_on 76 = .ok (.if_icmp .ge 15, 3) := dk_162 0 15 (dk_at dksX6_on_3 6 rfl rfl)
theorem dX6_on_79 : decode cX6_on 79 = .ok (.aload_n 0, 1) := dk_42 (dk_at dksX6_on_3 9 rfl rfl)
theorem dX6_on_80 : decode cX6_on 80 = .ok (.getfield 15, 3) := dk_180 0 15 (dk_at dksX6_on_3 10 rfl rfl)
theorem dX6_on_83 : decode cX6_on 83 = .ok (.iload_n 2, 1) := dk_28 (dk_at dksX6_on_3 13 rfl rfl)
theorem dX6_on_84 : decode cX6_on 84 = .ok (.bipush 10, 2) := dk_16 10 (dk_at dksX6_on_3 14 rfl rfl)
theorem dX6_on_86 : decode cX6_on 86 = .ok (.isub, 1) := dk_100 (dk_at dksX6_on_3 16 rfl rfl)
theorem dX6_on_87 : decode cX6_on 87 = .ok (.iaload, 1) := dk_46 (dk_at dksX6_on_3 17 rfl rfl)
theorem dX6_on_88 : decode cX6_on 88 = .ok (.goto 12, 3) := dk_167 0 12 (dk_at dksX6_on_3 18 rfl rfl)
theorem dX6_on_91 : decode cX6_on 91 = .ok (.aload_n 0, 1) := dk_42 (dk_at dksX6_on_3 21 rfl rfl)
theorem dX6_on_92 : decode cX6_on 92 = .ok (.iload_n 2, 1) := dk_28 (dk_at dksX6_on_3 22 rfl rfl)
theorem dX6_on_93 : decode cX6_on 93 = .ok (.bipush 20, 2) := dk_16 20 (dk_at dksX6_on_4 0 rfl rfl)
theorem dX6_on_95 : decode cX6_on 95 = .ok (.isub, 1) := dk_100 (dk_at dksX6_on_4 2 rfl rfl)
theorem dX6_on_96 : decode cX6_on 96 = .ok (.iconst 2, 1) := dk_5 (dk_at dksX6_on_4 3 rfl rfl)
theorem dX6_on_97 : decode cX6_on 97 = .ok (.invokevirtual 83, 3) := dk_182 0 83 (dk_at dksX6_on_4 4 rfl rfl)
theorem dX6_on_100 : decode cX6_on 100 = .ok (.istore_n 3, 1) := dk_62 (dk_at dksX6_on_4 7 rfl rfl)
theorem dX6_on_101 : decode cX6_on 101 = .ok (.aload_n 0, 1) := dk_42 (dk_at dksX6_on_4 8 rfl rfl)
theorem dX6_on_102 : decode cX6_on 102 = .ok (.iconst 0, 1) := dk_3 (dk_at dksX6_on_4 9 rfl rfl)
theorem dX6_on_103 : decode cX6_on 103 = .ok (.invokevirtual 206, 3) := dk_182 0 206 (dk_at dksX6_on_4 10 rfl rfl)
theorem dX6_on_106 : decode cX6_on 106 = .ok (.iload_n 3, 1) := dk_29 (dk_at dksX6_on_4 13 rfl rfl)
theorem dX6_on_107 : decode cX6_on 107 = .ok (.ireturn, 1) := dk_172 (dk_at dksX6_on_4 14 rfl rfl)
abbrev cX6_opens : ByteArray := prog_23_method_54_code
def yX6_opens : MethodName := ⟨RX6, "opens", "(I)I"⟩
def dkwX6_opens_0 : List UInt8 := [42, 27, 182, 0, 169, 153, 0, 11, 42, 27, 182, 0, 221, 167, 0, 4, 2, 172]
abbrev dktX6_opens_0 : List UInt8 := dkwX6_opens_0 ++ []
theorem dksX6_opens_0 : cX6_opens.data.toList.drop 0 = dktX6_opens_0 := by decide +kernel
theorem dX6_opens_0 : decode cX6_opens 0 = .ok (.aload_n 0, 1) := dk_42 (dk_at dksX6_opens_0 0 rfl rfl)
theorem dX6_opens_1 : decode cX6_opens 1 = .ok (.iload_n 1, 1) := dk_27 (dk_at dksX6_opens_0 1 rfl rfl)
theorem dX6_opens_2 : decode cX6_opens 2 = .ok (.invokevirtual 169, 3) := dk_182 0 169 (dk_at dksX6_opens_0 2 rfl rfl)
theorem dX6_opens_5 : decode cX6_opens 5 = .ok (.ifCond .eq 11, 3) := dk_153 0 11 (dk_at dksX6_opens_0 5 rfl rfl)
theorem dX6_opens_8 : decode cX6_opens 8 = .ok (.aload_n 0, 1) := dk_42 (dk_at dksX6_opens_0 8 rfl rfl)
theorem dX6_opens_9 : decode cX6_opens 9 = .ok (.iload_n 1, 1) := dk_27 (dk_at dksX6_opens_0 9 rfl rfl)
theorem dX6_opens_10 : decode cX6_opens 10 = .ok (.invokevirtual 221, 3) := dk_182 0 221 (dk_at dksX6_opens_0 10 rfl rfl)
theorem dX6_opens_13 : decode cX6_opens 13 = .ok (.goto 4, 3) := dk_167 0 4 (dk_at dksX6_opens_0 13 rfl rfl)
theorem dX6_opens_16 : decode cX6_opens 16 = .ok (.iconst (-1), 1) := dk_2 (dk_at dksX6_opens_0 16 rfl rfl)
theorem dX6_opens_17 : decode cX6_opens 17 = .ok (.ireturn, 1) := dk_172 (dk_at dksX6_opens_0 17 rfl rfl)
abbrev cX6_soon : ByteArray := prog_23_method_46_code
def yX6_soon : MethodName := ⟨RX6, "soon", "(I)I"⟩
def dkwX6_soon_2 : List UInt8 := [132, 3, 1, 167, 255, 218, 42, 3, 182, 0, 206, 28, 172]
abbrev dktX6_soon_2 : List UInt8 := dkwX6_soon_2 ++ []
def dkwX6_soon_1 : List UInt8 := [182, 0, 200, 27, 122, 4, 126, 4, 160, 0, 7, 29, 167, 0, 5, 16, 251, 61, 42, 182, 0, 203]
abbrev dktX6_soon_1 : List UInt8 := dkwX6_soon_1 ++ dktX6_soon_2
def dkwX6_soon_0 : List UInt8 := [42, 3, 182, 0, 197, 16, 251, 61, 3, 62, 29, 16, 20, 163, 0, 38, 28, 16, 251, 160, 0, 32, 42]
abbrev dktX6_soon_0 : List UInt8 := dkwX6_soon_0 ++ dktX6_soon_1
theorem dksX6_soon_0 : cX6_soon.data.toList.drop 0 = dktX6_soon_0 := by decide +kernel
theorem dksX6_soon_1 : cX6_soon.data.toList.drop 23 = dktX6_soon_1 := dk_seg dksX6_soon_0 23 rfl rfl
theorem dksX6_soon_2 : cX6_soon.data.toList.drop 45 = dktX6_soon_2 := dk_seg dksX6_soon_1 22 rfl rfl
theorem dX6_soon_0 : decode cX6_soon 0 = .ok (.aload_n 0, 1) := dk_42 (dk_at dksX6_soon_0 0 rfl rfl)
theorem dX6_soon_1 : decode cX6_soon 1 = .ok (.iconst 0, 1) := dk_3 (dk_at dksX6_soon_0 1 rfl rfl)
theorem dX6_soon_2 : decode cX6_soon 2 = .ok (.invokevirtual 197, 3) := dk_182 0 197 (dk_at dksX6_soon_0 2 rfl rfl)
theorem dX6_soon_5 : decode cX6_soon 5 = .ok (.bipush (-5), 2) := dk_16 251 (dk_at dksX6_soon_0 5 rfl rfl)
theorem dX6_soon_7 : decode cX6_soon 7 = .ok (.istore_n 2, 1) := dk_61 (dk_at dksX6_soon_0 7 rfl rfl)
theorem dX6_soon_8 : decode cX6_soon 8 = .ok (.iconst 0, 1) := dk_3 (dk_at dksX6_soon_0 8 rfl rfl)
theorem dX6_soon_9 : decode cX6_soon 9 = .ok (.istore_n 3, 1) := dk_62 (dk_at dksX6_soon_0 9 rfl rfl)
theorem dX6_soon_10 : decode cX6_soon 10 = .ok (.iload_n 3, 1) := dk_29 (dk_at dksX6_soon_0 10 rfl rfl)
theorem dX6_soon_11 : decode cX6_soon 11 = .ok (.bipush 20, 2) := dk_16 20 (dk_at dksX6_soon_0 11 rfl rfl)
theorem dX6_soon_13 : decode cX6_soon 13 = .ok (.if_icmp .gt 38, 3) := dk_163 0 38 (dk_at dksX6_soon_0 13 rfl rfl)
theorem dX6_soon_16 : decode cX6_soon 16 = .ok (.iload_n 2, 1) := dk_28 (dk_at dksX6_soon_0 16 rfl rfl)
theorem dX6_soon_17 : decode cX6_soon 17 = .ok (.bipush (-5), 2) := dk_16 251 (dk_at dksX6_soon_0 17 rfl rfl)
theorem dX6_soon_19 : decode cX6_soon 19 = .ok (.if_icmp .ne 32, 3) := dk_160 0 32 (dk_at dksX6_soon_0 19 rfl rfl)
theorem dX6_soon_22 : decode cX6_soon 22 = .ok (.aload_n 0, 1) := dk_42 (dk_at dksX6_soon_0 22 rfl rfl)
theorem dX6_soon_23 : decode cX6_soon 23 = .ok (.invokevirtual 200, 3) := dk_182 0 200 (dk_at dksX6_soon_1 0 rfl rfl)
theorem dX6_soon_26 : decode cX6_soon 26 = .ok (.iload_n 1, 1) := dk_27 (dk_at dksX6_soon_1 3 rfl rfl)
theorem dX6_soon_27 : decode cX6_soon 27 = .ok (.ishr, 1) := dk_122 (dk_at dksX6_soon_1 4 rfl rfl)
theorem dX6_soon_28 : decode cX6_soon 28 = .ok (.iconst 1, 1) := dk_4 (dk_at dksX6_soon_1 5 rfl rfl)
theorem dX6_soon_29 : decode cX6_soon 29 = .ok (.iand, 1) := dk_126 (dk_at dksX6_soon_1 6 rfl rfl)
theorem dX6_soon_30 : decode cX6_soon 30 = .ok (.iconst 1, 1) := dk_4 (dk_at dksX6_soon_1 7 rfl rfl)
theorem dX6_soon_31 : decode cX6_soon 31 = .ok (.if_icmp .ne 7, 3) := dk_160 0 7 (dk_at dksX6_soon_1 8 rfl rfl)
theorem dX6_soon_34 : decode cX6_soon 34 = .ok (.iload_n 3, 1) := dk_29 (dk_at dksX6_soon_1 11 rfl rfl)
theorem dX6_soon_35 : decode cX6_soon 35 = .ok (.goto 5, 3) := dk_167 0 5 (dk_at dksX6_soon_1 12 rfl rfl)
theorem dX6_soon_38 : decode cX6_soon 38 = .ok (.bipush (-5), 2) := dk_16 251 (dk_at dksX6_soon_1 15 rfl rfl)
theorem dX6_soon_40 : decode cX6_soon 40 = .ok (.istore_n 2, 1) := dk_61 (dk_at dksX6_soon_1 17 rfl rfl)
theorem dX6_soon_41 : decode cX6_soon 41 = .ok (.aload_n 0, 1) := dk_42 (dk_at dksX6_soon_1 18 rfl rfl)
theorem dX6_soon_42 : decode cX6_soon 42 = .ok (.invokevirtual 203, 3) := dk_182 0 203 (dk_at dksX6_soon_1 19 rfl rfl)
theorem dX6_soon_45 : decode cX6_soon 45 = .ok (.iinc 3 1, 3) := dk_132 3 1 (dk_at dksX6_soon_2 0 rfl rfl)
theorem dX6_soon_48 : decode cX6_soon 48 = .ok (.goto (-38), 3) := dk_167 255 218 (dk_at dksX6_soon_2 3 rfl rfl)
theorem dX6_soon_51 : decode cX6_soon 51 = .ok (.aload_n 0, 1) := dk_42 (dk_at dksX6_soon_2 6 rfl rfl)
theorem dX6_soon_52 : decode cX6_soon 52 = .ok (.iconst 0, 1) := dk_3 (dk_at dksX6_soon_2 7 rfl rfl)
theorem dX6_soon_53 : decode cX6_soon 53 = .ok (.invokevirtual 206, 3) := dk_182 0 206 (dk_at dksX6_soon_2 8 rfl rfl)
theorem dX6_soon_56 : decode cX6_soon 56 = .ok (.iload_n 2, 1) := dk_28 (dk_at dksX6_soon_2 11 rfl rfl)
theorem dX6_soon_57 : decode cX6_soon 57 = .ok (.ireturn, 1) := dk_172 (dk_at dksX6_soon_2 12 rfl rfl)
abbrev cX6_way : ByteArray := prog_23_method_57_code
def yX6_way : MethodName := ⟨RX6, "way", "(III)I"⟩
def dkwX6_way_1 : List UInt8 := [172, 29, 154, 0, 12, 42, 27, 28, 182, 0, 224, 167, 0, 9, 42, 27, 28, 182, 0, 233, 172]
abbrev dktX6_way_1 : List UInt8 := dkwX6_way_1 ++ []
def dkwX6_way_0 : List UInt8 := [27, 184, 0, 87, 153, 0, 19, 28, 184, 0, 87, 153, 0, 12, 29, 3, 4, 184, 0, 79, 154, 0, 5, 2]
abbrev dktX6_way_0 : List UInt8 := dkwX6_way_0 ++ dktX6_way_1
theorem dksX6_way_0 : cX6_way.data.toList.drop 0 = dktX6_way_0 := by decide +kernel
theorem dksX6_way_1 : cX6_way.data.toList.drop 24 = dktX6_way_1 := dk_seg dksX6_way_0 24 rfl rfl
theorem dX6_way_0 : decode cX6_way 0 = .ok (.iload_n 1, 1) := dk_27 (dk_at dksX6_way_0 0 rfl rfl)
theorem dX6_way_1 : decode cX6_way 1 = .ok (.invokestatic 87, 3) := dk_184 0 87 (dk_at dksX6_way_0 1 rfl rfl)
theorem dX6_way_4 : decode cX6_way 4 = .ok (.ifCond .eq 19, 3) := dk_153 0 19 (dk_at dksX6_way_0 4 rfl rfl)
theorem dX6_way_7 : decode cX6_way 7 = .ok (.iload_n 2, 1) := dk_28 (dk_at dksX6_way_0 7 rfl rfl)
theorem dX6_way_8 : decode cX6_way 8 = .ok (.invokestatic 87, 3) := dk_184 0 87 (dk_at dksX6_way_0 8 rfl rfl)
theorem dX6_way_11 : decode cX6_way 11 = .ok (.ifCond .eq 12, 3) := dk_153 0 12 (dk_at dksX6_way_0 11 rfl rfl)
theorem dX6_way_14 : decode cX6_way 14 = .ok (.iload_n 3, 1) := dk_29 (dk_at dksX6_way_0 14 rfl rfl)
theorem dX6_way_15 : decode cX6_way 15 = .ok (.iconst 0, 1) := dk_3 (dk_at dksX6_way_0 15 rfl rfl)
theorem dX6_way_16 : decode cX6_way 16 = .ok (.iconst 1, 1) := dk_4 (dk_at dksX6_way_0 16 rfl rfl)
theorem dX6_way_17 : decode cX6_way 17 = .ok (.invokestatic 79, 3) := dk_184 0 79 (dk_at dksX6_way_0 17 rfl rfl)
theorem dX6_way_20 : decode cX6_way 20 = .ok (.ifCond .ne 5, 3) := dk_154 0 5 (dk_at dksX6_way_0 20 rfl rfl)
theorem dX6_way_23 : decode cX6_way 23 = .ok (.iconst (-1), 1) := dk_2 (dk_at dksX6_way_0 23 rfl rfl)
theorem dX6_way_24 : decode cX6_way 24 = .ok (.ireturn, 1) := dk_172 (dk_at dksX6_way_1 0 rfl rfl)
theorem dX6_way_25 : decode cX6_way 25 = .ok (.iload_n 3, 1) := dk_29 (dk_at dksX6_way_1 1 rfl rfl)
theorem dX6_way_26 : decode cX6_way 26 = .ok (.ifCond .ne 12, 3) := dk_154 0 12 (dk_at dksX6_way_1 2 rfl rfl)
theorem dX6_way_29 : decode cX6_way 29 = .ok (.aload_n 0, 1) := dk_42 (dk_at dksX6_way_1 5 rfl rfl)
theorem dX6_way_30 : decode cX6_way 30 = .ok (.iload_n 1, 1) := dk_27 (dk_at dksX6_way_1 6 rfl rfl)
theorem dX6_way_31 : decode cX6_way 31 = .ok (.iload_n 2, 1) := dk_28 (dk_at dksX6_way_1 7 rfl rfl)
theorem dX6_way_32 : decode cX6_way 32 = .ok (.invokevirtual 224, 3) := dk_182 0 224 (dk_at dksX6_way_1 8 rfl rfl)
theorem dX6_way_35 : decode cX6_way 35 = .ok (.goto 9, 3) := dk_167 0 9 (dk_at dksX6_way_1 11 rfl rfl)
theorem dX6_way_38 : decode cX6_way 38 = .ok (.aload_n 0, 1) := dk_42 (dk_at dksX6_way_1 14 rfl rfl)
theorem dX6_way_39 : decode cX6_way 39 = .ok (.iload_n 1, 1) := dk_27 (dk_at dksX6_way_1 15 rfl rfl)
theorem dX6_way_40 : decode cX6_way 40 = .ok (.iload_n 2, 1) := dk_28 (dk_at dksX6_way_1 16 rfl rfl)
theorem dX6_way_41 : decode cX6_way 41 = .ok (.invokevirtual 233, 3) := dk_182 0 233 (dk_at dksX6_way_1 17 rfl rfl)
theorem dX6_way_44 : decode cX6_way 44 = .ok (.ireturn, 1) := dk_172 (dk_at dksX6_way_1 20 rfl rfl)
abbrev cX6_wayTo : ByteArray := prog_23_method_49_code
def yX6_wayTo : MethodName := ⟨RX6, "wayTo", "(II)I"⟩
def dkwX6_wayTo_1 : List UInt8 := [160, 0, 5, 29, 172, 132, 3, 1, 167, 255, 231, 16, 251, 172]
abbrev dktX6_wayTo_1 : List UInt8 := dkwX6_wayTo_1 ++ []
def dkwX6_wayTo_0 : List UInt8 := [42, 27, 182, 0, 209, 3, 62, 29, 16, 16, 162, 0, 25, 42, 180, 0, 50, 29, 46, 28, 122, 4, 126, 4]
abbrev dktX6_wayTo_0 : List UInt8 := dkwX6_wayTo_0 ++ dktX6_wayTo_1
theorem dksX6_wayTo_0 : cX6_wayTo.data.toList.drop 0 = dktX6_wayTo_0 := by decide +kernel
theorem dksX6_wayTo_1 : cX6_wayTo.data.toList.drop 24 = dktX6_wayTo_1 := dk_seg dksX6_wayTo_0 24 rfl rfl
theorem dX6_wayTo_0 : decode cX6_wayTo 0 = .ok (.aload_n 0, 1) := dk_42 (dk_at dksX6_wayTo_0 0 rfl rfl)
theorem dX6_wayTo_1 : decode cX6_wayTo 1 = .ok (.iload_n 1, 1) := dk_27 (dk_at dksX6_wayTo_0 1 rfl rfl)
theorem dX6_wayTo_2 : decode cX6_wayTo 2 = .ok (.invokevirtual 209, 3) := dk_182 0 209 (dk_at dksX6_wayTo_0 2 rfl rfl)
theorem dX6_wayTo_5 : decode cX6_wayTo 5 = .ok (.iconst 0, 1) := dk_3 (dk_at dksX6_wayTo_0 5 rfl rfl)
theorem dX6_wayTo_6 : decode cX6_wayTo 6 = .ok (.istore_n 3, 1) := dk_62 (dk_at dksX6_wayTo_0 6 rfl rfl)
theorem dX6_wayTo_7 : decode cX6_wayTo 7 = .ok (.iload_n 3, 1) := dk_29 (dk_at dksX6_wayTo_0 7 rfl rfl)
theorem dX6_wayTo_8 : decode cX6_wayTo 8 = .ok (.bipush 16, 2) := dk_16 16 (dk_at dksX6_wayTo_0 8 rfl rfl)
theorem dX6_wayTo_10 : decode cX6_wayTo 10 = .ok (.if_icmp .ge 25, 3) := dk_162 0 25 (dk_at dksX6_wayTo_0 10 rfl rfl)
theorem dX6_wayTo_13 : decode cX6_wayTo 13 = .ok (.aload_n 0, 1) := dk_42 (dk_at dksX6_wayTo_0 13 rfl rfl)
theorem dX6_wayTo_14 : decode cX6_wayTo 14 = .ok (.getfield 50, 3) := dk_180 0 50 (dk_at dksX6_wayTo_0 14 rfl rfl)
theorem dX6_wayTo_17 : decode cX6_wayTo 17 = .ok (.iload_n 3, 1) := dk_29 (dk_at dksX6_wayTo_0 17 rfl rfl)
theorem dX6_wayTo_18 : decode cX6_wayTo 18 = .ok (.iaload, 1) := dk_46 (dk_at dksX6_wayTo_0 18 rfl rfl)
theorem dX6_wayTo_19 : decode cX6_wayTo 19 = .ok (.iload_n 2, 1) := dk_28 (dk_at dksX6_wayTo_0 19 rfl rfl)
theorem dX6_wayTo_20 : decode cX6_wayTo 20 = .ok (.ishr, 1) := dk_122 (dk_at dksX6_wayTo_0 20 rfl rfl)
theorem dX6_wayTo_21 : decode cX6_wayTo 21 = .ok (.iconst 1, 1) := dk_4 (dk_at dksX6_wayTo_0 21 rfl rfl)
theorem dX6_wayTo_22 : decode cX6_wayTo 22 = .ok (.iand, 1) := dk_126 (dk_at dksX6_wayTo_0 22 rfl rfl)
theorem dX6_wayTo_23 : decode cX6_wayTo 23 = .ok (.iconst 1, 1) := dk_4 (dk_at dksX6_wayTo_0 23 rfl rfl)
theorem dX6_wayTo_24 : decode cX6_wayTo 24 = .ok (.if_icmp .ne 5, 3) := dk_160 0 5 (dk_at dksX6_wayTo_1 0 rfl rfl)
theorem dX6_wayTo_27 : decode cX6_wayTo 27 = .ok (.iload_n 3, 1) := dk_29 (dk_at dksX6_wayTo_1 3 rfl rfl)
theorem dX6_wayTo_28 : decode cX6_wayTo 28 = .ok (.ireturn, 1) := dk_172 (dk_at dksX6_wayTo_1 4 rfl rfl)
theorem dX6_wayTo_29 : decode cX6_wayTo 29 = .ok (.iinc 3 1, 3) := dk_132 3 1 (dk_at dksX6_wayTo_1 5 rfl rfl)
theorem dX6_wayTo_32 : decode cX6_wayTo 32 = .ok (.goto (-25), 3) := dk_167 255 231 (dk_at dksX6_wayTo_1 8 rfl rfl)
theorem dX6_wayTo_35 : decode cX6_wayTo 35 = .ok (.bipush (-5), 2) := dk_16 251 (dk_at dksX6_wayTo_1 11 rfl rfl)
theorem dX6_wayTo_37 : decode cX6_wayTo 37 = .ok (.ireturn, 1) := dk_172 (dk_at dksX6_wayTo_1 13 rfl rfl)
abbrev cX6_keys : ByteArray := prog_23_method_56_code
def yX6_keys : MethodName := ⟨RX6, "keys", "(II)I"⟩
def dkwX6_keys_6 : List UInt8 := [184, 0, 230, 62, 132, 6, 1, 167, 255, 144, 132, 5, 1, 167, 255, 120, 21, 4, 172]
abbrev dktX6_keys_6 : List UInt8 := dkwX6_keys_6 ++ []
def dkwX6_keys_5 : List UInt8 := [29, 162, 0, 14, 16, 10, 21, 5, 104, 21, 6, 96, 167, 0, 5, 21, 4, 54, 4, 21, 9, 29]
abbrev dktX6_keys_5 : List UInt8 := dkwX6_keys_5 ++ dktX6_keys_6
def dkwX6_keys_4 : List UInt8 := [54, 9, 42, 21, 5, 6, 21, 7, 182, 0, 104, 87, 42, 21, 6, 6, 21, 8, 182, 0, 104, 87, 21, 9]
abbrev dktX6_keys_4 : List UInt8 := dkwX6_keys_4 ++ dktX6_keys_5
def dkwX6_keys_3 : List UInt8 := [182, 0, 104, 87, 42, 21, 6, 6, 21, 7, 182, 0, 104, 87, 42, 27, 28, 182, 0, 224, 184, 0, 227]
abbrev dktX6_keys_3 : List UInt8 := dkwX6_keys_3 ++ dktX6_keys_4
def dkwX6_keys_2 : List UInt8 := [42, 21, 5, 6, 182, 0, 83, 54, 7, 42, 21, 6, 6, 182, 0, 83, 54, 8, 42, 21, 5, 6, 21, 8]
abbrev dktX6_keys_2 : List UInt8 := dkwX6_keys_2 ++ dktX6_keys_3
def dkwX6_keys_1 : List UInt8 := [16, 80, 46, 162, 0, 130, 21, 5, 4, 96, 54, 6, 21, 6, 42, 180, 0, 15, 16, 80, 46, 162, 0, 106]
abbrev dktX6_keys_1 : List UInt8 := dkwX6_keys_1 ++ dktX6_keys_2
def dkwX6_keys_0 : List UInt8 := [42, 27, 28, 182, 0, 224, 184, 0, 227, 62, 16, 251, 54, 4, 3, 54, 5, 21, 5, 42, 180, 0, 15]
abbrev dktX6_keys_0 : List UInt8 := dkwX6_keys_0 ++ dktX6_keys_1
theorem dksX6_keys_0 : cX6_keys.data.toList.drop 0 = dktX6_keys_0 := by decide +kernel
theorem dksX6_keys_1 : cX6_keys.data.toList.drop 23 = dktX6_keys_1 := dk_seg dksX6_keys_0 23 rfl rfl
theorem dksX6_keys_2 : cX6_keys.data.toList.drop 47 = dktX6_keys_2 := dk_seg dksX6_keys_1 24 rfl rfl
theorem dksX6_keys_3 : cX6_keys.data.toList.drop 71 = dktX6_keys_3 := dk_seg dksX6_keys_2 24 rfl rfl
theorem dksX6_keys_4 : cX6_keys.data.toList.drop 94 = dktX6_keys_4 := dk_seg dksX6_keys_3 23 rfl rfl
theorem dksX6_keys_5 : cX6_keys.data.toList.drop 118 = dktX6_keys_5 := dk_seg dksX6_keys_4 24 rfl rfl
theorem dksX6_keys_6 : cX6_keys.data.toList.drop 140 = dktX6_keys_6 := dk_seg dksX6_keys_5 22 rfl rfl
theorem dX6_keys_0 : decode cX6_keys 0 = .ok (.aload_n 0, 1) := dk_42 (dk_at dksX6_keys_0 0 rfl rfl)
theorem dX6_keys_1 : decode cX6_keys 1 = .ok (.iload_n 1, 1) := dk_27 (dk_at dksX6_keys_0 1 rfl rfl)
theorem dX6_keys_2 : decode cX6_keys 2 = .ok (.iload_n 2, 1) := dk_28 (dk_at dksX6_keys_0 2 rfl rfl)
theorem dX6_keys_3 : decode cX6_keys 3 = .ok (.invokevirtual 224, 3) := dk_182 0 224 (dk_at dksX6_keys_0 3 rfl rfl)
theorem dX6_keys_6 : decode cX6_keys 6 = .ok (.invokestatic 227, 3) := dk_184 0 227 (dk_at dksX6_keys_0 6 rfl rfl)
theorem dX6_keys_9 : decode cX6_keys 9 = .ok (.istore_n 3, 1) := dk_62 (dk_at dksX6_keys_0 9 rfl rfl)
theorem dX6_keys_10 : decode cX6_keys 10 = .ok (.bipush (-5), 2) := dk_16 251 (dk_at dksX6_keys_0 10 rfl rfl)
theorem dX6_keys_12 : decode cX6_keys 12 = .ok (.istore 4, 2) := dk_54 4 (dk_at dksX6_keys_0 12 rfl rfl)
theorem dX6_keys_14 : decode cX6_keys 14 = .ok (.iconst 0, 1) := dk_3 (dk_at dksX6_keys_0 14 rfl rfl)
theorem dX6_keys_15 : decode cX6_keys 15 = .ok (.istore 5, 2) := dk_54 5 (dk_at dksX6_keys_0 15 rfl rfl)
theorem dX6_keys_17 : decode cX6_keys 17 = .ok (.iload 5, 2) := dk_21 5 (dk_at dksX6_keys_0 17 rfl rfl)
theorem dX6_keys_19 : decode cX6_keys 19 = .ok (.aload_n 0, 1) := dk_42 (dk_at dksX6_keys_0 19 rfl rfl)
theorem dX6_keys_20 : decode cX6_keys 20 = .ok (.getfield 15, 3) := dk_180 0 15 (dk_at dksX6_keys_0 20 rfl rfl)
theorem dX6_keys_23 : decode cX6_keys 23 = .ok (.bipush 80, 2) := dk_16 80 (dk_at dksX6_keys_1 0 rfl rfl)
theorem dX6_keys_25 : decode cX6_keys 25 = .ok (.iaload, 1) := dk_46 (dk_at dksX6_keys_1 2 rfl rfl)
theorem dX6_keys_26 : decode cX6_keys 26 = .ok (.if_icmp .ge 130, 3) := dk_162 0 130 (dk_at dksX6_keys_1 3 rfl rfl)
theorem dX6_keys_29 : decode cX6_keys 29 = .ok (.iload 5, 2) := dk_21 5 (dk_at dksX6_keys_1 6 rfl rfl)
theorem dX6_keys_31 : decode cX6_keys 31 = .ok (.iconst 1, 1) := dk_4 (dk_at dksX6_keys_1 8 rfl rfl)
theorem dX6_keys_32 : decode cX6_keys 32 = .ok (.iadd, 1) := dk_96 (dk_at dksX6_keys_1 9 rfl rfl)
theorem dX6_keys_33 : decode cX6_keys 33 = .ok (.istore 6, 2) := dk_54 6 (dk_at dksX6_keys_1 10 rfl rfl)
theorem dX6_keys_35 : decode cX6_keys 35 = .ok (.iload 6, 2) := dk_21 6 (dk_at dksX6_keys_1 12 rfl rfl)
theorem dX6_keys_37 : decode cX6_keys 37 = .ok (.aload_n 0, 1) := dk_42 (dk_at dksX6_keys_1 14 rfl rfl)
theorem dX6_keys_38 : decode cX6_keys 38 = .ok (.getfield 15, 3) := dk_180 0 15 (dk_at dksX6_keys_1 15 rfl rfl)
theorem dX6_keys_41 : decode cX6_keys 41 = .ok (.bipush 80, 2) := dk_16 80 (dk_at dksX6_keys_1 18 rfl rfl)
theorem dX6_keys_43 : decode cX6_keys 43 = .ok (.iaload, 1) := dk_46 (dk_at dksX6_keys_1 20 rfl rfl)
theorem dX6_keys_44 : decode cX6_keys 44 = .ok (.if_icmp .ge 106, 3) := dk_162 0 106 (dk_at dksX6_keys_1 21 rfl rfl)
theorem dX6_keys_47 : decode cX6_keys 47 = .ok (.aload_n 0, 1) := dk_42 (dk_at dksX6_keys_2 0 rfl rfl)
theorem dX6_keys_48 : decode cX6_keys 48 = .ok (.iload 5, 2) := dk_21 5 (dk_at dksX6_keys_2 1 rfl rfl)
theorem dX6_keys_50 : decode cX6_keys 50 = .ok (.iconst 3, 1) := dk_6 (dk_at dksX6_keys_2 3 rfl rfl)
theorem dX6_keys_51 : decode cX6_keys 51 = .ok (.invokevirtual 83, 3) := dk_182 0 83 (dk_at dksX6_keys_2 4 rfl rfl)
theorem dX6_keys_54 : decode cX6_keys 54 = .ok (.istore 7, 2) := dk_54 7 (dk_at dksX6_keys_2 7 rfl rfl)
theorem dX6_keys_56 : decode cX6_keys 56 = .ok (.aload_n 0, 1) := dk_42 (dk_at dksX6_keys_2 9 rfl rfl)
theorem dX6_keys_57 : decode cX6_keys 57 = .ok (.iload 6, 2) := dk_21 6 (dk_at dksX6_keys_2 10 rfl rfl)
theorem dX6_keys_59 : decode cX6_keys 59 = .ok (.iconst 3, 1) := dk_6 (dk_at dksX6_keys_2 12 rfl rfl)
theorem dX6_keys_60 : decode cX6_keys 60 = .ok (.invokevirtual 83, 3) := dk_182 0 83 (dk_at dksX6_keys_2 13 rfl rfl)
theorem dX6_keys_63 : decode cX6_keys 63 = .ok (.istore 8, 2) := dk_54 8 (dk_at dksX6_keys_2 16 rfl rfl)
theorem dX6_keys_65 : decode cX6_keys 65 = .ok (.aload_n 0, 1) := dk_42 (dk_at dksX6_keys_2 18 rfl rfl)
theorem dX6_keys_66 : decode cX6_keys 66 = .ok (.iload 5, 2) := dk_21 5 (dk_at dksX6_keys_2 19 rfl rfl)
theorem dX6_keys_68 : decode cX6_keys 68 = .ok (.iconst 3, 1) := dk_6 (dk_at dksX6_keys_2 21 rfl rfl)
theorem dX6_keys_69 : decode cX6_keys 69 = .ok (.iload 8, 2) := dk_21 8 (dk_at dksX6_keys_2 22 rfl rfl)
theorem dX6_keys_71 : decode cX6_keys 71 = .ok (.invokevirtual 104, 3) := dk_182 0 104 (dk_at dksX6_keys_3 0 rfl rfl)
theorem dX6_keys_74 : decode cX6_keys 74 = .ok (.pop, 1) := dk_87 (dk_at dksX6_keys_3 3 rfl rfl)
theorem dX6_keys_75 : decode cX6_keys 75 = .ok (.aload_n 0, 1) := dk_42 (dk_at dksX6_keys_3 4 rfl rfl)
theorem dX6_keys_76 : decode cX6_keys 76 = .ok (.iload 6, 2) := dk_21 6 (dk_at dksX6_keys_3 5 rfl rfl)
theorem dX6_keys_78 : decode cX6_keys 78 = .ok (.iconst 3, 1) := dk_6 (dk_at dksX6_keys_3 7 rfl rfl)
theorem dX6_keys_79 : decode cX6_keys 79 = .ok (.iload 7, 2) := dk_21 7 (dk_at dksX6_keys_3 8 rfl rfl)
theorem dX6_keys_81 : decode cX6_keys 81 = .ok (.invokevirtual 104, 3) := dk_182 0 104 (dk_at dksX6_keys_3 10 rfl rfl)
theorem dX6_keys_84 : decode cX6_keys 84 = .ok (.pop, 1) := dk_87 (dk_at dksX6_keys_3 13 rfl rfl)
theorem dX6_keys_85 : decode cX6_keys 85 = .ok (.aload_n 0, 1) := dk_42 (dk_at dksX6_keys_3 14 rfl rfl)
theorem dX6_keys_86 : decode cX6_keys 86 = .ok (.iload_n 1, 1) := dk_27 (dk_at dksX6_keys_3 15 rfl rfl)
theorem dX6_keys_87 : decode cX6_keys 87 = .ok (.iload_n 2, 1) := dk_28 (dk_at dksX6_keys_3 16 rfl rfl)
theorem dX6_keys_88 : decode cX6_keys 88 = .ok (.invokevirtual 224, 3) := dk_182 0 224 (dk_at dksX6_keys_3 17 rfl rfl)
theorem dX6_keys_91 : decode cX6_keys 91 = .ok (.invokestatic 227, 3) := dk_184 0 227 (dk_at dksX6_keys_3 20 rfl rfl)
theorem dX6_keys_94 : decode cX6_keys 94 = .ok (.istore 9, 2) := dk_54 9 (dk_at dksX6_keys_4 0 rfl rfl)
theorem dX6_keys_96 : decode cX6_keys 96 = .ok (.aload_n 0, 1) := dk_42 (dk_at dksX6_keys_4 2 rfl rfl)
theorem dX6_keys_97 : decode cX6_keys 97 = .ok (.iload 5, 2) := dk_21 5 (dk_at dksX6_keys_4 3 rfl rfl)
theorem dX6_keys_99 : decode cX6_keys 99 = .ok (.iconst 3, 1) := dk_6 (dk_at dksX6_keys_4 5 rfl rfl)
theorem dX6_keys_100 : decode cX6_keys 100 = .ok (.iload 7, 2) := dk_21 7 (dk_at dksX6_keys_4 6 rfl rfl)
theorem dX6_keys_102 : decode cX6_keys 102 = .ok (.invokevirtual 104, 3) := dk_182 0 104 (dk_at dksX6_keys_4 8 rfl rfl)
theorem dX6_keys_105 : decode cX6_keys 105 = .ok (.pop, 1) := dk_87 (dk_at dksX6_keys_4 11 rfl rfl)
theorem dX6_keys_106 : decode cX6_keys 106 = .ok (.aload_n 0, 1) := dk_42 (dk_at dksX6_keys_4 12 rfl rfl)
theorem dX6_keys_107 : decode cX6_keys 107 = .ok (.iload 6, 2) := dk_21 6 (dk_at dksX6_keys_4 13 rfl rfl)
theorem dX6_keys_109 : decode cX6_keys 109 = .ok (.iconst 3, 1) := dk_6 (dk_at dksX6_keys_4 15 rfl rfl)
theorem dX6_keys_110 : decode cX6_keys 110 = .ok (.iload 8, 2) := dk_21 8 (dk_at dksX6_keys_4 16 rfl rfl)
theorem dX6_keys_112 : decode cX6_keys 112 = .ok (.invokevirtual 104, 3) := dk_182 0 104 (dk_at dksX6_keys_4 18 rfl rfl)
theorem dX6_keys_115 : decode cX6_keys 115 = .ok (.pop, 1) := dk_87 (dk_at dksX6_keys_4 21 rfl rfl)
theorem dX6_keys_116 : decode cX6_keys 116 = .ok (.iload 9, 2) := dk_21 9 (dk_at dksX6_keys_4 22 rfl rfl)
theorem dX6_keys_118 : decode cX6_keys 118 = .ok (.iload_n 3, 1) := dk_29 (dk_at dksX6_keys_5 0 rfl rfl)
theorem dX6_keys_119 : decode cX6_keys 119 = .ok (.if_icmp .ge 14, 3) := dk_162 0 14 (dk_at dksX6_keys_5 1 rfl rfl)
theorem dX6_keys_122 : decode cX6_keys 122 = .ok (.bipush 10, 2) := dk_16 10 (dk_at dksX6_keys_5 4 rfl rfl)
theorem dX6_keys_124 : decode cX6_keys 124 = .ok (.iload 5, 2) := dk_21 5 (dk_at dksX6_keys_5 6 rfl rfl)
theorem dX6_keys_126 : decode cX6_keys 126 = .ok (.imul, 1) := dk_104 (dk_at dksX6_keys_5 8 rfl rfl)
theorem dX6_keys_127 : decode cX6_keys 127 = .ok (.iload 6, 2) := dk_21 6 (dk_at dksX6_keys_5 9 rfl rfl)
theorem dX6_keys_129 : decode cX6_keys 129 = .ok (.iadd, 1) := dk_96 (dk_at dksX6_keys_5 11 rfl rfl)
theorem dX6_keys_130 : decode cX6_keys 130 = .ok (.goto 5, 3) := dk_167 0 5 (dk_at dksX6_keys_5 12 rfl rfl)
theorem dX6_keys_133 : decode cX6_keys 133 = .ok (.iload 4, 2) := dk_21 4 (dk_at dksX6_keys_5 15 rfl rfl)
theorem dX6_keys_135 : decode cX6_keys 135 = .ok (.istore 4, 2) := dk_54 4 (dk_at dksX6_keys_5 17 rfl rfl)
theorem dX6_keys_137 : decode cX6_keys 137 = .ok (.iload 9, 2) := dk_21 9 (dk_at dksX6_keys_5 19 rfl rfl)
theorem dX6_keys_139 : decode cX6_keys 139 = .ok (.iload_n 3, 1) := dk_29 (dk_at dksX6_keys_5 21 rfl rfl)
theorem dX6_keys_140 : decode cX6_keys 140 = .ok (.invokestatic 230, 3) := dk_184 0 230 (dk_at dksX6_keys_6 0 rfl rfl)
theorem dX6_keys_143 : decode cX6_keys 143 = .ok (.istore_n 3, 1) := dk_62 (dk_at dksX6_keys_6 3 rfl rfl)
theorem dX6_keys_144 : decode cX6_keys 144 = .ok (.iinc 6 1, 3) := dk_132 6 1 (dk_at dksX6_keys_6 4 rfl rfl)
theorem dX6_keys_147 : decode cX6_keys 147 = .ok (.goto (-112), 3) := dk_167 255 144 (dk_at dksX6_keys_6 7 rfl rfl)
theorem dX6_keys_150 : decode cX6_keys 150 = .ok (.iinc 5 1, 3) := dk_132 5 1 (dk_at dksX6_keys_6 10 rfl rfl)
theorem dX6_keys_153 : decode cX6_keys 153 = .ok (.goto (-136), 3) := dk_167 255 120 (dk_at dksX6_keys_6 13 rfl rfl)
theorem dX6_keys_156 : decode cX6_keys 156 = .ok (.iload 4, 2) := dk_21 4 (dk_at dksX6_keys_6 16 rfl rfl)
theorem dX6_keys_158 : decode cX6_keys 158 = .ok (.ireturn, 1) := dk_172 (dk_at dksX6_keys_6 18 rfl rfl)
abbrev cX6_late : ByteArray := prog_23_method_55_code
def yX6_late : MethodName := ⟨RX6, "late", "(I)I"⟩
def dkwX6_late_0 : List UInt8 := [26, 16, 251, 160, 0, 9, 17, 3, 232, 167, 0, 4, 26, 172]
abbrev dktX6_late_0 : List UInt8 := dkwX6_late_0 ++ []
theorem dksX6_late_0 : cX6_late.data.toList.drop 0 = dktX6_late_0 := by decide +kernel
theorem dX6_late_0 : decode cX6_late 0 = .ok (.iload_n 0, 1) := dk_26 (dk_at dksX6_late_0 0 rfl rfl)
theorem dX6_late_1 : decode cX6_late 1 = .ok (.bipush (-5), 2) := dk_16 251 (dk_at dksX6_late_0 1 rfl rfl)
theorem dX6_late_3 : decode cX6_late 3 = .ok (.if_icmp .ne 9, 3) := dk_160 0 9 (dk_at dksX6_late_0 3 rfl rfl)
theorem dX6_late_6 : decode cX6_late 6 = .ok (.sipush 1000, 3) := dk_17 3 232 (dk_at dksX6_late_0 6 rfl rfl)
theorem dX6_late_9 : decode cX6_late 9 = .ok (.goto 4, 3) := dk_167 0 4 (dk_at dksX6_late_0 9 rfl rfl)
theorem dX6_late_12 : decode cX6_late 12 = .ok (.iload_n 0, 1) := dk_26 (dk_at dksX6_late_0 12 rfl rfl)
theorem dX6_late_13 : decode cX6_late 13 = .ok (.ireturn, 1) := dk_172 (dk_at dksX6_late_0 13 rfl rfl)
abbrev cX6_lead : ByteArray := prog_23_method_58_code
def yX6_lead : MethodName := ⟨RX6, "lead", "(II)I"⟩
def dkwX6_lead_5 : List UInt8 := [167, 255, 180, 21, 4, 172]
abbrev dktX6_lead_5 : List UInt8 := dkwX6_lead_5 ++ []
def dkwX6_lead_4 : List UInt8 := [162, 0, 8, 21, 5, 167, 0, 5, 21, 4, 54, 4, 21, 7, 29, 184, 0, 230, 62, 132, 5, 1]
abbrev dktX6_lead_4 : List UInt8 := dkwX6_lead_4 ++ dktX6_lead_5
def dkwX6_lead_3 : List UInt8 := [42, 27, 182, 0, 221, 184, 0, 227, 54, 7, 42, 180, 0, 15, 21, 5, 21, 6, 79, 21, 7, 29]
abbrev dktX6_lead_3 : List UInt8 := dkwX6_lead_3 ++ dktX6_lead_4
def dkwX6_lead_2 : List UInt8 := [180, 0, 15, 21, 5, 46, 54, 6, 42, 180, 0, 15, 21, 5, 16, 99, 21, 6, 28, 96, 184, 0, 230, 79]
abbrev dktX6_lead_2 : List UInt8 := dkwX6_lead_2 ++ dktX6_lead_3
def dkwX6_lead_1 : List UInt8 := [27, 182, 0, 221, 184, 0, 227, 62, 16, 251, 54, 4, 3, 54, 5, 21, 5, 16, 8, 162, 0, 75, 42]
abbrev dktX6_lead_1 : List UInt8 := dkwX6_lead_1 ++ dktX6_lead_2
def dkwX6_lead_0 : List UInt8 := [42, 27, 182, 0, 169, 154, 0, 5, 2, 172, 28, 4, 16, 99, 184, 0, 79, 154, 0, 6, 16, 254, 172, 42]
abbrev dktX6_lead_0 : List UInt8 := dkwX6_lead_0 ++ dktX6_lead_1
theorem dksX6_lead_0 : cX6_lead.data.toList.drop 0 = dktX6_lead_0 := by decide +kernel
theorem dksX6_lead_1 : cX6_lead.data.toList.drop 24 = dktX6_lead_1 := dk_seg dksX6_lead_0 24 rfl rfl
theorem dksX6_lead_2 : cX6_lead.data.toList.drop 47 = dktX6_lead_2 := dk_seg dksX6_lead_1 23 rfl rfl
theorem dksX6_lead_3 : cX6_lead.data.toList.drop 71 = dktX6_lead_3 := dk_seg dksX6_lead_2 24 rfl rfl
theorem dksX6_lead_4 : cX6_lead.data.toList.drop 93 = dktX6_lead_4 := dk_seg dksX6_lead_3 22 rfl rfl
theorem dksX6_lead_5 : cX6_lead.data.toList.drop 115 = dktX6_lead_5 := dk_seg dksX6_lead_4 22 rfl rfl
theorem dX6_lead_0 : decode cX6_lead 0 = .ok (.aload_n 0, 1) := dk_42 (dk_at dksX6_lead_0 0 rfl rfl)
theorem dX6_lead_1 : decode cX6_lead 1 = .ok (.iload_n 1, 1) := dk_27 (dk_at dksX6_lead_0 1 rfl rfl)
theorem dX6_lead_2 : decode cX6_lead 2 = .ok (.invokevirtual 169, 3) := dk_182 0 169 (dk_at dksX6_lead_0 2 rfl rfl)
theorem dX6_lead_5 : decode cX6_lead 5 = .ok (.ifCond .ne 5, 3) := dk_154 0 5 (dk_at dksX6_lead_0 5 rfl rfl)
theorem dX6_lead_8 : decode cX6_lead 8 = .ok (.iconst (-1), 1) := dk_2 (dk_at dksX6_lead_0 8 rfl rfl)
theorem dX6_lead_9 : decode cX6_lead 9 = .ok (.ireturn, 1) := dk_172 (dk_at dksX6_lead_0 9 rfl rfl)
theorem dX6_lead_10 : decode cX6_lead 10 = .ok (.iload_n 2, 1) := dk_28 (dk_at dksX6_lead_0 10 rfl rfl)
theorem dX6_lead_11 : decode cX6_lead 11 = .ok (.iconst 1, 1) := dk_4 (dk_at dksX6_lead_0 11 rfl rfl)
theorem dX6_lead_12 : decode cX6_lead 12 = .ok (.bipush 99, 2) := dk_16 99 (dk_at dksX6_lead_0 12 rfl rfl)
theorem dX6_lead_14 : decode cX6_lead 14 = .ok (.invokestatic 79, 3) := dk_184 0 79 (dk_at dksX6_lead_0 14 rfl rfl)
theorem dX6_lead_17 : decode cX6_lead 17 = .ok (.ifCond .ne 6, 3) := dk_154 0 6 (dk_at dksX6_lead_0 17 rfl rfl)
theorem dX6_lead_20 : decode cX6_lead 20 = .ok (.bipush (-2), 2) := dk_16 254 (dk_at dksX6_lead_0 20 rfl rfl)
theorem dX6_lead_22 : decode cX6_lead 22 = .ok (.ireturn, 1) := dk_172 (dk_at dksX6_lead_0 22 rfl rfl)
theorem dX6_lead_23 : decode cX6_lead 23 = .ok (.aload_n 0, 1) := dk_42 (dk_at dksX6_lead_0 23 rfl rfl)
theorem dX6_lead_24 : decode cX6_lead 24 = .ok (.iload_n 1, 1) := dk_27 (dk_at dksX6_lead_1 0 rfl rfl)
theorem dX6_lead_25 : decode cX6_lead 25 = .ok (.invokevirtual 221, 3) := dk_182 0 221 (dk_at dksX6_lead_1 1 rfl rfl)
theorem dX6_lead_28 : decode cX6_lead 28 = .ok (.invokestatic 227, 3) := dk_184 0 227 (dk_at dksX6_lead_1 4 rfl rfl)
theorem dX6_lead_31 : decode cX6_lead 31 = .ok (.istore_n 3, 1) := dk_62 (dk_at dksX6_lead_1 7 rfl rfl)
theorem dX6_lead_32 : decode cX6_lead 32 = .ok (.bipush (-5), 2) := dk_16 251 (dk_at dksX6_lead_1 8 rfl rfl)
theorem dX6_lead_34 : decode cX6_lead 34 = .ok (.istore 4, 2) := dk_54 4 (dk_at dksX6_lead_1 10 rfl rfl)
theorem dX6_lead_36 : decode cX6_lead 36 = .ok (.iconst 0, 1) := dk_3 (dk_at dksX6_lead_1 12 rfl rfl)
theorem dX6_lead_37 : decode cX6_lead 37 = .ok (.istore 5, 2) := dk_54 5 (dk_at dksX6_lead_1 13 rfl rfl)
theorem dX6_lead_39 : decode cX6_lead 39 = .ok (.iload 5, 2) := dk_21 5 (dk_at dksX6_lead_1 15 rfl rfl)
theorem dX6_lead_41 : decode cX6_lead 41 = .ok (.bipush 8, 2) := dk_16 8 (dk_at dksX6_lead_1 17 rfl rfl)
theorem dX6_lead_43 : decode cX6_lead 43 = .ok (.if_icmp .ge 75, 3) := dk_162 0 75 (dk_at dksX6_lead_1 19 rfl rfl)
theorem dX6_lead_46 : decode cX6_lead 46 = .ok (.aload_n 0, 1) := dk_42 (dk_at dksX6_lead_1 22 rfl rfl)
theorem dX6_lead_47 : decode cX6_lead 47 = .ok (.getfield 15, 3) := dk_180 0 15 (dk_at dksX6_lead_2 0 rfl rfl)
theorem dX6_lead_50 : decode cX6_lead 50 = .ok (.iload 5, 2) := dk_21 5 (dk_at dksX6_lead_2 3 rfl rfl)
theorem dX6_lead_52 : decode cX6_lead 52 = .ok (.iaload, 1) := dk_46 (dk_at dksX6_lead_2 5 rfl rfl)
theorem dX6_lead_53 : decode cX6_lead 53 = .ok (.istore 6, 2) := dk_54 6 (dk_at dksX6_lead_2 6 rfl rfl)
theorem dX6_lead_55 : decode cX6_lead 55 = .ok (.aload_n 0, 1) := dk_42 (dk_at dksX6_lead_2 8 rfl rfl)
theorem dX6_lead_56 : decode cX6_lead 56 = .ok (.getfield 15, 3) := dk_180 0 15 (dk_at dksX6_lead_2 9 rfl rfl)
theorem dX6_lead_59 : decode cX6_lead 59 = .ok (.iload 5, 2) := dk_21 5 (dk_at dksX6_lead_2 12 rfl rfl)
theorem dX6_lead_61 : decode cX6_lead 61 = .ok (.bipush 99, 2) := dk_16 99 (dk_at dksX6_lead_2 14 rfl rfl)
theorem dX6_lead_63 : decode cX6_lead 63 = .ok (.iload 6, 2) := dk_21 6 (dk_at dksX6_lead_2 16 rfl rfl)
theorem dX6_lead_65 : decode cX6_lead 65 = .ok (.iload_n 2, 1) := dk_28 (dk_at dksX6_lead_2 18 rfl rfl)
theorem dX6_lead_66 : decode cX6_lead 66 = .ok (.iadd, 1) := dk_96 (dk_at dksX6_lead_2 19 rfl rfl)
theorem dX6_lead_67 : decode cX6_lead 67 = .ok (.invokestatic 230, 3) := dk_184 0 230 (dk_at dksX6_lead_2 20 rfl rfl)
theorem dX6_lead_70 : decode cX6_lead 70 = .ok (.iastore, 1) := dk_79 (dk_at dksX6_lead_2 23 rfl rfl)
theorem dX6_lead_71 : decode cX6_lead 71 = .ok (.aload_n 0, 1) := dk_42 (dk_at dksX6_lead_3 0 rfl rfl)
theorem dX6_lead_72 : decode cX6_lead 72 = .ok (.iload_n 1, 1) := dk_27 (dk_at dksX6_lead_3 1 rfl rfl)
theorem dX6_lead_73 : decode cX6_lead 73 = .ok (.invokevirtual 221, 3) := dk_182 0 221 (dk_at dksX6_lead_3 2 rfl rfl)
theorem dX6_lead_76 : decode cX6_lead 76 = .ok (.invokestatic 227, 3) := dk_184 0 227 (dk_at dksX6_lead_3 5 rfl rfl)
theorem dX6_lead_79 : decode cX6_lead 79 = .ok (.istore 7, 2) := dk_54 7 (dk_at dksX6_lead_3 8 rfl rfl)
theorem dX6_lead_81 : decode cX6_lead 81 = .ok (.aload_n 0, 1) := dk_42 (dk_at dksX6_lead_3 10 rfl rfl)
theorem dX6_lead_82 : decode cX6_lead 82 = .ok (.getfield 15, 3) := dk_180 0 15 (dk_at dksX6_lead_3 11 rfl rfl)
theorem dX6_lead_85 : decode cX6_lead 85 = .ok (.iload 5, 2) := dk_21 5 (dk_at dksX6_lead_3 14 rfl rfl)
theorem dX6_lead_87 : decode cX6_lead 87 = .ok (.iload 6, 2) := dk_21 6 (dk_at dksX6_lead_3 16 rfl rfl)
theorem dX6_lead_89 : decode cX6_lead 89 = .ok (.iastore, 1) := dk_79 (dk_at dksX6_lead_3 18 rfl rfl)
theorem dX6_lead_90 : decode cX6_lead 90 = .ok (.iload 7, 2) := dk_21 7 (dk_at dksX6_lead_3 19 rfl rfl)
theorem dX6_lead_92 : decode cX6_lead 92 = .ok (.iload_n 3, 1) := dk_29 (dk_at dksX6_lead_3 21 rfl rfl)
theorem dX6_lead_93 : decode cX6_lead 93 = .ok (.if_icmp .ge 8, 3) := dk_162 0 8 (dk_at dksX6_lead_4 0 rfl rfl)
theorem dX6_lead_96 : decode cX6_lead 96 = .ok (.iload 5, 2) := dk_21 5 (dk_at dksX6_lead_4 3 rfl rfl)
theorem dX6_lead_98 : decode cX6_lead 98 = .ok (.goto 5, 3) := dk_167 0 5 (dk_at dksX6_lead_4 5 rfl rfl)
theorem dX6_lead_101 : decode cX6_lead 101 = .ok (.iload 4, 2) := dk_21 4 (dk_at dksX6_lead_4 8 rfl rfl)
theorem dX6_lead_103 : decode cX6_lead 103 = .ok (.istore 4, 2) := dk_54 4 (dk_at dksX6_lead_4 10 rfl rfl)
theorem dX6_lead_105 : decode cX6_lead 105 = .ok (.iload 7, 2) := dk_21 7 (dk_at dksX6_lead_4 12 rfl rfl)
theorem dX6_lead_107 : decode cX6_lead 107 = .ok (.iload_n 3, 1) := dk_29 (dk_at dksX6_lead_4 14 rfl rfl)
theorem dX6_lead_108 : decode cX6_lead 108 = .ok (.invokestatic 230, 3) := dk_184 0 230 (dk_at dksX6_lead_4 15 rfl rfl)
theorem dX6_lead_111 : decode cX6_lead 111 = .ok (.istore_n 3, 1) := dk_62 (dk_at dksX6_lead_4 18 rfl rfl)
theorem dX6_lead_112 : decode cX6_lead 112 = .ok (.iinc 5 1, 3) := dk_132 5 1 (dk_at dksX6_lead_4 19 rfl rfl)
theorem dX6_lead_115 : decode cX6_lead 115 = .ok (.goto (-76), 3) := dk_167 255 180 (dk_at dksX6_lead_5 0 rfl rfl)
theorem dX6_lead_118 : decode cX6_lead 118 = .ok (.iload 4, 2) := dk_21 4 (dk_at dksX6_lead_5 3 rfl rfl)
theorem dX6_lead_120 : decode cX6_lead 120 = .ok (.ireturn, 1) := dk_172 (dk_at dksX6_lead_5 5 rfl rfl)
abbrev cX6_see : ByteArray := prog_23_method_59_code
def yX6_see : MethodName := ⟨RX6, "see", "(III)I"⟩
def dkwX6_see_5 : List UInt8 := [16, 84, 46, 172]
abbrev dktX6_see_5 : List UInt8 := dkwX6_see_5 ++ []
def dkwX6_see_4 : List UInt8 := [180, 0, 15, 21, 4, 5, 96, 29, 79, 42, 180, 0, 15, 16, 84, 92, 46, 4, 96, 79, 42, 180, 0, 15]
abbrev dktX6_see_4 : List UInt8 := dkwX6_see_4 ++ dktX6_see_5
def dkwX6_see_3 : List UInt8 := [96, 54, 4, 42, 180, 0, 15, 21, 4, 27, 79, 42, 180, 0, 15, 21, 4, 4, 96, 28, 79, 42]
abbrev dktX6_see_3 : List UInt8 := dkwX6_see_3 ++ dktX6_see_4
def dkwX6_see_2 : List UInt8 := [180, 0, 15, 16, 84, 46, 8, 160, 0, 6, 16, 252, 172, 16, 85, 6, 42, 180, 0, 15, 16, 84, 46, 104]
abbrev dktX6_see_2 : List UInt8 := dkwX6_see_2 ++ dktX6_see_3
def dkwX6_see_1 : List UInt8 := [184, 0, 87, 154, 0, 5, 2, 172, 28, 3, 16, 12, 184, 0, 79, 154, 0, 6, 16, 254, 172, 42]
abbrev dktX6_see_1 : List UInt8 := dkwX6_see_1 ++ dktX6_see_2
def dkwX6_see_0 : List UInt8 := [27, 2, 160, 0, 13, 42, 180, 0, 15, 16, 84, 3, 79, 3, 172, 42, 27, 182, 0, 91, 153, 0, 10, 29]
abbrev dktX6_see_0 : List UInt8 := dkwX6_see_0 ++ dktX6_see_1
theorem dksX6_see_0 : cX6_see.data.toList.drop 0 = dktX6_see_0 := by decide +kernel
theorem dksX6_see_1 : cX6_see.data.toList.drop 24 = dktX6_see_1 := dk_seg dksX6_see_0 24 rfl rfl
theorem dksX6_see_2 : cX6_see.data.toList.drop 46 = dktX6_see_2 := dk_seg dksX6_see_1 22 rfl rfl
theorem dksX6_see_3 : cX6_see.data.toList.drop 70 = dktX6_see_3 := dk_seg dksX6_see_2 24 rfl rfl
theorem dksX6_see_4 : cX6_see.data.toList.drop 92 = dktX6_see_4 := dk_seg dksX6_see_3 22 rfl rfl
theorem dksX6_see_5 : cX6_see.data.toList.drop 116 = dktX6_see_5 := dk_seg dksX6_see_4 24 rfl rfl
theorem dX6_see_0 : decode cX6_see 0 = .ok (.iload_n 1, 1) := dk_27 (dk_at dksX6_see_0 0 rfl rfl)
theorem dX6_see_1 : decode cX6_see 1 = .ok (.iconst (-1), 1) := dk_2 (dk_at dksX6_see_0 1 rfl rfl)
theorem dX6_see_2 : decode cX6_see 2 = .ok (.if_icmp .ne 13, 3) := dk_160 0 13 (dk_at dksX6_see_0 2 rfl rfl)
theorem dX6_see_5 : decode cX6_see 5 = .ok (.aload_n 0, 1) := dk_42 (dk_at dksX6_see_0 5 rfl rfl)
theorem dX6_see_6 : decode cX6_see 6 = .ok (.getfield 15, 3) := dk_180 0 15 (dk_at dksX6_see_0 6 rfl rfl)
theorem dX6_see_9 : decode cX6_see 9 = .ok (.bipush 84, 2) := dk_16 84 (dk_at dksX6_see_0 9 rfl rfl)
theorem dX6_see_11 : decode cX6_see 11 = .ok (.iconst 0, 1) := dk_3 (dk_at dksX6_see_0 11 rfl rfl)
theorem dX6_see_12 : decode cX6_see 12 = .ok (.iastore, 1) := dk_79 (dk_at dksX6_see_0 12 rfl rfl)
theorem dX6_see_13 : decode cX6_see 13 = .ok (.iconst 0, 1) := dk_3 (dk_at dksX6_see_0 13 rfl rfl)
theorem dX6_see_14 : decode cX6_see 14 = .ok (.ireturn, 1) := dk_172 (dk_at dksX6_see_0 14 rfl rfl)
theorem dX6_see_15 : decode cX6_see 15 = .ok (.aload_n 0, 1) := dk_42 (dk_at dksX6_see_0 15 rfl rfl)
theorem dX6_see_16 : decode cX6_see 16 = .ok (.iload_n 1, 1) := dk_27 (dk_at dksX6_see_0 16 rfl rfl)
theorem dX6_see_17 : decode cX6_see 17 = .ok (.invokevirtual 91, 3) := dk_182 0 91 (dk_at dksX6_see_0 17 rfl rfl)
theorem dX6_see_20 : decode cX6_see 20 = .ok (.ifCond .eq 10, 3) := dk_153 0 10 (dk_at dksX6_see_0 20 rfl rfl)
theorem dX6_see_23 : decode cX6_see 23 = .ok (.iload_n 3, 1) := dk_29 (dk_at dksX6_see_0 23 rfl rfl)
theorem dX6_see_24 : decode cX6_see 24 = .ok (.invokestatic 87, 3) := dk_184 0 87 (dk_at dksX6_see_1 0 rfl rfl)
theorem dX6_see_27 : decode cX6_see 27 = .ok (.ifCond .ne 5, 3) := dk_154 0 5 (dk_at dksX6_see_1 3 rfl rfl)
theorem dX6_see_30 : decode cX6_see 30 = .ok (.iconst (-1), 1) := dk_2 (dk_at dksX6_see_1 6 rfl rfl)
theorem dX6_see_31 : decode cX6_see 31 = .ok (.ireturn, 1) := dk_172 (dk_at dksX6_see_1 7 rfl rfl)
theorem dX6_see_32 : decode cX6_see 32 = .ok (.iload_n 2, 1) := dk_28 (dk_at dksX6_see_1 8 rfl rfl)
theorem dX6_see_33 : decode cX6_see 33 = .ok (.iconst 0, 1) := dk_3 (dk_at dksX6_see_1 9 rfl rfl)
theorem dX6_see_34 : decode cX6_see 34 = .ok (.bipush 12, 2) := dk_16 12 (dk_at dksX6_see_1 10 rfl rfl)
theorem dX6_see_36 : decode cX6_see 36 = .ok (.invokestatic 79, 3) := dk_184 0 79 (dk_at dksX6_see_1 12 rfl rfl)
theorem dX6_see_39 : decode cX6_see 39 = .ok (.ifCond .ne 6, 3) := dk_154 0 6 (dk_at dksX6_see_1 15 rfl rfl)
theorem dX6_see_42 : decode cX6_see 42 = .ok (.bipush (-2), 2) := dk_16 254 (dk_at dksX6_see_1 18 rfl rfl)
theorem dX6_see_44 : decode cX6_see 44 = .ok (.ireturn, 1) := dk_172 (dk_at dksX6_see_1 20 rfl rfl)
theorem dX6_see_45 : decode cX6_see 45 = .ok (.aload_n 0, 1) := dk_42 (dk_at dksX6_see_1 21 rfl rfl)
theorem dX6_see_46 : decode cX6_see 46 = .ok (.getfield 15, 3) := dk_180 0 15 (dk_at dksX6_see_2 0 rfl rfl)
theorem dX6_see_49 : decode cX6_see 49 = .ok (.bipush 84, 2) := dk_16 84 (dk_at dksX6_see_2 3 rfl rfl)
theorem dX6_see_51 : decode cX6_see 51 = .ok (.iaload, 1) := dk_46 (dk_at dksX6_see_2 5 rfl rfl)
theorem dX6_see_52 : decode cX6_see 52 = .ok (.iconst 5, 1) := dk_8 (dk_at dksX6_see_2 6 rfl rfl)
theorem dX6_see_53 : decode cX6_see 53 = .ok (.if_icmp .ne 6, 3) := dk_160 0 6 (dk_at dksX6_see_2 7 rfl rfl)
theorem dX6_see_56 : decode cX6_see 56 = .ok (.bipush (-4), 2) := dk_16 252 (dk_at dksX6_see_2 10 rfl rfl)
theorem dX6_see_58 : decode cX6_see 58 = .ok (.ireturn, 1) := dk_172 (dk_at dksX6_see_2 12 rfl rfl)
theorem dX6_see_59 : decode cX6_see 59 = .ok (.bipush 85, 2) := dk_16 85 (dk_at dksX6_see_2 13 rfl rfl)
theorem dX6_see_61 : decode cX6_see 61 = .ok (.iconst 3, 1) := dk_6 (dk_at dksX6_see_2 15 rfl rfl)
theorem dX6_see_62 : decode cX6_see 62 = .ok (.aload_n 0, 1) := dk_42 (dk_at dksX6_see_2 16 rfl rfl)
theorem dX6_see_63 : decode cX6_see 63 = .ok (.getfield 15, 3) := dk_180 0 15 (dk_at dksX6_see_2 17 rfl rfl)
theorem dX6_see_66 : decode cX6_see 66 = .ok (.bipush 84, 2) := dk_16 84 (dk_at dksX6_see_2 20 rfl rfl)
theorem dX6_see_68 : decode cX6_see 68 = .ok (.iaload, 1) := dk_46 (dk_at dksX6_see_2 22 rfl rfl)
theorem dX6_see_69 : decode cX6_see 69 = .ok (.imul, 1) := dk_104 (dk_at dksX6_see_2 23 rfl rfl)
theorem dX6_see_70 : decode cX6_see 70 = .ok (.iadd, 1) := dk_96 (dk_at dksX6_see_3 0 rfl rfl)
theorem dX6_see_71 : decode cX6_see 71 = .ok (.istore 4, 2) := dk_54 4 (dk_at dksX6_see_3 1 rfl rfl)
theorem dX6_see_73 : decode cX6_see 73 = .ok (.aload_n 0, 1) := dk_42 (dk_at dksX6_see_3 3 rfl rfl)
theorem dX6_see_74 : decode cX6_see 74 = .ok (.getfield 15, 3) := dk_180 0 15 (dk_at dksX6_see_3 4 rfl rfl)
theorem dX6_see_77 : decode cX6_see 77 = .ok (.iload 4, 2) := dk_21 4 (dk_at dksX6_see_3 7 rfl rfl)
theorem dX6_see_79 : decode cX6_see 79 = .ok (.iload_n 1, 1) := dk_27 (dk_at dksX6_see_3 9 rfl rfl)
theorem dX6_see_80 : decode cX6_see 80 = .ok (.iastore, 1) := dk_79 (dk_at dksX6_see_3 10 rfl rfl)
theorem dX6_see_81 : decode cX6_see 81 = .ok (.aload_n 0, 1) := dk_42 (dk_at dksX6_see_3 11 rfl rfl)
theorem dX6_see_82 : decode cX6_see 82 = .ok (.getfield 15, 3) := dk_180 0 15 (dk_at dksX6_see_3 12 rfl rfl)
theorem dX6_see_85 : decode cX6_see 85 = .ok (.iload 4, 2) := dk_21 4 (dk_at dksX6_see_3 15 rfl rfl)
theorem dX6_see_87 : decode cX6_see 87 = .ok (.iconst 1, 1) := dk_4 (dk_at dksX6_see_3 17 rfl rfl)
theorem dX6_see_88 : decode cX6_see 88 = .ok (.iadd, 1) := dk_96 (dk_at dksX6_see_3 18 rfl rfl)
theorem dX6_see_89 : decode cX6_see 89 = .ok (.iload_n 2, 1) := dk_28 (dk_at dksX6_see_3 19 rfl rfl)
theorem dX6_see_90 : decode cX6_see 90 = .ok (.iastore, 1) := dk_79 (dk_at dksX6_see_3 20 rfl rfl)
theorem dX6_see_91 : decode cX6_see 91 = .ok (.aload_n 0, 1) := dk_42 (dk_at dksX6_see_3 21 rfl rfl)
theorem dX6_see_92 : decode cX6_see 92 = .ok (.getfield 15, 3) := dk_180 0 15 (dk_at dksX6_see_4 0 rfl rfl)
theorem dX6_see_95 : decode cX6_see 95 = .ok (.iload 4, 2) := dk_21 4 (dk_at dksX6_see_4 3 rfl rfl)
theorem dX6_see_97 : decode cX6_see 97 = .ok (.iconst 2, 1) := dk_5 (dk_at dksX6_see_4 5 rfl rfl)
theorem dX6_see_98 : decode cX6_see 98 = .ok (.iadd, 1) := dk_96 (dk_at dksX6_see_4 6 rfl rfl)
theorem dX6_see_99 : decode cX6_see 99 = .ok (.iload_n 3, 1) := dk_29 (dk_at dksX6_see_4 7 rfl rfl)
theorem dX6_see_100 : decode cX6_see 100 = .ok (.iastore, 1) := dk_79 (dk_at dksX6_see_4 8 rfl rfl)
theorem dX6_see_101 : decode cX6_see 101 = .ok (.aload_n 0, 1) := dk_42 (dk_at dksX6_see_4 9 rfl rfl)
theorem dX6_see_102 : decode cX6_see 102 = .ok (.getfield 15, 3) := dk_180 0 15 (dk_at dksX6_see_4 10 rfl rfl)
theorem dX6_see_105 : decode cX6_see 105 = .ok (.bipush 84, 2) := dk_16 84 (dk_at dksX6_see_4 13 rfl rfl)
theorem dX6_see_107 : decode cX6_see 107 = .ok (.dup2, 1) := dk_92 (dk_at dksX6_see_4 15 rfl rfl)
theorem dX6_see_108 : decode cX6_see 108 = .ok (.iaload, 1) := dk_46 (dk_at dksX6_see_4 16 rfl rfl)
theorem dX6_see_109 : decode cX6_see 109 = .ok (.iconst 1, 1) := dk_4 (dk_at dksX6_see_4 17 rfl rfl)
theorem dX6_see_110 : decode cX6_see 110 = .ok (.iadd, 1) := dk_96 (dk_at dksX6_see_4 18 rfl rfl)
theorem dX6_see_111 : decode cX6_see 111 = .ok (.iastore, 1) := dk_79 (dk_at dksX6_see_4 19 rfl rfl)
theorem dX6_see_112 : decode cX6_see 112 = .ok (.aload_n 0, 1) := dk_42 (dk_at dksX6_see_4 20 rfl rfl)
theorem dX6_see_113 : decode cX6_see 113 = .ok (.getfield 15, 3) := dk_180 0 15 (dk_at dksX6_see_4 21 rfl rfl)
theorem dX6_see_116 : decode cX6_see 116 = .ok (.bipush 84, 2) := dk_16 84 (dk_at dksX6_see_5 0 rfl rfl)
theorem dX6_see_118 : decode cX6_see 118 = .ok (.iaload, 1) := dk_46 (dk_at dksX6_see_5 2 rfl rfl)
theorem dX6_see_119 : decode cX6_see 119 = .ok (.ireturn, 1) := dk_172 (dk_at dksX6_see_5 3 rfl rfl)
abbrev cX6_from : ByteArray := prog_23_method_62_code
def yX6_from : MethodName := ⟨RX6, "from", "(I)I"⟩
def dkwX6_from_0 : List UInt8 := [42, 27, 182, 0, 91, 153, 0, 14, 42, 27, 5, 16, 7, 182, 0, 239, 167, 0, 4, 2, 172]
abbrev dktX6_from_0 : List UInt8 := dkwX6_from_0 ++ []
theorem dksX6_from_0 : cX6_from.data.toList.drop 0 = dktX6_from_0 := by decide +kernel
theorem dX6_from_0 : decode cX6_from 0 = .ok (.aload_n 0, 1) := dk_42 (dk_at dksX6_from_0 0 rfl rfl)
theorem dX6_from_1 : decode cX6_from 1 = .ok (.iload_n 1, 1) := dk_27 (dk_at dksX6_from_0 1 rfl rfl)
theorem dX6_from_2 : decode cX6_from 2 = .ok (.invokevirtual 91, 3) := dk_182 0 91 (dk_at dksX6_from_0 2 rfl rfl)
theorem dX6_from_5 : decode cX6_from 5 = .ok (.ifCond .eq 14, 3) := dk_153 0 14 (dk_at dksX6_from_0 5 rfl rfl)
theorem dX6_from_8 : decode cX6_from 8 = .ok (.aload_n 0, 1) := dk_42 (dk_at dksX6_from_0 8 rfl rfl)
theorem dX6_from_9 : decode cX6_from 9 = .ok (.iload_n 1, 1) := dk_27 (dk_at dksX6_from_0 9 rfl rfl)
theorem dX6_from_10 : decode cX6_from 10 = .ok (.iconst 2, 1) := dk_5 (dk_at dksX6_from_0 10 rfl rfl)
theorem dX6_from_11 : decode cX6_from 11 = .ok (.bipush 7, 2) := dk_16 7 (dk_at dksX6_from_0 11 rfl rfl)
theorem dX6_from_13 : decode cX6_from 13 = .ok (.invokevirtual 239, 3) := dk_182 0 239 (dk_at dksX6_from_0 13 rfl rfl)
theorem dX6_from_16 : decode cX6_from 16 = .ok (.goto 4, 3) := dk_167 0 4 (dk_at dksX6_from_0 16 rfl rfl)
theorem dX6_from_19 : decode cX6_from 19 = .ok (.iconst (-1), 1) := dk_2 (dk_at dksX6_from_0 19 rfl rfl)
theorem dX6_from_20 : decode cX6_from 20 = .ok (.ireturn, 1) := dk_172 (dk_at dksX6_from_0 20 rfl rfl)
abbrev cX6_fits : ByteArray := prog_23_method_61_code
def yX6_fits : MethodName := ⟨RX6, "fits", "(III)I"⟩
def dkwX6_fits_2 : List UInt8 := [54, 5, 132, 6, 1, 167, 255, 218, 42, 27, 28, 21, 4, 182, 0, 104, 87, 21, 5, 172]
abbrev dktX6_fits_2 : List UInt8 := dkwX6_fits_2 ++ []
def dkwX6_fits_1 : List UInt8 := [21, 6, 182, 0, 104, 87, 21, 5, 42, 182, 0, 236, 153, 0, 10, 4, 21, 6, 120, 167, 0, 4, 3, 128]
abbrev dktX6_fits_1 : List UInt8 := dkwX6_fits_1 ++ dktX6_fits_2
def dkwX6_fits_0 : List UInt8 := [42, 27, 28, 182, 0, 83, 54, 4, 3, 54, 5, 3, 54, 6, 21, 6, 29, 163, 0, 38, 42, 27, 28]
abbrev dktX6_fits_0 : List UInt8 := dkwX6_fits_0 ++ dktX6_fits_1
theorem dksX6_fits_0 : cX6_fits.data.toList.drop 0 = dktX6_fits_0 := by decide +kernel
theorem dksX6_fits_1 : cX6_fits.data.toList.drop 23 = dktX6_fits_1 := dk_seg dksX6_fits_0 23 rfl rfl
theorem dksX6_fits_2 : cX6_fits.data.toList.drop 47 = dktX6_fits_2 := dk_seg dksX6_fits_1 24 rfl rfl
theorem dX6_fits_0 : decode cX6_fits 0 = .ok (.aload_n 0, 1) := dk_42 (dk_at dksX6_fits_0 0 rfl rfl)
theorem dX6_fits_1 : decode cX6_fits 1 = .ok (.iload_n 1, 1) := dk_27 (dk_at dksX6_fits_0 1 rfl rfl)
theorem dX6_fits_2 : decode cX6_fits 2 = .ok (.iload_n 2, 1) := dk_28 (dk_at dksX6_fits_0 2 rfl rfl)
theorem dX6_fits_3 : decode cX6_fits 3 = .ok (.invokevirtual 83, 3) := dk_182 0 83 (dk_at dksX6_fits_0 3 rfl rfl)
theorem dX6_fits_6 : decode cX6_fits 6 = .ok (.istore 4, 2) := dk_54 4 (dk_at dksX6_fits_0 6 rfl rfl)
theorem dX6_fits_8 : decode cX6_fits 8 = .ok (.iconst 0, 1) := dk_3 (dk_at dksX6_fits_0 8 rfl rfl)
theorem dX6_fits_9 : decode cX6_fits 9 = .ok (.istore 5, 2) := dk_54 5 (dk_at dksX6_fits_0 9 rfl rfl)
theorem dX6_fits_11 : decode cX6_fits 11 = .ok (.iconst 0, 1) := dk_3 (dk_at dksX6_fits_0 11 rfl rfl)
theorem dX6_fits_12 : decode cX6_fits 12 = .ok (.istore 6, 2) := dk_54 6 (dk_at dksX6_fits_0 12 rfl rfl)
theorem dX6_fits_14 : decode cX6_fits 14 = .ok (.iload 6, 2) := dk_21 6 (dk_at dksX6_fits_0 14 rfl rfl)
theorem dX6_fits_16 : decode cX6_fits 16 = .ok (.iload_n 3, 1) := dk_29 (dk_at dksX6_fits_0 16 rfl rfl)
theorem dX6_fits_17 : decode cX6_fits 17 = .ok (.if_icmp .gt 38, 3) := dk_163 0 38 (dk_at dksX6_fits_0 17 rfl rfl)
theorem dX6_fits_20 : decode cX6_fits 20 = .ok (.aload_n 0, 1) := dk_42 (dk_at dksX6_fits_0 20 rfl rfl)
theorem dX6_fits_21 : decode cX6_fits 21 = .ok (.iload_n 1, 1) := dk_27 (dk_at dksX6_fits_0 21 rfl rfl)
theorem dX6_fits_22 : decode cX6_fits 22 = .ok (.iload_n 2, 1) := dk_28 (dk_at dksX6_fits_0 22 rfl rfl)
theorem dX6_fits_23 : decode cX6_fits 23 = .ok (.iload 6, 2) := dk_21 6 (dk_at dksX6_fits_1 0 rfl rfl)
theorem dX6_fits_25 : decode cX6_fits 25 = .ok (.invokevirtual 104, 3) := dk_182 0 104 (dk_at dksX6_fits_1 2 rfl rfl)
theorem dX6_fits_28 : decode cX6_fits 28 = .ok (.pop, 1) := dk_87 (dk_at dksX6_fits_1 5 rfl rfl)
theorem dX6_fits_29 : decode cX6_fits 29 = .ok (.iload 5, 2) := dk_21 5 (dk_at dksX6_fits_1 6 rfl rfl)
theorem dX6_fits_31 : decode cX6_fits 31 = .ok (.aload_n 0, 1) := dk_42 (dk_at dksX6_fits_1 8 rfl rfl)
theorem dX6_fits_32 : decode cX6_fits 32 = .ok (.invokevirtual 236, 3) := dk_182 0 236 (dk_at dksX6_fits_1 9 rfl rfl)
theorem dX6_fits_35 : decode cX6_fits 35 = .ok (.ifCond .eq 10, 3) := dk_153 0 10 (dk_at dksX6_fits_1 12 rfl rfl)
theorem dX6_fits_38 : decode cX6_fits 38 = .ok (.iconst 1, 1) := dk_4 (dk_at dksX6_fits_1 15 rfl rfl)
theorem dX6_fits_39 : decode cX6_fits 39 = .ok (.iload 6, 2) := dk_21 6 (dk_at dksX6_fits_1 16 rfl rfl)
theorem dX6_fits_41 : decode cX6_fits 41 = .ok (.ishl, 1) := dk_120 (dk_at dksX6_fits_1 18 rfl rfl)
theorem dX6_fits_42 : decode cX6_fits 42 = .ok (.goto 4, 3) := dk_167 0 4 (dk_at dksX6_fits_1 19 rfl rfl)
theorem dX6_fits_45 : decode cX6_fits 45 = .ok (.iconst 0, 1) := dk_3 (dk_at dksX6_fits_1 22 rfl rfl)
theorem dX6_fits_46 : decode cX6_fits 46 = .ok (.ior, 1) := dk_128 (dk_at dksX6_fits_1 23 rfl rfl)
theorem dX6_fits_47 : decode cX6_fits 47 = .ok (.istore 5, 2) := dk_54 5 (dk_at dksX6_fits_2 0 rfl rfl)
theorem dX6_fits_49 : decode cX6_fits 49 = .ok (.iinc 6 1, 3) := dk_132 6 1 (dk_at dksX6_fits_2 2 rfl rfl)
theorem dX6_fits_52 : decode cX6_fits 52 = .ok (.goto (-38), 3) := dk_167 255 218 (dk_at dksX6_fits_2 5 rfl rfl)
theorem dX6_fits_55 : decode cX6_fits 55 = .ok (.aload_n 0, 1) := dk_42 (dk_at dksX6_fits_2 8 rfl rfl)
theorem dX6_fits_56 : decode cX6_fits 56 = .ok (.iload_n 1, 1) := dk_27 (dk_at dksX6_fits_2 9 rfl rfl)
theorem dX6_fits_57 : decode cX6_fits 57 = .ok (.iload_n 2, 1) := dk_28 (dk_at dksX6_fits_2 10 rfl rfl)
theorem dX6_fits_58 : decode cX6_fits 58 = .ok (.iload 4, 2) := dk_21 4 (dk_at dksX6_fits_2 11 rfl rfl)
theorem dX6_fits_60 : decode cX6_fits 60 = .ok (.invokevirtual 104, 3) := dk_182 0 104 (dk_at dksX6_fits_2 13 rfl rfl)
theorem dX6_fits_63 : decode cX6_fits 63 = .ok (.pop, 1) := dk_87 (dk_at dksX6_fits_2 16 rfl rfl)
theorem dX6_fits_64 : decode cX6_fits 64 = .ok (.iload 5, 2) := dk_21 5 (dk_at dksX6_fits_2 17 rfl rfl)
theorem dX6_fits_66 : decode cX6_fits 66 = .ok (.ireturn, 1) := dk_172 (dk_at dksX6_fits_2 19 rfl rfl)
abbrev cX6_isAllSeen : ByteArray := prog_23_method_60_code
def yX6_isAllSeen : MethodName := ⟨RX6, "isAllSeen", "()Z"⟩
def dkwX6_isAllSeen_4 : List UInt8 := [42, 182, 0, 203, 132, 2, 1, 167, 255, 165, 42, 3, 182, 0, 206, 27, 172]
abbrev dktX6_isAllSeen_4 : List UInt8 := dkwX6_isAllSeen_4 ++ []
def dkwX6_isAllSeen_3 : List UInt8 := [42, 180, 0, 15, 21, 4, 5, 96, 46, 160, 0, 7, 4, 167, 0, 4, 3, 60, 132, 3, 1, 167, 255, 187]
abbrev dktX6_isAllSeen_3 : List UInt8 := dkwX6_isAllSeen_3 ++ dktX6_isAllSeen_4
def dkwX6_isAllSeen_2 : List UInt8 := [180, 0, 15, 21, 4, 4, 96, 46, 28, 160, 0, 27, 42, 42, 180, 0, 15, 21, 4, 46, 5, 182, 0, 83]
abbrev dktX6_isAllSeen_2 : List UInt8 := dkwX6_isAllSeen_2 ++ dktX6_isAllSeen_3
def dkwX6_isAllSeen_1 : List UInt8 := [180, 0, 15, 16, 84, 46, 162, 0, 64, 16, 85, 6, 29, 104, 96, 54, 4, 27, 153, 0, 44, 42]
abbrev dktX6_isAllSeen_1 : List UInt8 := dkwX6_isAllSeen_1 ++ dktX6_isAllSeen_2
def dkwX6_isAllSeen_0 : List UInt8 := [42, 3, 182, 0, 197, 4, 60, 3, 61, 28, 16, 12, 163, 0, 91, 27, 153, 0, 87, 3, 62, 29, 42]
abbrev dktX6_isAllSeen_0 : List UInt8 := dkwX6_isAllSeen_0 ++ dktX6_isAllSeen_1
theorem dksX6_isAllSeen_0 : cX6_isAllSeen.data.toList.drop 0 = dktX6_isAllSeen_0 := by decide +kernel
theorem dksX6_isAllSeen_1 : cX6_isAllSeen.data.toList.drop 23 = dktX6_isAllSeen_1 := dk_seg dksX6_isAllSeen_0 23 rfl rfl
theorem dksX6_isAllSeen_2 : cX6_isAllSeen.data.toList.drop 45 = dktX6_isAllSeen_2 := dk_seg dksX6_isAllSeen_1 22 rfl rfl
theorem dksX6_isAllSeen_3 : cX6_isAllSeen.data.toList.drop 69 = dktX6_isAllSeen_3 := dk_seg dksX6_isAllSeen_2 24 rfl rfl
theorem dksX6_isAllSeen_4 : cX6_isAllSeen.data.toList.drop 93 = dktX6_isAllSeen_4 := dk_seg dksX6_isAllSeen_3 24 rfl rfl
theorem dX6_isAllSeen_0 : decode cX6_isAllSeen 0 = .ok (.aload_n 0, 1) := dk_42 (dk_at dksX6_isAllSeen_0 0 rfl rfl)
theorem dX6_isAllSeen_1 : decode cX6_isAllSeen 1 = .ok (.iconst 0, 1) := dk_3 (dk_at dksX6_isAllSeen_0 1 rfl rfl)
theorem dX6_isAllSeen_2 : decode cX6_isAllSeen 2 = .ok (.invokevirtual 197, 3) := dk_182 0 197 (dk_at dksX6_isAllSeen_0 2 rfl rfl)
theorem dX6_isAllSeen_5 : decode cX6_isAllSeen 5 = .ok (.iconst 1, 1) := dk_4 (dk_at dksX6_isAllSeen_0 5 rfl rfl)
theorem dX6_isAllSeen_6 : decode cX6_isAllSeen 6 = .ok (.istore_n 1, 1) := dk_60 (dk_at dksX6_isAllSeen_0 6 rfl rfl)
theorem dX6_isAllSeen_7 : decode cX6_isAllSeen 7 = .ok (.iconst 0, 1) := dk_3 (dk_at dksX6_isAllSeen_0 7 rfl rfl)
theorem dX6_isAllSeen_8 : decode cX6_isAllSeen 8 = .ok (.istore_n 2, 1) := dk_61 (dk_at dksX6_isAllSeen_0 8 rfl rfl)
theorem dX6_isAllSeen_9 : decode cX6_isAllSeen 9 = .ok (.iload_n 2, 1) := dk_28 (dk_at dksX6_isAllSeen_0 9 rfl rfl)
theorem dX6_isAllSeen_10 : decode cX6_isAllSeen 10 = .ok (.bipush 12, 2) := dk_16 12 (dk_at dksX6_isAllSeen_0 10 rfl rfl)
theorem dX6_isAllSeen_12 : decode cX6_isAllSeen 12 = .ok (.if_icmp .gt 91, 3) := dk_163 0 91 (dk_at dksX6_isAllSeen_0 12 rfl rfl)
theorem dX6_isAllSeen_15 : decode cX6_isAllSeen 15 = .ok (.iload_n 1, 1) := dk_27 (dk_at dksX6_isAllSeen_0 15 rfl rfl)
theorem dX6_isAllSeen_16 : decode cX6_isAllSeen 16 = .ok (.ifCond .eq 87, 3) := dk_153 0 87 (dk_at dksX6_isAllSeen_0 16 rfl rfl)
theorem dX6_isAllSeen_19 : decode cX6_isAllSeen 19 = .ok (.iconst 0, 1) := dk_3 (dk_at dksX6_isAllSeen_0 19 rfl rfl)
theorem dX6_isAllSeen_20 : decode cX6_isAllSeen 20 = .ok (.istore_n 3, 1) := dk_62 (dk_at dksX6_isAllSeen_0 20 rfl rfl)
theorem dX6_isAllSeen_21 : decode cX6_isAllSeen 21 = .ok (.iload_n 3, 1) := dk_29 (dk_at dksX6_isAllSeen_0 21 rfl rfl)
theorem dX6_isAllSeen_22 : decode cX6_isAllSeen 22 = .ok (.aload_n 0, 1) := dk_42 (dk_at dksX6_isAllSeen_0 22 rfl rfl)
theorem dX6_isAllSeen_23 : decode cX6_isAllSeen 23 = .ok (.getfield 15, 3) := dk_180 0 15 (dk_at dksX6_isAllSeen_1 0 rfl rfl)
theorem dX6_isAllSeen_26 : decode cX6_isAllSeen 26 = .ok (.bipush 84, 2) := dk_16 84 (dk_at dksX6_isAllSeen_1 3 rfl rfl)
theorem dX6_isAllSeen_28 : decode cX6_isAllSeen 28 = .ok (.iaload, 1) := dk_46 (dk_at dksX6_isAllSeen_1 5 rfl rfl)
theorem dX6_isAllSeen_29 : decode cX6_isAllSeen 29 = .ok (.if_icmp .ge 64, 3) := dk_162 0 64 (dk_at dksX6_isAllSeen_1 6 rfl rfl)
theorem dX6_isAllSeen_32 : decode cX6_isAllSeen 32 = .ok (.bipush 85, 2) := dk_16 85 (dk_at dksX6_isAllSeen_1 9 rfl rfl)
theorem dX6_isAllSeen_34 : decode cX6_isAllSeen 34 = .ok (.iconst 3, 1) := dk_6 (dk_at dksX6_isAllSeen_1 11 rfl rfl)
theorem dX6_isAllSeen_35 : decode cX6_isAllSeen 35 = .ok (.iload_n 3, 1) := dk_29 (dk_at dksX6_isAllSeen_1 12 rfl rfl)
theorem dX6_isAllSeen_36 : decode cX6_isAllSeen 36 = .ok (.imul, 1) := dk_104 (dk_at dksX6_isAllSeen_1 13 rfl rfl)
theorem dX6_isAllSeen_37 : decode cX6_isAllSeen 37 = .ok (.iadd, 1) := dk_96 (dk_at dksX6_isAllSeen_1 14 rfl rfl)
theorem dX6_isAllSeen_38 : decode cX6_isAllSeen 38 = .ok (.istore 4, 2) := dk_54 4 (dk_at dksX6_isAllSeen_1 15 rfl rfl)
theorem dX6_isAllSeen_40 : decode cX6_isAllSeen 40 = .ok (.iload_n 1, 1) := dk_27 (dk_at dksX6_isAllSeen_1 17 rfl rfl)
theorem dX6_isAllSeen_41 : decode cX6_isAllSeen 41 = .ok (.ifCond .eq 44, 3) := dk_153 0 44 (dk_at dksX6_isAllSeen_1 18 rfl rfl)
theorem dX6_isAllSeen_44 : decode cX6_isAllSeen 44 = .ok (.aload_n 0, 1) := dk_42 (dk_at dksX6_isAllSeen_1 21 rfl rfl)
theorem dX6_isAllSeen_45 : decode cX6_isAllSeen 45 = .ok (.getfield 15, 3) := dk_180 0 15 (dk_at dksX6_isAllSeen_2 0 rfl rfl)
theorem dX6_isAllSeen_48 : decode cX6_isAllSeen 48 = .ok (.iload 4, 2) := dk_21 4 (dk_at dksX6_isAllSeen_2 3 rfl rfl)
theorem dX6_isAllSeen_50 : decode cX6_isAllSeen 50 = .ok (.iconst 1, 1) := dk_4 (dk_at dksX6_isAllSeen_2 5 rfl rfl)
theorem dX6_isAllSeen_51 : decode cX6_isAllSeen 51 = .ok (.iadd, 1) := dk_96 (dk_at dksX6_isAllSeen_2 6 rfl rfl)
theorem dX6_isAllSeen_52 : decode cX6_isAllSeen 52 = .ok (.iaload, 1) := dk_46 (dk_at dksX6_isAllSeen_2 7 rfl rfl)
theorem dX6_isAllSeen_53 : decode cX6_isAllSeen 53 = .ok (.iload_n 2, 1) := dk_28 (dk_at dksX6_isAllSeen_2 8 rfl rfl)
theorem dX6_isAllSeen_54 : decode cX6_isAllSeen 54 = .ok (.if_icmp .ne 27, 3) := dk_160 0 27 (dk_at dksX6_isAllSeen_2 9 rfl rfl)
theorem dX6_isAllSeen_57 : decode cX6_isAllSeen 57 = .ok (.aload_n 0, 1) := dk_42 (dk_at dksX6_isAllSeen_2 12 rfl rfl)
theorem dX6_isAllSeen_58 : decode cX6_isAllSeen 58 = .ok (.aload_n 0, 1) := dk_42 (dk_at dksX6_isAllSeen_2 13 rfl rfl)
theorem dX6_isAllSeen_59 : decode cX6_isAllSeen 59 = .ok (.getfield 15, 3) := dk_180 0 15 (dk_at dksX6_isAllSeen_2 14 rfl rfl)
theorem dX6_isAllSeen_62 : decode cX6_isAllSeen 62 = .ok (.iload 4, 2) := dk_21 4 (dk_at dksX6_isAllSeen_2 17 rfl rfl)
theorem dX6_isAllSeen_64 : decode cX6_isAllSeen 64 = .ok (.iaload, 1) := dk_46 (dk_at dksX6_isAllSeen_2 19 rfl rfl)
theorem dX6_isAllSeen_65 : decode cX6_isAllSeen 65 = .ok (.iconst 2, 1) := dk_5 (dk_at dksX6_isAllSeen_2 20 rfl rfl)
theorem dX6_isAllSeen_66 : decode cX6_isAllSeen 66 = .ok (.invokevirtual 83, 3) := dk_182 0 83 (dk_at dksX6_isAllSeen_2 21 rfl rfl)
theorem dX6_isAllSeen_69 : decode cX6_isAllSeen 69 = .ok (.aload_n 0, 1) := dk_42 (dk_at dksX6_isAllSeen_3 0 rfl rfl)
theorem dX6_isAllSeen_70 : decode cX6_isAllSeen 70 = .ok (.getfield 15, 3) := dk_180 0 15 (dk_at dksX6_isAllSeen_3 1 rfl rfl)
theorem dX6_isAllSeen_73 : decode cX6_isAllSeen 73 = .ok (.iload 4, 2) := dk_21 4 (dk_at dksX6_isAllSeen_3 4 rfl rfl)
theorem dX6_isAllSeen_75 : decode cX6_isAllSeen 75 = .ok (.iconst 2, 1) := dk_5 (dk_at dksX6_isAllSeen_3 6 rfl rfl)
theorem dX6_isAllSeen_76 : decode cX6_isAllSeen 76 = .ok (.iadd, 1) := dk_96 (dk_at dksX6_isAllSeen_3 7 rfl rfl)
theorem dX6_isAllSeen_77 : decode cX6_isAllSeen 77 = .ok (.iaload, 1) := dk_46 (dk_at dksX6_isAllSeen_3 8 rfl rfl)
theorem dX6_isAllSeen_78 : decode cX6_isAllSeen 78 = .ok (.if_icmp .ne 7, 3) := dk_160 0 7 (dk_at dksX6_isAllSeen_3 9 rfl rfl)
theorem dX6_isAllSeen_81 : decode cX6_isAllSeen 81 = .ok (.iconst 1, 1) := dk_4 (dk_at dksX6_isAllSeen_3 12 rfl rfl)
theorem dX6_isAllSeen_82 : decode cX6_isAllSeen 82 = .ok (.goto 4, 3) := dk_167 0 4 (dk_at dksX6_isAllSeen_3 13 rfl rfl)
theorem dX6_isAllSeen_85 : decode cX6_isAllSeen 85 = .ok (.iconst 0, 1) := dk_3 (dk_at dksX6_isAllSeen_3 16 rfl rfl)
theorem dX6_isAllSeen_86 : decode cX6_isAllSeen 86 = .ok (.istore_n 1, 1) := dk_60 (dk_at dksX6_isAllSeen_3 17 rfl rfl)
theorem dX6_isAllSeen_87 : decode cX6_isAllSeen 87 = .ok (.iinc 3 1, 3) := dk_132 3 1 (dk_at dksX6_isAllSeen_3 18 rfl rfl)
theorem dX6_isAllSeen_90 : decode cX6_isAllSeen 90 = .ok (.goto (-69), 3) := dk_167 255 187 (dk_at dksX6_isAllSeen_3 21 rfl rfl)
theorem dX6_isAllSeen_93 : decode cX6_isAllSeen 93 = .ok (.aload_n 0, 1) := dk_42 (dk_at dksX6_isAllSeen_4 0 rfl rfl)
theorem dX6_isAllSeen_94 : decode cX6_isAllSeen 94 = .ok (.invokevirtual 203, 3) := dk_182 0 203 (dk_at dksX6_isAllSeen_4 1 rfl rfl)
theorem dX6_isAllSeen_97 : decode cX6_isAllSeen 97 = .ok (.iinc 2 1, 3) := dk_132 2 1 (dk_at dksX6_isAllSeen_4 4 rfl rfl)
theorem dX6_isAllSeen_100 : decode cX6_isAllSeen 100 = .ok (.goto (-91), 3) := dk_167 255 165 (dk_at dksX6_isAllSeen_4 7 rfl rfl)
theorem dX6_isAllSeen_103 : decode cX6_isAllSeen 103 = .ok (.aload_n 0, 1) := dk_42 (dk_at dksX6_isAllSeen_4 10 rfl rfl)
theorem dX6_isAllSeen_104 : decode cX6_isAllSeen 104 = .ok (.iconst 0, 1) := dk_3 (dk_at dksX6_isAllSeen_4 11 rfl rfl)
theorem dX6_isAllSeen_105 : decode cX6_isAllSeen 105 = .ok (.invokevirtual 206, 3) := dk_182 0 206 (dk_at dksX6_isAllSeen_4 12 rfl rfl)
theorem dX6_isAllSeen_108 : decode cX6_isAllSeen 108 = .ok (.iload_n 1, 1) := dk_27 (dk_at dksX6_isAllSeen_4 15 rfl rfl)
theorem dX6_isAllSeen_109 : decode cX6_isAllSeen 109 = .ok (.ireturn, 1) := dk_172 (dk_at dksX6_isAllSeen_4 16 rfl rfl)
abbrev cX6_can : ByteArray := prog_23_method_63_code
def yX6_can : MethodName := ⟨RX6, "can", "(II)I"⟩
def dkwX6_can_3 : List UInt8 := [21, 5, 54, 5, 132, 6, 255, 167, 255, 218, 28, 154, 0, 8, 21, 4, 167, 0, 5, 21, 5, 172]
abbrev dktX6_can_3 : List UInt8 := dkwX6_can_3 ++ []
def dkwX6_can_2 : List UInt8 := [21, 6, 122, 4, 126, 96, 54, 4, 29, 21, 6, 122, 4, 126, 4, 160, 0, 8, 21, 6, 167, 0, 5]
abbrev dktX6_can_2 : List UInt8 := dkwX6_can_2 ++ dktX6_can_3
def dkwX6_can_1 : List UInt8 := [182, 0, 239, 62, 3, 54, 4, 16, 251, 54, 5, 16, 9, 54, 6, 21, 6, 155, 0, 39, 21, 4, 29]
abbrev dktX6_can_1 : List UInt8 := dkwX6_can_1 ++ dktX6_can_2
def dkwX6_can_0 : List UInt8 := [42, 27, 182, 0, 91, 153, 0, 12, 28, 3, 4, 184, 0, 79, 154, 0, 5, 2, 172, 42, 27, 4, 16, 9]
abbrev dktX6_can_0 : List UInt8 := dkwX6_can_0 ++ dktX6_can_1
theorem dksX6_can_0 : cX6_can.data.toList.drop 0 = dktX6_can_0 := by decide +kernel
theorem dksX6_can_1 : cX6_can.data.toList.drop 24 = dktX6_can_1 := dk_seg dksX6_can_0 24 rfl rfl
theorem dksX6_can_2 : cX6_can.data.toList.drop 47 = dktX6_can_2 := dk_seg dksX6_can_1 23 rfl rfl
theorem dksX6_can_3 : cX6_can.data.toList.drop 70 = dktX6_can_3 := dk_seg dksX6_can_2 23 rfl rfl
theorem dX6_can_0 : decode cX6_can 0 = .ok (.aload_n 0, 1) := dk_42 (dk_at dksX6_can_0 0 rfl rfl)
theorem dX6_can_1 : decode cX6_can 1 = .ok (.iload_n 1, 1) := dk_27 (dk_at dksX6_can_0 1 rfl rfl)
theorem dX6_can_2 : decode cX6_can 2 = .ok (.invokevirtual 91, 3) := dk_182 0 91 (dk_at dksX6_can_0 2 rfl rfl)
theorem dX6_can_5 : decode cX6_can 5 = .ok (.ifCond .eq 12, 3) := dk_153 0 12 (dk_at dksX6_can_0 5 rfl rfl)
theorem dX6_can_8 : decode cX6_can 8 = .ok (.iload_n 2, 1) := dk_28 (dk_at dksX6_can_0 8 rfl rfl)
theorem dX6_can_9 : decode cX6_can 9 = .ok (.iconst 0, 1) := dk_3 (dk_at dksX6_can_0 9 rfl rfl)
theorem dX6_can_10 : decode cX6_can 10 = .ok (.iconst 1, 1) := dk_4 (dk_at dksX6_can_0 10 rfl rfl)
theorem dX6_can_11 : decode cX6_can 11 = .ok (.invokestatic 79, 3) := dk_184 0 79 (dk_at dksX6_can_0 11 rfl rfl)
theorem dX6_can_14 : decode cX6_can 14 = .ok (.ifCond .ne 5, 3) := dk_154 0 5 (dk_at dksX6_can_0 14 rfl rfl)
theorem dX6_can_17 : decode cX6_can 17 = .ok (.iconst (-1), 1) := dk_2 (dk_at dksX6_can_0 17 rfl rfl)
theorem dX6_can_18 : decode cX6_can 18 = .ok (.ireturn, 1) := dk_172 (dk_at dksX6_can_0 18 rfl rfl)
theorem dX6_can_19 : decode cX6_can 19 = .ok (.aload_n 0, 1) := dk_42 (dk_at dksX6_can_0 19 rfl rfl)
theorem dX6_can_20 : decode cX6_can 20 = .ok (.iload_n 1, 1) := dk_27 (dk_at dksX6_can_0 20 rfl rfl)
theorem dX6_can_21 : decode cX6_can 21 = .ok (.iconst 1, 1) := dk_4 (dk_at dksX6_can_0 21 rfl rfl)
theorem dX6_can_22 : decode cX6_can 22 = .ok (.bipush 9, 2) := dk_16 9 (dk_at dksX6_can_0 22 rfl rfl)
theorem dX6_can_24 : decode cX6_can 24 = .ok (.invokevirtual 239, 3) := dk_182 0 239 (dk_at dksX6_can_1 0 rfl rfl)
theorem dX6_can_27 : decode cX6_can 27 = .ok (.istore_n 3, 1) := dk_62 (dk_at dksX6_can_1 3 rfl rfl)
theorem dX6_can_28 : decode cX6_can 28 = .ok (.iconst 0, 1) := dk_3 (dk_at dksX6_can_1 4 rfl rfl)
theorem dX6_can_29 : decode cX6_can 29 = .ok (.istore 4, 2) := dk_54 4 (dk_at dksX6_can_1 5 rfl rfl)
theorem dX6_can_31 : decode cX6_can 31 = .ok (.bipush (-5), 2) := dk_16 251 (dk_at dksX6_can_1 7 rfl rfl)
theorem dX6_can_33 : decode cX6_can 33 = .ok (.istore 5, 2) := dk_54 5 (dk_at dksX6_can_1 9 rfl rfl)
theorem dX6_can_35 : decode cX6_can 35 = .ok (.bipush 9, 2) := dk_16 9 (dk_at dksX6_can_1 11 rfl rfl)
theorem dX6_can_37 : decode cX6_can 37 = .ok (.istore 6, 2) := dk_54 6 (dk_at dksX6_can_1 13 rfl rfl)
theorem dX6_can_39 : decode cX6_can 39 = .ok (.iload 6, 2) := dk_21 6 (dk_at dksX6_can_1 15 rfl rfl)
theorem dX6_can_41 : decode cX6_can 41 = .ok (.ifCond .lt 39, 3) := dk_155 0 39 (dk_at dksX6_can_1 17 rfl rfl)
theorem dX6_can_44 : decode cX6_can 44 = .ok (.iload 4, 2) := dk_21 4 (dk_at dksX6_can_1 20 rfl rfl)
theorem dX6_can_46 : decode cX6_can 46 = .ok (.iload_n 3, 1) := dk_29 (dk_at dksX6_can_1 22 rfl rfl)
theorem dX6_can_47 : decode cX6_can 47 = .ok (.iload 6, 2) := dk_21 6 (dk_at dksX6_can_2 0 rfl rfl)
theorem dX6_can_49 : decode cX6_can 49 = .ok (.ishr, 1) := dk_122 (dk_at dksX6_can_2 2 rfl rfl)
theorem dX6_can_50 : decode cX6_can 50 = .ok (.iconst 1, 1) := dk_4 (dk_at dksX6_can_2 3 rfl rfl)
theorem dX6_can_51 : decode cX6_can 51 = .ok (.iand, 1) := dk_126 (dk_at dksX6_can_2 4 rfl rfl)
theorem dX6_can_52 : decode cX6_can 52 = .ok (.iadd, 1) := dk_96 (dk_at dksX6_can_2 5 rfl rfl)
theorem dX6_can_53 : decode cX6_can 53 = .ok (.istore 4, 2) := dk_54 4 (dk_at dksX6_can_2 6 rfl rfl)
theorem dX6_can_55 : decode cX6_can 55 = .ok (.iload_n 3, 1) := dk_29 (dk_at dksX6_can_2 8 rfl rfl)
theorem dX6_can_56 : decode cX6_can 56 = .ok (.iload 6, 2) := dk_21 6 (dk_at dksX6_can_2 9 rfl rfl)
theorem dX6_can_58 : decode cX6_can 58 = .ok (.ishr, 1) := dk_122 (dk_at dksX6_can_2 11 rfl rfl)
theorem dX6_can_59 : decode cX6_can 59 = .ok (.iconst 1, 1) := dk_4 (dk_at dksX6_can_2 12 rfl rfl)
theorem dX6_can_60 : decode cX6_can 60 = .ok (.iand, 1) := dk_126 (dk_at dksX6_can_2 13 rfl rfl)
theorem dX6_can_61 : decode cX6_can 61 = .ok (.iconst 1, 1) := dk_4 (dk_at dksX6_can_2 14 rfl rfl)
theorem dX6_can_62 : decode cX6_can 62 = .ok (.if_icmp .ne 8, 3) := dk_160 0 8 (dk_at dksX6_can_2 15 rfl rfl)
theorem dX6_can_65 : decode cX6_can 65 = .ok (.iload 6, 2) := dk_21 6 (dk_at dksX6_can_2 18 rfl rfl)
theorem dX6_can_67 : decode cX6_can 67 = .ok (.goto 5, 3) := dk_167 0 5 (dk_at dksX6_can_2 20 rfl rfl)
theorem dX6_can_70 : decode cX6_can 70 = .ok (.iload 5, 2) := dk_21 5 (dk_at dksX6_can_3 0 rfl rfl)
theorem dX6_can_72 : decode cX6_can 72 = .ok (.istore 5, 2) := dk_54 5 (dk_at dksX6_can_3 2 rfl rfl)
theorem dX6_can_74 : decode cX6_can 74 = .ok (.iinc 6 (-1), 3) := dk_132 6 255 (dk_at dksX6_can_3 4 rfl rfl)
theorem dX6_can_77 : decode cX6_can 77 = .ok (.goto (-38), 3) := dk_167 255 218 (dk_at dksX6_can_3 7 rfl rfl)
theorem dX6_can_80 : decode cX6_can 80 = .ok (.iload_n 2, 1) := dk_28 (dk_at dksX6_can_3 10 rfl rfl)
theorem dX6_can_81 : decode cX6_can 81 = .ok (.ifCond .ne 8, 3) := dk_154 0 8 (dk_at dksX6_can_3 11 rfl rfl)
theorem dX6_can_84 : decode cX6_can 84 = .ok (.iload 4, 2) := dk_21 4 (dk_at dksX6_can_3 14 rfl rfl)
theorem dX6_can_86 : decode cX6_can 86 = .ok (.goto 5, 3) := dk_167 0 5 (dk_at dksX6_can_3 16 rfl rfl)
theorem dX6_can_89 : decode cX6_can 89 = .ok (.iload 5, 2) := dk_21 5 (dk_at dksX6_can_3 19 rfl rfl)
theorem dX6_can_91 : decode cX6_can 91 = .ok (.ireturn, 1) := dk_172 (dk_at dksX6_can_3 21 rfl rfl)
abbrev cX6_odds : ByteArray := prog_23_method_65_code
def yX6_odds : MethodName := ⟨RX6, "odds", "(III)J"⟩
def dkwX6_odds_4 : List UInt8 := [132, 5, 1, 167, 255, 196, 21, 4, 133, 20, 0, 247, 29, 184, 0, 249, 173]
abbrev dktX6_odds_4 : List UInt8 := dkwX6_odds_4 ++ []
def dkwX6_odds_3 : List UInt8 := [42, 28, 3, 182, 0, 244, 27, 122, 4, 126, 96, 54, 4, 42, 180, 0, 15, 21, 5, 21, 6, 79]
abbrev dktX6_odds_3 : List UInt8 := dkwX6_odds_3 ++ dktX6_odds_4
def dkwX6_odds_2 : List UInt8 := [21, 5, 46, 54, 6, 42, 180, 0, 15, 21, 5, 16, 99, 21, 6, 16, 9, 96, 184, 0, 230, 79, 21, 4]
abbrev dktX6_odds_2 : List UInt8 := dkwX6_odds_2 ++ dktX6_odds_3
def dkwX6_odds_1 : List UInt8 := [154, 0, 7, 20, 0, 242, 173, 3, 54, 4, 3, 54, 5, 21, 5, 16, 8, 162, 0, 59, 42, 180, 0, 15]
abbrev dktX6_odds_1 : List UInt8 := dkwX6_odds_1 ++ dktX6_odds_2
def dkwX6_odds_0 : List UInt8 := [42, 27, 182, 0, 169, 153, 0, 22, 28, 3, 16, 20, 184, 0, 79, 153, 0, 12, 29, 3, 4, 184, 0, 79]
abbrev dktX6_odds_0 : List UInt8 := dkwX6_odds_0 ++ dktX6_odds_1
theorem dksX6_odds_0 : cX6_odds.data.toList.drop 0 = dktX6_odds_0 := by decide +kernel
theorem dksX6_odds_1 : cX6_odds.data.toList.drop 24 = dktX6_odds_1 := dk_seg dksX6_odds_0 24 rfl rfl
theorem dksX6_odds_2 : cX6_odds.data.toList.drop 48 = dktX6_odds_2 := dk_seg dksX6_odds_1 24 rfl rfl
theorem dksX6_odds_3 : cX6_odds.data.toList.drop 72 = dktX6_odds_3 := dk_seg dksX6_odds_2 24 rfl rfl
theorem dksX6_odds_4 : cX6_odds.data.toList.drop 94 = dktX6_odds_4 := dk_seg dksX6_odds_3 22 rfl rfl
theorem dX6_odds_0 : decode cX6_odds 0 = .ok (.aload_n 0, 1) := dk_42 (dk_at dksX6_odds_0 0 rfl rfl)
theorem dX6_odds_1 : decode cX6_odds 1 = .ok (.iload_n 1, 1) := dk_27 (dk_at dksX6_odds_0 1 rfl rfl)
theorem dX6_odds_2 : decode cX6_odds 2 = .ok (.invokevirtual 169, 3) := dk_182 0 169 (dk_at dksX6_odds_0 2 rfl rfl)
theorem dX6_odds_5 : decode cX6_odds 5 = .ok (.ifCond .eq 22, 3) := dk_153 0 22 (dk_at dksX6_odds_0 5 rfl rfl)
theorem dX6_odds_8 : decode cX6_odds 8 = .ok (.iload_n 2, 1) := dk_28 (dk_at dksX6_odds_0 8 rfl rfl)
theorem dX6_odds_9 : decode cX6_odds 9 = .ok (.iconst 0, 1) := dk_3 (dk_at dksX6_odds_0 9 rfl rfl)
theorem dX6_odds_10 : decode cX6_odds 10 = .ok (.bipush 20, 2) := dk_16 20 (dk_at dksX6_odds_0 10 rfl rfl)
theorem dX6_odds_12 : decode cX6_odds 12 = .ok (.invokestatic 79, 3) := dk_184 0 79 (dk_at dksX6_odds_0 12 rfl rfl)
theorem dX6_odds_15 : decode cX6_odds 15 = .ok (.ifCond .eq 12, 3) := dk_153 0 12 (dk_at dksX6_odds_0 15 rfl rfl)
theorem dX6_odds_18 : decode cX6_odds 18 = .ok (.iload_n 3, 1) := dk_29 (dk_at dksX6_odds_0 18 rfl rfl)
theorem dX6_odds_19 : decode cX6_odds 19 = .ok (.iconst 0, 1) := dk_3 (dk_at dksX6_odds_0 19 rfl rfl)
theorem dX6_odds_20 : decode cX6_odds 20 = .ok (.iconst 1, 1) := dk_4 (dk_at dksX6_odds_0 20 rfl rfl)
theorem dX6_odds_21 : decode cX6_odds 21 = .ok (.invokestatic 79, 3) := dk_184 0 79 (dk_at dksX6_odds_0 21 rfl rfl)
theorem dX6_odds_24 : decode cX6_odds 24 = .ok (.ifCond .ne 7, 3) := dk_154 0 7 (dk_at dksX6_odds_1 0 rfl rfl)
theorem dX6_odds_27 : decode cX6_odds 27 = .ok (.ldc2_w 242, 3) := dk_20 0 242 (dk_at dksX6_odds_1 3 rfl rfl)
theorem dX6_odds_30 : decode cX6_odds 30 = .ok (.lreturn, 1) := dk_173 (dk_at dksX6_odds_1 6 rfl rfl)
theorem dX6_odds_31 : decode cX6_odds 31 = .ok (.iconst 0, 1) := dk_3 (dk_at dksX6_odds_1 7 rfl rfl)
theorem dX6_odds_32 : decode cX6_odds 32 = .ok (.istore 4, 2) := dk_54 4 (dk_at dksX6_odds_1 8 rfl rfl)
theorem dX6_odds_34 : decode cX6_odds 34 = .ok (.iconst 0, 1) := dk_3 (dk_at dksX6_odds_1 10 rfl rfl)
theorem dX6_odds_35 : decode cX6_odds 35 = .ok (.istore 5, 2) := dk_54 5 (dk_at dksX6_odds_1 11 rfl rfl)
theorem dX6_odds_37 : decode cX6_odds 37 = .ok (.iload 5, 2) := dk_21 5 (dk_at dksX6_odds_1 13 rfl rfl)
theorem dX6_odds_39 : decode cX6_odds 39 = .ok (.bipush 8, 2) := dk_16 8 (dk_at dksX6_odds_1 15 rfl rfl)
theorem dX6_odds_41 : decode cX6_odds 41 = .ok (.if_icmp .ge 59, 3) := dk_162 0 59 (dk_at dksX6_odds_1 17 rfl rfl)
theorem dX6_odds_44 : decode cX6_odds 44 = .ok (.aload_n 0, 1) := dk_42 (dk_at dksX6_odds_1 20 rfl rfl)
theorem dX6_odds_45 : decode cX6_odds 45 = .ok (.getfield 15, 3) := dk_180 0 15 (dk_at dksX6_odds_1 21 rfl rfl)
theorem dX6_odds_48 : decode cX6_odds 48 = .ok (.iload 5, 2) := dk_21 5 (dk_at dksX6_odds_2 0 rfl rfl)
theorem dX6_odds_50 : decode cX6_odds 50 = .ok (.iaload, 1) := dk_46 (dk_at dksX6_odds_2 2 rfl rfl)
theorem dX6_odds_51 : decode cX6_odds 51 = .ok (.istore 6, 2) := dk_54 6 (dk_at dksX6_odds_2 3 rfl rfl)
theorem dX6_odds_53 : decode cX6_odds 53 = .ok (.aload_n 0, 1) := dk_42 (dk_at dksX6_odds_2 5 rfl rfl)
theorem dX6_odds_54 : decode cX6_odds 54 = .ok (.getfield 15, 3) := dk_180 0 15 (dk_at dksX6_odds_2 6 rfl rfl)
theorem dX6_odds_57 : decode cX6_odds 57 = .ok (.iload 5, 2) := dk_21 5 (dk_at dksX6_odds_2 9 rfl rfl)
theorem dX6_odds_59 : decode cX6_odds 59 = .ok (.bipush 99, 2) := dk_16 99 (dk_at dksX6_odds_2 11 rfl rfl)
theorem dX6_odds_61 : decode cX6_odds 61 = .ok (.iload 6, 2) := dk_21 6 (dk_at dksX6_odds_2 13 rfl rfl)
theorem dX6_odds_63 : decode cX6_odds 63 = .ok (.bipush 9, 2) := dk_16 9 (dk_at dksX6_odds_2 15 rfl rfl)
theorem dX6_odds_65 : decode cX6_odds 65 = .ok (.iadd, 1) := dk_96 (dk_at dksX6_odds_2 17 rfl rfl)
theorem dX6_odds_66 : decode cX6_odds 66 = .ok (.invokestatic 230, 3) := dk_184 0 230 (dk_at dksX6_odds_2 18 rfl rfl)
theorem dX6_odds_69 : decode cX6_odds 69 = .ok (.iastore, 1) := dk_79 (dk_at dksX6_odds_2 21 rfl rfl)
theorem dX6_odds_70 : decode cX6_odds 70 = .ok (.iload 4, 2) := dk_21 4 (dk_at dksX6_odds_2 22 rfl rfl)
theorem dX6_odds_72 : decode cX6_odds 72 = .ok (.aload_n 0, 1) := dk_42 (dk_at dksX6_odds_3 0 rfl rfl)
theorem dX6_odds_73 : decode cX6_odds 73 = .ok (.iload_n 2, 1) := dk_28 (dk_at dksX6_odds_3 1 rfl rfl)
theorem dX6_odds_74 : decode cX6_odds 74 = .ok (.iconst 0, 1) := dk_3 (dk_at dksX6_odds_3 2 rfl rfl)
theorem dX6_odds_75 : decode cX6_odds 75 = .ok (.invokevirtual 244, 3) := dk_182 0 244 (dk_at dksX6_odds_3 3 rfl rfl)
theorem dX6_odds_78 : decode cX6_odds 78 = .ok (.iload_n 1, 1) := dk_27 (dk_at dksX6_odds_3 6 rfl rfl)
theorem dX6_odds_79 : decode cX6_odds 79 = .ok (.ishr, 1) := dk_122 (dk_at dksX6_odds_3 7 rfl rfl)
theorem dX6_odds_80 : decode cX6_odds 80 = .ok (.iconst 1, 1) := dk_4 (dk_at dksX6_odds_3 8 rfl rfl)
theorem dX6_odds_81 : decode cX6_odds 81 = .ok (.iand, 1) := dk_126 (dk_at dksX6_odds_3 9 rfl rfl)
theorem dX6_odds_82 : decode cX6_odds 82 = .ok (.iadd, 1) := dk_96 (dk_at dksX6_odds_3 10 rfl rfl)
theorem dX6_odds_83 : decode cX6_odds 83 = .ok (.istore 4, 2) := dk_54 4 (dk_at dksX6_odds_3 11 rfl rfl)
theorem dX6_odds_85 : decode cX6_odds 85 = .ok (.aload_n 0, 1) := dk_42 (dk_at dksX6_odds_3 13 rfl rfl)
theorem dX6_odds_86 : decode cX6_odds 86 = .ok (.getfield 15, 3) := dk_180 0 15 (dk_at dksX6_odds_3 14 rfl rfl)
theorem dX6_odds_89 : decode cX6_odds 89 = .ok (.iload 5, 2) := dk_21 5 (dk_at dksX6_odds_3 17 rfl rfl)
theorem dX6_odds_91 : decode cX6_odds 91 = .ok (.iload 6, 2) := dk_21 6 (dk_at dksX6_odds_3 19 rfl rfl)
theorem dX6_odds_93 : decode cX6_odds 93 = .ok (.iastore, 1) := dk_79 (dk_at dksX6_odds_3 21 rfl rfl)
theorem dX6_odds_94 : decode cX6_odds 94 = .ok (.iinc 5 1, 3) := dk_132 5 1 (dk_at dksX6_odds_4 0 rfl rfl)
theorem dX6_odds_97 : decode cX6_odds 97 = .ok (.goto (-60), 3) := dk_167 255 196 (dk_at dksX6_odds_4 3 rfl rfl)
theorem dX6_odds_100 : decode cX6_odds 100 = .ok (.iload 4, 2) := dk_21 4 (dk_at dksX6_odds_4 6 rfl rfl)
theorem dX6_odds_102 : decode cX6_odds 102 = .ok (.i2l, 1) := dk_133 (dk_at dksX6_odds_4 8 rfl rfl)
theorem dX6_odds_103 : decode cX6_odds 103 = .ok (.ldc2_w 247, 3) := dk_20 0 247 (dk_at dksX6_odds_4 9 rfl rfl)
theorem dX6_odds_106 : decode cX6_odds 106 = .ok (.iload_n 3, 1) := dk_29 (dk_at dksX6_odds_4 12 rfl rfl)
theorem dX6_odds_107 : decode cX6_odds 107 = .ok (.invokestatic 249, 3) := dk_184 0 249 (dk_at dksX6_odds_4 13 rfl rfl)
theorem dX6_odds_110 : decode cX6_odds 110 = .ok (.lreturn, 1) := dk_173 (dk_at dksX6_odds_4 16 rfl rfl)
abbrev cX6_fraction : ByteArray := prog_23_method_64_code
def yX6_fraction : MethodName := ⟨RX6, "fraction", "(JJI)J"⟩
def dkwX6_fraction_1 : List UInt8 := [22, 9, 55, 7, 167, 255, 234, 21, 4, 154, 0, 10, 30, 22, 5, 109, 167, 0, 7, 32, 22, 5, 109, 173]
abbrev dktX6_fraction_1 : List UInt8 := dkwX6_fraction_1 ++ []
def dkwX6_fraction_0 : List UInt8 := [30, 55, 5, 32, 55, 7, 22, 7, 9, 148, 153, 0, 21, 22, 5, 22, 7, 113, 55, 9, 22, 7, 55, 5]
abbrev dktX6_fraction_0 : List UInt8 := dkwX6_fraction_0 ++ dktX6_fraction_1
theorem dksX6_fraction_0 : cX6_fraction.data.toList.drop 0 = dktX6_fraction_0 := by decide +kernel
theorem dksX6_fraction_1 : cX6_fraction.data.toList.drop 24 = dktX6_fraction_1 := dk_seg dksX6_fraction_0 24 rfl rfl
theorem dX6_fraction_0 : decode cX6_fraction 0 = .ok (.lload_n 0, 1) := dk_30 (dk_at dksX6_fraction_0 0 rfl rfl)
theorem dX6_fraction_1 : decode cX6_fraction 1 = .ok (.lstore 5, 2) := dk_55 5 (dk_at dksX6_fraction_0 1 rfl rfl)
theorem dX6_fraction_3 : decode cX6_fraction 3 = .ok (.lload_n 2, 1) := dk_32 (dk_at dksX6_fraction_0 3 rfl rfl)
theorem dX6_fraction_4 : decode cX6_fraction 4 = .ok (.lstore 7, 2) := dk_55 7 (dk_at dksX6_fraction_0 4 rfl rfl)
theorem dX6_fraction_6 : decode cX6_fraction 6 = .ok (.lload 7, 2) := dk_22 7 (dk_at dksX6_fraction_0 6 rfl rfl)
theorem dX6_fraction_8 : decode cX6_fraction 8 = .ok (.lconst 0, 1) := dk_9 (dk_at dksX6_fraction_0 8 rfl rfl)
theorem dX6_fraction_9 : decode cX6_fraction 9 = .ok (.lcmp, 1) := dk_148 (dk_at dksX6_fraction_0 9 rfl rfl)
theorem dX6_fraction_10 : decode cX6_fraction 10 = .ok (.ifCond .eq 21, 3) := dk_153 0 21 (dk_at dksX6_fraction_0 10 rfl rfl)
theorem dX6_fraction_13 : decode cX6_fraction 13 = .ok (.lload 5, 2) := dk_22 5 (dk_at dksX6_fraction_0 13 rfl rfl)
theorem dX6_fraction_15 : decode cX6_fraction 15 = .ok (.lload 7, 2) := dk_22 7 (dk_at dksX6_fraction_0 15 rfl rfl)
theorem dX6_fraction_17 : decode cX6_fraction 17 = .ok (.lrem, 1) := dk_113 (dk_at dksX6_fraction_0 17 rfl rfl)
theorem dX6_fraction_18 : decode cX6_fraction 18 = .ok (.lstore 9, 2) := dk_55 9 (dk_at dksX6_fraction_0 18 rfl rfl)
theorem dX6_fraction_20 : decode cX6_fraction 20 = .ok (.lload 7, 2) := dk_22 7 (dk_at dksX6_fraction_0 20 rfl rfl)
theorem dX6_fraction_22 : decode cX6_fraction 22 = .ok (.lstore 5, 2) := dk_55 5 (dk_at dksX6_fraction_0 22 rfl rfl)
theorem dX6_fraction_24 : decode cX6_fraction 24 = .ok (.lload 9, 2) := dk_22 9 (dk_at dksX6_fraction_1 0 rfl rfl)
theorem dX6_fraction_26 : decode cX6_fraction 26 = .ok (.lstore 7, 2) := dk_55 7 (dk_at dksX6_fraction_1 2 rfl rfl)
theorem dX6_fraction_28 : decode cX6_fraction 28 = .ok (.goto (-22), 3) := dk_167 255 234 (dk_at dksX6_fraction_1 4 rfl rfl)
theorem dX6_fraction_31 : decode cX6_fraction 31 = .ok (.iload 4, 2) := dk_21 4 (dk_at dksX6_fraction_1 7 rfl rfl)
theorem dX6_fraction_33 : decode cX6_fraction 33 = .ok (.ifCond .ne 10, 3) := dk_154 0 10 (dk_at dksX6_fraction_1 9 rfl rfl)
theorem dX6_fraction_36 : decode cX6_fraction 36 = .ok (.lload_n 0, 1) := dk_30 (dk_at dksX6_fraction_1 12 rfl rfl)
theorem dX6_fraction_37 : decode cX6_fraction 37 = .ok (.lload 5, 2) := dk_22 5 (dk_at dksX6_fraction_1 13 rfl rfl)
theorem dX6_fraction_39 : decode cX6_fraction 39 = .ok (.ldiv, 1) := dk_109 (dk_at dksX6_fraction_1 15 rfl rfl)
theorem dX6_fraction_40 : decode cX6_fraction 40 = .ok (.goto 7, 3) := dk_167 0 7 (dk_at dksX6_fraction_1 16 rfl rfl)
theorem dX6_fraction_43 : decode cX6_fraction 43 = .ok (.lload_n 2, 1) := dk_32 (dk_at dksX6_fraction_1 19 rfl rfl)
theorem dX6_fraction_44 : decode cX6_fraction 44 = .ok (.lload 5, 2) := dk_22 5 (dk_at dksX6_fraction_1 20 rfl rfl)
theorem dX6_fraction_46 : decode cX6_fraction 46 = .ok (.ldiv, 1) := dk_109 (dk_at dksX6_fraction_1 22 rfl rfl)
theorem dX6_fraction_47 : decode cX6_fraction 47 = .ok (.lreturn, 1) := dk_173 (dk_at dksX6_fraction_1 23 rfl rfl)
abbrev cX6_mean : ByteArray := prog_23_method_66_code
def yX6_mean : MethodName := ⟨RX6, "mean", "(II)J"⟩
def dkwX6_mean_2 : List UInt8 := [182, 0, 215, 62, 42, 3, 182, 0, 206, 29, 133, 20, 0, 247, 28, 184, 0, 249, 173]
abbrev dktX6_mean_2 : List UInt8 := dkwX6_mean_2 ++ []
def dkwX6_mean_1 : List UInt8 := [3, 182, 0, 197, 3, 62, 29, 27, 162, 0, 13, 42, 182, 0, 203, 132, 3, 1, 167, 255, 244, 42]
abbrev dktX6_mean_1 : List UInt8 := dkwX6_mean_1 ++ dktX6_mean_2
def dkwX6_mean_0 : List UInt8 := [27, 3, 16, 60, 184, 0, 79, 153, 0, 12, 28, 3, 4, 184, 0, 79, 154, 0, 7, 20, 0, 242, 173, 42]
abbrev dktX6_mean_0 : List UInt8 := dkwX6_mean_0 ++ dktX6_mean_1
theorem dksX6_mean_0 : cX6_mean.data.toList.drop 0 = dktX6_mean_0 := by decide +kernel
theorem dksX6_mean_1 : cX6_mean.data.toList.drop 24 = dktX6_mean_1 := dk_seg dksX6_mean_0 24 rfl rfl
theorem dksX6_mean_2 : cX6_mean.data.toList.drop 46 = dktX6_mean_2 := dk_seg dksX6_mean_1 22 rfl rfl
theorem dX6_mean_0 : decode cX6_mean 0 = .ok (.iload_n 1, 1) := dk_27 (dk_at dksX6_mean_0 0 rfl rfl)
theorem dX6_mean_1 : decode cX6_mean 1 = .ok (.iconst 0, 1) := dk_3 (dk_at dksX6_mean_0 1 rfl rfl)
theorem dX6_mean_2 : decode cX6_mean 2 = .ok (.bipush 60, 2) := dk_16 60 (dk_at dksX6_mean_0 2 rfl rfl)
theorem dX6_mean_4 : decode cX6_mean 4 = .ok (.invokestatic 79, 3) := dk_184 0 79 (dk_at dksX6_mean_0 4 rfl rfl)
theorem dX6_mean_7 : decode cX6_mean 7 = .ok (.ifCond .eq 12, 3) := dk_153 0 12 (dk_at dksX6_mean_0 7 rfl rfl)
theorem dX6_mean_10 : decode cX6_mean 10 = .ok (.iload_n 2, 1) := dk_28 (dk_at dksX6_mean_0 10 rfl rfl)
theorem dX6_mean_11 : decode cX6_mean 11 = .ok (.iconst 0, 1) := dk_3 (dk_at dksX6_mean_0 11 rfl rfl)
theorem dX6_mean_12 : decode cX6_mean 12 = .ok (.iconst 1, 1) := dk_4 (dk_at dksX6_mean_0 12 rfl rfl)
theorem dX6_mean_13 : decode cX6_mean 13 = .ok (.invokestatic 79, 3) := dk_184 0 79 (dk_at dksX6_mean_0 13 rfl rfl)
theorem dX6_mean_16 : decode cX6_mean 16 = .ok (.ifCond .ne 7, 3) := dk_154 0 7 (dk_at dksX6_mean_0 16 rfl rfl)
theorem dX6_mean_19 : decode cX6_mean 19 = .ok (.ldc2_w 242, 3) := dk_20 0 242 (dk_at dksX6_mean_0 19 rfl rfl)
theorem dX6_mean_22 : decode cX6_mean 22 = .ok (.lreturn, 1) := dk_173 (dk_at dksX6_mean_0 22 rfl rfl)
theorem dX6_mean_23 : decode cX6_mean 23 = .ok (.aload_n 0, 1) := dk_42 (dk_at dksX6_mean_0 23 rfl rfl)
theorem dX6_mean_24 : decode cX6_mean 24 = .ok (.iconst 0, 1) := dk_3 (dk_at dksX6_mean_1 0 rfl rfl)
theorem dX6_mean_25 : decode cX6_mean 25 = .ok (.invokevirtual 197, 3) := dk_182 0 197 (dk_at dksX6_mean_1 1 rfl rfl)
theorem dX6_mean_28 : decode cX6_mean 28 = .ok (.iconst 0, 1) := dk_3 (dk_at dksX6_mean_1 4 rfl rfl)
theorem dX6_mean_29 : decode cX6_mean 29 = .ok (.istore_n 3, 1) := dk_62 (dk_at dksX6_mean_1 5 rfl rfl)
theorem dX6_mean_30 : decode cX6_mean 30 = .ok (.iload_n 3, 1) := dk_29 (dk_at dksX6_mean_1 6 rfl rfl)
theorem dX6_mean_31 : decode cX6_mean 31 = .ok (.iload_n 1, 1) := dk_27 (dk_at dksX6_mean_1 7 rfl rfl)
theorem dX6_mean_32 : decode cX6_mean 32 = .ok (.if_icmp .ge 13, 3) := dk_162 0 13 (dk_at dksX6_mean_1 8 rfl rfl)
theorem dX6_mean_35 : decode cX6_mean 35 = .ok (.aload_n 0, 1) := dk_42 (dk_at dksX6_mean_1 11 rfl rfl)
theorem dX6_mean_36 : decode cX6_mean 36 = .ok (.invokevirtual 203, 3) := dk_182 0 203 (dk_at dksX6_mean_1 12 rfl rfl)
theorem dX6_mean_39 : decode cX6_mean 39 = .ok (.iinc 3 1, 3) := dk_132 3 1 (dk_at dksX6_mean_1 15 rfl rfl)
theorem dX6_mean_42 : decode cX6_mean 42 = .ok (.goto (-12), 3) := dk_167 255 244 (dk_at dksX6_mean_1 18 rfl rfl)
theorem dX6_mean_45 : decode cX6_mean 45 = .ok (.aload_n 0, 1) := dk_42 (dk_at dksX6_mean_1 21 rfl rfl)
theorem dX6_mean_46 : decode cX6_mean 46 = .ok (.invokevirtual 215, 3) := dk_182 0 215 (dk_at dksX6_mean_2 0 rfl rfl)
theorem dX6_mean_49 : decode cX6_mean 49 = .ok (.istore_n 3, 1) := dk_62 (dk_at dksX6_mean_2 3 rfl rfl)
theorem dX6_mean_50 : decode cX6_mean 50 = .ok (.aload_n 0, 1) := dk_42 (dk_at dksX6_mean_2 4 rfl rfl)
theorem dX6_mean_51 : decode cX6_mean 51 = .ok (.iconst 0, 1) := dk_3 (dk_at dksX6_mean_2 5 rfl rfl)
theorem dX6_mean_52 : decode cX6_mean 52 = .ok (.invokevirtual 206, 3) := dk_182 0 206 (dk_at dksX6_mean_2 6 rfl rfl)
theorem dX6_mean_55 : decode cX6_mean 55 = .ok (.iload_n 3, 1) := dk_29 (dk_at dksX6_mean_2 9 rfl rfl)
theorem dX6_mean_56 : decode cX6_mean 56 = .ok (.i2l, 1) := dk_133 (dk_at dksX6_mean_2 10 rfl rfl)
theorem dX6_mean_57 : decode cX6_mean 57 = .ok (.ldc2_w 247, 3) := dk_20 0 247 (dk_at dksX6_mean_2 11 rfl rfl)
theorem dX6_mean_60 : decode cX6_mean 60 = .ok (.iload_n 2, 1) := dk_28 (dk_at dksX6_mean_2 14 rfl rfl)
theorem dX6_mean_61 : decode cX6_mean 61 = .ok (.invokestatic 249, 3) := dk_184 0 249 (dk_at dksX6_mean_2 15 rfl rfl)
theorem dX6_mean_64 : decode cX6_mean 64 = .ok (.lreturn, 1) := dk_173 (dk_at dksX6_mean_2 18 rfl rfl)
abbrev cX6_plan : ByteArray := prog_23_method_67_code
def yX6_plan : MethodName := ⟨RX6, "plan", "(II)I"⟩
def dkwX6_plan_5 : List UInt8 := [92, 46, 4, 96, 79, 42, 180, 0, 15, 16, 100, 46, 172]
abbrev dktX6_plan_5 : List UInt8 := dkwX6_plan_5 ++ []
def dkwX6_plan_4 : List UInt8 := [42, 180, 0, 15, 16, 102, 5, 42, 180, 0, 15, 16, 100, 46, 104, 96, 28, 79, 42, 180, 0, 15, 16, 100]
abbrev dktX6_plan_4 : List UInt8 := dkwX6_plan_4 ++ dktX6_plan_5
def dkwX6_plan_3 : List UInt8 := [160, 0, 6, 16, 252, 172, 42, 180, 0, 15, 16, 101, 5, 42, 180, 0, 15, 16, 100, 46, 104, 96, 27, 79]
abbrev dktX6_plan_3 : List UInt8 := dkwX6_plan_3 ++ dktX6_plan_4
def dkwX6_plan_2 : List UInt8 := [153, 0, 7, 4, 167, 0, 4, 3, 62, 29, 154, 0, 5, 2, 172, 42, 180, 0, 15, 16, 100, 46, 16, 10]
abbrev dktX6_plan_2 : List UInt8 := dkwX6_plan_2 ++ dktX6_plan_3
def dkwX6_plan_1 : List UInt8 := [28, 184, 0, 87, 154, 0, 21, 27, 5, 159, 0, 8, 27, 6, 160, 0, 15, 42, 28, 182, 0, 91]
abbrev dktX6_plan_1 : List UInt8 := dkwX6_plan_1 ++ dktX6_plan_2
def dkwX6_plan_0 : List UInt8 := [27, 2, 160, 0, 13, 42, 180, 0, 15, 16, 100, 3, 79, 3, 172, 27, 153, 0, 33, 27, 4, 160, 0, 10]
abbrev dktX6_plan_0 : List UInt8 := dkwX6_plan_0 ++ dktX6_plan_1
theorem dksX6_plan_0 : cX6_plan.data.toList.drop 0 = dktX6_plan_0 := by decide +kernel
theorem dksX6_plan_1 : cX6_plan.data.toList.drop 24 = dktX6_plan_1 := dk_seg dksX6_plan_0 24 rfl rfl
theorem dksX6_plan_2 : cX6_plan.data.toList.drop 46 = dktX6_plan_2 := dk_seg dksX6_plan_1 22 rfl rfl
theorem dksX6_plan_3 : cX6_plan.data.toList.drop 70 = dktX6_plan_3 := dk_seg dksX6_plan_2 24 rfl rfl
theorem dksX6_plan_4 : cX6_plan.data.toList.drop 94 = dktX6_plan_4 := dk_seg dksX6_plan_3 24 rfl rfl
theorem dksX6_plan_5 : cX6_plan.data.toList.drop 118 = dktX6_plan_5 := dk_seg dksX6_plan_4 24 rfl rfl
theorem dX6_plan_0 : decode cX6_plan 0 = .ok (.iload_n 1, 1) := dk_27 (dk_at dksX6_plan_0 0 rfl rfl)
theorem dX6_plan_1 : decode cX6_plan 1 = .ok (.iconst (-1), 1) := dk_2 (dk_at dksX6_plan_0 1 rfl rfl)
theorem dX6_plan_2 : decode cX6_plan 2 = .ok (.if_icmp .ne 13, 3) := dk_160 0 13 (dk_at dksX6_plan_0 2 rfl rfl)
theorem dX6_plan_5 : decode cX6_plan 5 = .ok (.aload_n 0, 1) := dk_42 (dk_at dksX6_plan_0 5 rfl rfl)
theorem dX6_plan_6 : decode cX6_plan 6 = .ok (.getfield 15, 3) := dk_180 0 15 (dk_at dksX6_plan_0 6 rfl rfl)
theorem dX6_plan_9 : decode cX6_plan 9 = .ok (.bipush 100, 2) := dk_16 100 (dk_at dksX6_plan_0 9 rfl rfl)
theorem dX6_plan_11 : decode cX6_plan 11 = .ok (.iconst 0, 1) := dk_3 (dk_at dksX6_plan_0 11 rfl rfl)
theorem dX6_plan_12 : decode cX6_plan 12 = .ok (.iastore, 1) := dk_79 (dk_at dksX6_plan_0 12 rfl rfl)
theorem dX6_plan_13 : decode cX6_plan 13 = .ok (.iconst 0, 1) := dk_3 (dk_at dksX6_plan_0 13 rfl rfl)
theorem dX6_plan_14 : decode cX6_plan 14 = .ok (.ireturn, 1) := dk_172 (dk_at dksX6_plan_0 14 rfl rfl)
theorem dX6_plan_15 : decode cX6_plan 15 = .ok (.iload_n 1, 1) := dk_27 (dk_at dksX6_plan_0 15 rfl rfl)
theorem dX6_plan_16 : decode cX6_plan 16 = .ok (.ifCond .eq 33, 3) := dk_153 0 33 (dk_at dksX6_plan_0 16 rfl rfl)
theorem dX6_plan_19 : decode cX6_plan 19 = .ok (.iload_n 1, 1) := dk_27 (dk_at dksX6_plan_0 19 rfl rfl)
theorem dX6_plan_20 : decode cX6_plan 20 = .ok (.iconst 1, 1) := dk_4 (dk_at dksX6_plan_0 20 rfl rfl)
theorem dX6_plan_21 : decode cX6_plan 21 = .ok (.if_icmp .ne 10, 3) := dk_160 0 10 (dk_at dksX6_plan_0 21 rfl rfl)
theorem dX6_plan_24 : decode cX6_plan 24 = .ok (.iload_n 2, 1) := dk_28 (dk_at dksX6_plan_1 0 rfl rfl)
theorem dX6_plan_25 : decode cX6_plan 25 = .ok (.invokestatic 87, 3) := dk_184 0 87 (dk_at dksX6_plan_1 1 rfl rfl)
theorem dX6_plan_28 : decode cX6_plan 28 = .ok (.ifCond .ne 21, 3) := dk_154 0 21 (dk_at dksX6_plan_1 4 rfl rfl)
theorem dX6_plan_31 : decode cX6_plan 31 = .ok (.iload_n 1, 1) := dk_27 (dk_at dksX6_plan_1 7 rfl rfl)
theorem dX6_plan_32 : decode cX6_plan 32 = .ok (.iconst 2, 1) := dk_5 (dk_at dksX6_plan_1 8 rfl rfl)
theorem dX6_plan_33 : decode cX6_plan 33 = .ok (.if_icmp .eq 8, 3) := dk_159 0 8 (dk_at dksX6_plan_1 9 rfl rfl)
theorem dX6_plan_36 : decode cX6_plan 36 = .ok (.iload_n 1, 1) := dk_27 (dk_at dksX6_plan_1 12 rfl rfl)
theorem dX6_plan_37 : decode cX6_plan 37 = .ok (.iconst 3, 1) := dk_6 (dk_at dksX6_plan_1 13 rfl rfl)
theorem dX6_plan_38 : decode cX6_plan 38 = .ok (.if_icmp .ne 15, 3) := dk_160 0 15 (dk_at dksX6_plan_1 14 rfl rfl)
theorem dX6_plan_41 : decode cX6_plan 41 = .ok (.aload_n 0, 1) := dk_42 (dk_at dksX6_plan_1 17 rfl rfl)
theorem dX6_plan_42 : decode cX6_plan 42 = .ok (.iload_n 2, 1) := dk_28 (dk_at dksX6_plan_1 18 rfl rfl)
theorem dX6_plan_43 : decode cX6_plan 43 = .ok (.invokevirtual 91, 3) := dk_182 0 91 (dk_at dksX6_plan_1 19 rfl rfl)
theorem dX6_plan_46 : decode cX6_plan 46 = .ok (.ifCond .eq 7, 3) := dk_153 0 7 (dk_at dksX6_plan_2 0 rfl rfl)
theorem dX6_plan_49 : decode cX6_plan 49 = .ok (.iconst 1, 1) := dk_4 (dk_at dksX6_plan_2 3 rfl rfl)
theorem dX6_plan_50 : decode cX6_plan 50 = .ok (.goto 4, 3) := dk_167 0 4 (dk_at dksX6_plan_2 4 rfl rfl)
theorem dX6_plan_53 : decode cX6_plan 53 = .ok (.iconst 0, 1) := dk_3 (dk_at dksX6_plan_2 7 rfl rfl)
theorem dX6_plan_54 : decode cX6_plan 54 = .ok (.istore_n 3, 1) := dk_62 (dk_at dksX6_plan_2 8 rfl rfl)
theorem dX6_plan_55 : decode cX6_plan 55 = .ok (.iload_n 3, 1) := dk_29 (dk_at dksX6_plan_2 9 rfl rfl)
theorem dX6_plan_56 : decode cX6_plan 56 = .ok (.ifCond .ne 5, 3) := dk_154 0 5 (dk_at dksX6_plan_2 10 rfl rfl)
theorem dX6_plan_59 : decode cX6_plan 59 = .ok (.iconst (-1), 1) := dk_2 (dk_at dksX6_plan_2 13 rfl rfl)
theorem dX6_plan_60 : decode cX6_plan 60 = .ok (.ireturn, 1) := dk_172 (dk_at dksX6_plan_2 14 rfl rfl)
theorem dX6_plan_61 : decode cX6_plan 61 = .ok (.aload_n 0, 1) := dk_42 (dk_at dksX6_plan_2 15 rfl rfl)
theorem dX6_plan_62 : decode cX6_plan 62 = .ok (.getfield 15, 3) := dk_180 0 15 (dk_at dksX6_plan_2 16 rfl rfl)
theorem dX6_plan_65 : decode cX6_plan 65 = .ok (.bipush 100, 2) := dk_16 100 (dk_at dksX6_plan_2 19 rfl rfl)
theorem dX6_plan_67 : decode cX6_plan 67 = .ok (.iaload, 1) := dk_46 (dk_at dksX6_plan_2 21 rfl rfl)
theorem dX6_plan_68 : decode cX6_plan 68 = .ok (.bipush 10, 2) := dk_16 10 (dk_at dksX6_plan_2 22 rfl rfl)
theorem dX6_plan_70 : decode cX6_plan 70 = .ok (.if_icmp .ne 6, 3) := dk_160 0 6 (dk_at dksX6_plan_3 0 rfl rfl)
theorem dX6_plan_73 : decode cX6_plan 73 = .ok (.bipush (-4), 2) := dk_16 252 (dk_at dksX6_plan_3 3 rfl rfl)
theorem dX6_plan_75 : decode cX6_plan 75 = .ok (.ireturn, 1) := dk_172 (dk_at dksX6_plan_3 5 rfl rfl)
theorem dX6_plan_76 : decode cX6_plan 76 = .ok (.aload_n 0, 1) := dk_42 (dk_at dksX6_plan_3 6 rfl rfl)
theorem dX6_plan_77 : decode cX6_plan 77 = .ok (.getfield 15, 3) := dk_180 0 15 (dk_at dksX6_plan_3 7 rfl rfl)
theorem dX6_plan_80 : decode cX6_plan 80 = .ok (.bipush 101, 2) := dk_16 101 (dk_at dksX6_plan_3 10 rfl rfl)
theorem dX6_plan_82 : decode cX6_plan 82 = .ok (.iconst 2, 1) := dk_5 (dk_at dksX6_plan_3 12 rfl rfl)
theorem dX6_plan_83 : decode cX6_plan 83 = .ok (.aload_n 0, 1) := dk_42 (dk_at dksX6_plan_3 13 rfl rfl)
theorem dX6_plan_84 : decode cX6_plan 84 = .ok (.getfield 15, 3) := dk_180 0 15 (dk_at dksX6_plan_3 14 rfl rfl)
theorem dX6_plan_87 : decode cX6_plan 87 = .ok (.bipush 100, 2) := dk_16 100 (dk_at dksX6_plan_3 17 rfl rfl)
theorem dX6_plan_89 : decode cX6_plan 89 = .ok (.iaload, 1) := dk_46 (dk_at dksX6_plan_3 19 rfl rfl)
theorem dX6_plan_90 : decode cX6_plan 90 = .ok (.imul, 1) := dk_104 (dk_at dksX6_plan_3 20 rfl rfl)
theorem dX6_plan_91 : decode cX6_plan 91 = .ok (.iadd, 1) := dk_96 (dk_at dksX6_plan_3 21 rfl rfl)
theorem dX6_plan_92 : decode cX6_plan 92 = .ok (.iload_n 1, 1) := dk_27 (dk_at dksX6_plan_3 22 rfl rfl)
theorem dX6_plan_93 : decode cX6_plan 93 = .ok (.iastore, 1) := dk_79 (dk_at dksX6_plan_3 23 rfl rfl)
theorem dX6_plan_94 : decode cX6_plan 94 = .ok (.aload_n 0, 1) := dk_42 (dk_at dksX6_plan_4 0 rfl rfl)
theorem dX6_plan_95 : decode cX6_plan 95 = .ok (.getfield 15, 3) := dk_180 0 15 (dk_at dksX6_plan_4 1 rfl rfl)
theorem dX6_plan_98 : decode cX6_plan 98 = .ok (.bipush 102, 2) := dk_16 102 (dk_at dksX6_plan_4 4 rfl rfl)
theorem dX6_plan_100 : decode cX6_plan 100 = .ok (.iconst 2, 1) := dk_5 (dk_at dksX6_plan_4 6 rfl rfl)
theorem dX6_plan_101 : decode cX6_plan 101 = .ok (.aload_n 0, 1) := dk_42 (dk_at dksX6_plan_4 7 rfl rfl)
theorem dX6_plan_102 : decode cX6_plan 102 = .ok (.getfield 15, 3) := dk_180 0 15 (dk_at dksX6_plan_4 8 rfl rfl)
theorem dX6_plan_105 : decode cX6_plan 105 = .ok (.bipush 100, 2) := dk_16 100 (dk_at dksX6_plan_4 11 rfl rfl)
theorem dX6_plan_107 : decode cX6_plan 107 = .ok (.iaload, 1) := dk_46 (dk_at dksX6_plan_4 13 rfl rfl)
theorem dX6_plan_108 : decode cX6_plan 108 = .ok (.imul, 1) := dk_104 (dk_at dksX6_plan_4 14 rfl rfl)
theorem dX6_plan_109 : decode cX6_plan 109 = .ok (.iadd, 1) := dk_96 (dk_at dksX6_plan_4 15 rfl rfl)
theorem dX6_plan_110 : decode cX6_plan 110 = .ok (.iload_n 2, 1) := dk_28 (dk_at dksX6_plan_4 16 rfl rfl)
theorem dX6_plan_111 : decode cX6_plan 111 = .ok (.iastore, 1) := dk_79 (dk_at dksX6_plan_4 17 rfl rfl)
theorem dX6_plan_112 : decode cX6_plan 112 = .ok (.aload_n 0, 1) := dk_42 (dk_at dksX6_plan_4 18 rfl rfl)
theorem dX6_plan_113 : decode cX6_plan 113 = .ok (.getfield 15, 3) := dk_180 0 15 (dk_at dksX6_plan_4 19 rfl rfl)
theorem dX6_plan_116 : decode cX6_plan 116 = .ok (.bipush 100, 2) := dk_16 100 (dk_at dksX6_plan_4 22 rfl rfl)
theorem dX6_plan_118 : decode cX6_plan 118 = .ok (.dup2, 1) := dk_92 (dk_at dksX6_plan_5 0 rfl rfl)
theorem dX6_plan_119 : decode cX6_plan 119 = .ok (.iaload, 1) := dk_46 (dk_at dksX6_plan_5 1 rfl rfl)
theorem dX6_plan_120 : decode cX6_plan 120 = .ok (.iconst 1, 1) := dk_4 (dk_at dksX6_plan_5 2 rfl rfl)
theorem dX6_plan_121 : decode cX6_plan 121 = .ok (.iadd, 1) := dk_96 (dk_at dksX6_plan_5 3 rfl rfl)
theorem dX6_plan_122 : decode cX6_plan 122 = .ok (.iastore, 1) := dk_79 (dk_at dksX6_plan_5 4 rfl rfl)
theorem dX6_plan_123 : decode cX6_plan 123 = .ok (.aload_n 0, 1) := dk_42 (dk_at dksX6_plan_5 5 rfl rfl)
theorem dX6_plan_124 : decode cX6_plan 124 = .ok (.getfield 15, 3) := dk_180 0 15 (dk_at dksX6_plan_5 6 rfl rfl)
theorem dX6_plan_127 : decode cX6_plan 127 = .ok (.bipush 100, 2) := dk_16 100 (dk_at dksX6_plan_5 9 rfl rfl)
theorem dX6_plan_129 : decode cX6_plan 129 = .ok (.iaload, 1) := dk_46 (dk_at dksX6_plan_5 11 rfl rfl)
theorem dX6_plan_130 : decode cX6_plan 130 = .ok (.ireturn, 1) := dk_172 (dk_at dksX6_plan_5 12 rfl rfl)
abbrev cX6_ends : ByteArray := prog_23_method_68_code
def yX6_ends : MethodName := ⟨RX6, "ends", "(I)I"⟩
def dkwX6_ends_5 : List UInt8 := [27, 154, 0, 10, 42, 182, 0, 200, 167, 0, 7, 42, 182, 0, 215, 61, 42, 3, 182, 0, 206, 28, 172]
abbrev dktX6_ends_5 : List UInt8 := dkwX6_ends_5 ++ []
def dkwX6_ends_4 : List UInt8 := [42, 21, 4, 7, 29, 5, 160, 0, 7, 4, 167, 0, 4, 3, 182, 0, 104, 87, 132, 2, 1, 167, 255, 158]
abbrev dktX6_ends_4 : List UInt8 := dkwX6_ends_4 ++ dktX6_ends_5
def dkwX6_ends_3 : List UInt8 := [180, 0, 15, 21, 4, 16, 99, 42, 180, 0, 15, 21, 4, 46, 16, 9, 96, 184, 0, 230, 79, 167, 0, 21]
abbrev dktX6_ends_3 : List UInt8 := dkwX6_ends_3 ++ dktX6_ends_4
def dkwX6_ends_2 : List UInt8 := [5, 28, 104, 96, 46, 54, 4, 29, 154, 0, 10, 42, 182, 0, 203, 167, 0, 51, 29, 4, 160, 0, 28, 42]
abbrev dktX6_ends_2 : List UInt8 := dkwX6_ends_2 ++ dktX6_ends_3
def dkwX6_ends_1 : List UInt8 := [16, 100, 46, 162, 0, 93, 42, 180, 0, 15, 16, 101, 5, 28, 104, 96, 46, 62, 42, 180, 0, 15, 16, 102]
abbrev dktX6_ends_1 : List UInt8 := dkwX6_ends_1 ++ dktX6_ends_2
def dkwX6_ends_0 : List UInt8 := [27, 3, 4, 184, 0, 79, 154, 0, 5, 2, 172, 42, 3, 182, 0, 197, 3, 61, 28, 42, 180, 0, 15]
abbrev dktX6_ends_0 : List UInt8 := dkwX6_ends_0 ++ dktX6_ends_1
theorem dksX6_ends_0 : cX6_ends.data.toList.drop 0 = dktX6_ends_0 := by decide +kernel
theorem dksX6_ends_1 : cX6_ends.data.toList.drop 23 = dktX6_ends_1 := dk_seg dksX6_ends_0 23 rfl rfl
theorem dksX6_ends_2 : cX6_ends.data.toList.drop 47 = dktX6_ends_2 := dk_seg dksX6_ends_1 24 rfl rfl
theorem dksX6_ends_3 : cX6_ends.data.toList.drop 71 = dktX6_ends_3 := dk_seg dksX6_ends_2 24 rfl rfl
theorem dksX6_ends_4 : cX6_ends.data.toList.drop 95 = dktX6_ends_4 := dk_seg dksX6_ends_3 24 rfl rfl
theorem dksX6_ends_5 : cX6_ends.data.toList.drop 119 = dktX6_ends_5 := dk_seg dksX6_ends_4 24 rfl rfl
theorem dX6_ends_0 : decode cX6_ends 0 = .ok (.iload_n 1, 1) := dk_27 (dk_at dksX6_ends_0 0 rfl rfl)
theorem dX6_ends_1 : decode cX6_ends 1 = .ok (.iconst 0, 1) := dk_3 (dk_at dksX6_ends_0 1 rfl rfl)
theorem dX6_ends_2 : decode cX6_ends 2 = .ok (.iconst 1, 1) := dk_4 (dk_at dksX6_ends_0 2 rfl rfl)
theorem dX6_ends_3 : decode cX6_ends 3 = .ok (.invokestatic 79, 3) := dk_184 0 79 (dk_at dksX6_ends_0 3 rfl rfl)
theorem dX6_ends_6 : decode cX6_ends 6 = .ok (.ifCond .ne 5, 3) := dk_154 0 5 (dk_at dksX6_ends_0 6 rfl rfl)
theorem dX6_ends_9 : decode cX6_ends 9 = .ok (.iconst (-1), 1) := dk_2 (dk_at dksX6_ends_0 9 rfl rfl)
theorem dX6_ends_10 : decode cX6_ends 10 = .ok (.ireturn, 1) := dk_172 (dk_at dksX6_ends_0 10 rfl rfl)
theorem dX6_ends_11 : decode cX6_ends 11 = .ok (.aload_n 0, 1) := dk_42 (dk_at dksX6_ends_0 11 rfl rfl)
theorem dX6_ends_12 : decode cX6_ends 12 = .ok (.iconst 0, 1) := dk_3 (dk_at dksX6_ends_0 12 rfl rfl)
theorem dX6_ends_13 : decode cX6_ends 13 = .ok (.invokevirtual 197, 3) := dk_182 0 197 (dk_at dksX6_ends_0 13 rfl rfl)
theorem dX6_ends_16 : decode cX6_ends 16 = .ok (.iconst 0, 1) := dk_3 (dk_at dksX6_ends_0 16 rfl rfl)
theorem dX6_ends_17 : decode cX6_ends 17 = .ok (.istore_n 2, 1) := dk_61 (dk_at dksX6_ends_0 17 rfl rfl)
theorem dX6_ends_18 : decode cX6_ends 18 = .ok (.iload_n 2, 1) := dk_28 (dk_at dksX6_ends_0 18 rfl rfl)
theorem dX6_ends_19 : decode cX6_ends 19 = .ok (.aload_n 0, 1) := dk_42 (dk_at dksX6_ends_0 19 rfl rfl)
theorem dX6_ends_20 : decode cX6_ends 20 = .ok (.getfield 15, 3) := dk_180 0 15 (dk_at dksX6_ends_0 20 rfl rfl)
theorem dX6_ends_23 : decode cX6_ends 23 = .ok (.bipush 100, 2) := dk_16 100 (dk_at dksX6_ends_1 0 rfl rfl)
theorem dX6_ends_25 : decode cX6_ends 25 = .ok (.iaload, 1) := dk_46 (dk_at dksX6_ends_1 2 rfl rfl)
theorem dX6_ends_26 : decode cX6_ends 26 = .ok (.if_icmp .ge 93, 3) := dk_162 0 93 (dk_at dksX6_ends_1 3 rfl rfl)
theorem dX6_ends_29 : decode cX6_ends 29 = .ok (.aload_n 0, 1) := dk_42 (dk_at dksX6_ends_1 6 rfl rfl)
theorem dX6_ends_30 : decode cX6_ends 30 = .ok (.getfield 15, 3) := dk_180 0 15 (dk_at dksX6_ends_1 7 rfl rfl)
theorem dX6_ends_33 : decode cX6_ends 33 = .ok (.bipush 101, 2) := dk_16 101 (dk_at dksX6_ends_1 10 rfl rfl)
theorem dX6_ends_35 : decode cX6_ends 35 = .ok (.iconst 2, 1) := dk_5 (dk_at dksX6_ends_1 12 rfl rfl)
theorem dX6_ends_36 : decode cX6_ends 36 = .ok (.iload_n 2, 1) := dk_28 (dk_at dksX6_ends_1 13 rfl rfl)
theorem dX6_ends_37 : decode cX6_ends 37 = .ok (.imul, 1) := dk_104 (dk_at dksX6_ends_1 14 rfl rfl)
theorem dX6_ends_38 : decode cX6_ends 38 = .ok (.iadd, 1) := dk_96 (dk_at dksX6_ends_1 15 rfl rfl)
theorem dX6_ends_39 : decode cX6_ends 39 = .ok (.iaload, 1) := dk_46 (dk_at dksX6_ends_1 16 rfl rfl)
theorem dX6_ends_40 : decode cX6_ends 40 = .ok (.istore_n 3, 1) := dk_62 (dk_at dksX6_ends_1 17 rfl rfl)
theorem dX6_ends_41 : decode cX6_ends 41 = .ok (.aload_n 0, 1) := dk_42 (dk_at dksX6_ends_1 18 rfl rfl)
theorem dX6_ends_42 : decode cX6_ends 42 = .ok (.getfield 15, 3) := dk_180 0 15 (dk_at dksX6_ends_1 19 rfl rfl)
theorem dX6_ends_45 : decode cX6_ends 45 = .ok (.bipush 102, 2) := dk_16 102 (dk_at dksX6_ends_1 22 rfl rfl)
theorem dX6_ends_47 : decode cX6_ends 47 = .ok (.iconst 2, 1) := dk_5 (dk_at dksX6_ends_2 0 rfl rfl)
theorem dX6_ends_48 : decode cX6_ends 48 = .ok (.iload_n 2, 1) := dk_28 (dk_at dksX6_ends_2 1 rfl rfl)
theorem dX6_ends_49 : decode cX6_ends 49 = .ok (.imul, 1) := dk_104 (dk_at dksX6_ends_2 2 rfl rfl)
theorem dX6_ends_50 : decode cX6_ends 50 = .ok (.iadd, 1) := dk_96 (dk_at dksX6_ends_2 3 rfl rfl)
theorem dX6_ends_51 : decode cX6_ends 51 = .ok (.iaload, 1) := dk_46 (dk_at dksX6_ends_2 4 rfl rfl)
theorem dX6_ends_52 : decode cX6_ends 52 = .ok (.istore 4, 2) := dk_54 4 (dk_at dksX6_ends_2 5 rfl rfl)
theorem dX6_ends_54 : decode cX6_ends 54 = .ok (.iload_n 3, 1) := dk_29 (dk_at dksX6_ends_2 7 rfl rfl)
theorem dX6_ends_55 : decode cX6_ends 55 = .ok (.ifCond .ne 10, 3) := dk_154 0 10 (dk_at dksX6_ends_2 8 rfl rfl)
theorem dX6_ends_58 : decode cX6_ends 58 = .ok (.aload_n 0, 1) := dk_42 (dk_at dksX6_ends_2 11 rfl rfl)
theorem dX6_ends_59 : decode cX6_ends 59 = .ok (.invokevirtual 203, 3) := dk_182 0 203 (dk_at dksX6_ends_2 12 rfl rfl)
theorem dX6_ends_62 : decode cX6_ends 62 = .ok (.goto 51, 3) := dk_167 0 51 (dk_at dksX6_ends_2 15 rfl rfl)
theorem dX6_ends_65 : decode cX6_ends 65 = .ok (.iload_n 3, 1) := dk_29 (dk_at dksX6_ends_2 18 rfl rfl)
theorem dX6_ends_66 : decode cX6_ends 66 = .ok (.iconst 1, 1) := dk_4 (dk_at dksX6_ends_2 19 rfl rfl)
theorem dX6_ends_67 : decode cX6_ends 67 = .ok (.if_icmp .ne 28, 3) := dk_160 0 28 (dk_at dksX6_ends_2 20 rfl rfl)
theorem dX6_ends_70 : decode cX6_ends 70 = .ok (.aload_n 0, 1) := dk_42 (dk_at dksX6_ends_2 23 rfl rfl)
theorem dX6_ends_71 : decode cX6_ends 71 = .ok (.getfield 15, 3) := dk_180 0 15 (dk_at dksX6_ends_3 0 rfl rfl)
theorem dX6_ends_74 : decode cX6_ends 74 = .ok (.iload 4, 2) := dk_21 4 (dk_at dksX6_ends_3 3 rfl rfl)
theorem dX6_ends_76 : decode cX6_ends 76 = .ok (.bipush 99, 2) := dk_16 99 (dk_at dksX6_ends_3 5 rfl rfl)
theorem dX6_ends_78 : decode cX6_ends 78 = .ok (.aload_n 0, 1) := dk_42 (dk_at dksX6_ends_3 7 rfl rfl)
theorem dX6_ends_79 : decode cX6_ends 79 = .ok (.getfield 15, 3) := dk_180 0 15 (dk_at dksX6_ends_3 8 rfl rfl)
theorem dX6_ends_82 : decode cX6_ends 82 = .ok (.iload 4, 2) := dk_21 4 (dk_at dksX6_ends_3 11 rfl rfl)
theorem dX6_ends_84 : decode cX6_ends 84 = .ok (.iaload, 1) := dk_46 (dk_at dksX6_ends_3 13 rfl rfl)
theorem dX6_ends_85 : decode cX6_ends 85 = .ok (.bipush 9, 2) := dk_16 9 (dk_at dksX6_ends_3 14 rfl rfl)
theorem dX6_ends_87 : decode cX6_ends 87 = .ok (.iadd, 1) := dk_96 (dk_at dksX6_ends_3 16 rfl rfl)
theorem dX6_ends_88 : decode cX6_ends 88 = .ok (.invokestatic 230, 3) := dk_184 0 230 (dk_at dksX6_ends_3 17 rfl rfl)
theorem dX6_ends_91 : decode cX6_ends 91 = .ok (.iastore, 1) := dk_79 (dk_at dksX6_ends_3 20 rfl rfl)
theorem dX6_ends_92 : decode cX6_ends 92 = .ok (.goto 21, 3) := dk_167 0 21 (dk_at dksX6_ends_3 21 rfl rfl)
theorem dX6_ends_95 : decode cX6_ends 95 = .ok (.aload_n 0, 1) := dk_42 (dk_at dksX6_ends_4 0 rfl rfl)
theorem dX6_ends_96 : decode cX6_ends 96 = .ok (.iload 4, 2) := dk_21 4 (dk_at dksX6_ends_4 1 rfl rfl)
theorem dX6_ends_98 : decode cX6_ends 98 = .ok (.iconst 4, 1) := dk_7 (dk_at dksX6_ends_4 3 rfl rfl)
theorem dX6_ends_99 : decode cX6_ends 99 = .ok (.iload_n 3, 1) := dk_29 (dk_at dksX6_ends_4 4 rfl rfl)
theorem dX6_ends_100 : decode cX6_ends 100 = .ok (.iconst 2, 1) := dk_5 (dk_at dksX6_ends_4 5 rfl rfl)
theorem dX6_ends_101 : decode cX6_ends 101 = .ok (.if_icmp .ne 7, 3) := dk_160 0 7 (dk_at dksX6_ends_4 6 rfl rfl)
theorem dX6_ends_104 : decode cX6_ends 104 = .ok (.iconst 1, 1) := dk_4 (dk_at dksX6_ends_4 9 rfl rfl)
theorem dX6_ends_105 : decode cX6_ends 105 = .ok (.goto 4, 3) := dk_167 0 4 (dk_at dksX6_ends_4 10 rfl rfl)
theorem dX6_ends_108 : decode cX6_ends 108 = .ok (.iconst 0, 1) := dk_3 (dk_at dksX6_ends_4 13 rfl rfl)
theorem dX6_ends_109 : decode cX6_ends 109 = .ok (.invokevirtual 104, 3) := dk_182 0 104 (dk_at dksX6_ends_4 14 rfl rfl)
theorem dX6_ends_112 : decode cX6_ends 112 = .ok (.pop, 1) := dk_87 (dk_at dksX6_ends_4 17 rfl rfl)
theorem dX6_ends_113 : decode cX6_ends 113 = .ok (.iinc 2 1, 3) := dk_132 2 1 (dk_at dksX6_ends_4 18 rfl rfl)
theorem dX6_ends_116 : decode cX6_ends 116 = .ok (.goto (-98), 3) := dk_167 255 158 (dk_at dksX6_ends_4 21 rfl rfl)
theorem dX6_ends_119 : decode cX6_ends 119 = .ok (.iload_n 1, 1) := dk_27 (dk_at dksX6_ends_5 0 rfl rfl)
theorem dX6_ends_120 : decode cX6_ends 120 = .ok (.ifCond .ne 10, 3) := dk_154 0 10 (dk_at dksX6_ends_5 1 rfl rfl)
theorem dX6_ends_123 : decode cX6_ends 123 = .ok (.aload_n 0, 1) := dk_42 (dk_at dksX6_ends_5 4 rfl rfl)
theorem dX6_ends_124 : decode cX6_ends 124 = .ok (.invokevirtual 200, 3) := dk_182 0 200 (dk_at dksX6_ends_5 5 rfl rfl)
theorem dX6_ends_127 : decode cX6_ends 127 = .ok (.goto 7, 3) := dk_167 0 7 (dk_at dksX6_ends_5 8 rfl rfl)
theorem dX6_ends_130 : decode cX6_ends 130 = .ok (.aload_n 0, 1) := dk_42 (dk_at dksX6_ends_5 11 rfl rfl)
theorem dX6_ends_131 : decode cX6_ends 131 = .ok (.invokevirtual 215, 3) := dk_182 0 215 (dk_at dksX6_ends_5 12 rfl rfl)
theorem dX6_ends_134 : decode cX6_ends 134 = .ok (.istore_n 2, 1) := dk_61 (dk_at dksX6_ends_5 15 rfl rfl)
theorem dX6_ends_135 : decode cX6_ends 135 = .ok (.aload_n 0, 1) := dk_42 (dk_at dksX6_ends_5 16 rfl rfl)
theorem dX6_ends_136 : decode cX6_ends 136 = .ok (.iconst 0, 1) := dk_3 (dk_at dksX6_ends_5 17 rfl rfl)
theorem dX6_ends_137 : decode cX6_ends 137 = .ok (.invokevirtual 206, 3) := dk_182 0 206 (dk_at dksX6_ends_5 18 rfl rfl)
theorem dX6_ends_140 : decode cX6_ends 140 = .ok (.iload_n 2, 1) := dk_28 (dk_at dksX6_ends_5 21 rfl rfl)
theorem dX6_ends_141 : decode cX6_ends 141 = .ok (.ireturn, 1) := dk_172 (dk_at dksX6_ends_5 22 rfl rfl)
abbrev cX6_book : ByteArray := prog_23_method_69_code
def yX6_book : MethodName := ⟨RX6, "book", "(II)I"⟩
def dkwX6_book_4 : List UInt8 := [92, 46, 4, 96, 79, 42, 180, 0, 15, 16, 121, 46, 172]
abbrev dktX6_book_4 : List UInt8 := dkwX6_book_4 ++ []
def dkwX6_book_3 : List UInt8 := [42, 180, 0, 15, 16, 123, 5, 42, 180, 0, 15, 16, 121, 46, 104, 96, 28, 79, 42, 180, 0, 15, 16, 121]
abbrev dktX6_book_3 : List UInt8 := dkwX6_book_3 ++ dktX6_book_4
def dkwX6_book_2 : List UInt8 := [160, 0, 6, 16, 252, 172, 42, 180, 0, 15, 16, 122, 5, 42, 180, 0, 15, 16, 121, 46, 104, 96, 27, 79]
abbrev dktX6_book_2 : List UInt8 := dkwX6_book_2 ++ dktX6_book_3
def dkwX6_book_1 : List UInt8 := [28, 3, 16, 99, 184, 0, 79, 154, 0, 6, 16, 254, 172, 42, 180, 0, 15, 16, 121, 46, 16, 8]
abbrev dktX6_book_1 : List UInt8 := dkwX6_book_1 ++ dktX6_book_2
def dkwX6_book_0 : List UInt8 := [27, 2, 160, 0, 13, 42, 180, 0, 15, 16, 121, 3, 79, 3, 172, 27, 184, 0, 87, 154, 0, 5, 2, 172]
abbrev dktX6_book_0 : List UInt8 := dkwX6_book_0 ++ dktX6_book_1
theorem dksX6_book_0 : cX6_book.data.toList.drop 0 = dktX6_book_0 := by decide +kernel
theorem dksX6_book_1 : cX6_book.data.toList.drop 24 = dktX6_book_1 := dk_seg dksX6_book_0 24 rfl rfl
theorem dksX6_book_2 : cX6_book.data.toList.drop 46 = dktX6_book_2 := dk_seg dksX6_book_1 22 rfl rfl
theorem dksX6_book_3 : cX6_book.data.toList.drop 70 = dktX6_book_3 := dk_seg dksX6_book_2 24 rfl rfl
theorem dksX6_book_4 : cX6_book.data.toList.drop 94 = dktX6_book_4 := dk_seg dksX6_book_3 24 rfl rfl
theorem dX6_book_0 : decode cX6_book 0 = .ok (.iload_n 1, 1) := dk_27 (dk_at dksX6_book_0 0 rfl rfl)
theorem dX6_book_1 : decode cX6_book 1 = .ok (.iconst (-1), 1) := dk_2 (dk_at dksX6_book_0 1 rfl rfl)
theorem dX6_book_2 : decode cX6_book 2 = .ok (.if_icmp .ne 13, 3) := dk_160 0 13 (dk_at dksX6_book_0 2 rfl rfl)
theorem dX6_book_5 : decode cX6_book 5 = .ok (.aload_n 0, 1) := dk_42 (dk_at dksX6_book_0 5 rfl rfl)
theorem dX6_book_6 : decode cX6_book 6 = .ok (.getfield 15, 3) := dk_180 0 15 (dk_at dksX6_book_0 6 rfl rfl)
theorem dX6_book_9 : decode cX6_book 9 = .ok (.bipush 121, 2) := dk_16 121 (dk_at dksX6_book_0 9 rfl rfl)
theorem dX6_book_11 : decode cX6_book 11 = .ok (.iconst 0, 1) := dk_3 (dk_at dksX6_book_0 11 rfl rfl)
theorem dX6_book_12 : decode cX6_book 12 = .ok (.iastore, 1) := dk_79 (dk_at dksX6_book_0 12 rfl rfl)
theorem dX6_book_13 : decode cX6_book 13 = .ok (.iconst 0, 1) := dk_3 (dk_at dksX6_book_0 13 rfl rfl)
theorem dX6_book_14 : decode cX6_book 14 = .ok (.ireturn, 1) := dk_172 (dk_at dksX6_book_0 14 rfl rfl)
theorem dX6_book_15 : decode cX6_book 15 = .ok (.iload_n 1, 1) := dk_27 (dk_at dksX6_book_0 15 rfl rfl)
theorem dX6_book_16 : decode cX6_book 16 = .ok (.invokestatic 87, 3) := dk_184 0 87 (dk_at dksX6_book_0 16 rfl rfl)
theorem dX6_book_19 : decode cX6_book 19 = .ok (.ifCond .ne 5, 3) := dk_154 0 5 (dk_at dksX6_book_0 19 rfl rfl)
theorem dX6_book_22 : decode cX6_book 22 = .ok (.iconst (-1), 1) := dk_2 (dk_at dksX6_book_0 22 rfl rfl)
theorem dX6_book_23 : decode cX6_book 23 = .ok (.ireturn, 1) := dk_172 (dk_at dksX6_book_0 23 rfl rfl)
theorem dX6_book_24 : decode cX6_book 24 = .ok (.iload_n 2, 1) := dk_28 (dk_at dksX6_book_1 0 rfl rfl)
theorem dX6_book_25 : decode cX6_book 25 = .ok (.iconst 0, 1) := dk_3 (dk_at dksX6_book_1 1 rfl rfl)
theorem dX6_book_26 : decode cX6_book 26 = .ok (.bipush 99, 2) := dk_16 99 (dk_at dksX6_book_1 2 rfl rfl)
theorem dX6_book_28 : decode cX6_book 28 = .ok (.invokestatic 79, 3) := dk_184 0 79 (dk_at dksX6_book_1 4 rfl rfl)
theorem dX6_book_31 : decode cX6_book 31 = .ok (.ifCond .ne 6, 3) := dk_154 0 6 (dk_at dksX6_book_1 7 rfl rfl)
theorem dX6_book_34 : decode cX6_book 34 = .ok (.bipush (-2), 2) := dk_16 254 (dk_at dksX6_book_1 10 rfl rfl)
theorem dX6_book_36 : decode cX6_book 36 = .ok (.ireturn, 1) := dk_172 (dk_at dksX6_book_1 12 rfl rfl)
theorem dX6_book_37 : decode cX6_book 37 = .ok (.aload_n 0, 1) := dk_42 (dk_at dksX6_book_1 13 rfl rfl)
theorem dX6_book_38 : decode cX6_book 38 = .ok (.getfield 15, 3) := dk_180 0 15 (dk_at dksX6_book_1 14 rfl rfl)
theorem dX6_book_41 : decode cX6_book 41 = .ok (.bipush 121, 2) := dk_16 121 (dk_at dksX6_book_1 17 rfl rfl)
theorem dX6_book_43 : decode cX6_book 43 = .ok (.iaload, 1) := dk_46 (dk_at dksX6_book_1 19 rfl rfl)
theorem dX6_book_44 : decode cX6_book 44 = .ok (.bipush 8, 2) := dk_16 8 (dk_at dksX6_book_1 20 rfl rfl)
theorem dX6_book_46 : decode cX6_book 46 = .ok (.if_icmp .ne 6, 3) := dk_160 0 6 (dk_at dksX6_book_2 0 rfl rfl)
theorem dX6_book_49 : decode cX6_book 49 = .ok (.bipush (-4), 2) := dk_16 252 (dk_at dksX6_book_2 3 rfl rfl)
theorem dX6_book_51 : decode cX6_book 51 = .ok (.ireturn, 1) := dk_172 (dk_at dksX6_book_2 5 rfl rfl)
theorem dX6_book_52 : decode cX6_book 52 = .ok (.aload_n 0, 1) := dk_42 (dk_at dksX6_book_2 6 rfl rfl)
theorem dX6_book_53 : decode cX6_book 53 = .ok (.getfield 15, 3) := dk_180 0 15 (dk_at dksX6_book_2 7 rfl rfl)
theorem dX6_book_56 : decode cX6_book 56 = .ok (.bipush 122, 2) := dk_16 122 (dk_at dksX6_book_2 10 rfl rfl)
theorem dX6_book_58 : decode cX6_book 58 = .ok (.iconst 2, 1) := dk_5 (dk_at dksX6_book_2 12 rfl rfl)
theorem dX6_book_59 : decode cX6_book 59 = .ok (.aload_n 0, 1) := dk_42 (dk_at dksX6_book_2 13 rfl rfl)
theorem dX6_book_60 : decode cX6_book 60 = .ok (.getfield 15, 3) := dk_180 0 15 (dk_at dksX6_book_2 14 rfl rfl)
theorem dX6_book_63 : decode cX6_book 63 = .ok (.bipush 121, 2) := dk_16 121 (dk_at dksX6_book_2 17 rfl rfl)
theorem dX6_book_65 : decode cX6_book 65 = .ok (.iaload, 1) := dk_46 (dk_at dksX6_book_2 19 rfl rfl)
theorem dX6_book_66 : decode cX6_book 66 = .ok (.imul, 1) := dk_104 (dk_at dksX6_book_2 20 rfl rfl)
theorem dX6_book_67 : decode cX6_book 67 = .ok (.iadd, 1) := dk_96 (dk_at dksX6_book_2 21 rfl rfl)
theorem dX6_book_68 : decode cX6_book 68 = .ok (.iload_n 1, 1) := dk_27 (dk_at dksX6_book_2 22 rfl rfl)
theorem dX6_book_69 : decode cX6_book 69 = .ok (.iastore, 1) := dk_79 (dk_at dksX6_book_2 23 rfl rfl)
theorem dX6_book_70 : decode cX6_book 70 = .ok (.aload_n 0, 1) := dk_42 (dk_at dksX6_book_3 0 rfl rfl)
theorem dX6_book_71 : decode cX6_book 71 = .ok (.getfield 15, 3) := dk_180 0 15 (dk_at dksX6_book_3 1 rfl rfl)
theorem dX6_book_74 : decode cX6_book 74 = .ok (.bipush 123, 2) := dk_16 123 (dk_at dksX6_book_3 4 rfl rfl)
theorem dX6_book_76 : decode cX6_book 76 = .ok (.iconst 2, 1) := dk_5 (dk_at dksX6_book_3 6 rfl rfl)
theorem dX6_book_77 : decode cX6_book 77 = .ok (.aload_n 0, 1) := dk_42 (dk_at dksX6_book_3 7 rfl rfl)
theorem dX6_book_78 : decode cX6_book 78 = .ok (.getfield 15, 3) := dk_180 0 15 (dk_at dksX6_book_3 8 rfl rfl)
theorem dX6_book_81 : decode cX6_book 81 = .ok (.bipush 121, 2) := dk_16 121 (dk_at dksX6_book_3 11 rfl rfl)
theorem dX6_book_83 : decode cX6_book 83 = .ok (.iaload, 1) := dk_46 (dk_at dksX6_book_3 13 rfl rfl)
theorem dX6_book_84 : decode cX6_book 84 = .ok (.imul, 1) := dk_104 (dk_at dksX6_book_3 14 rfl rfl)
theorem dX6_book_85 : decode cX6_book 85 = .ok (.iadd, 1) := dk_96 (dk_at dksX6_book_3 15 rfl rfl)
theorem dX6_book_86 : decode cX6_book 86 = .ok (.iload_n 2, 1) := dk_28 (dk_at dksX6_book_3 16 rfl rfl)
theorem dX6_book_87 : decode cX6_book 87 = .ok (.iastore, 1) := dk_79 (dk_at dksX6_book_3 17 rfl rfl)
theorem dX6_book_88 : decode cX6_book 88 = .ok (.aload_n 0, 1) := dk_42 (dk_at dksX6_book_3 18 rfl rfl)
theorem dX6_book_89 : decode cX6_book 89 = .ok (.getfield 15, 3) := dk_180 0 15 (dk_at dksX6_book_3 19 rfl rfl)
theorem dX6_book_92 : decode cX6_book 92 = .ok (.bipush 121, 2) := dk_16 121 (dk_at dksX6_book_3 22 rfl rfl)
theorem dX6_book_94 : decode cX6_book 94 = .ok (.dup2, 1) := dk_92 (dk_at dksX6_book_4 0 rfl rfl)
theorem dX6_book_95 : decode cX6_book 95 = .ok (.iaload, 1) := dk_46 (dk_at dksX6_book_4 1 rfl rfl)
theorem dX6_book_96 : decode cX6_book 96 = .ok (.iconst 1, 1) := dk_4 (dk_at dksX6_book_4 2 rfl rfl)
theorem dX6_book_97 : decode cX6_book 97 = .ok (.iadd, 1) := dk_96 (dk_at dksX6_book_4 3 rfl rfl)
theorem dX6_book_98 : decode cX6_book 98 = .ok (.iastore, 1) := dk_79 (dk_at dksX6_book_4 4 rfl rfl)
theorem dX6_book_99 : decode cX6_book 99 = .ok (.aload_n 0, 1) := dk_42 (dk_at dksX6_book_4 5 rfl rfl)
theorem dX6_book_100 : decode cX6_book 100 = .ok (.getfield 15, 3) := dk_180 0 15 (dk_at dksX6_book_4 6 rfl rfl)
theorem dX6_book_103 : decode cX6_book 103 = .ok (.bipush 121, 2) := dk_16 121 (dk_at dksX6_book_4 9 rfl rfl)
theorem dX6_book_105 : decode cX6_book 105 = .ok (.iaload, 1) := dk_46 (dk_at dksX6_book_4 11 rfl rfl)
theorem dX6_book_106 : decode cX6_book 106 = .ok (.ireturn, 1) := dk_172 (dk_at dksX6_book_4 12 rfl rfl)
abbrev cX6_looked : ByteArray := prog_23_method_70_code
def yX6_looked : MethodName := ⟨RX6, "looked", "()I"⟩
def dkwX6_looked_2 : List UInt8 := [167, 255, 210, 16, 251, 172]
abbrev dktX6_looked_2 : List UInt8 := dkwX6_looked_2 ++ []
def dkwX6_looked_1 : List UInt8 := [27, 104, 96, 46, 46, 42, 180, 0, 15, 16, 123, 5, 27, 104, 96, 46, 159, 0, 5, 27, 172, 132, 1, 1]
abbrev dktX6_looked_1 : List UInt8 := dkwX6_looked_1 ++ dktX6_looked_2
def dkwX6_looked_0 : List UInt8 := [3, 60, 27, 42, 180, 0, 15, 16, 121, 46, 162, 0, 41, 42, 180, 0, 15, 42, 180, 0, 15, 16, 122, 5]
abbrev dktX6_looked_0 : List UInt8 := dkwX6_looked_0 ++ dktX6_looked_1
theorem dksX6_looked_0 : cX6_looked.data.toList.drop 0 = dktX6_looked_0 := by decide +kernel
theorem dksX6_looked_1 : cX6_looked.data.toList.drop 24 = dktX6_looked_1 := dk_seg dksX6_looked_0 24 rfl rfl
theorem dksX6_looked_2 : cX6_looked.data.toList.drop 48 = dktX6_looked_2 := dk_seg dksX6_looked_1 24 rfl rfl
theorem dX6_looked_0 : decode cX6_looked 0 = .ok (.iconst 0, 1) := dk_3 (dk_at dksX6_looked_0 0 rfl rfl)
theorem dX6_looked_1 : decode cX6_looked 1 = .ok (.istore_n 1, 1) := dk_60 (dk_at dksX6_looked_0 1 rfl rfl)
theorem dX6_looked_2 : decode cX6_looked 2 = .ok (.iload_n 1, 1) := dk_27 (dk_at dksX6_looked_0 2 rfl rfl)
theorem dX6_looked_3 : decode cX6_looked 3 = .ok (.aload_n 0, 1) := dk_42 (dk_at dksX6_looked_0 3 rfl rfl)
theorem dX6_looked_4 : decode cX6_looked 4 = .ok (.getfield 15, 3) := dk_180 0 15 (dk_at dksX6_looked_0 4 rfl rfl)
theorem dX6_looked_7 : decode cX6_looked 7 = .ok (.bipush 121, 2) := dk_16 121 (dk_at dksX6_looked_0 7 rfl rfl)
theorem dX6_looked_9 : decode cX6_looked 9 = .ok (.iaload, 1) := dk_46 (dk_at dksX6_looked_0 9 rfl rfl)
theorem dX6_looked_10 : decode cX6_looked 10 = .ok (.if_icmp .ge 41, 3) := dk_162 0 41 (dk_at dksX6_looked_0 10 rfl rfl)
theorem dX6_looked_13 : decode cX6_looked 13 = .ok (.aload_n 0, 1) := dk_42 (dk_at dksX6_looked_0 13 rfl rfl)
theorem dX6_looked_14 : decode cX6_looked 14 = .ok (.getfield 15, 3) := dk_180 0 15 (dk_at dksX6_looked_0 14 rfl rfl)
theorem dX6_looked_17 : decode cX6_looked 17 = .ok (.aload_n 0, 1) := dk_42 (dk_at dksX6_looked_0 17 rfl rfl)
theorem dX6_looked_18 : decode cX6_looked 18 = .ok (.getfield 15, 3) := dk_180 0 15 (dk_at dksX6_looked_0 18 rfl rfl)
theorem dX6_looked_21 : decode cX6_looked 21 = .ok (.bipush 122, 2) := dk_16 122 (dk_at dksX6_looked_0 21 rfl rfl)
theorem dX6_looked_23 : decode cX6_looked 23 = .ok (.iconst 2, 1) := dk_5 (dk_at dksX6_looked_0 23 rfl rfl)
theorem dX6_looked_24 : decode cX6_looked 24 = .ok (.iload_n 1, 1) := dk_27 (dk_at dksX6_looked_1 0 rfl rfl)
theorem dX6_looked_25 : decode cX6_looked 25 = .ok (.imul, 1) := dk_104 (dk_at dksX6_looked_1 1 rfl rfl)
theorem dX6_looked_26 : decode cX6_looked 26 = .ok (.iadd, 1) := dk_96 (dk_at dksX6_looked_1 2 rfl rfl)
theorem dX6_looked_27 : decode cX6_looked 27 = .ok (.iaload, 1) := dk_46 (dk_at dksX6_looked_1 3 rfl rfl)
theorem dX6_looked_28 : decode cX6_looked 28 = .ok (.iaload, 1) := dk_46 (dk_at dksX6_looked_1 4 rfl rfl)
theorem dX6_looked_29 : decode cX6_looked 29 = .ok (.aload_n 0, 1) := dk_42 (dk_at dksX6_looked_1 5 rfl rfl)
theorem dX6_looked_30 : decode cX6_looked 30 = .ok (.getfield 15, 3) := dk_180 0 15 (dk_at dksX6_looked_1 6 rfl rfl)
theorem dX6_looked_33 : decode cX6_looked 33 = .ok (.bipush 123, 2) := dk_16 123 (dk_at dksX6_looked_1 9 rfl rfl)
theorem dX6_looked_35 : decode cX6_looked 35 = .ok (.iconst 2, 1) := dk_5 (dk_at dksX6_looked_1 11 rfl rfl)
theorem dX6_looked_36 : decode cX6_looked 36 = .ok (.iload_n 1, 1) := dk_27 (dk_at dksX6_looked_1 12 rfl rfl)
theorem dX6_looked_37 : decode cX6_looked 37 = .ok (.imul, 1) := dk_104 (dk_at dksX6_looked_1 13 rfl rfl)
theorem dX6_looked_38 : decode cX6_looked 38 = .ok (.iadd, 1) := dk_96 (dk_at dksX6_looked_1 14 rfl rfl)
theorem dX6_looked_39 : decode cX6_looked 39 = .ok (.iaload, 1) := dk_46 (dk_at dksX6_looked_1 15 rfl rfl)
theorem dX6_looked_40 : decode cX6_looked 40 = .ok (.if_icmp .eq 5, 3) := dk_159 0 5 (dk_at dksX6_looked_1 16 rfl rfl)
theorem dX6_looked_43 : decode cX6_looked 43 = .ok (.iload_n 1, 1) := dk_27 (dk_at dksX6_looked_1 19 rfl rfl)
theorem dX6_looked_44 : decode cX6_looked 44 = .ok (.ireturn, 1) := dk_172 (dk_at dksX6_looked_1 20 rfl rfl)
theorem dX6_looked_45 : decode cX6_looked 45 = .ok (.iinc 1 1, 3) := dk_132 1 1 (dk_at dksX6_looked_1 21 rfl rfl)
theorem dX6_looked_48 : decode cX6_looked 48 = .ok (.goto (-46), 3) := dk_167 255 210 (dk_at dksX6_looked_2 0 rfl rfl)
theorem dX6_looked_51 : decode cX6_looked 51 = .ok (.bipush (-5), 2) := dk_16 251 (dk_at dksX6_looked_2 3 rfl rfl)
theorem dX6_looked_53 : decode cX6_looked 53 = .ok (.ireturn, 1) := dk_172 (dk_at dksX6_looked_2 5 rfl rfl)
abbrev cX6_act : ByteArray := prog_23_method_74_code
def yX6_act : MethodName := ⟨RX6, "act", "(III)I"⟩
def dkwX6_act_1 : List UInt8 := [28, 29, 182, 1, 7, 167, 0, 4, 3, 172]
abbrev dktX6_act_1 : List UInt8 := dkwX6_act_1 ++ []
def dkwX6_act_0 : List UInt8 := [42, 3, 181, 0, 253, 42, 27, 182, 0, 91, 153, 0, 22, 28, 3, 5, 184, 0, 79, 153, 0, 13, 42, 27]
abbrev dktX6_act_0 : List UInt8 := dkwX6_act_0 ++ dktX6_act_1
theorem dksX6_act_0 : cX6_act.data.toList.drop 0 = dktX6_act_0 := by decide +kernel
theorem dksX6_act_1 : cX6_act.data.toList.drop 24 = dktX6_act_1 := dk_seg dksX6_act_0 24 rfl rfl
theorem dX6_act_0 : decode cX6_act 0 = .ok (.aload_n 0, 1) := dk_42 (dk_at dksX6_act_0 0 rfl rfl)
theorem dX6_act_1 : decode cX6_act 1 = .ok (.iconst 0, 1) := dk_3 (dk_at dksX6_act_0 1 rfl rfl)
theorem dX6_act_2 : decode cX6_act 2 = .ok (.putfield 253, 3) := dk_181 0 253 (dk_at dksX6_act_0 2 rfl rfl)
theorem dX6_act_5 : decode cX6_act 5 = .ok (.aload_n 0, 1) := dk_42 (dk_at dksX6_act_0 5 rfl rfl)
theorem dX6_act_6 : decode cX6_act 6 = .ok (.iload_n 1, 1) := dk_27 (dk_at dksX6_act_0 6 rfl rfl)
theorem dX6_act_7 : decode cX6_act 7 = .ok (.invokevirtual 91, 3) := dk_182 0 91 (dk_at dksX6_act_0 7 rfl rfl)
theorem dX6_act_10 : decode cX6_act 10 = .ok (.ifCond .eq 22, 3) := dk_153 0 22 (dk_at dksX6_act_0 10 rfl rfl)
theorem dX6_act_13 : decode cX6_act 13 = .ok (.iload_n 2, 1) := dk_28 (dk_at dksX6_act_0 13 rfl rfl)
theorem dX6_act_14 : decode cX6_act 14 = .ok (.iconst 0, 1) := dk_3 (dk_at dksX6_act_0 14 rfl rfl)
theorem dX6_act_15 : decode cX6_act 15 = .ok (.iconst 2, 1) := dk_5 (dk_at dksX6_act_0 15 rfl rfl)
theorem dX6_act_16 : decode cX6_act 16 = .ok (.invokestatic 79, 3) := dk_184 0 79 (dk_at dksX6_act_0 16 rfl rfl)
theorem dX6_act_19 : decode cX6_act 19 = .ok (.ifCond .eq 13, 3) := dk_153 0 13 (dk_at dksX6_act_0 19 rfl rfl)
theorem dX6_act_22 : decode cX6_act 22 = .ok (.aload_n 0, 1) := dk_42 (dk_at dksX6_act_0 22 rfl rfl)
theorem dX6_act_23 : decode cX6_act 23 = .ok (.iload_n 1, 1) := dk_27 (dk_at dksX6_act_0 23 rfl rfl)
theorem dX6_act_24 : decode cX6_act 24 = .ok (.iload_n 2, 1) := dk_28 (dk_at dksX6_act_1 0 rfl rfl)
theorem dX6_act_25 : decode cX6_act 25 = .ok (.iload_n 3, 1) := dk_29 (dk_at dksX6_act_1 1 rfl rfl)
theorem dX6_act_26 : decode cX6_act 26 = .ok (.invokevirtual 263, 3) := dk_182 1 7 (dk_at dksX6_act_1 2 rfl rfl)
theorem dX6_act_29 : decode cX6_act 29 = .ok (.goto 4, 3) := dk_167 0 4 (dk_at dksX6_act_1 5 rfl rfl)
theorem dX6_act_32 : decode cX6_act 32 = .ok (.iconst 0, 1) := dk_3 (dk_at dksX6_act_1 8 rfl rfl)
theorem dX6_act_33 : decode cX6_act 33 = .ok (.ireturn, 1) := dk_172 (dk_at dksX6_act_1 9 rfl rfl)
abbrev cX6_all : ByteArray := prog_23_method_72_code
def yX6_all : MethodName := ⟨RX6, "all", "(III)I"⟩
def dkwX6_all_0 : List UInt8 := [42, 42, 27, 3, 182, 0, 83, 27, 28, 29, 182, 1, 0, 172]
abbrev dktX6_all_0 : List UInt8 := dkwX6_all_0 ++ []
theorem dksX6_all_0 : cX6_all.data.toList.drop 0 = dktX6_all_0 := by decide +kernel
theorem dX6_all_0 : decode cX6_all 0 = .ok (.aload_n 0, 1) := dk_42 (dk_at dksX6_all_0 0 rfl rfl)
theorem dX6_all_1 : decode cX6_all 1 = .ok (.aload_n 0, 1) := dk_42 (dk_at dksX6_all_0 1 rfl rfl)
theorem dX6_all_2 : decode cX6_all 2 = .ok (.iload_n 1, 1) := dk_27 (dk_at dksX6_all_0 2 rfl rfl)
theorem dX6_all_3 : decode cX6_all 3 = .ok (.iconst 0, 1) := dk_3 (dk_at dksX6_all_0 3 rfl rfl)
theorem dX6_all_4 : decode cX6_all 4 = .ok (.invokevirtual 83, 3) := dk_182 0 83 (dk_at dksX6_all_0 4 rfl rfl)
theorem dX6_all_7 : decode cX6_all 7 = .ok (.iload_n 1, 1) := dk_27 (dk_at dksX6_all_0 7 rfl rfl)
theorem dX6_all_8 : decode cX6_all 8 = .ok (.iload_n 2, 1) := dk_28 (dk_at dksX6_all_0 8 rfl rfl)
theorem dX6_all_9 : decode cX6_all 9 = .ok (.iload_n 3, 1) := dk_29 (dk_at dksX6_all_0 9 rfl rfl)
theorem dX6_all_10 : decode cX6_all 10 = .ok (.invokevirtual 256, 3) := dk_182 1 0 (dk_at dksX6_all_0 10 rfl rfl)
theorem dX6_all_13 : decode cX6_all 13 = .ok (.ireturn, 1) := dk_172 (dk_at dksX6_all_0 13 rfl rfl)
abbrev cX6_byKind : ByteArray := prog_23_method_73_code
def yX6_byKind : MethodName := ⟨RX6, "byKind", "(IIII)I"⟩
def dkwX6_byKind_10 : List UInt8 := [21, 4, 182, 1, 0, 42, 28, 4, 182, 0, 83, 130, 172]
abbrev dktX6_byKind_10 : List UInt8 := dkwX6_byKind_10 ++ []
def dkwX6_byKind_9 : List UInt8 := [28, 4, 21, 4, 182, 1, 0, 42, 21, 6, 28, 3, 5, 182, 1, 0, 96, 172, 42, 21, 6, 28, 3]
abbrev dktX6_byKind_9 : List UInt8 := dkwX6_byKind_9 ++ dktX6_byKind_10
def dkwX6_byKind_8 : List UInt8 := [21, 4, 4, 96, 182, 1, 0, 172, 42, 21, 6, 28, 5, 21, 4, 28, 100, 182, 1, 0, 172, 42, 21, 6]
abbrev dktX6_byKind_8 : List UInt8 := dkwX6_byKind_8 ++ dktX6_byKind_9
def dkwX6_byKind_7 : List UInt8 := [4, 4, 182, 1, 7, 96, 172, 42, 21, 6, 28, 3, 21, 4, 182, 1, 0, 116, 172, 42, 21, 6, 28, 4]
abbrev dktX6_byKind_7 : List UInt8 := dkwX6_byKind_7 ++ dktX6_byKind_8
def dkwX6_byKind_6 : List UInt8 := [21, 6, 28, 3, 21, 4, 6, 104, 182, 1, 0, 172, 42, 21, 6, 28, 5, 21, 4, 182, 1, 0, 42, 28]
abbrev dktX6_byKind_6 : List UInt8 := dkwX6_byKind_6 ++ dktX6_byKind_7
def dkwX6_byKind_5 : List UInt8 := [21, 4, 182, 1, 7, 5, 104, 172, 42, 21, 6, 28, 4, 21, 4, 182, 1, 0, 16, 6, 130, 172, 42]
abbrev dktX6_byKind_5 : List UInt8 := dkwX6_byKind_5 ++ dktX6_byKind_6
def dkwX6_byKind_4 : List UInt8 := [21, 4, 28, 96, 172, 42, 28, 3, 21, 4, 182, 1, 7, 42, 28, 4, 182, 0, 83, 100, 172, 42, 28, 4]
abbrev dktX6_byKind_4 : List UInt8 := dkwX6_byKind_4 ++ dktX6_byKind_5
def dkwX6_byKind_3 : List UInt8 := [171, 0, 0, 0, 0, 0, 228, 0, 0, 0, 10, 0, 0, 0, 10, 0, 0, 0, 91, 0, 0, 0, 11, 0, 0, 0, 96, 0, 0, 0, 12, 0, 0, 0, 112, 0, 0, 0, 20, 0, 0, 0, 123, 0, 0, 0, 30, 0, 0, 0, 137, 0, 0, 0, 40, 0, 0, 0, 150, 0, 0, 0, 50, 0, 0, 0, 169, 0, 0, 0, 51, 0, 0, 0, 181, 0, 0, 0, 60, 0, 0, 0, 194, 0, 0, 0, 70, 0, 0, 0, 207]
abbrev dktX6_byKind_3 : List UInt8 := dkwX6_byKind_3 ++ dktX6_byKind_4
def dkwX6_byKind_2 : List UInt8 := [96, 46, 182, 1, 4]
abbrev dktX6_byKind_2 : List UInt8 := dkwX6_byKind_2 ++ dktX6_byKind_3
def dkwX6_byKind_1 : List UInt8 := [54, 5, 167, 255, 233, 42, 180, 0, 53, 21, 5, 46, 54, 6, 42, 42, 180, 0, 56, 6, 21, 5, 104, 29]
abbrev dktX6_byKind_1 : List UInt8 := dkwX6_byKind_1 ++ dktX6_byKind_2
def dkwX6_byKind_0 : List UInt8 := [27, 54, 5, 42, 180, 0, 56, 6, 21, 5, 104, 29, 96, 46, 154, 0, 15, 42, 180, 0, 53, 21, 5, 46]
abbrev dktX6_byKind_0 : List UInt8 := dkwX6_byKind_0 ++ dktX6_byKind_1
theorem dksX6_byKind_0 : cX6_byKind.data.toList.drop 0 = dktX6_byKind_0 := by decide +kernel
theorem dksX6_byKind_1 : cX6_byKind.data.toList.drop 24 = dktX6_byKind_1 := dk_seg dksX6_byKind_0 24 rfl rfl
theorem dksX6_byKind_2 : cX6_byKind.data.toList.drop 48 = dktX6_byKind_2 := dk_seg dksX6_byKind_1 24 rfl rfl
theorem dksX6_byKind_3 : cX6_byKind.data.toList.drop 53 = dktX6_byKind_3 := dk_seg dksX6_byKind_2 5 rfl rfl
theorem dksX6_byKind_4 : cX6_byKind.data.toList.drop 144 = dktX6_byKind_4 := dk_seg dksX6_byKind_3 91 rfl rfl
theorem dksX6_byKind_5 : cX6_byKind.data.toList.drop 168 = dktX6_byKind_5 := dk_seg dksX6_byKind_4 24 rfl rfl
theorem dksX6_byKind_6 : cX6_byKind.data.toList.drop 191 = dktX6_byKind_6 := dk_seg dksX6_byKind_5 23 rfl rfl
theorem dksX6_byKind_7 : cX6_byKind.data.toList.drop 215 = dktX6_byKind_7 := dk_seg dksX6_byKind_6 24 rfl rfl
theorem dksX6_byKind_8 : cX6_byKind.data.toList.drop 239 = dktX6_byKind_8 := dk_seg dksX6_byKind_7 24 rfl rfl
theorem dksX6_byKind_9 : cX6_byKind.data.toList.drop 263 = dktX6_byKind_9 := dk_seg dksX6_byKind_8 24 rfl rfl
theorem dksX6_byKind_10 : cX6_byKind.data.toList.drop 286 = dktX6_byKind_10 := dk_seg dksX6_byKind_9 23 rfl rfl
theorem dX6_byKind_0 : decode cX6_byKind 0 = .ok (.iload_n 1, 1) := dk_27 (dk_at dksX6_byKind_0 0 rfl rfl)
theorem dX6_byKind_1 : decode cX6_byKind 1 = .ok (.istore 5, 2) := dk_54 5 (dk_at dksX6_byKind_0 1 rfl rfl)
theorem dX6_byKind_3 : decode cX6_byKind 3 = .ok (.aload_n 0, 1) := dk_42 (dk_at dksX6_byKind_0 3 rfl rfl)
theorem dX6_byKind_4 : decode cX6_byKind 4 = .ok (.getfield 56, 3) := dk_180 0 56 (dk_at dksX6_byKind_0 4 rfl rfl)
theorem dX6_byKind_7 : decode cX6_byKind 7 = .ok (.iconst 3, 1) := dk_6 (dk_at dksX6_byKind_0 7 rfl rfl)
theorem dX6_byKind_8 : decode cX6_byKind 8 = .ok (.iload 5, 2) := dk_21 5 (dk_at dksX6_byKind_0 8 rfl rfl)
theorem dX6_byKind_10 : decode cX6_byKind 10 = .ok (.imul, 1) := dk_104 (dk_at dksX6_byKind_0 10 rfl rfl)
theorem dX6_byKind_11 : decode cX6_byKind 11 = .ok (.iload_n 3, 1) := dk_29 (dk_at dksX6_byKind_0 11 rfl rfl)
theorem dX6_byKind_12 : decode cX6_byKind 12 = .ok (.iadd, 1) := dk_96 (dk_at dksX6_byKind_0 12 rfl rfl)
theorem dX6_byKind_13 : decode cX6_byKind 13 = .ok (.iaload, 1) := dk_46 (dk_at dksX6_byKind_0 13 rfl rfl)
theorem dX6_byKind_14 : decode cX6_byKind 14 = .ok (.ifCond .ne 15, 3) := dk_154 0 15 (dk_at dksX6_byKind_0 14 rfl rfl)
theorem dX6_byKind_17 : decode cX6_byKind 17 = .ok (.aload_n 0, 1) := dk_42 (dk_at dksX6_byKind_0 17 rfl rfl)
theorem dX6_byKind_18 : decode cX6_byKind 18 = .ok (.getfield 53, 3) := dk_180 0 53 (dk_at dksX6_byKind_0 18 rfl rfl)
theorem dX6_byKind_21 : decode cX6_byKind 21 = .ok (.iload 5, 2) := dk_21 5 (dk_at dksX6_byKind_0 21 rfl rfl)
theorem dX6_byKind_23 : decode cX6_byKind 23 = .ok (.iaload, 1) := dk_46 (dk_at dksX6_byKind_0 23 rfl rfl)
theorem dX6_byKind_24 : decode cX6_byKind 24 = .ok (.istore 5, 2) := dk_54 5 (dk_at dksX6_byKind_1 0 rfl rfl)
theorem dX6_byKind_26 : decode cX6_byKind 26 = .ok (.goto (-23), 3) := dk_167 255 233 (dk_at dksX6_byKind_1 2 rfl rfl)
theorem dX6_byKind_29 : decode cX6_byKind 29 = .ok (.aload_n 0, 1) := dk_42 (dk_at dksX6_byKind_1 5 rfl rfl)
theorem dX6_byKind_30 : decode cX6_byKind 30 = .ok (.getfield 53, 3) := dk_180 0 53 (dk_at dksX6_byKind_1 6 rfl rfl)
theorem dX6_byKind_33 : decode cX6_byKind 33 = .ok (.iload 5, 2) := dk_21 5 (dk_at dksX6_byKind_1 9 rfl rfl)
theorem dX6_byKind_35 : decode cX6_byKind 35 = .ok (.iaload, 1) := dk_46 (dk_at dksX6_byKind_1 11 rfl rfl)
theorem dX6_byKind_36 : decode cX6_byKind 36 = .ok (.istore 6, 2) := dk_54 6 (dk_at dksX6_byKind_1 12 rfl rfl)
theorem dX6_byKind_38 : decode cX6_byKind 38 = .ok (.aload_n 0, 1) := dk_42 (dk_at dksX6_byKind_1 14 rfl rfl)
theorem dX6_byKind_39 : decode cX6_byKind 39 = .ok (.aload_n 0, 1) := dk_42 (dk_at dksX6_byKind_1 15 rfl rfl)
theorem dX6_byKind_40 : decode cX6_byKind 40 = .ok (.getfield 56, 3) := dk_180 0 56 (dk_at dksX6_byKind_1 16 rfl rfl)
theorem dX6_byKind_43 : decode cX6_byKind 43 = .ok (.iconst 3, 1) := dk_6 (dk_at dksX6_byKind_1 19 rfl rfl)
theorem dX6_byKind_44 : decode cX6_byKind 44 = .ok (.iload 5, 2) := dk_21 5 (dk_at dksX6_byKind_1 20 rfl rfl)
theorem dX6_byKind_46 : decode cX6_byKind 46 = .ok (.imul, 1) := dk_104 (dk_at dksX6_byKind_1 22 rfl rfl)
theorem dX6_byKind_47 : decode cX6_byKind 47 = .ok (.iload_n 3, 1) := dk_29 (dk_at dksX6_byKind_1 23 rfl rfl)
theorem dX6_byKind_48 : decode cX6_byKind 48 = .ok (.iadd, 1) := dk_96 (dk_at dksX6_byKind_2 0 rfl rfl)
theorem dX6_byKind_49 : decode cX6_byKind 49 = .ok (.iaload, 1) := dk_46 (dk_at dksX6_byKind_2 1 rfl rfl)
theorem dX6_byKind_50 : decode cX6_byKind 50 = .ok (.invokevirtual 260, 3) := dk_182 1 4 (dk_at dksX6_byKind_2 2 rfl rfl)
theorem dX6_byKind_53 : decode cX6_byKind 53 = .ok (.lookupswitch 228 #[(10, 91), (11, 96), (12, 112), (20, 123), (30, 137), (40, 150), (50, 169), (51, 181), (60, 194), (70, 207)], 91) := by decide +kernel
theorem dX6_byKind_144 : decode cX6_byKind 144 = .ok (.iload 4, 2) := dk_21 4 (dk_at dksX6_byKind_4 0 rfl rfl)
theorem dX6_byKind_146 : decode cX6_byKind 146 = .ok (.iload_n 2, 1) := dk_28 (dk_at dksX6_byKind_4 2 rfl rfl)
theorem dX6_byKind_147 : decode cX6_byKind 147 = .ok (.iadd, 1) := dk_96 (dk_at dksX6_byKind_4 3 rfl rfl)
theorem dX6_byKind_148 : decode cX6_byKind 148 = .ok (.ireturn, 1) := dk_172 (dk_at dksX6_byKind_4 4 rfl rfl)
theorem dX6_byKind_149 : decode cX6_byKind 149 = .ok (.aload_n 0, 1) := dk_42 (dk_at dksX6_byKind_4 5 rfl rfl)
theorem dX6_byKind_150 : decode cX6_byKind 150 = .ok (.iload_n 2, 1) := dk_28 (dk_at dksX6_byKind_4 6 rfl rfl)
theorem dX6_byKind_151 : decode cX6_byKind 151 = .ok (.iconst 0, 1) := dk_3 (dk_at dksX6_byKind_4 7 rfl rfl)
theorem dX6_byKind_152 : decode cX6_byKind 152 = .ok (.iload 4, 2) := dk_21 4 (dk_at dksX6_byKind_4 8 rfl rfl)
theorem dX6_byKind_154 : decode cX6_byKind 154 = .ok (.invokevirtual 263, 3) := dk_182 1 7 (dk_at dksX6_byKind_4 10 rfl rfl)
theorem dX6_byKind_157 : decode cX6_byKind 157 = .ok (.aload_n 0, 1) := dk_42 (dk_at dksX6_byKind_4 13 rfl rfl)
theorem dX6_byKind_158 : decode cX6_byKind 158 = .ok (.iload_n 2, 1) := dk_28 (dk_at dksX6_byKind_4 14 rfl rfl)
theorem dX6_byKind_159 : decode cX6_byKind 159 = .ok (.iconst 1, 1) := dk_4 (dk_at dksX6_byKind_4 15 rfl rfl)
theorem dX6_byKind_160 : decode cX6_byKind 160 = .ok (.invokevirtual 83, 3) := dk_182 0 83 (dk_at dksX6_byKind_4 16 rfl rfl)
theorem dX6_byKind_163 : decode cX6_byKind 163 = .ok (.isub, 1) := dk_100 (dk_at dksX6_byKind_4 19 rfl rfl)
theorem dX6_byKind_164 : decode cX6_byKind 164 = .ok (.ireturn, 1) := dk_172 (dk_at dksX6_byKind_4 20 rfl rfl)
theorem dX6_byKind_165 : decode cX6_byKind 165 = .ok (.aload_n 0, 1) := dk_42 (dk_at dksX6_byKind_4 21 rfl rfl)
theorem dX6_byKind_166 : decode cX6_byKind 166 = .ok (.iload_n 2, 1) := dk_28 (dk_at dksX6_byKind_4 22 rfl rfl)
theorem dX6_byKind_167 : decode cX6_byKind 167 = .ok (.iconst 1, 1) := dk_4 (dk_at dksX6_byKind_4 23 rfl rfl)
theorem dX6_byKind_168 : decode cX6_byKind 168 = .ok (.iload 4, 2) := dk_21 4 (dk_at dksX6_byKind_5 0 rfl rfl)
theorem dX6_byKind_170 : decode cX6_byKind 170 = .ok (.invokevirtual 263, 3) := dk_182 1 7 (dk_at dksX6_byKind_5 2 rfl rfl)
theorem dX6_byKind_173 : decode cX6_byKind 173 = .ok (.iconst 2, 1) := dk_5 (dk_at dksX6_byKind_5 5 rfl rfl)
theorem dX6_byKind_174 : decode cX6_byKind 174 = .ok (.imul, 1) := dk_104 (dk_at dksX6_byKind_5 6 rfl rfl)
theorem dX6_byKind_175 : decode cX6_byKind 175 = .ok (.ireturn, 1) := dk_172 (dk_at dksX6_byKind_5 7 rfl rfl)
theorem dX6_byKind_176 : decode cX6_byKind 176 = .ok (.aload_n 0, 1) := dk_42 (dk_at dksX6_byKind_5 8 rfl rfl)
theorem dX6_byKind_177 : decode cX6_byKind 177 = .ok (.iload 6, 2) := dk_21 6 (dk_at dksX6_byKind_5 9 rfl rfl)
theorem dX6_byKind_179 : decode cX6_byKind 179 = .ok (.iload_n 2, 1) := dk_28 (dk_at dksX6_byKind_5 11 rfl rfl)
theorem dX6_byKind_180 : decode cX6_byKind 180 = .ok (.iconst 1, 1) := dk_4 (dk_at dksX6_byKind_5 12 rfl rfl)
theorem dX6_byKind_181 : decode cX6_byKind 181 = .ok (.iload 4, 2) := dk_21 4 (dk_at dksX6_byKind_5 13 rfl rfl)
theorem dX6_byKind_183 : decode cX6_byKind 183 = .ok (.invokevirtual 256, 3) := dk_182 1 0 (dk_at dksX6_byKind_5 15 rfl rfl)
theorem dX6_byKind_186 : decode cX6_byKind 186 = .ok (.bipush 6, 2) := dk_16 6 (dk_at dksX6_byKind_5 18 rfl rfl)
theorem dX6_byKind_188 : decode cX6_byKind 188 = .ok (.ixor, 1) := dk_130 (dk_at dksX6_byKind_5 20 rfl rfl)
theorem dX6_byKind_189 : decode cX6_byKind 189 = .ok (.ireturn, 1) := dk_172 (dk_at dksX6_byKind_5 21 rfl rfl)
theorem dX6_byKind_190 : decode cX6_byKind 190 = .ok (.aload_n 0, 1) := dk_42 (dk_at dksX6_byKind_5 22 rfl rfl)
theorem dX6_byKind_191 : decode cX6_byKind 191 = .ok (.iload 6, 2) := dk_21 6 (dk_at dksX6_byKind_6 0 rfl rfl)
theorem dX6_byKind_193 : decode cX6_byKind 193 = .ok (.iload_n 2, 1) := dk_28 (dk_at dksX6_byKind_6 2 rfl rfl)
theorem dX6_byKind_194 : decode cX6_byKind 194 = .ok (.iconst 0, 1) := dk_3 (dk_at dksX6_byKind_6 3 rfl rfl)
theorem dX6_byKind_195 : decode cX6_byKind 195 = .ok (.iload 4, 2) := dk_21 4 (dk_at dksX6_byKind_6 4 rfl rfl)
theorem dX6_byKind_197 : decode cX6_byKind 197 = .ok (.iconst 3, 1) := dk_6 (dk_at dksX6_byKind_6 6 rfl rfl)
theorem dX6_byKind_198 : decode cX6_byKind 198 = .ok (.imul, 1) := dk_104 (dk_at dksX6_byKind_6 7 rfl rfl)
theorem dX6_byKind_199 : decode cX6_byKind 199 = .ok (.invokevirtual 256, 3) := dk_182 1 0 (dk_at dksX6_byKind_6 8 rfl rfl)
theorem dX6_byKind_202 : decode cX6_byKind 202 = .ok (.ireturn, 1) := dk_172 (dk_at dksX6_byKind_6 11 rfl rfl)
theorem dX6_byKind_203 : decode cX6_byKind 203 = .ok (.aload_n 0, 1) := dk_42 (dk_at dksX6_byKind_6 12 rfl rfl)
theorem dX6_byKind_204 : decode cX6_byKind 204 = .ok (.iload 6, 2) := dk_21 6 (dk_at dksX6_byKind_6 13 rfl rfl)
theorem dX6_byKind_206 : decode cX6_byKind 206 = .ok (.iload_n 2, 1) := dk_28 (dk_at dksX6_byKind_6 15 rfl rfl)
theorem dX6_byKind_207 : decode cX6_byKind 207 = .ok (.iconst 2, 1) := dk_5 (dk_at dksX6_byKind_6 16 rfl rfl)
theorem dX6_byKind_208 : decode cX6_byKind 208 = .ok (.iload 4, 2) := dk_21 4 (dk_at dksX6_byKind_6 17 rfl rfl)
theorem dX6_byKind_210 : decode cX6_byKind 210 = .ok (.invokevirtual 256, 3) := dk_182 1 0 (dk_at dksX6_byKind_6 19 rfl rfl)
theorem dX6_byKind_213 : decode cX6_byKind 213 = .ok (.aload_n 0, 1) := dk_42 (dk_at dksX6_byKind_6 22 rfl rfl)
theorem dX6_byKind_214 : decode cX6_byKind 214 = .ok (.iload_n 2, 1) := dk_28 (dk_at dksX6_byKind_6 23 rfl rfl)
theorem dX6_byKind_215 : decode cX6_byKind 215 = .ok (.iconst 1, 1) := dk_4 (dk_at dksX6_byKind_7 0 rfl rfl)
theorem dX6_byKind_216 : decode cX6_byKind 216 = .ok (.iconst 1, 1) := dk_4 (dk_at dksX6_byKind_7 1 rfl rfl)
theorem dX6_byKind_217 : decode cX6_byKind 217 = .ok (.invokevirtual 263, 3) := dk_182 1 7 (dk_at dksX6_byKind_7 2 rfl rfl)
theorem dX6_byKind_220 : decode cX6_byKind 220 = .ok (.iadd, 1) := dk_96 (dk_at dksX6_byKind_7 5 rfl rfl)
theorem dX6_byKind_221 : decode cX6_byKind 221 = .ok (.ireturn, 1) := dk_172 (dk_at dksX6_byKind_7 6 rfl rfl)
theorem dX6_byKind_222 : decode cX6_byKind 222 = .ok (.aload_n 0, 1) := dk_42 (dk_at dksX6_byKind_7 7 rfl rfl)
theorem dX6_byKind_223 : decode cX6_byKind 223 = .ok (.iload 6, 2) := dk_21 6 (dk_at dksX6_byKind_7 8 rfl rfl)
theorem dX6_byKind_225 : decode cX6_byKind 225 = .ok (.iload_n 2, 1) := dk_28 (dk_at dksX6_byKind_7 10 rfl rfl)
theorem dX6_byKind_226 : decode cX6_byKind 226 = .ok (.iconst 0, 1) := dk_3 (dk_at dksX6_byKind_7 11 rfl rfl)
theorem dX6_byKind_227 : decode cX6_byKind 227 = .ok (.iload 4, 2) := dk_21 4 (dk_at dksX6_byKind_7 12 rfl rfl)
theorem dX6_byKind_229 : decode cX6_byKind 229 = .ok (.invokevirtual 256, 3) := dk_182 1 0 (dk_at dksX6_byKind_7 14 rfl rfl)
theorem dX6_byKind_232 : decode cX6_byKind 232 = .ok (.ineg, 1) := dk_116 (dk_at dksX6_byKind_7 17 rfl rfl)
theorem dX6_byKind_233 : decode cX6_byKind 233 = .ok (.ireturn, 1) := dk_172 (dk_at dksX6_byKind_7 18 rfl rfl)
theorem dX6_byKind_234 : decode cX6_byKind 234 = .ok (.aload_n 0, 1) := dk_42 (dk_at dksX6_byKind_7 19 rfl rfl)
theorem dX6_byKind_235 : decode cX6_byKind 235 = .ok (.iload 6, 2) := dk_21 6 (dk_at dksX6_byKind_7 20 rfl rfl)
theorem dX6_byKind_237 : decode cX6_byKind 237 = .ok (.iload_n 2, 1) := dk_28 (dk_at dksX6_byKind_7 22 rfl rfl)
theorem dX6_byKind_238 : decode cX6_byKind 238 = .ok (.iconst 1, 1) := dk_4 (dk_at dksX6_byKind_7 23 rfl rfl)
theorem dX6_byKind_239 : decode cX6_byKind 239 = .ok (.iload 4, 2) := dk_21 4 (dk_at dksX6_byKind_8 0 rfl rfl)
theorem dX6_byKind_241 : decode cX6_byKind 241 = .ok (.iconst 1, 1) := dk_4 (dk_at dksX6_byKind_8 2 rfl rfl)
theorem dX6_byKind_242 : decode cX6_byKind 242 = .ok (.iadd, 1) := dk_96 (dk_at dksX6_byKind_8 3 rfl rfl)
theorem dX6_byKind_243 : decode cX6_byKind 243 = .ok (.invokevirtual 256, 3) := dk_182 1 0 (dk_at dksX6_byKind_8 4 rfl rfl)
theorem dX6_byKind_246 : decode cX6_byKind 246 = .ok (.ireturn, 1) := dk_172 (dk_at dksX6_byKind_8 7 rfl rfl)
theorem dX6_byKind_247 : decode cX6_byKind 247 = .ok (.aload_n 0, 1) := dk_42 (dk_at dksX6_byKind_8 8 rfl rfl)
theorem dX6_byKind_248 : decode cX6_byKind 248 = .ok (.iload 6, 2) := dk_21 6 (dk_at dksX6_byKind_8 9 rfl rfl)
theorem dX6_byKind_250 : decode cX6_byKind 250 = .ok (.iload_n 2, 1) := dk_28 (dk_at dksX6_byKind_8 11 rfl rfl)
theorem dX6_byKind_251 : decode cX6_byKind 251 = .ok (.iconst 2, 1) := dk_5 (dk_at dksX6_byKind_8 12 rfl rfl)
theorem dX6_byKind_252 : decode cX6_byKind 252 = .ok (.iload 4, 2) := dk_21 4 (dk_at dksX6_byKind_8 13 rfl rfl)
theorem dX6_byKind_254 : decode cX6_byKind 254 = .ok (.iload_n 2, 1) := dk_28 (dk_at dksX6_byKind_8 15 rfl rfl)
theorem dX6_byKind_255 : decode cX6_byKind 255 = .ok (.isub, 1) := dk_100 (dk_at dksX6_byKind_8 16 rfl rfl)
theorem dX6_byKind_256 : decode cX6_byKind 256 = .ok (.invokevirtual 256, 3) := dk_182 1 0 (dk_at dksX6_byKind_8 17 rfl rfl)
theorem dX6_byKind_259 : decode cX6_byKind 259 = .ok (.ireturn, 1) := dk_172 (dk_at dksX6_byKind_8 20 rfl rfl)
theorem dX6_byKind_260 : decode cX6_byKind 260 = .ok (.aload_n 0, 1) := dk_42 (dk_at dksX6_byKind_8 21 rfl rfl)
theorem dX6_byKind_261 : decode cX6_byKind 261 = .ok (.iload 6, 2) := dk_21 6 (dk_at dksX6_byKind_8 22 rfl rfl)
theorem dX6_byKind_263 : decode cX6_byKind 263 = .ok (.iload_n 2, 1) := dk_28 (dk_at dksX6_byKind_9 0 rfl rfl)
theorem dX6_byKind_264 : decode cX6_byKind 264 = .ok (.iconst 1, 1) := dk_4 (dk_at dksX6_byKind_9 1 rfl rfl)
theorem dX6_byKind_265 : decode cX6_byKind 265 = .ok (.iload 4, 2) := dk_21 4 (dk_at dksX6_byKind_9 2 rfl rfl)
theorem dX6_byKind_267 : decode cX6_byKind 267 = .ok (.invokevirtual 256, 3) := dk_182 1 0 (dk_at dksX6_byKind_9 4 rfl rfl)
theorem dX6_byKind_270 : decode cX6_byKind 270 = .ok (.aload_n 0, 1) := dk_42 (dk_at dksX6_byKind_9 7 rfl rfl)
theorem dX6_byKind_271 : decode cX6_byKind 271 = .ok (.iload 6, 2) := dk_21 6 (dk_at dksX6_byKind_9 8 rfl rfl)
theorem dX6_byKind_273 : decode cX6_byKind 273 = .ok (.iload_n 2, 1) := dk_28 (dk_at dksX6_byKind_9 10 rfl rfl)
theorem dX6_byKind_274 : decode cX6_byKind 274 = .ok (.iconst 0, 1) := dk_3 (dk_at dksX6_byKind_9 11 rfl rfl)
theorem dX6_byKind_275 : decode cX6_byKind 275 = .ok (.iconst 2, 1) := dk_5 (dk_at dksX6_byKind_9 12 rfl rfl)
theorem dX6_byKind_276 : decode cX6_byKind 276 = .ok (.invokevirtual 256, 3) := dk_182 1 0 (dk_at dksX6_byKind_9 13 rfl rfl)
theorem dX6_byKind_279 : decode cX6_byKind 279 = .ok (.iadd, 1) := dk_96 (dk_at dksX6_byKind_9 16 rfl rfl)
theorem dX6_byKind_280 : decode cX6_byKind 280 = .ok (.ireturn, 1) := dk_172 (dk_at dksX6_byKind_9 17 rfl rfl)
theorem dX6_byKind_281 : decode cX6_byKind 281 = .ok (.aload_n 0, 1) := dk_42 (dk_at dksX6_byKind_9 18 rfl rfl)
theorem dX6_byKind_282 : decode cX6_byKind 282 = .ok (.iload 6, 2) := dk_21 6 (dk_at dksX6_byKind_9 19 rfl rfl)
theorem dX6_byKind_284 : decode cX6_byKind 284 = .ok (.iload_n 2, 1) := dk_28 (dk_at dksX6_byKind_9 21 rfl rfl)
theorem dX6_byKind_285 : decode cX6_byKind 285 = .ok (.iconst 0, 1) := dk_3 (dk_at dksX6_byKind_9 22 rfl rfl)
theorem dX6_byKind_286 : decode cX6_byKind 286 = .ok (.iload 4, 2) := dk_21 4 (dk_at dksX6_byKind_10 0 rfl rfl)
theorem dX6_byKind_288 : decode cX6_byKind 288 = .ok (.invokevirtual 256, 3) := dk_182 1 0 (dk_at dksX6_byKind_10 2 rfl rfl)
theorem dX6_byKind_291 : decode cX6_byKind 291 = .ok (.aload_n 0, 1) := dk_42 (dk_at dksX6_byKind_10 5 rfl rfl)
theorem dX6_byKind_292 : decode cX6_byKind 292 = .ok (.iload_n 2, 1) := dk_28 (dk_at dksX6_byKind_10 6 rfl rfl)
theorem dX6_byKind_293 : decode cX6_byKind 293 = .ok (.iconst 1, 1) := dk_4 (dk_at dksX6_byKind_10 7 rfl rfl)
theorem dX6_byKind_294 : decode cX6_byKind 294 = .ok (.invokevirtual 83, 3) := dk_182 0 83 (dk_at dksX6_byKind_10 8 rfl rfl)
theorem dX6_byKind_297 : decode cX6_byKind 297 = .ok (.ixor, 1) := dk_130 (dk_at dksX6_byKind_10 11 rfl rfl)
theorem dX6_byKind_298 : decode cX6_byKind 298 = .ok (.ireturn, 1) := dk_172 (dk_at dksX6_byKind_10 12 rfl rfl)
abbrev cX6_body : ByteArray := prog_23_method_71_code
def yX6_body : MethodName := ⟨RX6, "body", "(I)I"⟩
def dkwX6_body_1 : List UInt8 := [4, 96, 181, 0, 253, 27, 172]
abbrev dktX6_body_1 : List UInt8 := dkwX6_body_1 ++ []
def dkwX6_body_0 : List UInt8 := [42, 180, 0, 253, 16, 20, 162, 0, 13, 42, 180, 0, 59, 42, 180, 0, 253, 27, 79, 42, 89, 180, 0, 253]
abbrev dktX6_body_0 : List UInt8 := dkwX6_body_0 ++ dktX6_body_1
theorem dksX6_body_0 : cX6_body.data.toList.drop 0 = dktX6_body_0 := by decide +kernel
theorem dksX6_body_1 : cX6_body.data.toList.drop 24 = dktX6_body_1 := dk_seg dksX6_body_0 24 rfl rfl
theorem dX6_body_0 : decode cX6_body 0 = .ok (.aload_n 0, 1) := dk_42 (dk_at dksX6_body_0 0 rfl rfl)
theorem dX6_body_1 : decode cX6_body 1 = .ok (.getfield 253, 3) := dk_180 0 253 (dk_at dksX6_body_0 1 rfl rfl)
theorem dX6_body_4 : decode cX6_body 4 = .ok (.bipush 20, 2) := dk_16 20 (dk_at dksX6_body_0 4 rfl rfl)
theorem dX6_body_6 : decode cX6_body 6 = .ok (.if_icmp .ge 13, 3) := dk_162 0 13 (dk_at dksX6_body_0 6 rfl rfl)
theorem dX6_body_9 : decode cX6_body 9 = .ok (.aload_n 0, 1) := dk_42 (dk_at dksX6_body_0 9 rfl rfl)
theorem dX6_body_10 : decode cX6_body 10 = .ok (.getfield 59, 3) := dk_180 0 59 (dk_at dksX6_body_0 10 rfl rfl)
theorem dX6_body_13 : decode cX6_body 13 = .ok (.aload_n 0, 1) := dk_42 (dk_at dksX6_body_0 13 rfl rfl)
theorem dX6_body_14 : decode cX6_body 14 = .ok (.getfield 253, 3) := dk_180 0 253 (dk_at dksX6_body_0 14 rfl rfl)
theorem dX6_body_17 : decode cX6_body 17 = .ok (.iload_n 1, 1) := dk_27 (dk_at dksX6_body_0 17 rfl rfl)
theorem dX6_body_18 : decode cX6_body 18 = .ok (.iastore, 1) := dk_79 (dk_at dksX6_body_0 18 rfl rfl)
theorem dX6_body_19 : decode cX6_body 19 = .ok (.aload_n 0, 1) := dk_42 (dk_at dksX6_body_0 19 rfl rfl)
theorem dX6_body_20 : decode cX6_body 20 = .ok (.dup, 1) := dk_89 (dk_at dksX6_body_0 20 rfl rfl)
theorem dX6_body_21 : decode cX6_body 21 = .ok (.getfield 253, 3) := dk_180 0 253 (dk_at dksX6_body_0 21 rfl rfl)
theorem dX6_body_24 : decode cX6_body 24 = .ok (.iconst 1, 1) := dk_4 (dk_at dksX6_body_1 0 rfl rfl)
theorem dX6_body_25 : decode cX6_body 25 = .ok (.iadd, 1) := dk_96 (dk_at dksX6_body_1 1 rfl rfl)
theorem dX6_body_26 : decode cX6_body 26 = .ok (.putfield 253, 3) := dk_181 0 253 (dk_at dksX6_body_1 2 rfl rfl)
theorem dX6_body_29 : decode cX6_body 29 = .ok (.iload_n 1, 1) := dk_27 (dk_at dksX6_body_1 5 rfl rfl)
theorem dX6_body_30 : decode cX6_body 30 = .ok (.ireturn, 1) := dk_172 (dk_at dksX6_body_1 6 rfl rfl)
abbrev cX6_trace : ByteArray := prog_23_method_75_code
def yX6_trace : MethodName := ⟨RX6, "trace", "(I)I"⟩
def dkwX6_trace_1 : List UInt8 := [46, 167, 0, 4, 2, 172]
abbrev dktX6_trace_1 : List UInt8 := dkwX6_trace_1 ++ []
def dkwX6_trace_0 : List UInt8 := [27, 3, 16, 20, 42, 180, 0, 253, 184, 0, 230, 4, 100, 184, 0, 79, 153, 0, 12, 42, 180, 0, 59, 27]
abbrev dktX6_trace_0 : List UInt8 := dkwX6_trace_0 ++ dktX6_trace_1
theorem dksX6_trace_0 : cX6_trace.data.toList.drop 0 = dktX6_trace_0 := by decide +kernel
theorem dksX6_trace_1 : cX6_trace.data.toList.drop 24 = dktX6_trace_1 := dk_seg dksX6_trace_0 24 rfl rfl
theorem dX6_trace_0 : decode cX6_trace 0 = .ok (.iload_n 1, 1) := dk_27 (dk_at dksX6_trace_0 0 rfl rfl)
theorem dX6_trace_1 : decode cX6_trace 1 = .ok (.iconst 0, 1) := dk_3 (dk_at dksX6_trace_0 1 rfl rfl)
theorem dX6_trace_2 : decode cX6_trace 2 = .ok (.bipush 20, 2) := dk_16 20 (dk_at dksX6_trace_0 2 rfl rfl)
theorem dX6_trace_4 : decode cX6_trace 4 = .ok (.aload_n 0, 1) := dk_42 (dk_at dksX6_trace_0 4 rfl rfl)
theorem dX6_trace_5 : decode cX6_trace 5 = .ok (.getfield 253, 3) := dk_180 0 253 (dk_at dksX6_trace_0 5 rfl rfl)
theorem dX6_trace_8 : decode cX6_trace 8 = .ok (.invokestatic 230, 3) := dk_184 0 230 (dk_at dksX6_trace_0 8 rfl rfl)
theorem dX6_trace_11 : decode cX6_trace 11 = .ok (.iconst 1, 1) := dk_4 (dk_at dksX6_trace_0 11 rfl rfl)
theorem dX6_trace_12 : decode cX6_trace 12 = .ok (.isub, 1) := dk_100 (dk_at dksX6_trace_0 12 rfl rfl)
theorem dX6_trace_13 : decode cX6_trace 13 = .ok (.invokestatic 79, 3) := dk_184 0 79 (dk_at dksX6_trace_0 13 rfl rfl)
theorem dX6_trace_16 : decode cX6_trace 16 = .ok (.ifCond .eq 12, 3) := dk_153 0 12 (dk_at dksX6_trace_0 16 rfl rfl)
theorem dX6_trace_19 : decode cX6_trace 19 = .ok (.aload_n 0, 1) := dk_42 (dk_at dksX6_trace_0 19 rfl rfl)
theorem dX6_trace_20 : decode cX6_trace 20 = .ok (.getfield 59, 3) := dk_180 0 59 (dk_at dksX6_trace_0 20 rfl rfl)
theorem dX6_trace_23 : decode cX6_trace 23 = .ok (.iload_n 1, 1) := dk_27 (dk_at dksX6_trace_0 23 rfl rfl)
theorem dX6_trace_24 : decode cX6_trace 24 = .ok (.iaload, 1) := dk_46 (dk_at dksX6_trace_1 0 rfl rfl)
theorem dX6_trace_25 : decode cX6_trace 25 = .ok (.goto 4, 3) := dk_167 0 4 (dk_at dksX6_trace_1 1 rfl rfl)
theorem dX6_trace_28 : decode cX6_trace 28 = .ok (.iconst (-1), 1) := dk_2 (dk_at dksX6_trace_1 4 rfl rfl)
theorem dX6_trace_29 : decode cX6_trace 29 = .ok (.ireturn, 1) := dk_172 (dk_at dksX6_trace_1 5 rfl rfl)
abbrev cX6_taken : ByteArray := prog_23_method_76_code
def yX6_taken : MethodName := ⟨RX6, "taken", "(II)I"⟩
def dkwX6_taken_2 : List UInt8 := [167, 255, 239, 29, 28, 160, 0, 12, 42, 27, 3, 182, 0, 83, 167, 0, 5, 16, 244, 172]
abbrev dktX6_taken_2 : List UInt8 := dkwX6_taken_2 ++ []
def dkwX6_taken_1 : List UInt8 := [42, 27, 3, 182, 0, 83, 62, 29, 2, 159, 0, 18, 29, 28, 159, 0, 13, 42, 180, 0, 53, 29, 46, 62]
abbrev dktX6_taken_1 : List UInt8 := dkwX6_taken_1 ++ dktX6_taken_2
def dkwX6_taken_0 : List UInt8 := [28, 3, 16, 6, 184, 0, 79, 154, 0, 6, 16, 254, 172, 42, 27, 182, 0, 91, 154, 0, 6, 16, 245, 172]
abbrev dktX6_taken_0 : List UInt8 := dkwX6_taken_0 ++ dktX6_taken_1
theorem dksX6_taken_0 : cX6_taken.data.toList.drop 0 = dktX6_taken_0 := by decide +kernel
theorem dksX6_taken_1 : cX6_taken.data.toList.drop 24 = dktX6_taken_1 := dk_seg dksX6_taken_0 24 rfl rfl
theorem dksX6_taken_2 : cX6_taken.data.toList.drop 48 = dktX6_taken_2 := dk_seg dksX6_taken_1 24 rfl rfl
theorem dX6_taken_0 : decode cX6_taken 0 = .ok (.iload_n 2, 1) := dk_28 (dk_at dksX6_taken_0 0 rfl rfl)
theorem dX6_taken_1 : decode cX6_taken 1 = .ok (.iconst 0, 1) := dk_3 (dk_at dksX6_taken_0 1 rfl rfl)
theorem dX6_taken_2 : decode cX6_taken 2 = .ok (.bipush 6, 2) := dk_16 6 (dk_at dksX6_taken_0 2 rfl rfl)
theorem dX6_taken_4 : decode cX6_taken 4 = .ok (.invokestatic 79, 3) := dk_184 0 79 (dk_at dksX6_taken_0 4 rfl rfl)
theorem dX6_taken_7 : decode cX6_taken 7 = .ok (.ifCond .ne 6, 3) := dk_154 0 6 (dk_at dksX6_taken_0 7 rfl rfl)
theorem dX6_taken_10 : decode cX6_taken 10 = .ok (.bipush (-2), 2) := dk_16 254 (dk_at dksX6_taken_0 10 rfl rfl)
theorem dX6_taken_12 : decode cX6_taken 12 = .ok (.ireturn, 1) := dk_172 (dk_at dksX6_taken_0 12 rfl rfl)
theorem dX6_taken_13 : decode cX6_taken 13 = .ok (.aload_n 0, 1) := dk_42 (dk_at dksX6_taken_0 13 rfl rfl)
theorem dX6_taken_14 : decode cX6_taken 14 = .ok (.iload_n 1, 1) := dk_27 (dk_at dksX6_taken_0 14 rfl rfl)
theorem dX6_taken_15 : decode cX6_taken 15 = .ok (.invokevirtual 91, 3) := dk_182 0 91 (dk_at dksX6_taken_0 15 rfl rfl)
theorem dX6_taken_18 : decode cX6_taken 18 = .ok (.ifCond .ne 6, 3) := dk_154 0 6 (dk_at dksX6_taken_0 18 rfl rfl)
theorem dX6_taken_21 : decode cX6_taken 21 = .ok (.bipush (-11), 2) := dk_16 245 (dk_at dksX6_taken_0 21 rfl rfl)
theorem dX6_taken_23 : decode cX6_taken 23 = .ok (.ireturn, 1) := dk_172 (dk_at dksX6_taken_0 23 rfl rfl)
theorem dX6_taken_24 : decode cX6_taken 24 = .ok (.aload_n 0, 1) := dk_42 (dk_at dksX6_taken_1 0 rfl rfl)
theorem dX6_taken_25 : decode cX6_taken 25 = .ok (.iload_n 1, 1) := dk_27 (dk_at dksX6_taken_1 1 rfl rfl)
theorem dX6_taken_26 : decode cX6_taken 26 = .ok (.iconst 0, 1) := dk_3 (dk_at dksX6_taken_1 2 rfl rfl)
theorem dX6_taken_27 : decode cX6_taken 27 = .ok (.invokevirtual 83, 3) := dk_182 0 83 (dk_at dksX6_taken_1 3 rfl rfl)
theorem dX6_taken_30 : decode cX6_taken 30 = .ok (.istore_n 3, 1) := dk_62 (dk_at dksX6_taken_1 6 rfl rfl)
theorem dX6_taken_31 : decode cX6_taken 31 = .ok (.iload_n 3, 1) := dk_29 (dk_at dksX6_taken_1 7 rfl rfl)
theorem dX6_taken_32 : decode cX6_taken 32 = .ok (.iconst (-1), 1) := dk_2 (dk_at dksX6_taken_1 8 rfl rfl)
theorem dX6_taken_33 : decode cX6_taken 33 = .ok (.if_icmp .eq 18, 3) := dk_159 0 18 (dk_at dksX6_taken_1 9 rfl rfl)
theorem dX6_taken_36 : decode cX6_taken 36 = .ok (.iload_n 3, 1) := dk_29 (dk_at dksX6_taken_1 12 rfl rfl)
theorem dX6_taken_37 : decode cX6_taken 37 = .ok (.iload_n 2, 1) := dk_28 (dk_at dksX6_taken_1 13 rfl rfl)
theorem dX6_taken_38 : decode cX6_taken 38 = .ok (.if_icmp .eq 13, 3) := dk_159 0 13 (dk_at dksX6_taken_1 14 rfl rfl)
theorem dX6_taken_41 : decode cX6_taken 41 = .ok (.aload_n 0, 1) := dk_42 (dk_at dksX6_taken_1 17 rfl rfl)
theorem dX6_taken_42 : decode cX6_taken 42 = .ok (.getfield 53, 3) := dk_180 0 53 (dk_at dksX6_taken_1 18 rfl rfl)
theorem dX6_taken_45 : decode cX6_taken 45 = .ok (.iload_n 3, 1) := dk_29 (dk_at dksX6_taken_1 21 rfl rfl)
theorem dX6_taken_46 : decode cX6_taken 46 = .ok (.iaload, 1) := dk_46 (dk_at dksX6_taken_1 22 rfl rfl)
theorem dX6_taken_47 : decode cX6_taken 47 = .ok (.istore_n 3, 1) := dk_62 (dk_at dksX6_taken_1 23 rfl rfl)
theorem dX6_taken_48 : decode cX6_taken 48 = .ok (.goto (-17), 3) := dk_167 255 239 (dk_at dksX6_taken_2 0 rfl rfl)
theorem dX6_taken_51 : decode cX6_taken 51 = .ok (.iload_n 3, 1) := dk_29 (dk_at dksX6_taken_2 3 rfl rfl)
theorem dX6_taken_52 : decode cX6_taken 52 = .ok (.iload_n 2, 1) := dk_28 (dk_at dksX6_taken_2 4 rfl rfl)
theorem dX6_taken_53 : decode cX6_taken 53 = .ok (.if_icmp .ne 12, 3) := dk_160 0 12 (dk_at dksX6_taken_2 5 rfl rfl)
theorem dX6_taken_56 : decode cX6_taken 56 = .ok (.aload_n 0, 1) := dk_42 (dk_at dksX6_taken_2 8 rfl rfl)
theorem dX6_taken_57 : decode cX6_taken 57 = .ok (.iload_n 1, 1) := dk_27 (dk_at dksX6_taken_2 9 rfl rfl)
theorem dX6_taken_58 : decode cX6_taken 58 = .ok (.iconst 0, 1) := dk_3 (dk_at dksX6_taken_2 10 rfl rfl)
theorem dX6_taken_59 : decode cX6_taken 59 = .ok (.invokevirtual 83, 3) := dk_182 0 83 (dk_at dksX6_taken_2 11 rfl rfl)
theorem dX6_taken_62 : decode cX6_taken 62 = .ok (.goto 5, 3) := dk_167 0 5 (dk_at dksX6_taken_2 14 rfl rfl)
theorem dX6_taken_65 : decode cX6_taken 65 = .ok (.bipush (-12), 2) := dk_16 244 (dk_at dksX6_taken_2 17 rfl rfl)
theorem dX6_taken_67 : decode cX6_taken 67 = .ok (.ireturn, 1) := dk_172 (dk_at dksX6_taken_2 19 rfl rfl)
abbrev cX6_count : ByteArray := prog_23_method_77_code
def yX6_count : MethodName := ⟨RX6, "count", "(I)I"⟩
def dkwX6_count_4 : List UInt8 := [180, 0, 108, 172, 42, 180, 0, 253, 172, 16, 254, 172]
abbrev dktX6_count_4 : List UInt8 := dkwX6_count_4 ++ []
def dkwX6_count_3 : List UInt8 := [180, 0, 15, 16, 84, 46, 172, 42, 180, 0, 15, 16, 100, 46, 172, 42, 180, 0, 15, 16, 121, 46, 172, 42]
abbrev dktX6_count_3 : List UInt8 := dkwX6_count_3 ++ dktX6_count_4
def dkwX6_count_2 : List UInt8 := [42, 180, 0, 15, 16, 80, 46, 172, 42, 180, 0, 15, 16, 81, 46, 172, 42, 180, 0, 163, 172, 42]
abbrev dktX6_count_2 : List UInt8 := dkwX6_count_2 ++ dktX6_count_3
def dkwX6_count_1 : List UInt8 := [170, 0, 0, 0, 0, 0, 102, 0, 0, 0, 0, 0, 0, 0, 7, 0, 0, 0, 47, 0, 0, 0, 55, 0, 0, 0, 63, 0, 0, 0, 68, 0, 0, 0, 76, 0, 0, 0, 84, 0, 0, 0, 92, 0, 0, 0, 97]
abbrev dktX6_count_1 : List UInt8 := dkwX6_count_1 ++ dktX6_count_2
def dkwX6_count_0 : List UInt8 := [27]
abbrev dktX6_count_0 : List UInt8 := dkwX6_count_0 ++ dktX6_count_1
theorem dksX6_count_0 : cX6_count.data.toList.drop 0 = dktX6_count_0 := by decide +kernel
theorem dksX6_count_1 : cX6_count.data.toList.drop 1 = dktX6_count_1 := dk_seg dksX6_count_0 1 rfl rfl
theorem dksX6_count_2 : cX6_count.data.toList.drop 48 = dktX6_count_2 := dk_seg dksX6_count_1 47 rfl rfl
theorem dksX6_count_3 : cX6_count.data.toList.drop 70 = dktX6_count_3 := dk_seg dksX6_count_2 22 rfl rfl
theorem dksX6_count_4 : cX6_count.data.toList.drop 94 = dktX6_count_4 := dk_seg dksX6_count_3 24 rfl rfl
theorem dX6_count_0 : decode cX6_count 0 = .ok (.iload_n 1, 1) := dk_27 (dk_at dksX6_count_0 0 rfl rfl)
theorem dX6_count_1 : decode cX6_count 1 = .ok (.tableswitch 102 0 7 #[47, 55, 63, 68, 76, 84, 92, 97], 47) := by decide +kernel
theorem dX6_count_48 : decode cX6_count 48 = .ok (.aload_n 0, 1) := dk_42 (dk_at dksX6_count_2 0 rfl rfl)
theorem dX6_count_49 : decode cX6_count 49 = .ok (.getfield 15, 3) := dk_180 0 15 (dk_at dksX6_count_2 1 rfl rfl)
theorem dX6_count_52 : decode cX6_count 52 = .ok (.bipush 80, 2) := dk_16 80 (dk_at dksX6_count_2 4 rfl rfl)
theorem dX6_count_54 : decode cX6_count 54 = .ok (.iaload, 1) := dk_46 (dk_at dksX6_count_2 6 rfl rfl)
theorem dX6_count_55 : decode cX6_count 55 = .ok (.ireturn, 1) := dk_172 (dk_at dksX6_count_2 7 rfl rfl)
theorem dX6_count_56 : decode cX6_count 56 = .ok (.aload_n 0, 1) := dk_42 (dk_at dksX6_count_2 8 rfl rfl)
theorem dX6_count_57 : decode cX6_count 57 = .ok (.getfield 15, 3) := dk_180 0 15 (dk_at dksX6_count_2 9 rfl rfl)
theorem dX6_count_60 : decode cX6_count 60 = .ok (.bipush 81, 2) := dk_16 81 (dk_at dksX6_count_2 12 rfl rfl)
theorem dX6_count_62 : decode cX6_count 62 = .ok (.iaload, 1) := dk_46 (dk_at dksX6_count_2 14 rfl rfl)
theorem dX6_count_63 : decode cX6_count 63 = .ok (.ireturn, 1) := dk_172 (dk_at dksX6_count_2 15 rfl rfl)
theorem dX6_count_64 : decode cX6_count 64 = .ok (.aload_n 0, 1) := dk_42 (dk_at dksX6_count_2 16 rfl rfl)
theorem dX6_count_65 : decode cX6_count 65 = .ok (.getfield 163, 3) := dk_180 0 163 (dk_at dksX6_count_2 17 rfl rfl)
theorem dX6_count_68 : decode cX6_count 68 = .ok (.ireturn, 1) := dk_172 (dk_at dksX6_count_2 20 rfl rfl)
theorem dX6_count_69 : decode cX6_count 69 = .ok (.aload_n 0, 1) := dk_42 (dk_at dksX6_count_2 21 rfl rfl)
theorem dX6_count_70 : decode cX6_count 70 = .ok (.getfield 15, 3) := dk_180 0 15 (dk_at dksX6_count_3 0 rfl rfl)
theorem dX6_count_73 : decode cX6_count 73 = .ok (.bipush 84, 2) := dk_16 84 (dk_at dksX6_count_3 3 rfl rfl)
theorem dX6_count_75 : decode cX6_count 75 = .ok (.iaload, 1) := dk_46 (dk_at dksX6_count_3 5 rfl rfl)
theorem dX6_count_76 : decode cX6_count 76 = .ok (.ireturn, 1) := dk_172 (dk_at dksX6_count_3 6 rfl rfl)
theorem dX6_count_77 : decode cX6_count 77 = .ok (.aload_n 0, 1) := dk_42 (dk_at dksX6_count_3 7 rfl rfl)
theorem dX6_count_78 : decode cX6_count 78 = .ok (.getfield 15, 3) := dk_180 0 15 (dk_at dksX6_count_3 8 rfl rfl)
theorem dX6_count_81 : decode cX6_count 81 = .ok (.bipush 100, 2) := dk_16 100 (dk_at dksX6_count_3 11 rfl rfl)
theorem dX6_count_83 : decode cX6_count 83 = .ok (.iaload, 1) := dk_46 (dk_at dksX6_count_3 13 rfl rfl)
theorem dX6_count_84 : decode cX6_count 84 = .ok (.ireturn, 1) := dk_172 (dk_at dksX6_count_3 14 rfl rfl)
theorem dX6_count_85 : decode cX6_count 85 = .ok (.aload_n 0, 1) := dk_42 (dk_at dksX6_count_3 15 rfl rfl)
theorem dX6_count_86 : decode cX6_count 86 = .ok (.getfield 15, 3) := dk_180 0 15 (dk_at dksX6_count_3 16 rfl rfl)
theorem dX6_count_89 : decode cX6_count 89 = .ok (.bipush 121, 2) := dk_16 121 (dk_at dksX6_count_3 19 rfl rfl)
theorem dX6_count_91 : decode cX6_count 91 = .ok (.iaload, 1) := dk_46 (dk_at dksX6_count_3 21 rfl rfl)
theorem dX6_count_92 : decode cX6_count 92 = .ok (.ireturn, 1) := dk_172 (dk_at dksX6_count_3 22 rfl rfl)
theorem dX6_count_93 : decode cX6_count 93 = .ok (.aload_n 0, 1) := dk_42 (dk_at dksX6_count_3 23 rfl rfl)
theorem dX6_count_94 : decode cX6_count 94 = .ok (.getfield 108, 3) := dk_180 0 108 (dk_at dksX6_count_4 0 rfl rfl)
theorem dX6_count_97 : decode cX6_count 97 = .ok (.ireturn, 1) := dk_172 (dk_at dksX6_count_4 3 rfl rfl)
theorem dX6_count_98 : decode cX6_count 98 = .ok (.aload_n 0, 1) := dk_42 (dk_at dksX6_count_4 4 rfl rfl)
theorem dX6_count_99 : decode cX6_count 99 = .ok (.getfield 253, 3) := dk_180 0 253 (dk_at dksX6_count_4 5 rfl rfl)
theorem dX6_count_102 : decode cX6_count 102 = .ok (.ireturn, 1) := dk_172 (dk_at dksX6_count_4 8 rfl rfl)
theorem dX6_count_103 : decode cX6_count 103 = .ok (.bipush (-2), 2) := dk_16 254 (dk_at dksX6_count_4 9 rfl rfl)
theorem dX6_count_105 : decode cX6_count 105 = .ok (.ireturn, 1) := dk_172 (dk_at dksX6_count_4 11 rfl rfl)
abbrev cX6_tape : ByteArray := prog_23_method_79_code
def yX6_tape : MethodName := ⟨RX6, "tape", "(III)I"⟩
def dkwX6_tape_3 : List UInt8 := [162, 0, 22, 42, 180, 0, 68, 16, 60, 27, 104, 21, 4, 96, 9, 80, 132, 4, 1, 167, 255, 233, 4, 172]
abbrev dktX6_tape_3 : List UInt8 := dkwX6_tape_3 ++ []
def dkwX6_tape_2 : List UInt8 := [28, 79, 42, 180, 0, 65, 27, 28, 156, 0, 7, 3, 167, 0, 4, 29, 79, 3, 54, 4, 21, 4, 16, 60]
abbrev dktX6_tape_2 : List UInt8 := dkwX6_tape_2 ++ dktX6_tape_3
def dkwX6_tape_1 : List UInt8 := [16, 60, 164, 0, 6, 16, 254, 172, 28, 155, 0, 10, 29, 156, 0, 6, 16, 242, 172, 42, 180, 0, 62, 27]
abbrev dktX6_tape_1 : List UInt8 := dkwX6_tape_1 ++ dktX6_tape_2
def dkwX6_tape_0 : List UInt8 := [27, 184, 1, 10, 154, 0, 5, 2, 172, 28, 2, 7, 184, 0, 79, 153, 0, 13, 28, 155, 0, 12, 29]
abbrev dktX6_tape_0 : List UInt8 := dkwX6_tape_0 ++ dktX6_tape_1
theorem dksX6_tape_0 : cX6_tape.data.toList.drop 0 = dktX6_tape_0 := by decide +kernel
theorem dksX6_tape_1 : cX6_tape.data.toList.drop 23 = dktX6_tape_1 := dk_seg dksX6_tape_0 23 rfl rfl
theorem dksX6_tape_2 : cX6_tape.data.toList.drop 47 = dktX6_tape_2 := dk_seg dksX6_tape_1 24 rfl rfl
theorem dksX6_tape_3 : cX6_tape.data.toList.drop 71 = dktX6_tape_3 := dk_seg dksX6_tape_2 24 rfl rfl
theorem dX6_tape_0 : decode cX6_tape 0 = .ok (.iload_n 1, 1) := dk_27 (dk_at dksX6_tape_0 0 rfl rfl)
theorem dX6_tape_1 : decode cX6_tape 1 = .ok (.invokestatic 266, 3) := dk_184 1 10 (dk_at dksX6_tape_0 1 rfl rfl)
theorem dX6_tape_4 : decode cX6_tape 4 = .ok (.ifCond .ne 5, 3) := dk_154 0 5 (dk_at dksX6_tape_0 4 rfl rfl)
theorem dX6_tape_7 : decode cX6_tape 7 = .ok (.iconst (-1), 1) := dk_2 (dk_at dksX6_tape_0 7 rfl rfl)
theorem dX6_tape_8 : decode cX6_tape 8 = .ok (.ireturn, 1) := dk_172 (dk_at dksX6_tape_0 8 rfl rfl)
theorem dX6_tape_9 : decode cX6_tape 9 = .ok (.iload_n 2, 1) := dk_28 (dk_at dksX6_tape_0 9 rfl rfl)
theorem dX6_tape_10 : decode cX6_tape 10 = .ok (.iconst (-1), 1) := dk_2 (dk_at dksX6_tape_0 10 rfl rfl)
theorem dX6_tape_11 : decode cX6_tape 11 = .ok (.iconst 4, 1) := dk_7 (dk_at dksX6_tape_0 11 rfl rfl)
theorem dX6_tape_12 : decode cX6_tape 12 = .ok (.invokestatic 79, 3) := dk_184 0 79 (dk_at dksX6_tape_0 12 rfl rfl)
theorem dX6_tape_15 : decode cX6_tape 15 = .ok (.ifCond .eq 13, 3) := dk_153 0 13 (dk_at dksX6_tape_0 15 rfl rfl)
theorem dX6_tape_18 : decode cX6_tape 18 = .ok (.iload_n 2, 1) := dk_28 (dk_at dksX6_tape_0 18 rfl rfl)
theorem dX6_tape_19 : decode cX6_tape 19 = .ok (.ifCond .lt 12, 3) := dk_155 0 12 (dk_at dksX6_tape_0 19 rfl rfl)
theorem dX6_tape_22 : decode cX6_tape 22 = .ok (.iload_n 3, 1) := dk_29 (dk_at dksX6_tape_0 22 rfl rfl)
theorem dX6_tape_23 : decode cX6_tape 23 = .ok (.bipush 60, 2) := dk_16 60 (dk_at dksX6_tape_1 0 rfl rfl)
theorem dX6_tape_25 : decode cX6_tape 25 = .ok (.if_icmp .le 6, 3) := dk_164 0 6 (dk_at dksX6_tape_1 2 rfl rfl)
theorem dX6_tape_28 : decode cX6_tape 28 = .ok (.bipush (-2), 2) := dk_16 254 (dk_at dksX6_tape_1 5 rfl rfl)
theorem dX6_tape_30 : decode cX6_tape 30 = .ok (.ireturn, 1) := dk_172 (dk_at dksX6_tape_1 7 rfl rfl)
theorem dX6_tape_31 : decode cX6_tape 31 = .ok (.iload_n 2, 1) := dk_28 (dk_at dksX6_tape_1 8 rfl rfl)
theorem dX6_tape_32 : decode cX6_tape 32 = .ok (.ifCond .lt 10, 3) := dk_155 0 10 (dk_at dksX6_tape_1 9 rfl rfl)
theorem dX6_tape_35 : decode cX6_tape 35 = .ok (.iload_n 3, 1) := dk_29 (dk_at dksX6_tape_1 12 rfl rfl)
theorem dX6_tape_36 : decode cX6_tape 36 = .ok (.ifCond .ge 6, 3) := dk_156 0 6 (dk_at dksX6_tape_1 13 rfl rfl)
theorem dX6_tape_39 : decode cX6_tape 39 = .ok (.bipush (-14), 2) := dk_16 242 (dk_at dksX6_tape_1 16 rfl rfl)
theorem dX6_tape_41 : decode cX6_tape 41 = .ok (.ireturn, 1) := dk_172 (dk_at dksX6_tape_1 18 rfl rfl)
theorem dX6_tape_42 : decode cX6_tape 42 = .ok (.aload_n 0, 1) := dk_42 (dk_at dksX6_tape_1 19 rfl rfl)
theorem dX6_tape_43 : decode cX6_tape 43 = .ok (.getfield 62, 3) := dk_180 0 62 (dk_at dksX6_tape_1 20 rfl rfl)
theorem dX6_tape_46 : decode cX6_tape 46 = .ok (.iload_n 1, 1) := dk_27 (dk_at dksX6_tape_1 23 rfl rfl)
theorem dX6_tape_47 : decode cX6_tape 47 = .ok (.iload_n 2, 1) := dk_28 (dk_at dksX6_tape_2 0 rfl rfl)
theorem dX6_tape_48 : decode cX6_tape 48 = .ok (.iastore, 1) := dk_79 (dk_at dksX6_tape_2 1 rfl rfl)
theorem dX6_tape_49 : decode cX6_tape 49 = .ok (.aload_n 0, 1) := dk_42 (dk_at dksX6_tape_2 2 rfl rfl)
theorem dX6_tape_50 : decode cX6_tape 50 = .ok (.getfield 65, 3) := dk_180 0 65 (dk_at dksX6_tape_2 3 rfl rfl)
theorem dX6_tape_53 : decode cX6_tape 53 = .ok (.iload_n 1, 1) := dk_27 (dk_at dksX6_tape_2 6 rfl rfl)
theorem dX6_tape_54 : decode cX6_tape 54 = .ok (.iload_n 2, 1) := dk_28 (dk_at dksX6_tape_2 7 rfl rfl)
theorem dX6_tape_55 : decode cX6_tape 55 = .ok (.ifCond .ge 7, 3) := dk_156 0 7 (dk_at dksX6_tape_2 8 rfl rfl)
theorem dX6_tape_58 : decode cX6_tape 58 = .ok (.iconst 0, 1) := dk_3 (dk_at dksX6_tape_2 11 rfl rfl)
theorem dX6_tape_59 : decode cX6_tape 59 = .ok (.goto 4, 3) := dk_167 0 4 (dk_at dksX6_tape_2 12 rfl rfl)
theorem dX6_tape_62 : decode cX6_tape 62 = .ok (.iload_n 3, 1) := dk_29 (dk_at dksX6_tape_2 15 rfl rfl)
theorem dX6_tape_63 : decode cX6_tape 63 = .ok (.iastore, 1) := dk_79 (dk_at dksX6_tape_2 16 rfl rfl)
theorem dX6_tape_64 : decode cX6_tape 64 = .ok (.iconst 0, 1) := dk_3 (dk_at dksX6_tape_2 17 rfl rfl)
theorem dX6_tape_65 : decode cX6_tape 65 = .ok (.istore 4, 2) := dk_54 4 (dk_at dksX6_tape_2 18 rfl rfl)
theorem dX6_tape_67 : decode cX6_tape 67 = .ok (.iload 4, 2) := dk_21 4 (dk_at dksX6_tape_2 20 rfl rfl)
theorem dX6_tape_69 : decode cX6_tape 69 = .ok (.bipush 60, 2) := dk_16 60 (dk_at dksX6_tape_2 22 rfl rfl)
theorem dX6_tape_71 : decode cX6_tape 71 = .ok (.if_icmp .ge 22, 3) := dk_162 0 22 (dk_at dksX6_tape_3 0 rfl rfl)
theorem dX6_tape_74 : decode cX6_tape 74 = .ok (.aload_n 0, 1) := dk_42 (dk_at dksX6_tape_3 3 rfl rfl)
theorem dX6_tape_75 : decode cX6_tape 75 = .ok (.getfield 68, 3) := dk_180 0 68 (dk_at dksX6_tape_3 4 rfl rfl)
theorem dX6_tape_78 : decode cX6_tape 78 = .ok (.bipush 60, 2) := dk_16 60 (dk_at dksX6_tape_3 7 rfl rfl)
theorem dX6_tape_80 : decode cX6_tape 80 = .ok (.iload_n 1, 1) := dk_27 (dk_at dksX6_tape_3 9 rfl rfl)
theorem dX6_tape_81 : decode cX6_tape 81 = .ok (.imul, 1) := dk_104 (dk_at dksX6_tape_3 10 rfl rfl)
theorem dX6_tape_82 : decode cX6_tape 82 = .ok (.iload 4, 2) := dk_21 4 (dk_at dksX6_tape_3 11 rfl rfl)
theorem dX6_tape_84 : decode cX6_tape 84 = .ok (.iadd, 1) := dk_96 (dk_at dksX6_tape_3 13 rfl rfl)
theorem dX6_tape_85 : decode cX6_tape 85 = .ok (.lconst 0, 1) := dk_9 (dk_at dksX6_tape_3 14 rfl rfl)
theorem dX6_tape_86 : decode cX6_tape 86 = .ok (.lastore, 1) := dk_80 (dk_at dksX6_tape_3 15 rfl rfl)
theorem dX6_tape_87 : decode cX6_tape 87 = .ok (.iinc 4 1, 3) := dk_132 4 1 (dk_at dksX6_tape_3 16 rfl rfl)
theorem dX6_tape_90 : decode cX6_tape 90 = .ok (.goto (-23), 3) := dk_167 255 233 (dk_at dksX6_tape_3 19 rfl rfl)
theorem dX6_tape_93 : decode cX6_tape 93 = .ok (.iconst 1, 1) := dk_4 (dk_at dksX6_tape_3 22 rfl rfl)
theorem dX6_tape_94 : decode cX6_tape 94 = .ok (.ireturn, 1) := dk_172 (dk_at dksX6_tape_3 23 rfl rfl)
abbrev cX6_isTape : ByteArray := prog_23_method_78_code
def yX6_isTape : MethodName := ⟨RX6, "isTape", "(I)Z"⟩
def dkwX6_isTape_0 : List UInt8 := [26, 3, 8, 184, 0, 79, 172]
abbrev dktX6_isTape_0 : List UInt8 := dkwX6_isTape_0 ++ []
theorem dksX6_isTape_0 : cX6_isTape.data.toList.drop 0 = dktX6_isTape_0 := by decide +kernel
theorem dX6_isTape_0 : decode cX6_isTape 0 = .ok (.iload_n 0, 1) := dk_26 (dk_at dksX6_isTape_0 0 rfl rfl)
theorem dX6_isTape_1 : decode cX6_isTape 1 = .ok (.iconst 0, 1) := dk_3 (dk_at dksX6_isTape_0 1 rfl rfl)
theorem dX6_isTape_2 : decode cX6_isTape 2 = .ok (.iconst 5, 1) := dk_8 (dk_at dksX6_isTape_0 2 rfl rfl)
theorem dX6_isTape_3 : decode cX6_isTape 3 = .ok (.invokestatic 79, 3) := dk_184 0 79 (dk_at dksX6_isTape_0 3 rfl rfl)
theorem dX6_isTape_6 : decode cX6_isTape 6 = .ok (.ireturn, 1) := dk_172 (dk_at dksX6_isTape_0 6 rfl rfl)
abbrev cX6_item : ByteArray := prog_23_method_80_code
def yX6_item : MethodName := ⟨RX6, "item", "(IIJ)I"⟩
def dkwX6_item_4 : List UInt8 := [21, 5, 6, 160, 0, 7, 33, 167, 0, 14, 33, 9, 148, 153, 0, 7, 10, 167, 0, 4, 9, 80, 4, 172]
abbrev dktX6_item_4 : List UInt8 := dkwX6_item_4 ++ []
def dkwX6_item_3 : List UInt8 := [4, 160, 0, 10, 33, 136, 147, 133, 167, 0, 36, 21, 5, 5, 160, 0, 9, 33, 136, 133, 167, 0, 24]
abbrev dktX6_item_3 : List UInt8 := dkwX6_item_3 ++ dktX6_item_4
def dkwX6_item_2 : List UInt8 := [42, 180, 0, 68, 16, 60, 27, 104, 28, 96, 21, 5, 154, 0, 10, 33, 136, 145, 133, 167, 0, 49, 21, 5]
abbrev dktX6_item_2 : List UInt8 := dkwX6_item_2 ++ dktX6_item_3
def dkwX6_item_1 : List UInt8 := [180, 0, 65, 27, 46, 4, 100, 184, 0, 79, 154, 0, 6, 16, 243, 172, 42, 180, 0, 62, 27, 46, 54, 5]
abbrev dktX6_item_1 : List UInt8 := dkwX6_item_1 ++ dktX6_item_2
def dkwX6_item_0 : List UInt8 := [27, 184, 1, 10, 154, 0, 5, 2, 172, 42, 180, 0, 62, 27, 46, 156, 0, 6, 16, 245, 172, 28, 3, 42]
abbrev dktX6_item_0 : List UInt8 := dkwX6_item_0 ++ dktX6_item_1
theorem dksX6_item_0 : cX6_item.data.toList.drop 0 = dktX6_item_0 := by decide +kernel
theorem dksX6_item_1 : cX6_item.data.toList.drop 24 = dktX6_item_1 := dk_seg dksX6_item_0 24 rfl rfl
theorem dksX6_item_2 : cX6_item.data.toList.drop 48 = dktX6_item_2 := dk_seg dksX6_item_1 24 rfl rfl
theorem dksX6_item_3 : cX6_item.data.toList.drop 72 = dktX6_item_3 := dk_seg dksX6_item_2 24 rfl rfl
theorem dksX6_item_4 : cX6_item.data.toList.drop 95 = dktX6_item_4 := dk_seg dksX6_item_3 23 rfl rfl
theorem dX6_item_0 : decode cX6_item 0 = .ok (.iload_n 1, 1) := dk_27 (dk_at dksX6_item_0 0 rfl rfl)
theorem dX6_item_1 : decode cX6_item 1 = .ok (.invokestatic 266, 3) := dk_184 1 10 (dk_at dksX6_item_0 1 rfl rfl)
theorem dX6_item_4 : decode cX6_item 4 = .ok (.ifCond .ne 5, 3) := dk_154 0 5 (dk_at dksX6_item_0 4 rfl rfl)
theorem dX6_item_7 : decode cX6_item 7 = .ok (.iconst (-1), 1) := dk_2 (dk_at dksX6_item_0 7 rfl rfl)
theorem dX6_item_8 : decode cX6_item 8 = .ok (.ireturn, 1) := dk_172 (dk_at dksX6_item_0 8 rfl rfl)
theorem dX6_item_9 : decode cX6_item 9 = .ok (.aload_n 0, 1) := dk_42 (dk_at dksX6_item_0 9 rfl rfl)
theorem dX6_item_10 : decode cX6_item 10 = .ok (.getfield 62, 3) := dk_180 0 62 (dk_at dksX6_item_0 10 rfl rfl)
theorem dX6_item_13 : decode cX6_item 13 = .ok (.iload_n 1, 1) := dk_27 (dk_at dksX6_item_0 13 rfl rfl)
theorem dX6_item_14 : decode cX6_item 14 = .ok (.iaload, 1) := dk_46 (dk_at dksX6_item_0 14 rfl rfl)
theorem dX6_item_15 : decode cX6_item 15 = .ok (.ifCond .ge 6, 3) := dk_156 0 6 (dk_at dksX6_item_0 15 rfl rfl)
theorem dX6_item_18 : decode cX6_item 18 = .ok (.bipush (-11), 2) := dk_16 245 (dk_at dksX6_item_0 18 rfl rfl)
theorem dX6_item_20 : decode cX6_item 20 = .ok (.ireturn, 1) := dk_172 (dk_at dksX6_item_0 20 rfl rfl)
theorem dX6_item_21 : decode cX6_item 21 = .ok (.iload_n 2, 1) := dk_28 (dk_at dksX6_item_0 21 rfl rfl)
theorem dX6_item_22 : decode cX6_item 22 = .ok (.iconst 0, 1) := dk_3 (dk_at dksX6_item_0 22 rfl rfl)
theorem dX6_item_23 : decode cX6_item 23 = .ok (.aload_n 0, 1) := dk_42 (dk_at dksX6_item_0 23 rfl rfl)
theorem dX6_item_24 : decode cX6_item 24 = .ok (.getfield 65, 3) := dk_180 0 65 (dk_at dksX6_item_1 0 rfl rfl)
theorem dX6_item_27 : decode cX6_item 27 = .ok (.iload_n 1, 1) := dk_27 (dk_at dksX6_item_1 3 rfl rfl)
theorem dX6_item_28 : decode cX6_item 28 = .ok (.iaload, 1) := dk_46 (dk_at dksX6_item_1 4 rfl rfl)
theorem dX6_item_29 : decode cX6_item 29 = .ok (.iconst 1, 1) := dk_4 (dk_at dksX6_item_1 5 rfl rfl)
theorem dX6_item_30 : decode cX6_item 30 = .ok (.isub, 1) := dk_100 (dk_at dksX6_item_1 6 rfl rfl)
theorem dX6_item_31 : decode cX6_item 31 = .ok (.invokestatic 79, 3) := dk_184 0 79 (dk_at dksX6_item_1 7 rfl rfl)
theorem dX6_item_34 : decode cX6_item 34 = .ok (.ifCond .ne 6, 3) := dk_154 0 6 (dk_at dksX6_item_1 10 rfl rfl)
theorem dX6_item_37 : decode cX6_item 37 = .ok (.bipush (-13), 2) := dk_16 243 (dk_at dksX6_item_1 13 rfl rfl)
theorem dX6_item_39 : decode cX6_item 39 = .ok (.ireturn, 1) := dk_172 (dk_at dksX6_item_1 15 rfl rfl)
theorem dX6_item_40 : decode cX6_item 40 = .ok (.aload_n 0, 1) := dk_42 (dk_at dksX6_item_1 16 rfl rfl)
theorem dX6_item_41 : decode cX6_item 41 = .ok (.getfield 62, 3) := dk_180 0 62 (dk_at dksX6_item_1 17 rfl rfl)
theorem dX6_item_44 : decode cX6_item 44 = .ok (.iload_n 1, 1) := dk_27 (dk_at dksX6_item_1 20 rfl rfl)
theorem dX6_item_45 : decode cX6_item 45 = .ok (.iaload, 1) := dk_46 (dk_at dksX6_item_1 21 rfl rfl)
theorem dX6_item_46 : decode cX6_item 46 = .ok (.istore 5, 2) := dk_54 5 (dk_at dksX6_item_1 22 rfl rfl)
theorem dX6_item_48 : decode cX6_item 48 = .ok (.aload_n 0, 1) := dk_42 (dk_at dksX6_item_2 0 rfl rfl)
theorem dX6_item_49 : decode cX6_item 49 = .ok (.getfield 68, 3) := dk_180 0 68 (dk_at dksX6_item_2 1 rfl rfl)
theorem dX6_item_52 : decode cX6_item 52 = .ok (.bipush 60, 2) := dk_16 60 (dk_at dksX6_item_2 4 rfl rfl)
theorem dX6_item_54 : decode cX6_item 54 = .ok (.iload_n 1, 1) := dk_27 (dk_at dksX6_item_2 6 rfl rfl)
theorem dX6_item_55 : decode cX6_item 55 = .ok (.imul, 1) := dk_104 (dk_at dksX6_item_2 7 rfl rfl)
theorem dX6_item_56 : decode cX6_item 56 = .ok (.iload_n 2, 1) := dk_28 (dk_at dksX6_item_2 8 rfl rfl)
theorem dX6_item_57 : decode cX6_item 57 = .ok (.iadd, 1) := dk_96 (dk_at dksX6_item_2 9 rfl rfl)
theorem dX6_item_58 : decode cX6_item 58 = .ok (.iload 5, 2) := dk_21 5 (dk_at dksX6_item_2 10 rfl rfl)
theorem dX6_item_60 : decode cX6_item 60 = .ok (.ifCond .ne 10, 3) := dk_154 0 10 (dk_at dksX6_item_2 12 rfl rfl)
theorem dX6_item_63 : decode cX6_item 63 = .ok (.lload_n 3, 1) := dk_33 (dk_at dksX6_item_2 15 rfl rfl)
theorem dX6_item_64 : decode cX6_item 64 = .ok (.l2i, 1) := dk_136 (dk_at dksX6_item_2 16 rfl rfl)
theorem dX6_item_65 : decode cX6_item 65 = .ok (.i2b, 1) := dk_145 (dk_at dksX6_item_2 17 rfl rfl)
theorem dX6_item_66 : decode cX6_item 66 = .ok (.i2l, 1) := dk_133 (dk_at dksX6_item_2 18 rfl rfl)
theorem dX6_item_67 : decode cX6_item 67 = .ok (.goto 49, 3) := dk_167 0 49 (dk_at dksX6_item_2 19 rfl rfl)
theorem dX6_item_70 : decode cX6_item 70 = .ok (.iload 5, 2) := dk_21 5 (dk_at dksX6_item_2 22 rfl rfl)
theorem dX6_item_72 : decode cX6_item 72 = .ok (.iconst 1, 1) := dk_4 (dk_at dksX6_item_3 0 rfl rfl)
theorem dX6_item_73 : decode cX6_item 73 = .ok (.if_icmp .ne 10, 3) := dk_160 0 10 (dk_at dksX6_item_3 1 rfl rfl)
theorem dX6_item_76 : decode cX6_item 76 = .ok (.lload_n 3, 1) := dk_33 (dk_at dksX6_item_3 4 rfl rfl)
theorem dX6_item_77 : decode cX6_item 77 = .ok (.l2i, 1) := dk_136 (dk_at dksX6_item_3 5 rfl rfl)
theorem dX6_item_78 : decode cX6_item 78 = .ok (.i2s, 1) := dk_147 (dk_at dksX6_item_3 6 rfl rfl)
theorem dX6_item_79 : decode cX6_item 79 = .ok (.i2l, 1) := dk_133 (dk_at dksX6_item_3 7 rfl rfl)
theorem dX6_item_80 : decode cX6_item 80 = .ok (.goto 36, 3) := dk_167 0 36 (dk_at dksX6_item_3 8 rfl rfl)
theorem dX6_item_83 : decode cX6_item 83 = .ok (.iload 5, 2) := dk_21 5 (dk_at dksX6_item_3 11 rfl rfl)
theorem dX6_item_85 : decode cX6_item 85 = .ok (.iconst 2, 1) := dk_5 (dk_at dksX6_item_3 13 rfl rfl)
theorem dX6_item_86 : decode cX6_item 86 = .ok (.if_icmp .ne 9, 3) := dk_160 0 9 (dk_at dksX6_item_3 14 rfl rfl)
theorem dX6_item_89 : decode cX6_item 89 = .ok (.lload_n 3, 1) := dk_33 (dk_at dksX6_item_3 17 rfl rfl)
theorem dX6_item_90 : decode cX6_item 90 = .ok (.l2i, 1) := dk_136 (dk_at dksX6_item_3 18 rfl rfl)
theorem dX6_item_91 : decode cX6_item 91 = .ok (.i2l, 1) := dk_133 (dk_at dksX6_item_3 19 rfl rfl)
theorem dX6_item_92 : decode cX6_item 92 = .ok (.goto 24, 3) := dk_167 0 24 (dk_at dksX6_item_3 20 rfl rfl)
theorem dX6_item_95 : decode cX6_item 95 = .ok (.iload 5, 2) := dk_21 5 (dk_at dksX6_item_4 0 rfl rfl)
theorem dX6_item_97 : decode cX6_item 97 = .ok (.iconst 3, 1) := dk_6 (dk_at dksX6_item_4 2 rfl rfl)
theorem dX6_item_98 : decode cX6_item 98 = .ok (.if_icmp .ne 7, 3) := dk_160 0 7 (dk_at dksX6_item_4 3 rfl rfl)
theorem dX6_item_101 : decode cX6_item 101 = .ok (.lload_n 3, 1) := dk_33 (dk_at dksX6_item_4 6 rfl rfl)
theorem dX6_item_102 : decode cX6_item 102 = .ok (.goto 14, 3) := dk_167 0 14 (dk_at dksX6_item_4 7 rfl rfl)
theorem dX6_item_105 : decode cX6_item 105 = .ok (.lload_n 3, 1) := dk_33 (dk_at dksX6_item_4 10 rfl rfl)
theorem dX6_item_106 : decode cX6_item 106 = .ok (.lconst 0, 1) := dk_9 (dk_at dksX6_item_4 11 rfl rfl)
theorem dX6_item_107 : decode cX6_item 107 = .ok (.lcmp, 1) := dk_148 (dk_at dksX6_item_4 12 rfl rfl)
theorem dX6_item_108 : decode cX6_item 108 = .ok (.ifCond .eq 7, 3) := dk_153 0 7 (dk_at dksX6_item_4 13 rfl rfl)
theorem dX6_item_111 : decode cX6_item 111 = .ok (.lconst 1, 1) := dk_10 (dk_at dksX6_item_4 16 rfl rfl)
theorem dX6_item_112 : decode cX6_item 112 = .ok (.goto 4, 3) := dk_167 0 4 (dk_at dksX6_item_4 17 rfl rfl)
theorem dX6_item_115 : decode cX6_item 115 = .ok (.lconst 0, 1) := dk_9 (dk_at dksX6_item_4 20 rfl rfl)
theorem dX6_item_116 : decode cX6_item 116 = .ok (.lastore, 1) := dk_80 (dk_at dksX6_item_4 21 rfl rfl)
theorem dX6_item_117 : decode cX6_item 117 = .ok (.iconst 1, 1) := dk_4 (dk_at dksX6_item_4 22 rfl rfl)
theorem dX6_item_118 : decode cX6_item 118 = .ok (.ireturn, 1) := dk_172 (dk_at dksX6_item_4 23 rfl rfl)
abbrev cX6_read : ByteArray := prog_23_method_81_code
def yX6_read : MethodName := ⟨RX6, "read", "(II)J"⟩
def dkwX6_read_1 : List UInt8 := [180, 0, 68, 16, 60, 27, 104, 28, 96, 47, 167, 0, 6, 20, 0, 242, 173]
abbrev dktX6_read_1 : List UInt8 := dkwX6_read_1 ++ []
def dkwX6_read_0 : List UInt8 := [27, 184, 1, 10, 153, 0, 33, 28, 3, 42, 180, 0, 65, 27, 46, 4, 100, 184, 0, 79, 153, 0, 17, 42]
abbrev dktX6_read_0 : List UInt8 := dkwX6_read_0 ++ dktX6_read_1
theorem dksX6_read_0 : cX6_read.data.toList.drop 0 = dktX6_read_0 := by decide +kernel
theorem dksX6_read_1 : cX6_read.data.toList.drop 24 = dktX6_read_1 := dk_seg dksX6_read_0 24 rfl rfl
theorem dX6_read_0 : decode cX6_read 0 = .ok (.iload_n 1, 1) := dk_27 (dk_at dksX6_read_0 0 rfl rfl)
theorem dX6_read_1 : decode cX6_read 1 = .ok (.invokestatic 266, 3) := dk_184 1 10 (dk_at dksX6_read_0 1 rfl rfl)
theorem dX6_read_4 : decode cX6_read 4 = .ok (.ifCond .eq 33, 3) := dk_153 0 33 (dk_at dksX6_read_0 4 rfl rfl)
theorem dX6_read_7 : decode cX6_read 7 = .ok (.iload_n 2, 1) := dk_28 (dk_at dksX6_read_0 7 rfl rfl)
theorem dX6_read_8 : decode cX6_read 8 = .ok (.iconst 0, 1) := dk_3 (dk_at dksX6_read_0 8 rfl rfl)
theorem dX6_read_9 : decode cX6_read 9 = .ok (.aload_n 0, 1) := dk_42 (dk_at dksX6_read_0 9 rfl rfl)
theorem dX6_read_10 : decode cX6_read 10 = .ok (.getfield 65, 3) := dk_180 0 65 (dk_at dksX6_read_0 10 rfl rfl)
theorem dX6_read_13 : decode cX6_read 13 = .ok (.iload_n 1, 1) := dk_27 (dk_at dksX6_read_0 13 rfl rfl)
theorem dX6_read_14 : decode cX6_read 14 = .ok (.iaload, 1) := dk_46 (dk_at dksX6_read_0 14 rfl rfl)
theorem dX6_read_15 : decode cX6_read 15 = .ok (.iconst 1, 1) := dk_4 (dk_at dksX6_read_0 15 rfl rfl)
theorem dX6_read_16 : decode cX6_read 16 = .ok (.isub, 1) := dk_100 (dk_at dksX6_read_0 16 rfl rfl)
theorem dX6_read_17 : decode cX6_read 17 = .ok (.invokestatic 79, 3) := dk_184 0 79 (dk_at dksX6_read_0 17 rfl rfl)
theorem dX6_read_20 : decode cX6_read 20 = .ok (.ifCond .eq 17, 3) := dk_153 0 17 (dk_at dksX6_read_0 20 rfl rfl)
theorem dX6_read_23 : decode cX6_read 23 = .ok (.aload_n 0, 1) := dk_42 (dk_at dksX6_read_0 23 rfl rfl)
theorem dX6_read_24 : decode cX6_read 24 = .ok (.getfield 68, 3) := dk_180 0 68 (dk_at dksX6_read_1 0 rfl rfl)
theorem dX6_read_27 : decode cX6_read 27 = .ok (.bipush 60, 2) := dk_16 60 (dk_at dksX6_read_1 3 rfl rfl)
theorem dX6_read_29 : decode cX6_read 29 = .ok (.iload_n 1, 1) := dk_27 (dk_at dksX6_read_1 5 rfl rfl)
theorem dX6_read_30 : decode cX6_read 30 = .ok (.imul, 1) := dk_104 (dk_at dksX6_read_1 6 rfl rfl)
theorem dX6_read_31 : decode cX6_read 31 = .ok (.iload_n 2, 1) := dk_28 (dk_at dksX6_read_1 7 rfl rfl)
theorem dX6_read_32 : decode cX6_read 32 = .ok (.iadd, 1) := dk_96 (dk_at dksX6_read_1 8 rfl rfl)
theorem dX6_read_33 : decode cX6_read 33 = .ok (.laload, 1) := dk_47 (dk_at dksX6_read_1 9 rfl rfl)
theorem dX6_read_34 : decode cX6_read 34 = .ok (.goto 6, 3) := dk_167 0 6 (dk_at dksX6_read_1 10 rfl rfl)
theorem dX6_read_37 : decode cX6_read 37 = .ok (.ldc2_w 242, 3) := dk_20 0 242 (dk_at dksX6_read_1 13 rfl rfl)
theorem dX6_read_40 : decode cX6_read 40 = .ok (.lreturn, 1) := dk_173 (dk_at dksX6_read_1 16 rfl rfl)
abbrev cX6_shift : ByteArray := prog_23_method_82_code
def yX6_shift : MethodName := ⟨RX6, "shift", "(IIIII)I"⟩
def dkwX6_shift_7 : List UInt8 := [180, 0, 72, 21, 6, 47, 80, 132, 6, 1, 167, 255, 224, 21, 5, 172]
abbrev dktX6_shift_7 : List UInt8 := dkwX6_shift_7 ++ []
def dkwX6_shift_6 : List UInt8 := [54, 6, 21, 6, 21, 5, 162, 0, 31, 42, 180, 0, 68, 16, 60, 29, 104, 21, 4, 96, 21, 6, 96, 42]
abbrev dktX6_shift_6 : List UInt8 := dkwX6_shift_6 ++ dktX6_shift_7
def dkwX6_shift_5 : List UInt8 := [21, 6, 42, 180, 0, 68, 16, 60, 27, 104, 28, 96, 21, 6, 96, 47, 80, 132, 6, 1, 167, 255, 225, 3]
abbrev dktX6_shift_5 : List UInt8 := dkwX6_shift_5 ++ dktX6_shift_6
def dkwX6_shift_4 : List UInt8 := [21, 4, 100, 164, 0, 6, 16, 243, 172, 3, 54, 6, 21, 6, 21, 5, 162, 0, 30, 42, 180, 0, 72]
abbrev dktX6_shift_4 : List UInt8 := dkwX6_shift_4 ++ dktX6_shift_5
def dkwX6_shift_3 : List UInt8 := [155, 0, 30, 21, 5, 42, 180, 0, 65, 27, 46, 28, 100, 163, 0, 17, 21, 5, 42, 180, 0, 65, 29, 46]
abbrev dktX6_shift_3 : List UInt8 := dkwX6_shift_3 ++ dktX6_shift_4
def dkwX6_shift_2 : List UInt8 := [180, 0, 62, 29, 46, 159, 0, 6, 16, 244, 172, 21, 5, 155, 0, 39, 28, 155, 0, 35, 21, 4]
abbrev dktX6_shift_2 : List UInt8 := dkwX6_shift_2 ++ dktX6_shift_3
def dkwX6_shift_1 : List UInt8 := [155, 0, 12, 42, 180, 0, 62, 29, 46, 156, 0, 6, 16, 245, 172, 42, 180, 0, 62, 27, 46, 42]
abbrev dktX6_shift_1 : List UInt8 := dkwX6_shift_1 ++ dktX6_shift_2
def dkwX6_shift_0 : List UInt8 := [27, 184, 1, 10, 153, 0, 10, 29, 184, 1, 10, 154, 0, 5, 2, 172, 42, 180, 0, 62, 27, 46]
abbrev dktX6_shift_0 : List UInt8 := dkwX6_shift_0 ++ dktX6_shift_1
theorem dksX6_shift_0 : cX6_shift.data.toList.drop 0 = dktX6_shift_0 := by decide +kernel
theorem dksX6_shift_1 : cX6_shift.data.toList.drop 22 = dktX6_shift_1 := dk_seg dksX6_shift_0 22 rfl rfl
theorem dksX6_shift_2 : cX6_shift.data.toList.drop 44 = dktX6_shift_2 := dk_seg dksX6_shift_1 22 rfl rfl
theorem dksX6_shift_3 : cX6_shift.data.toList.drop 66 = dktX6_shift_3 := dk_seg dksX6_shift_2 22 rfl rfl
theorem dksX6_shift_4 : cX6_shift.data.toList.drop 90 = dktX6_shift_4 := dk_seg dksX6_shift_3 24 rfl rfl
theorem dksX6_shift_5 : cX6_shift.data.toList.drop 113 = dktX6_shift_5 := dk_seg dksX6_shift_4 23 rfl rfl
theorem dksX6_shift_6 : cX6_shift.data.toList.drop 137 = dktX6_shift_6 := dk_seg dksX6_shift_5 24 rfl rfl
theorem dksX6_shift_7 : cX6_shift.data.toList.drop 161 = dktX6_shift_7 := dk_seg dksX6_shift_6 24 rfl rfl
theorem dX6_shift_0 : decode cX6_shift 0 = .ok (.iload_n 1, 1) := dk_27 (dk_at dksX6_shift_0 0 rfl rfl)
theorem dX6_shift_1 : decode cX6_shift 1 = .ok (.invokestatic 266, 3) := dk_184 1 10 (dk_at dksX6_shift_0 1 rfl rfl)
theorem dX6_shift_4 : decode cX6_shift 4 = .ok (.ifCond .eq 10, 3) := dk_153 0 10 (dk_at dksX6_shift_0 4 rfl rfl)
theorem dX6_shift_7 : decode cX6_shift 7 = .ok (.iload_n 3, 1) := dk_29 (dk_at dksX6_shift_0 7 rfl rfl)
theorem dX6_shift_8 : decode cX6_shift 8 = .ok (.invokestatic 266, 3) := dk_184 1 10 (dk_at dksX6_shift_0 8 rfl rfl)
theorem dX6_shift_11 : decode cX6_shift 11 = .ok (.ifCond .ne 5, 3) := dk_154 0 5 (dk_at dksX6_shift_0 11 rfl rfl)
theorem dX6_shift_14 : decode cX6_shift 14 = .ok (.iconst (-1), 1) := dk_2 (dk_at dksX6_shift_0 14 rfl rfl)
theorem dX6_shift_15 : decode cX6_shift 15 = .ok (.ireturn, 1) := dk_172 (dk_at dksX6_shift_0 15 rfl rfl)
theorem dX6_shift_16 : decode cX6_shift 16 = .ok (.aload_n 0, 1) := dk_42 (dk_at dksX6_shift_0 16 rfl rfl)
theorem dX6_shift_17 : decode cX6_shift 17 = .ok (.getfield 62, 3) := dk_180 0 62 (dk_at dksX6_shift_0 17 rfl rfl)
theorem dX6_shift_20 : decode cX6_shift 20 = .ok (.iload_n 1, 1) := dk_27 (dk_at dksX6_shift_0 20 rfl rfl)
theorem dX6_shift_21 : decode cX6_shift 21 = .ok (.iaload, 1) := dk_46 (dk_at dksX6_shift_0 21 rfl rfl)
theorem dX6_shift_22 : decode cX6_shift 22 = .ok (.ifCond .lt 12, 3) := dk_155 0 12 (dk_at dksX6_shift_1 0 rfl rfl)
theorem dX6_shift_25 : decode cX6_shift 25 = .ok (.aload_n 0, 1) := dk_42 (dk_at dksX6_shift_1 3 rfl rfl)
theorem dX6_shift_26 : decode cX6_shift 26 = .ok (.getfield 62, 3) := dk_180 0 62 (dk_at dksX6_shift_1 4 rfl rfl)
theorem dX6_shift_29 : decode cX6_shift 29 = .ok (.iload_n 3, 1) := dk_29 (dk_at dksX6_shift_1 7 rfl rfl)
theorem dX6_shift_30 : decode cX6_shift 30 = .ok (.iaload, 1) := dk_46 (dk_at dksX6_shift_1 8 rfl rfl)
theorem dX6_shift_31 : decode cX6_shift 31 = .ok (.ifCond .ge 6, 3) := dk_156 0 6 (dk_at dksX6_shift_1 9 rfl rfl)
theorem dX6_shift_34 : decode cX6_shift 34 = .ok (.bipush (-11), 2) := dk_16 245 (dk_at dksX6_shift_1 12 rfl rfl)
theorem dX6_shift_36 : decode cX6_shift 36 = .ok (.ireturn, 1) := dk_172 (dk_at dksX6_shift_1 14 rfl rfl)
theorem dX6_shift_37 : decode cX6_shift 37 = .ok (.aload_n 0, 1) := dk_42 (dk_at dksX6_shift_1 15 rfl rfl)
theorem dX6_shift_38 : decode cX6_shift 38 = .ok (.getfield 62, 3) := dk_180 0 62 (dk_at dksX6_shift_1 16 rfl rfl)
theorem dX6_shift_41 : decode cX6_shift 41 = .ok (.iload_n 1, 1) := dk_27 (dk_at dksX6_shift_1 19 rfl rfl)
theorem dX6_shift_42 : decode cX6_shift 42 = .ok (.iaload, 1) := dk_46 (dk_at dksX6_shift_1 20 rfl rfl)
theorem dX6_shift_43 : decode cX6_shift 43 = .ok (.aload_n 0, 1) := dk_42 (dk_at dksX6_shift_1 21 rfl rfl)
theorem dX6_shift_44 : decode cX6_shift 44 = .ok (.getfield 62, 3) := dk_180 0 62 (dk_at dksX6_shift_2 0 rfl rfl)
theorem dX6_shift_47 : decode cX6_shift 47 = .ok (.iload_n 3, 1) := dk_29 (dk_at dksX6_shift_2 3 rfl rfl)
theorem dX6_shift_48 : decode cX6_shift 48 = .ok (.iaload, 1) := dk_46 (dk_at dksX6_shift_2 4 rfl rfl)
theorem dX6_shift_49 : decode cX6_shift 49 = .ok (.if_icmp .eq 6, 3) := dk_159 0 6 (dk_at dksX6_shift_2 5 rfl rfl)
theorem dX6_shift_52 : decode cX6_shift 52 = .ok (.bipush (-12), 2) := dk_16 244 (dk_at dksX6_shift_2 8 rfl rfl)
theorem dX6_shift_54 : decode cX6_shift 54 = .ok (.ireturn, 1) := dk_172 (dk_at dksX6_shift_2 10 rfl rfl)
theorem dX6_shift_55 : decode cX6_shift 55 = .ok (.iload 5, 2) := dk_21 5 (dk_at dksX6_shift_2 11 rfl rfl)
theorem dX6_shift_57 : decode cX6_shift 57 = .ok (.ifCond .lt 39, 3) := dk_155 0 39 (dk_at dksX6_shift_2 13 rfl rfl)
theorem dX6_shift_60 : decode cX6_shift 60 = .ok (.iload_n 2, 1) := dk_28 (dk_at dksX6_shift_2 16 rfl rfl)
theorem dX6_shift_61 : decode cX6_shift 61 = .ok (.ifCond .lt 35, 3) := dk_155 0 35 (dk_at dksX6_shift_2 17 rfl rfl)
theorem dX6_shift_64 : decode cX6_shift 64 = .ok (.iload 4, 2) := dk_21 4 (dk_at dksX6_shift_2 20 rfl rfl)
theorem dX6_shift_66 : decode cX6_shift 66 = .ok (.ifCond .lt 30, 3) := dk_155 0 30 (dk_at dksX6_shift_3 0 rfl rfl)
theorem dX6_shift_69 : decode cX6_shift 69 = .ok (.iload 5, 2) := dk_21 5 (dk_at dksX6_shift_3 3 rfl rfl)
theorem dX6_shift_71 : decode cX6_shift 71 = .ok (.aload_n 0, 1) := dk_42 (dk_at dksX6_shift_3 5 rfl rfl)
theorem dX6_shift_72 : decode cX6_shift 72 = .ok (.getfield 65, 3) := dk_180 0 65 (dk_at dksX6_shift_3 6 rfl rfl)
theorem dX6_shift_75 : decode cX6_shift 75 = .ok (.iload_n 1, 1) := dk_27 (dk_at dksX6_shift_3 9 rfl rfl)
theorem dX6_shift_76 : decode cX6_shift 76 = .ok (.iaload, 1) := dk_46 (dk_at dksX6_shift_3 10 rfl rfl)
theorem dX6_shift_77 : decode cX6_shift 77 = .ok (.iload_n 2, 1) := dk_28 (dk_at dksX6_shift_3 11 rfl rfl)
theorem dX6_shift_78 : decode cX6_shift 78 = .ok (.isub, 1) := dk_100 (dk_at dksX6_shift_3 12 rfl rfl)
theorem dX6_shift_79 : decode cX6_shift 79 = .ok (.if_icmp .gt 17, 3) := dk_163 0 17 (dk_at dksX6_shift_3 13 rfl rfl)
theorem dX6_shift_82 : decode cX6_shift 82 = .ok (.iload 5, 2) := dk_21 5 (dk_at dksX6_shift_3 16 rfl rfl)
theorem dX6_shift_84 : decode cX6_shift 84 = .ok (.aload_n 0, 1) := dk_42 (dk_at dksX6_shift_3 18 rfl rfl)
theorem dX6_shift_85 : decode cX6_shift 85 = .ok (.getfield 65, 3) := dk_180 0 65 (dk_at dksX6_shift_3 19 rfl rfl)
theorem dX6_shift_88 : decode cX6_shift 88 = .ok (.iload_n 3, 1) := dk_29 (dk_at dksX6_shift_3 22 rfl rfl)
theorem dX6_shift_89 : decode cX6_shift 89 = .ok (.iaload, 1) := dk_46 (dk_at dksX6_shift_3 23 rfl rfl)
theorem dX6_shift_90 : decode cX6_shift 90 = .ok (.iload 4, 2) := dk_21 4 (dk_at dksX6_shift_4 0 rfl rfl)
theorem dX6_shift_92 : decode cX6_shift 92 = .ok (.isub, 1) := dk_100 (dk_at dksX6_shift_4 2 rfl rfl)
theorem dX6_shift_93 : decode cX6_shift 93 = .ok (.if_icmp .le 6, 3) := dk_164 0 6 (dk_at dksX6_shift_4 3 rfl rfl)
theorem dX6_shift_96 : decode cX6_shift 96 = .ok (.bipush (-13), 2) := dk_16 243 (dk_at dksX6_shift_4 6 rfl rfl)
theorem dX6_shift_98 : decode cX6_shift 98 = .ok (.ireturn, 1) := dk_172 (dk_at dksX6_shift_4 8 rfl rfl)
theorem dX6_shift_99 : decode cX6_shift 99 = .ok (.iconst 0, 1) := dk_3 (dk_at dksX6_shift_4 9 rfl rfl)
theorem dX6_shift_100 : decode cX6_shift 100 = .ok (.istore 6, 2) := dk_54 6 (dk_at dksX6_shift_4 10 rfl rfl)
theorem dX6_shift_102 : decode cX6_shift 102 = .ok (.iload 6, 2) := dk_21 6 (dk_at dksX6_shift_4 12 rfl rfl)
theorem dX6_shift_104 : decode cX6_shift 104 = .ok (.iload 5, 2) := dk_21 5 (dk_at dksX6_shift_4 14 rfl rfl)
theorem dX6_shift_106 : decode cX6_shift 106 = .ok (.if_icmp .ge 30, 3) := dk_162 0 30 (dk_at dksX6_shift_4 16 rfl rfl)
theorem dX6_shift_109 : decode cX6_shift 109 = .ok (.aload_n 0, 1) := dk_42 (dk_at dksX6_shift_4 19 rfl rfl)
theorem dX6_shift_110 : decode cX6_shift 110 = .ok (.getfield 72, 3) := dk_180 0 72 (dk_at dksX6_shift_4 20 rfl rfl)
theorem dX6_shift_113 : decode cX6_shift 113 = .ok (.iload 6, 2) := dk_21 6 (dk_at dksX6_shift_5 0 rfl rfl)
theorem dX6_shift_115 : decode cX6_shift 115 = .ok (.aload_n 0, 1) := dk_42 (dk_at dksX6_shift_5 2 rfl rfl)
theorem dX6_shift_116 : decode cX6_shift 116 = .ok (.getfield 68, 3) := dk_180 0 68 (dk_at dksX6_shift_5 3 rfl rfl)
theorem dX6_shift_119 : decode cX6_shift 119 = .ok (.bipush 60, 2) := dk_16 60 (dk_at dksX6_shift_5 6 rfl rfl)
theorem dX6_shift_121 : decode cX6_shift 121 = .ok (.iload_n 1, 1) := dk_27 (dk_at dksX6_shift_5 8 rfl rfl)
theorem dX6_shift_122 : decode cX6_shift 122 = .ok (.imul, 1) := dk_104 (dk_at dksX6_shift_5 9 rfl rfl)
theorem dX6_shift_123 : decode cX6_shift 123 = .ok (.iload_n 2, 1) := dk_28 (dk_at dksX6_shift_5 10 rfl rfl)
theorem dX6_shift_124 : decode cX6_shift 124 = .ok (.iadd, 1) := dk_96 (dk_at dksX6_shift_5 11 rfl rfl)
theorem dX6_shift_125 : decode cX6_shift 125 = .ok (.iload 6, 2) := dk_21 6 (dk_at dksX6_shift_5 12 rfl rfl)
theorem dX6_shift_127 : decode cX6_shift 127 = .ok (.iadd, 1) := dk_96 (dk_at dksX6_shift_5 14 rfl rfl)
theorem dX6_shift_128 : decode cX6_shift 128 = .ok (.laload, 1) := dk_47 (dk_at dksX6_shift_5 15 rfl rfl)
theorem dX6_shift_129 : decode cX6_shift 129 = .ok (.lastore, 1) := dk_80 (dk_at dksX6_shift_5 16 rfl rfl)
theorem dX6_shift_130 : decode cX6_shift 130 = .ok (.iinc 6 1, 3) := dk_132 6 1 (dk_at dksX6_shift_5 17 rfl rfl)
theorem dX6_shift_133 : decode cX6_shift 133 = .ok (.goto (-31), 3) := dk_167 255 225 (dk_at dksX6_shift_5 20 rfl rfl)
theorem dX6_shift_136 : decode cX6_shift 136 = .ok (.iconst 0, 1) := dk_3 (dk_at dksX6_shift_5 23 rfl rfl)
theorem dX6_shift_137 : decode cX6_shift 137 = .ok (.istore 6, 2) := dk_54 6 (dk_at dksX6_shift_6 0 rfl rfl)
theorem dX6_shift_139 : decode cX6_shift 139 = .ok (.iload 6, 2) := dk_21 6 (dk_at dksX6_shift_6 2 rfl rfl)
theorem dX6_shift_141 : decode cX6_shift 141 = .ok (.iload 5, 2) := dk_21 5 (dk_at dksX6_shift_6 4 rfl rfl)
theorem dX6_shift_143 : decode cX6_shift 143 = .ok (.if_icmp .ge 31, 3) := dk_162 0 31 (dk_at dksX6_shift_6 6 rfl rfl)
theorem dX6_shift_146 : decode cX6_shift 146 = .ok (.aload_n 0, 1) := dk_42 (dk_at dksX6_shift_6 9 rfl rfl)
theorem dX6_shift_147 : decode cX6_shift 147 = .ok (.getfield 68, 3) := dk_180 0 68 (dk_at dksX6_shift_6 10 rfl rfl)
theorem dX6_shift_150 : decode cX6_shift 150 = .ok (.bipush 60, 2) := dk_16 60 (dk_at dksX6_shift_6 13 rfl rfl)
theorem dX6_shift_152 : decode cX6_shift 152 = .ok (.iload_n 3, 1) := dk_29 (dk_at dksX6_shift_6 15 rfl rfl)
theorem dX6_shift_153 : decode cX6_shift 153 = .ok (.imul, 1) := dk_104 (dk_at dksX6_shift_6 16 rfl rfl)
theorem dX6_shift_154 : decode cX6_shift 154 = .ok (.iload 4, 2) := dk_21 4 (dk_at dksX6_shift_6 17 rfl rfl)
theorem dX6_shift_156 : decode cX6_shift 156 = .ok (.iadd, 1) := dk_96 (dk_at dksX6_shift_6 19 rfl rfl)
theorem dX6_shift_157 : decode cX6_shift 157 = .ok (.iload 6, 2) := dk_21 6 (dk_at dksX6_shift_6 20 rfl rfl)
theorem dX6_shift_159 : decode cX6_shift 159 = .ok (.iadd, 1) := dk_96 (dk_at dksX6_shift_6 22 rfl rfl)
theorem dX6_shift_160 : decode cX6_shift 160 = .ok (.aload_n 0, 1) := dk_42 (dk_at dksX6_shift_6 23 rfl rfl)
theorem dX6_shift_161 : decode cX6_shift 161 = .ok (.getfield 72, 3) := dk_180 0 72 (dk_at dksX6_shift_7 0 rfl rfl)
theorem dX6_shift_164 : decode cX6_shift 164 = .ok (.iload 6, 2) := dk_21 6 (dk_at dksX6_shift_7 3 rfl rfl)
theorem dX6_shift_166 : decode cX6_shift 166 = .ok (.laload, 1) := dk_47 (dk_at dksX6_shift_7 5 rfl rfl)
theorem dX6_shift_167 : decode cX6_shift 167 = .ok (.lastore, 1) := dk_80 (dk_at dksX6_shift_7 6 rfl rfl)
theorem dX6_shift_168 : decode cX6_shift 168 = .ok (.iinc 6 1, 3) := dk_132 6 1 (dk_at dksX6_shift_7 7 rfl rfl)
theorem dX6_shift_171 : decode cX6_shift 171 = .ok (.goto (-32), 3) := dk_167 255 224 (dk_at dksX6_shift_7 10 rfl rfl)
theorem dX6_shift_174 : decode cX6_shift 174 = .ok (.iload 5, 2) := dk_21 5 (dk_at dksX6_shift_7 13 rfl rfl)
theorem dX6_shift_176 : decode cX6_shift 176 = .ok (.ireturn, 1) := dk_172 (dk_at dksX6_shift_7 15 rfl rfl)
abbrev cX6_judge : ByteArray := prog_23_method_83_code
def yX6_judge : MethodName := ⟨RX6, "judge", "(II)I"⟩
def dkwX6_judge_3 : List UInt8 := [180, 0, 15, 29, 46, 133, 148, 153, 0, 5, 29, 172, 132, 3, 1, 167, 255, 192, 16, 251, 172]
abbrev dktX6_judge_3 : List UInt8 := dkwX6_judge_3 ++ []
def dkwX6_judge_2 : List UInt8 := [133, 148, 155, 0, 8, 16, 100, 29, 96, 172, 42, 180, 0, 68, 16, 60, 27, 104, 22, 4, 136, 96, 47, 42]
abbrev dktX6_judge_2 : List UInt8 := dkwX6_judge_2 ++ dktX6_judge_3
def dkwX6_judge_1 : List UInt8 := [16, 8, 162, 0, 64, 28, 133, 29, 133, 97, 55, 4, 28, 155, 0, 16, 22, 4, 42, 180, 0, 65, 27, 46]
abbrev dktX6_judge_1 : List UInt8 := dkwX6_judge_1 ++ dktX6_judge_2
def dkwX6_judge_0 : List UInt8 := [27, 184, 1, 10, 154, 0, 5, 2, 172, 42, 180, 0, 62, 27, 46, 158, 0, 6, 16, 244, 172, 3, 62, 29]
abbrev dktX6_judge_0 : List UInt8 := dkwX6_judge_0 ++ dktX6_judge_1
theorem dksX6_judge_0 : cX6_judge.data.toList.drop 0 = dktX6_judge_0 := by decide +kernel
theorem dksX6_judge_1 : cX6_judge.data.toList.drop 24 = dktX6_judge_1 := dk_seg dksX6_judge_0 24 rfl rfl
theorem dksX6_judge_2 : cX6_judge.data.toList.drop 48 = dktX6_judge_2 := dk_seg dksX6_judge_1 24 rfl rfl
theorem dksX6_judge_3 : cX6_judge.data.toList.drop 72 = dktX6_judge_3 := dk_seg dksX6_judge_2 24 rfl rfl
theorem dX6_judge_0 : decode cX6_judge 0 = .ok (.iload_n 1, 1) := dk_27 (dk_at dksX6_judge_0 0 rfl rfl)
theorem dX6_judge_1 : decode cX6_judge 1 = .ok (.invokestatic 266, 3) := dk_184 1 10 (dk_at dksX6_judge_0 1 rfl rfl)
theorem dX6_judge_4 : decode cX6_judge 4 = .ok (.ifCond .ne 5, 3) := dk_154 0 5 (dk_at dksX6_judge_0 4 rfl rfl)
theorem dX6_judge_7 : decode cX6_judge 7 = .ok (.iconst (-1), 1) := dk_2 (dk_at dksX6_judge_0 7 rfl rfl)
theorem dX6_judge_8 : decode cX6_judge 8 = .ok (.ireturn, 1) := dk_172 (dk_at dksX6_judge_0 8 rfl rfl)
theorem dX6_judge_9 : decode cX6_judge 9 = .ok (.aload_n 0, 1) := dk_42 (dk_at dksX6_judge_0 9 rfl rfl)
theorem dX6_judge_10 : decode cX6_judge 10 = .ok (.getfield 62, 3) := dk_180 0 62 (dk_at dksX6_judge_0 10 rfl rfl)
theorem dX6_judge_13 : decode cX6_judge 13 = .ok (.iload_n 1, 1) := dk_27 (dk_at dksX6_judge_0 13 rfl rfl)
theorem dX6_judge_14 : decode cX6_judge 14 = .ok (.iaload, 1) := dk_46 (dk_at dksX6_judge_0 14 rfl rfl)
theorem dX6_judge_15 : decode cX6_judge 15 = .ok (.ifCond .le 6, 3) := dk_158 0 6 (dk_at dksX6_judge_0 15 rfl rfl)
theorem dX6_judge_18 : decode cX6_judge 18 = .ok (.bipush (-12), 2) := dk_16 244 (dk_at dksX6_judge_0 18 rfl rfl)
theorem dX6_judge_20 : decode cX6_judge 20 = .ok (.ireturn, 1) := dk_172 (dk_at dksX6_judge_0 20 rfl rfl)
theorem dX6_judge_21 : decode cX6_judge 21 = .ok (.iconst 0, 1) := dk_3 (dk_at dksX6_judge_0 21 rfl rfl)
theorem dX6_judge_22 : decode cX6_judge 22 = .ok (.istore_n 3, 1) := dk_62 (dk_at dksX6_judge_0 22 rfl rfl)
theorem dX6_judge_23 : decode cX6_judge 23 = .ok (.iload_n 3, 1) := dk_29 (dk_at dksX6_judge_0 23 rfl rfl)
theorem dX6_judge_24 : decode cX6_judge 24 = .ok (.bipush 8, 2) := dk_16 8 (dk_at dksX6_judge_1 0 rfl rfl)
theorem dX6_judge_26 : decode cX6_judge 26 = .ok (.if_icmp .ge 64, 3) := dk_162 0 64 (dk_at dksX6_judge_1 2 rfl rfl)
theorem dX6_judge_29 : decode cX6_judge 29 = .ok (.iload_n 2, 1) := dk_28 (dk_at dksX6_judge_1 5 rfl rfl)
theorem dX6_judge_30 : decode cX6_judge 30 = .ok (.i2l, 1) := dk_133 (dk_at dksX6_judge_1 6 rfl rfl)
theorem dX6_judge_31 : decode cX6_judge 31 = .ok (.iload_n 3, 1) := dk_29 (dk_at dksX6_judge_1 7 rfl rfl)
theorem dX6_judge_32 : decode cX6_judge 32 = .ok (.i2l, 1) := dk_133 (dk_at dksX6_judge_1 8 rfl rfl)
theorem dX6_judge_33 : decode cX6_judge 33 = .ok (.ladd, 1) := dk_97 (dk_at dksX6_judge_1 9 rfl rfl)
theorem dX6_judge_34 : decode cX6_judge 34 = .ok (.lstore 4, 2) := dk_55 4 (dk_at dksX6_judge_1 10 rfl rfl)
theorem dX6_judge_36 : decode cX6_judge 36 = .ok (.iload_n 2, 1) := dk_28 (dk_at dksX6_judge_1 12 rfl rfl)
theorem dX6_judge_37 : decode cX6_judge 37 = .ok (.ifCond .lt 16, 3) := dk_155 0 16 (dk_at dksX6_judge_1 13 rfl rfl)
theorem dX6_judge_40 : decode cX6_judge 40 = .ok (.lload 4, 2) := dk_22 4 (dk_at dksX6_judge_1 16 rfl rfl)
theorem dX6_judge_42 : decode cX6_judge 42 = .ok (.aload_n 0, 1) := dk_42 (dk_at dksX6_judge_1 18 rfl rfl)
theorem dX6_judge_43 : decode cX6_judge 43 = .ok (.getfield 65, 3) := dk_180 0 65 (dk_at dksX6_judge_1 19 rfl rfl)
theorem dX6_judge_46 : decode cX6_judge 46 = .ok (.iload_n 1, 1) := dk_27 (dk_at dksX6_judge_1 22 rfl rfl)
theorem dX6_judge_47 : decode cX6_judge 47 = .ok (.iaload, 1) := dk_46 (dk_at dksX6_judge_1 23 rfl rfl)
theorem dX6_judge_48 : decode cX6_judge 48 = .ok (.i2l, 1) := dk_133 (dk_at dksX6_judge_2 0 rfl rfl)
theorem dX6_judge_49 : decode cX6_judge 49 = .ok (.lcmp, 1) := dk_148 (dk_at dksX6_judge_2 1 rfl rfl)
theorem dX6_judge_50 : decode cX6_judge 50 = .ok (.ifCond .lt 8, 3) := dk_155 0 8 (dk_at dksX6_judge_2 2 rfl rfl)
theorem dX6_judge_53 : decode cX6_judge 53 = .ok (.bipush 100, 2) := dk_16 100 (dk_at dksX6_judge_2 5 rfl rfl)
theorem dX6_judge_55 : decode cX6_judge 55 = .ok (.iload_n 3, 1) := dk_29 (dk_at dksX6_judge_2 7 rfl rfl)
theorem dX6_judge_56 : decode cX6_judge 56 = .ok (.iadd, 1) := dk_96 (dk_at dksX6_judge_2 8 rfl rfl)
theorem dX6_judge_57 : decode cX6_judge 57 = .ok (.ireturn, 1) := dk_172 (dk_at dksX6_judge_2 9 rfl rfl)
theorem dX6_judge_58 : decode cX6_judge 58 = .ok (.aload_n 0, 1) := dk_42 (dk_at dksX6_judge_2 10 rfl rfl)
theorem dX6_judge_59 : decode cX6_judge 59 = .ok (.getfield 68, 3) := dk_180 0 68 (dk_at dksX6_judge_2 11 rfl rfl)
theorem dX6_judge_62 : decode cX6_judge 62 = .ok (.bipush 60, 2) := dk_16 60 (dk_at dksX6_judge_2 14 rfl rfl)
theorem dX6_judge_64 : decode cX6_judge 64 = .ok (.iload_n 1, 1) := dk_27 (dk_at dksX6_judge_2 16 rfl rfl)
theorem dX6_judge_65 : decode cX6_judge 65 = .ok (.imul, 1) := dk_104 (dk_at dksX6_judge_2 17 rfl rfl)
theorem dX6_judge_66 : decode cX6_judge 66 = .ok (.lload 4, 2) := dk_22 4 (dk_at dksX6_judge_2 18 rfl rfl)
theorem dX6_judge_68 : decode cX6_judge 68 = .ok (.l2i, 1) := dk_136 (dk_at dksX6_judge_2 20 rfl rfl)
theorem dX6_judge_69 : decode cX6_judge 69 = .ok (.iadd, 1) := dk_96 (dk_at dksX6_judge_2 21 rfl rfl)
theorem dX6_judge_70 : decode cX6_judge 70 = .ok (.laload, 1) := dk_47 (dk_at dksX6_judge_2 22 rfl rfl)
theorem dX6_judge_71 : decode cX6_judge 71 = .ok (.aload_n 0, 1) := dk_42 (dk_at dksX6_judge_2 23 rfl rfl)
theorem dX6_judge_72 : decode cX6_judge 72 = .ok (.getfield 15, 3) := dk_180 0 15 (dk_at dksX6_judge_3 0 rfl rfl)
theorem dX6_judge_75 : decode cX6_judge 75 = .ok (.iload_n 3, 1) := dk_29 (dk_at dksX6_judge_3 3 rfl rfl)
theorem dX6_judge_76 : decode cX6_judge 76 = .ok (.iaload, 1) := dk_46 (dk_at dksX6_judge_3 4 rfl rfl)
theorem dX6_judge_77 : decode cX6_judge 77 = .ok (.i2l, 1) := dk_133 (dk_at dksX6_judge_3 5 rfl rfl)
theorem dX6_judge_78 : decode cX6_judge 78 = .ok (.lcmp, 1) := dk_148 (dk_at dksX6_judge_3 6 rfl rfl)
theorem dX6_judge_79 : decode cX6_judge 79 = .ok (.ifCond .eq 5, 3) := dk_153 0 5 (dk_at dksX6_judge_3 7 rfl rfl)
theorem dX6_judge_82 : decode cX6_judge 82 = .ok (.iload_n 3, 1) := dk_29 (dk_at dksX6_judge_3 10 rfl rfl)
theorem dX6_judge_83 : decode cX6_judge 83 = .ok (.ireturn, 1) := dk_172 (dk_at dksX6_judge_3 11 rfl rfl)
theorem dX6_judge_84 : decode cX6_judge 84 = .ok (.iinc 3 1, 3) := dk_132 3 1 (dk_at dksX6_judge_3 12 rfl rfl)
theorem dX6_judge_87 : decode cX6_judge 87 = .ok (.goto (-64), 3) := dk_167 255 192 (dk_at dksX6_judge_3 15 rfl rfl)
theorem dX6_judge_90 : decode cX6_judge 90 = .ok (.bipush (-5), 2) := dk_16 251 (dk_at dksX6_judge_3 18 rfl rfl)
theorem dX6_judge_92 : decode cX6_judge 92 = .ok (.ireturn, 1) := dk_172 (dk_at dksX6_judge_3 20 rfl rfl)
theorem q86 : (Jvm.Cond.initialized "GeeseKeysModel") ∈ lw_all := lw_g (lw_at lw_m1 10 rfl) rfl
theorem q977 : (Jvm.Cond.selects "GeeseKeysModel" ({ cls := "java/lang/Object", name := "getClass", desc := "()Ljava/lang/Class;" } : Jvm.MethodName) ({ cls := "java/lang/Object", name := "getClass", desc := "()Ljava/lang/Class;" } : Jvm.MethodName)) ∈ lw_all := lw_g (lw_at lw_m4 181 rfl) rfl
theorem q1427 : (Jvm.Cond.instantiable "GeeseKeysModel" (29 : Nat)) ∈ lw_all := lw_g (lw_at lw_m6 151 rfl) rfl
theorem q1429 : (Jvm.Cond.instanceMethod ({ cls := "GeeseKeysModel", name := "<init>", desc := "()V" } : Jvm.MethodName)) ∈ lw_all := lw_g (lw_at lw_m6 153 rfl) rfl
theorem q1430 : (Jvm.Cond.code ({ cls := "GeeseKeysModel", name := "<init>", desc := "()V" } : Jvm.MethodName) prog_23_method_1_code (1 : Nat) (Option.none : Option Jvm.ClassFile.FieldType)) ∈ lw_all := lw_g (lw_at lw_m6 154 rfl) rfl
theorem q1431 : (Jvm.Cond.methodLink "GeeseKeysModel" (3 : Nat) ({ cls := "java/lang/Object", name := "<init>", desc := "()V" } : Jvm.MethodName)) ∈ lw_all := lw_g (lw_at lw_m6 155 rfl) rfl
theorem q1432 : (Jvm.Cond.methodLink "GeeseKeysModel" (9 : Nat) ({ cls := "GeeseKeysModel", name := "fresh", desc := "()[I" } : Jvm.MethodName)) ∈ lw_all := lw_g (lw_at lw_m6 156 rfl) rfl
theorem q1433 : (Jvm.Cond.static ({ cls := "GeeseKeysModel", name := "fresh", desc := "()[I" } : Jvm.MethodName)) ∈ lw_all := lw_g (lw_at lw_m6 157 rfl) rfl
theorem q1434 : (Jvm.Cond.code ({ cls := "GeeseKeysModel", name := "fresh", desc := "()[I" } : Jvm.MethodName) prog_23_method_3_code (2 : Nat) (Option.some (Jvm.ClassFile.FieldType.array Jvm.ClassFile.FieldType.int))) ∈ lw_all := lw_g (lw_at lw_m6 158 rfl) rfl
theorem q1435 : (Jvm.Cond.fieldLink "GeeseKeysModel" (15 : Nat) "GeeseKeysModel" "now" "[I") ∈ lw_all := lw_g (lw_at lw_m6 159 rfl) rfl
theorem q1436 : (Jvm.Cond.fieldLink "GeeseKeysModel" (19 : Nat) "GeeseKeysModel" "minds" "[I") ∈ lw_all := lw_g (lw_at lw_m6 160 rfl) rfl
theorem q1437 : (Jvm.Cond.fieldLink "GeeseKeysModel" (22 : Nat) "GeeseKeysModel" "then" "[I") ∈ lw_all := lw_g (lw_at lw_m6 161 rfl) rfl
theorem q1438 : (Jvm.Cond.fieldLink "GeeseKeysModel" (75 : Nat) "GeeseKeysModel" "kept" "Z") ∈ lw_all := lw_g (lw_at lw_m6 162 rfl) rfl
theorem q1439 : (Jvm.Cond.fieldLink "GeeseKeysModel" (25 : Nat) "GeeseKeysModel" "text" "[I") ∈ lw_all := lw_g (lw_at lw_m6 163 rfl) rfl
theorem q1440 : (Jvm.Cond.fieldLink "GeeseKeysModel" (108 : Nat) "GeeseKeysModel" "texted" "I") ∈ lw_all := lw_g (lw_at lw_m6 164 rfl) rfl
theorem q1441 : (Jvm.Cond.fieldLink "GeeseKeysModel" (28 : Nat) "GeeseKeysModel" "rules" "[I") ∈ lw_all := lw_g (lw_at lw_m6 165 rfl) rfl
theorem q1442 : (Jvm.Cond.fieldLink "GeeseKeysModel" (31 : Nat) "GeeseKeysModel" "sizes" "[I") ∈ lw_all := lw_g (lw_at lw_m6 166 rfl) rfl
theorem q1443 : (Jvm.Cond.fieldLink "GeeseKeysModel" (163 : Nat) "GeeseKeysModel" "ruled" "I") ∈ lw_all := lw_g (lw_at lw_m6 167 rfl) rfl
theorem q1444 : (Jvm.Cond.fieldLink "GeeseKeysModel" (34 : Nat) "GeeseKeysModel" "read" "[I") ∈ lw_all := lw_g (lw_at lw_m6 168 rfl) rfl
theorem q1445 : (Jvm.Cond.fieldLink "GeeseKeysModel" (118 : Nat) "GeeseKeysModel" "size" "I") ∈ lw_all := lw_g (lw_at lw_m6 169 rfl) rfl
theorem q1446 : (Jvm.Cond.fieldLink "GeeseKeysModel" (115 : Nat) "GeeseKeysModel" "at" "I") ∈ lw_all := lw_g (lw_at lw_m6 170 rfl) rfl
theorem q1447 : (Jvm.Cond.fieldLink "GeeseKeysModel" (112 : Nat) "GeeseKeysModel" "well" "Z") ∈ lw_all := lw_g (lw_at lw_m6 171 rfl) rfl
theorem q1448 : (Jvm.Cond.fieldLink "GeeseKeysModel" (136 : Nat) "GeeseKeysModel" "within" "I") ∈ lw_all := lw_g (lw_at lw_m6 172 rfl) rfl
theorem q1449 : (Jvm.Cond.fieldLink "GeeseKeysModel" (154 : Nat) "GeeseKeysModel" "sum" "I") ∈ lw_all := lw_g (lw_at lw_m6 173 rfl) rfl
theorem q1450 : (Jvm.Cond.fieldLink "GeeseKeysModel" (151 : Nat) "GeeseKeysModel" "eat" "I") ∈ lw_all := lw_g (lw_at lw_m6 174 rfl) rfl
theorem q1451 : (Jvm.Cond.fieldLink "GeeseKeysModel" (37 : Nat) "GeeseKeysModel" "names" "[I") ∈ lw_all := lw_g (lw_at lw_m6 175 rfl) rfl
theorem q1452 : (Jvm.Cond.fieldLink "GeeseKeysModel" (40 : Nat) "GeeseKeysModel" "letters" "[C") ∈ lw_all := lw_g (lw_at lw_m6 176 rfl) rfl
theorem q1453 : (Jvm.Cond.fieldLink "GeeseKeysModel" (44 : Nat) "GeeseKeysModel" "begins" "[C") ∈ lw_all := lw_g (lw_at lw_m6 177 rfl) rfl
theorem q1454 : (Jvm.Cond.fieldLink "GeeseKeysModel" (47 : Nat) "GeeseKeysModel" "words" "[C") ∈ lw_all := lw_g (lw_at lw_m6 178 rfl) rfl
theorem q1455 : (Jvm.Cond.fieldLink "GeeseKeysModel" (50 : Nat) "GeeseKeysModel" "reached" "[I") ∈ lw_all := lw_g (lw_at lw_m6 179 rfl) rfl
theorem q1456 : (Jvm.Cond.fieldLink "GeeseKeysModel" (53 : Nat) "GeeseKeysModel" "above" "[I") ∈ lw_all := lw_g (lw_at lw_m6 180 rfl) rfl
theorem q1457 : (Jvm.Cond.fieldLink "GeeseKeysModel" (56 : Nat) "GeeseKeysModel" "bodies" "[I") ∈ lw_all := lw_g (lw_at lw_m6 181 rfl) rfl
theorem q1458 : (Jvm.Cond.fieldLink "GeeseKeysModel" (59 : Nat) "GeeseKeysModel" "trace" "[I") ∈ lw_all := lw_g (lw_at lw_m6 182 rfl) rfl
theorem q1459 : (Jvm.Cond.fieldLink "GeeseKeysModel" (253 : Nat) "GeeseKeysModel" "ran" "I") ∈ lw_all := lw_g (lw_at lw_m6 183 rfl) rfl
theorem q1460 : (Jvm.Cond.fieldLink "GeeseKeysModel" (62 : Nat) "GeeseKeysModel" "sorts" "[I") ∈ lw_all := lw_g (lw_at lw_m6 184 rfl) rfl
theorem q1461 : (Jvm.Cond.fieldLink "GeeseKeysModel" (65 : Nat) "GeeseKeysModel" "lengths" "[I") ∈ lw_all := lw_g (lw_at lw_m6 185 rfl) rfl
theorem q1462 : (Jvm.Cond.fieldLink "GeeseKeysModel" (68 : Nat) "GeeseKeysModel" "items" "[J") ∈ lw_all := lw_g (lw_at lw_m6 186 rfl) rfl
theorem q1463 : (Jvm.Cond.fieldLink "GeeseKeysModel" (72 : Nat) "GeeseKeysModel" "moved" "[J") ∈ lw_all := lw_g (lw_at lw_m6 187 rfl) rfl
theorem q1464 : (Jvm.Cond.laysFinal "GeeseKeysModel" "GeeseKeysModel" "now" "[I") ∈ lw_all := lw_g (lw_at lw_m6 188 rfl) rfl
theorem q1465 : (Jvm.Cond.soleField "GeeseKeysModel" "now") ∈ lw_all := lw_g (lw_at lw_m6 189 rfl) rfl
theorem q1466 : (Jvm.Cond.laysFinal "GeeseKeysModel" "GeeseKeysModel" "minds" "[I") ∈ lw_all := lw_g (lw_at lw_m6 190 rfl) rfl
theorem q1467 : (Jvm.Cond.soleField "GeeseKeysModel" "minds") ∈ lw_all := lw_g (lw_at lw_m6 191 rfl) rfl
theorem q1468 : (Jvm.Cond.laysFinal "GeeseKeysModel" "GeeseKeysModel" "then" "[I") ∈ lw_all := lw_g (lw_at lw_m6 192 rfl) rfl
theorem q1469 : (Jvm.Cond.soleField "GeeseKeysModel" "then") ∈ lw_all := lw_g (lw_at lw_m6 193 rfl) rfl
theorem q1470 : (Jvm.Cond.lays "GeeseKeysModel" "GeeseKeysModel" "kept" "Z") ∈ lw_all := lw_g (lw_at lw_m6 194 rfl) rfl
theorem q1471 : (Jvm.Cond.soleField "GeeseKeysModel" "kept") ∈ lw_all := lw_g (lw_at lw_m6 195 rfl) rfl
theorem q1472 : (Jvm.Cond.laysFinal "GeeseKeysModel" "GeeseKeysModel" "text" "[I") ∈ lw_all := lw_g (lw_at lw_m6 196 rfl) rfl
theorem q1473 : (Jvm.Cond.soleField "GeeseKeysModel" "text") ∈ lw_all := lw_g (lw_at lw_m6 197 rfl) rfl
theorem q1474 : (Jvm.Cond.lays "GeeseKeysModel" "GeeseKeysModel" "texted" "I") ∈ lw_all := lw_g (lw_at lw_m6 198 rfl) rfl
theorem q1475 : (Jvm.Cond.soleField "GeeseKeysModel" "texted") ∈ lw_all := lw_g (lw_at lw_m6 199 rfl) rfl
theorem q1476 : (Jvm.Cond.laysFinal "GeeseKeysModel" "GeeseKeysModel" "rules" "[I") ∈ lw_all := lw_g (lw_at lw_m6 200 rfl) rfl
theorem q1477 : (Jvm.Cond.soleField "GeeseKeysModel" "rules") ∈ lw_all := lw_g (lw_at lw_m6 201 rfl) rfl
theorem q1478 : (Jvm.Cond.laysFinal "GeeseKeysModel" "GeeseKeysModel" "sizes" "[I") ∈ lw_all := lw_g (lw_at lw_m6 202 rfl) rfl
theorem q1479 : (Jvm.Cond.soleField "GeeseKeysModel" "sizes") ∈ lw_all := lw_g (lw_at lw_m6 203 rfl) rfl
theorem q1480 : (Jvm.Cond.lays "GeeseKeysModel" "GeeseKeysModel" "ruled" "I") ∈ lw_all := lw_g (lw_at lw_m6 204 rfl) rfl
theorem q1481 : (Jvm.Cond.soleField "GeeseKeysModel" "ruled") ∈ lw_all := lw_g (lw_at lw_m6 205 rfl) rfl
theorem q1482 : (Jvm.Cond.laysFinal "GeeseKeysModel" "GeeseKeysModel" "read" "[I") ∈ lw_all := lw_g (lw_at lw_m6 206 rfl) rfl
theorem q1483 : (Jvm.Cond.soleField "GeeseKeysModel" "read") ∈ lw_all := lw_g (lw_at lw_m6 207 rfl) rfl
theorem q1484 : (Jvm.Cond.lays "GeeseKeysModel" "GeeseKeysModel" "size" "I") ∈ lw_all := lw_g (lw_at lw_m6 208 rfl) rfl
theorem q1485 : (Jvm.Cond.soleField "GeeseKeysModel" "size") ∈ lw_all := lw_g (lw_at lw_m6 209 rfl) rfl
theorem q1486 : (Jvm.Cond.lays "GeeseKeysModel" "GeeseKeysModel" "at" "I") ∈ lw_all := lw_g (lw_at lw_m6 210 rfl) rfl
theorem q1487 : (Jvm.Cond.soleField "GeeseKeysModel" "at") ∈ lw_all := lw_g (lw_at lw_m6 211 rfl) rfl
theorem q1488 : (Jvm.Cond.lays "GeeseKeysModel" "GeeseKeysModel" "well" "Z") ∈ lw_all := lw_g (lw_at lw_m6 212 rfl) rfl
theorem q1489 : (Jvm.Cond.soleField "GeeseKeysModel" "well") ∈ lw_all := lw_g (lw_at lw_m6 213 rfl) rfl
theorem q1490 : (Jvm.Cond.lays "GeeseKeysModel" "GeeseKeysModel" "within" "I") ∈ lw_all := lw_g (lw_at lw_m6 214 rfl) rfl
theorem q1491 : (Jvm.Cond.soleField "GeeseKeysModel" "within") ∈ lw_all := lw_g (lw_at lw_m6 215 rfl) rfl
theorem q1492 : (Jvm.Cond.lays "GeeseKeysModel" "GeeseKeysModel" "sum" "I") ∈ lw_all := lw_g (lw_at lw_m6 216 rfl) rfl
theorem q1493 : (Jvm.Cond.soleField "GeeseKeysModel" "sum") ∈ lw_all := lw_g (lw_at lw_m6 217 rfl) rfl
theorem q1494 : (Jvm.Cond.lays "GeeseKeysModel" "GeeseKeysModel" "eat" "I") ∈ lw_all := lw_g (lw_at lw_m6 218 rfl) rfl
theorem q1495 : (Jvm.Cond.soleField "GeeseKeysModel" "eat") ∈ lw_all := lw_g (lw_at lw_m6 219 rfl) rfl
theorem q1496 : (Jvm.Cond.laysFinal "GeeseKeysModel" "GeeseKeysModel" "names" "[I") ∈ lw_all := lw_g (lw_at lw_m6 220 rfl) rfl
theorem q1497 : (Jvm.Cond.soleField "GeeseKeysModel" "names") ∈ lw_all := lw_g (lw_at lw_m6 221 rfl) rfl
theorem q1498 : (Jvm.Cond.laysFinal "GeeseKeysModel" "GeeseKeysModel" "letters" "[C") ∈ lw_all := lw_g (lw_at lw_m6 222 rfl) rfl
theorem q1499 : (Jvm.Cond.soleField "GeeseKeysModel" "letters") ∈ lw_all := lw_g (lw_at lw_m6 223 rfl) rfl
theorem q1500 : (Jvm.Cond.laysFinal "GeeseKeysModel" "GeeseKeysModel" "begins" "[C") ∈ lw_all := lw_g (lw_at lw_m6 224 rfl) rfl
theorem q1501 : (Jvm.Cond.soleField "GeeseKeysModel" "begins") ∈ lw_all := lw_g (lw_at lw_m6 225 rfl) rfl
theorem q1502 : (Jvm.Cond.laysFinal "GeeseKeysModel" "GeeseKeysModel" "words" "[C") ∈ lw_all := lw_g (lw_at lw_m6 226 rfl) rfl
theorem q1503 : (Jvm.Cond.soleField "GeeseKeysModel" "words") ∈ lw_all := lw_g (lw_at lw_m6 227 rfl) rfl
theorem q1504 : (Jvm.Cond.laysFinal "GeeseKeysModel" "GeeseKeysModel" "reached" "[I") ∈ lw_all := lw_g (lw_at lw_m6 228 rfl) rfl
theorem q1505 : (Jvm.Cond.soleField "GeeseKeysModel" "reached") ∈ lw_all := lw_g (lw_at lw_m6 229 rfl) rfl
theorem q1506 : (Jvm.Cond.laysFinal "GeeseKeysModel" "GeeseKeysModel" "above" "[I") ∈ lw_all := lw_g (lw_at lw_m6 230 rfl) rfl
theorem q1507 : (Jvm.Cond.soleField "GeeseKeysModel" "above") ∈ lw_all := lw_g (lw_at lw_m6 231 rfl) rfl
theorem q1508 : (Jvm.Cond.laysFinal "GeeseKeysModel" "GeeseKeysModel" "bodies" "[I") ∈ lw_all := lw_g (lw_at lw_m6 232 rfl) rfl
theorem q1509 : (Jvm.Cond.soleField "GeeseKeysModel" "bodies") ∈ lw_all := lw_g (lw_at lw_m6 233 rfl) rfl
theorem q1510 : (Jvm.Cond.laysFinal "GeeseKeysModel" "GeeseKeysModel" "trace" "[I") ∈ lw_all := lw_g (lw_at lw_m6 234 rfl) rfl
theorem q1511 : (Jvm.Cond.soleField "GeeseKeysModel" "trace") ∈ lw_all := lw_g (lw_at lw_m6 235 rfl) rfl
theorem q1512 : (Jvm.Cond.lays "GeeseKeysModel" "GeeseKeysModel" "ran" "I") ∈ lw_all := lw_g (lw_at lw_m6 236 rfl) rfl
theorem q1513 : (Jvm.Cond.soleField "GeeseKeysModel" "ran") ∈ lw_all := lw_g (lw_at lw_m6 237 rfl) rfl
theorem q1514 : (Jvm.Cond.laysFinal "GeeseKeysModel" "GeeseKeysModel" "sorts" "[I") ∈ lw_all := lw_g (lw_at lw_m6 238 rfl) rfl
theorem q1515 : (Jvm.Cond.soleField "GeeseKeysModel" "sorts") ∈ lw_all := lw_g (lw_at lw_m6 239 rfl) rfl
theorem q1516 : (Jvm.Cond.laysFinal "GeeseKeysModel" "GeeseKeysModel" "lengths" "[I") ∈ lw_all := lw_g (lw_at lw_m7 0 rfl) rfl
theorem q1517 : (Jvm.Cond.soleField "GeeseKeysModel" "lengths") ∈ lw_all := lw_g (lw_at lw_m7 1 rfl) rfl
theorem q1518 : (Jvm.Cond.laysFinal "GeeseKeysModel" "GeeseKeysModel" "items" "[J") ∈ lw_all := lw_g (lw_at lw_m7 2 rfl) rfl
theorem q1519 : (Jvm.Cond.soleField "GeeseKeysModel" "items") ∈ lw_all := lw_g (lw_at lw_m7 3 rfl) rfl
theorem q1520 : (Jvm.Cond.laysFinal "GeeseKeysModel" "GeeseKeysModel" "moved" "[J") ∈ lw_all := lw_g (lw_at lw_m7 4 rfl) rfl
theorem q1521 : (Jvm.Cond.soleField "GeeseKeysModel" "moved") ∈ lw_all := lw_g (lw_at lw_m7 5 rfl) rfl
theorem q1522 : (Jvm.Cond.superclass "GeeseKeysModel" "java/lang/Object") ∈ lw_all := lw_g (lw_at lw_m7 6 rfl) rfl
theorem q1525 : (Jvm.Cond.instanceMethod ({ cls := "GeeseKeysModel", name := "image", desc := "()I" } : Jvm.MethodName)) ∈ lw_all := lw_g (lw_at lw_m7 9 rfl) rfl
theorem q1526 : (Jvm.Cond.selects "GeeseKeysModel" ({ cls := "GeeseKeysModel", name := "image", desc := "()I" } : Jvm.MethodName) ({ cls := "GeeseKeysModel", name := "image", desc := "()I" } : Jvm.MethodName)) ∈ lw_all := lw_g (lw_at lw_m7 10 rfl) rfl
theorem q1527 : (Jvm.Cond.code ({ cls := "GeeseKeysModel", name := "image", desc := "()I" } : Jvm.MethodName) prog_23_method_6_code (2 : Nat) (Option.some Jvm.ClassFile.FieldType.int)) ∈ lw_all := lw_g (lw_at lw_m7 11 rfl) rfl
theorem q1529 : (Jvm.Cond.instanceMethod ({ cls := "GeeseKeysModel", name := "undo", desc := "()I" } : Jvm.MethodName)) ∈ lw_all := lw_g (lw_at lw_m7 13 rfl) rfl
theorem q1530 : (Jvm.Cond.selects "GeeseKeysModel" ({ cls := "GeeseKeysModel", name := "undo", desc := "()I" } : Jvm.MethodName) ({ cls := "GeeseKeysModel", name := "undo", desc := "()I" } : Jvm.MethodName)) ∈ lw_all := lw_g (lw_at lw_m7 14 rfl) rfl
theorem q1531 : (Jvm.Cond.code ({ cls := "GeeseKeysModel", name := "undo", desc := "()I" } : Jvm.MethodName) prog_23_method_7_code (2 : Nat) (Option.some Jvm.ClassFile.FieldType.int)) ∈ lw_all := lw_g (lw_at lw_m7 15 rfl) rfl
theorem q1533 : (Jvm.Cond.instanceMethod ({ cls := "GeeseKeysModel", name := "gate", desc := "(II)I" } : Jvm.MethodName)) ∈ lw_all := lw_g (lw_at lw_m7 17 rfl) rfl
theorem q1534 : (Jvm.Cond.selects "GeeseKeysModel" ({ cls := "GeeseKeysModel", name := "gate", desc := "(II)I" } : Jvm.MethodName) ({ cls := "GeeseKeysModel", name := "gate", desc := "(II)I" } : Jvm.MethodName)) ∈ lw_all := lw_g (lw_at lw_m7 18 rfl) rfl
theorem q1535 : (Jvm.Cond.code ({ cls := "GeeseKeysModel", name := "gate", desc := "(II)I" } : Jvm.MethodName) prog_23_method_14_code (4 : Nat) (Option.some Jvm.ClassFile.FieldType.int)) ∈ lw_all := lw_g (lw_at lw_m7 19 rfl) rfl
theorem q1536 : (Jvm.Cond.methodLink "GeeseKeysModel" (87 : Nat) ({ cls := "GeeseKeysModel", name := "isCourt", desc := "(I)Z" } : Jvm.MethodName)) ∈ lw_all := lw_g (lw_at lw_m7 20 rfl) rfl
theorem q1537 : (Jvm.Cond.static ({ cls := "GeeseKeysModel", name := "isCourt", desc := "(I)Z" } : Jvm.MethodName)) ∈ lw_all := lw_g (lw_at lw_m7 21 rfl) rfl
theorem q1538 : (Jvm.Cond.code ({ cls := "GeeseKeysModel", name := "isCourt", desc := "(I)Z" } : Jvm.MethodName) prog_23_method_8_code (1 : Nat) (Option.some Jvm.ClassFile.FieldType.boolean)) ∈ lw_all := lw_g (lw_at lw_m7 22 rfl) rfl
theorem q1539 : (Jvm.Cond.methodLink "GeeseKeysModel" (79 : Nat) ({ cls := "GeeseKeysModel", name := "isIn", desc := "(III)Z" } : Jvm.MethodName)) ∈ lw_all := lw_g (lw_at lw_m7 23 rfl) rfl
theorem q1540 : (Jvm.Cond.static ({ cls := "GeeseKeysModel", name := "isIn", desc := "(III)Z" } : Jvm.MethodName)) ∈ lw_all := lw_g (lw_at lw_m7 24 rfl) rfl
theorem q1541 : (Jvm.Cond.code ({ cls := "GeeseKeysModel", name := "isIn", desc := "(III)Z" } : Jvm.MethodName) prog_23_method_2_code (3 : Nat) (Option.some Jvm.ClassFile.FieldType.boolean)) ∈ lw_all := lw_g (lw_at lw_m7 25 rfl) rfl
theorem q1543 : (Jvm.Cond.instanceMethod ({ cls := "GeeseKeysModel", name := "goose", desc := "(IIII)I" } : Jvm.MethodName)) ∈ lw_all := lw_g (lw_at lw_m7 27 rfl) rfl
theorem q1544 : (Jvm.Cond.selects "GeeseKeysModel" ({ cls := "GeeseKeysModel", name := "goose", desc := "(IIII)I" } : Jvm.MethodName) ({ cls := "GeeseKeysModel", name := "goose", desc := "(IIII)I" } : Jvm.MethodName)) ∈ lw_all := lw_g (lw_at lw_m7 28 rfl) rfl
theorem q1545 : (Jvm.Cond.code ({ cls := "GeeseKeysModel", name := "goose", desc := "(IIII)I" } : Jvm.MethodName) prog_23_method_15_code (7 : Nat) (Option.some Jvm.ClassFile.FieldType.int)) ∈ lw_all := lw_g (lw_at lw_m7 29 rfl) rfl
theorem q1547 : (Jvm.Cond.instanceMethod ({ cls := "GeeseKeysModel", name := "of", desc := "(II)I" } : Jvm.MethodName)) ∈ lw_all := lw_g (lw_at lw_m7 31 rfl) rfl
theorem q1548 : (Jvm.Cond.selects "GeeseKeysModel" ({ cls := "GeeseKeysModel", name := "of", desc := "(II)I" } : Jvm.MethodName) ({ cls := "GeeseKeysModel", name := "of", desc := "(II)I" } : Jvm.MethodName)) ∈ lw_all := lw_g (lw_at lw_m7 32 rfl) rfl
theorem q1549 : (Jvm.Cond.code ({ cls := "GeeseKeysModel", name := "of", desc := "(II)I" } : Jvm.MethodName) prog_23_method_17_code (3 : Nat) (Option.some Jvm.ClassFile.FieldType.int)) ∈ lw_all := lw_g (lw_at lw_m7 33 rfl) rfl
theorem q1550 : (Jvm.Cond.methodLink "GeeseKeysModel" (91 : Nat) ({ cls := "GeeseKeysModel", name := "isGoose", desc := "(I)Z" } : Jvm.MethodName)) ∈ lw_all := lw_g (lw_at lw_m7 34 rfl) rfl
theorem q1551 : (Jvm.Cond.privateMethod ({ cls := "GeeseKeysModel", name := "isGoose", desc := "(I)Z" } : Jvm.MethodName)) ∈ lw_tbl := lw_at lw_m7 35 rfl
theorem q1552 : (Jvm.Cond.instanceMethod ({ cls := "GeeseKeysModel", name := "isGoose", desc := "(I)Z" } : Jvm.MethodName)) ∈ lw_all := lw_g (lw_at lw_m7 36 rfl) rfl
theorem q1553 : (Jvm.Cond.code ({ cls := "GeeseKeysModel", name := "isGoose", desc := "(I)Z" } : Jvm.MethodName) prog_23_method_10_code (2 : Nat) (Option.some Jvm.ClassFile.FieldType.boolean)) ∈ lw_all := lw_g (lw_at lw_m7 37 rfl) rfl
theorem q1554 : (Jvm.Cond.methodLink "GeeseKeysModel" (83 : Nat) ({ cls := "GeeseKeysModel", name := "goose", desc := "(II)I" } : Jvm.MethodName)) ∈ lw_all := lw_g (lw_at lw_m7 38 rfl) rfl
theorem q1555 : (Jvm.Cond.privateMethod ({ cls := "GeeseKeysModel", name := "goose", desc := "(II)I" } : Jvm.MethodName)) ∈ lw_tbl := lw_at lw_m7 39 rfl
theorem q1556 : (Jvm.Cond.instanceMethod ({ cls := "GeeseKeysModel", name := "goose", desc := "(II)I" } : Jvm.MethodName)) ∈ lw_all := lw_g (lw_at lw_m7 40 rfl) rfl
theorem q1557 : (Jvm.Cond.code ({ cls := "GeeseKeysModel", name := "goose", desc := "(II)I" } : Jvm.MethodName) prog_23_method_12_code (3 : Nat) (Option.some Jvm.ClassFile.FieldType.int)) ∈ lw_all := lw_g (lw_at lw_m7 41 rfl) rfl
theorem q1558 : (Jvm.Cond.methodLink "GeeseKeysModel" (94 : Nat) ({ cls := "GeeseKeysModel", name := "orNever", desc := "(I)I" } : Jvm.MethodName)) ∈ lw_all := lw_g (lw_at lw_m7 42 rfl) rfl
theorem q1559 : (Jvm.Cond.static ({ cls := "GeeseKeysModel", name := "orNever", desc := "(I)I" } : Jvm.MethodName)) ∈ lw_all := lw_g (lw_at lw_m7 43 rfl) rfl
theorem q1560 : (Jvm.Cond.code ({ cls := "GeeseKeysModel", name := "orNever", desc := "(I)I" } : Jvm.MethodName) prog_23_method_16_code (1 : Nat) (Option.some Jvm.ClassFile.FieldType.int)) ∈ lw_all := lw_g (lw_at lw_m7 44 rfl) rfl
theorem q1561 : (Jvm.Cond.methodLink "GeeseKeysModel" (98 : Nat) ({ cls := "GeeseKeysModel", name := "goesTo", desc := "(I)I" } : Jvm.MethodName)) ∈ lw_all := lw_g (lw_at lw_m7 45 rfl) rfl
theorem q1562 : (Jvm.Cond.privateMethod ({ cls := "GeeseKeysModel", name := "goesTo", desc := "(I)I" } : Jvm.MethodName)) ∈ lw_tbl := lw_at lw_m7 46 rfl
theorem q1563 : (Jvm.Cond.instanceMethod ({ cls := "GeeseKeysModel", name := "goesTo", desc := "(I)I" } : Jvm.MethodName)) ∈ lw_all := lw_g (lw_at lw_m7 47 rfl) rfl
theorem q1564 : (Jvm.Cond.code ({ cls := "GeeseKeysModel", name := "goesTo", desc := "(I)I" } : Jvm.MethodName) prog_23_method_41_code (8 : Nat) (Option.some Jvm.ClassFile.FieldType.int)) ∈ lw_all := lw_g (lw_at lw_m7 48 rfl) rfl
theorem q1565 : (Jvm.Cond.methodLink "GeeseKeysModel" (101 : Nat) ({ cls := "GeeseKeysModel", name := "pull", desc := "(II)I" } : Jvm.MethodName)) ∈ lw_all := lw_g (lw_at lw_m7 49 rfl) rfl
theorem q1566 : (Jvm.Cond.privateMethod ({ cls := "GeeseKeysModel", name := "pull", desc := "(II)I" } : Jvm.MethodName)) ∈ lw_tbl := lw_at lw_m7 50 rfl
theorem q1567 : (Jvm.Cond.instanceMethod ({ cls := "GeeseKeysModel", name := "pull", desc := "(II)I" } : Jvm.MethodName)) ∈ lw_all := lw_g (lw_at lw_m7 51 rfl) rfl
theorem q1568 : (Jvm.Cond.code ({ cls := "GeeseKeysModel", name := "pull", desc := "(II)I" } : Jvm.MethodName) prog_23_method_39_code (5 : Nat) (Option.some Jvm.ClassFile.FieldType.int)) ∈ lw_all := lw_g (lw_at lw_m7 52 rfl) rfl
theorem q1569 : (Jvm.Cond.methodLink "GeeseKeysModel" (175 : Nat) ({ cls := "GeeseKeysModel", name := "readFor", desc := "(II)V" } : Jvm.MethodName)) ∈ lw_all := lw_g (lw_at lw_m7 53 rfl) rfl
theorem q1570 : (Jvm.Cond.privateMethod ({ cls := "GeeseKeysModel", name := "readFor", desc := "(II)V" } : Jvm.MethodName)) ∈ lw_tbl := lw_at lw_m7 54 rfl
theorem q1571 : (Jvm.Cond.instanceMethod ({ cls := "GeeseKeysModel", name := "readFor", desc := "(II)V" } : Jvm.MethodName)) ∈ lw_all := lw_g (lw_at lw_m7 55 rfl) rfl
theorem q1572 : (Jvm.Cond.code ({ cls := "GeeseKeysModel", name := "readFor", desc := "(II)V" } : Jvm.MethodName) prog_23_method_35_code (5 : Nat) (Option.none : Option Jvm.ClassFile.FieldType)) ∈ lw_all := lw_g (lw_at lw_m7 56 rfl) rfl
theorem q1573 : (Jvm.Cond.methodLink "GeeseKeysModel" (160 : Nat) ({ cls := "GeeseKeysModel", name := "readAll", desc := "()Z" } : Jvm.MethodName)) ∈ lw_all := lw_g (lw_at lw_m7 57 rfl) rfl
theorem q1574 : (Jvm.Cond.privateMethod ({ cls := "GeeseKeysModel", name := "readAll", desc := "()Z" } : Jvm.MethodName)) ∈ lw_tbl := lw_at lw_m7 58 rfl
theorem q1575 : (Jvm.Cond.instanceMethod ({ cls := "GeeseKeysModel", name := "readAll", desc := "()Z" } : Jvm.MethodName)) ∈ lw_all := lw_g (lw_at lw_m7 59 rfl) rfl
theorem q1576 : (Jvm.Cond.code ({ cls := "GeeseKeysModel", name := "readAll", desc := "()Z" } : Jvm.MethodName) prog_23_method_34_code (2 : Nat) (Option.some Jvm.ClassFile.FieldType.boolean)) ∈ lw_all := lw_g (lw_at lw_m7 60 rfl) rfl
theorem q1577 : (Jvm.Cond.methodLink "GeeseKeysModel" (157 : Nat) ({ cls := "GeeseKeysModel", name := "clause", desc := "()V" } : Jvm.MethodName)) ∈ lw_all := lw_g (lw_at lw_m7 61 rfl) rfl
theorem q1578 : (Jvm.Cond.privateMethod ({ cls := "GeeseKeysModel", name := "clause", desc := "()V" } : Jvm.MethodName)) ∈ lw_tbl := lw_at lw_m7 62 rfl
theorem q1579 : (Jvm.Cond.instanceMethod ({ cls := "GeeseKeysModel", name := "clause", desc := "()V" } : Jvm.MethodName)) ∈ lw_all := lw_g (lw_at lw_m7 63 rfl) rfl
theorem q1580 : (Jvm.Cond.code ({ cls := "GeeseKeysModel", name := "clause", desc := "()V" } : Jvm.MethodName) prog_23_method_33_code (4 : Nat) (Option.none : Option Jvm.ClassFile.FieldType)) ∈ lw_all := lw_g (lw_at lw_m7 64 rfl) rfl
theorem q1581 : (Jvm.Cond.methodLink "GeeseKeysModel" (121 : Nat) ({ cls := "GeeseKeysModel", name := "isAt", desc := "(I)Z" } : Jvm.MethodName)) ∈ lw_all := lw_g (lw_at lw_m7 65 rfl) rfl
theorem q1582 : (Jvm.Cond.privateMethod ({ cls := "GeeseKeysModel", name := "isAt", desc := "(I)Z" } : Jvm.MethodName)) ∈ lw_tbl := lw_at lw_m7 66 rfl
theorem q1583 : (Jvm.Cond.instanceMethod ({ cls := "GeeseKeysModel", name := "isAt", desc := "(I)Z" } : Jvm.MethodName)) ∈ lw_all := lw_g (lw_at lw_m7 67 rfl) rfl
theorem q1584 : (Jvm.Cond.code ({ cls := "GeeseKeysModel", name := "isAt", desc := "(I)Z" } : Jvm.MethodName) prog_23_method_25_code (2 : Nat) (Option.some Jvm.ClassFile.FieldType.boolean)) ∈ lw_all := lw_g (lw_at lw_m7 68 rfl) rfl
theorem q1585 : (Jvm.Cond.methodLink "GeeseKeysModel" (128 : Nat) ({ cls := "GeeseKeysModel", name := "takes", desc := "(I)V" } : Jvm.MethodName)) ∈ lw_all := lw_g (lw_at lw_m7 69 rfl) rfl
theorem q1586 : (Jvm.Cond.privateMethod ({ cls := "GeeseKeysModel", name := "takes", desc := "(I)V" } : Jvm.MethodName)) ∈ lw_tbl := lw_at lw_m7 70 rfl
theorem q1587 : (Jvm.Cond.instanceMethod ({ cls := "GeeseKeysModel", name := "takes", desc := "(I)V" } : Jvm.MethodName)) ∈ lw_all := lw_g (lw_at lw_m7 71 rfl) rfl
theorem q1588 : (Jvm.Cond.code ({ cls := "GeeseKeysModel", name := "takes", desc := "(I)V" } : Jvm.MethodName) prog_23_method_26_code (2 : Nat) (Option.none : Option Jvm.ClassFile.FieldType)) ∈ lw_all := lw_g (lw_at lw_m7 72 rfl) rfl
theorem q1589 : (Jvm.Cond.methodLink "GeeseKeysModel" (132 : Nat) ({ cls := "GeeseKeysModel", name := "number", desc := "()I" } : Jvm.MethodName)) ∈ lw_all := lw_g (lw_at lw_m7 73 rfl) rfl
theorem q1590 : (Jvm.Cond.privateMethod ({ cls := "GeeseKeysModel", name := "number", desc := "()I" } : Jvm.MethodName)) ∈ lw_tbl := lw_at lw_m7 74 rfl
theorem q1591 : (Jvm.Cond.instanceMethod ({ cls := "GeeseKeysModel", name := "number", desc := "()I" } : Jvm.MethodName)) ∈ lw_all := lw_g (lw_at lw_m7 75 rfl) rfl
theorem q1592 : (Jvm.Cond.code ({ cls := "GeeseKeysModel", name := "number", desc := "()I" } : Jvm.MethodName) prog_23_method_28_code (2 : Nat) (Option.some Jvm.ClassFile.FieldType.int)) ∈ lw_all := lw_g (lw_at lw_m7 76 rfl) rfl
theorem q1593 : (Jvm.Cond.methodLink "GeeseKeysModel" (124 : Nat) ({ cls := "GeeseKeysModel", name := "isDigit", desc := "()Z" } : Jvm.MethodName)) ∈ lw_all := lw_g (lw_at lw_m7 77 rfl) rfl
theorem q1594 : (Jvm.Cond.privateMethod ({ cls := "GeeseKeysModel", name := "isDigit", desc := "()Z" } : Jvm.MethodName)) ∈ lw_tbl := lw_at lw_m7 78 rfl
theorem q1595 : (Jvm.Cond.instanceMethod ({ cls := "GeeseKeysModel", name := "isDigit", desc := "()Z" } : Jvm.MethodName)) ∈ lw_all := lw_g (lw_at lw_m7 79 rfl) rfl
theorem q1596 : (Jvm.Cond.code ({ cls := "GeeseKeysModel", name := "isDigit", desc := "()Z" } : Jvm.MethodName) prog_23_method_27_code (1 : Nat) (Option.some Jvm.ClassFile.FieldType.boolean)) ∈ lw_all := lw_g (lw_at lw_m7 80 rfl) rfl
theorem q1597 : (Jvm.Cond.methodLink "GeeseKeysModel" (142 : Nat) ({ cls := "GeeseKeysModel", name := "any", desc := "()Z" } : Jvm.MethodName)) ∈ lw_all := lw_g (lw_at lw_m7 81 rfl) rfl
theorem q1598 : (Jvm.Cond.privateMethod ({ cls := "GeeseKeysModel", name := "any", desc := "()Z" } : Jvm.MethodName)) ∈ lw_tbl := lw_at lw_m7 82 rfl
theorem q1599 : (Jvm.Cond.instanceMethod ({ cls := "GeeseKeysModel", name := "any", desc := "()Z" } : Jvm.MethodName)) ∈ lw_all := lw_g (lw_at lw_m7 83 rfl) rfl
theorem q1600 : (Jvm.Cond.code ({ cls := "GeeseKeysModel", name := "any", desc := "()Z" } : Jvm.MethodName) prog_23_method_32_code (3 : Nat) (Option.some Jvm.ClassFile.FieldType.boolean)) ∈ lw_all := lw_g (lw_at lw_m7 84 rfl) rfl
theorem q1601 : (Jvm.Cond.methodLink "GeeseKeysModel" (148 : Nat) ({ cls := "GeeseKeysModel", name := "both", desc := "()Z" } : Jvm.MethodName)) ∈ lw_all := lw_g (lw_at lw_m7 85 rfl) rfl
theorem q1602 : (Jvm.Cond.privateMethod ({ cls := "GeeseKeysModel", name := "both", desc := "()Z" } : Jvm.MethodName)) ∈ lw_tbl := lw_at lw_m7 86 rfl
theorem q1603 : (Jvm.Cond.instanceMethod ({ cls := "GeeseKeysModel", name := "both", desc := "()Z" } : Jvm.MethodName)) ∈ lw_all := lw_g (lw_at lw_m7 87 rfl) rfl
theorem q1604 : (Jvm.Cond.code ({ cls := "GeeseKeysModel", name := "both", desc := "()Z" } : Jvm.MethodName) prog_23_method_31_code (3 : Nat) (Option.some Jvm.ClassFile.FieldType.boolean)) ∈ lw_all := lw_g (lw_at lw_m7 88 rfl) rfl
theorem q1605 : (Jvm.Cond.methodLink "GeeseKeysModel" (139 : Nat) ({ cls := "GeeseKeysModel", name := "factor", desc := "()Z" } : Jvm.MethodName)) ∈ lw_all := lw_g (lw_at lw_m7 89 rfl) rfl
theorem q1606 : (Jvm.Cond.privateMethod ({ cls := "GeeseKeysModel", name := "factor", desc := "()Z" } : Jvm.MethodName)) ∈ lw_tbl := lw_at lw_m7 90 rfl
theorem q1607 : (Jvm.Cond.instanceMethod ({ cls := "GeeseKeysModel", name := "factor", desc := "()Z" } : Jvm.MethodName)) ∈ lw_all := lw_g (lw_at lw_m7 91 rfl) rfl
theorem q1608 : (Jvm.Cond.code ({ cls := "GeeseKeysModel", name := "factor", desc := "()Z" } : Jvm.MethodName) prog_23_method_30_code (2 : Nat) (Option.some Jvm.ClassFile.FieldType.boolean)) ∈ lw_all := lw_g (lw_at lw_m7 92 rfl) rfl
theorem q1609 : (Jvm.Cond.methodLink "GeeseKeysModel" (145 : Nat) ({ cls := "GeeseKeysModel", name := "test", desc := "()Z" } : Jvm.MethodName)) ∈ lw_all := lw_g (lw_at lw_m7 93 rfl) rfl
theorem q1610 : (Jvm.Cond.privateMethod ({ cls := "GeeseKeysModel", name := "test", desc := "()Z" } : Jvm.MethodName)) ∈ lw_tbl := lw_at lw_m7 94 rfl
theorem q1611 : (Jvm.Cond.instanceMethod ({ cls := "GeeseKeysModel", name := "test", desc := "()Z" } : Jvm.MethodName)) ∈ lw_all := lw_g (lw_at lw_m7 95 rfl) rfl
theorem q1612 : (Jvm.Cond.code ({ cls := "GeeseKeysModel", name := "test", desc := "()Z" } : Jvm.MethodName) prog_23_method_29_code (4 : Nat) (Option.some Jvm.ClassFile.FieldType.boolean)) ∈ lw_all := lw_g (lw_at lw_m7 96 rfl) rfl
theorem q1613 : (Jvm.Cond.methodLink "GeeseKeysModel" (179 : Nat) ({ cls := "GeeseKeysModel", name := "isAnother", desc := "(II)Z" } : Jvm.MethodName)) ∈ lw_all := lw_g (lw_at lw_m7 97 rfl) rfl
theorem q1614 : (Jvm.Cond.privateMethod ({ cls := "GeeseKeysModel", name := "isAnother", desc := "(II)Z" } : Jvm.MethodName)) ∈ lw_tbl := lw_at lw_m7 98 rfl
theorem q1615 : (Jvm.Cond.instanceMethod ({ cls := "GeeseKeysModel", name := "isAnother", desc := "(II)Z" } : Jvm.MethodName)) ∈ lw_all := lw_g (lw_at lw_m7 99 rfl) rfl
theorem q1616 : (Jvm.Cond.code ({ cls := "GeeseKeysModel", name := "isAnother", desc := "(II)Z" } : Jvm.MethodName) prog_23_method_37_code (5 : Nat) (Option.some Jvm.ClassFile.FieldType.boolean)) ∈ lw_all := lw_g (lw_at lw_m7 100 rfl) rfl
theorem q1617 : (Jvm.Cond.methodLink "GeeseKeysModel" (166 : Nat) ({ cls := "GeeseKeysModel", name := "isTaken", desc := "(I)Z" } : Jvm.MethodName)) ∈ lw_all := lw_g (lw_at lw_m7 101 rfl) rfl
theorem q1618 : (Jvm.Cond.privateMethod ({ cls := "GeeseKeysModel", name := "isTaken", desc := "(I)Z" } : Jvm.MethodName)) ∈ lw_tbl := lw_at lw_m7 102 rfl
theorem q1619 : (Jvm.Cond.instanceMethod ({ cls := "GeeseKeysModel", name := "isTaken", desc := "(I)Z" } : Jvm.MethodName)) ∈ lw_all := lw_g (lw_at lw_m7 103 rfl) rfl
theorem q1620 : (Jvm.Cond.code ({ cls := "GeeseKeysModel", name := "isTaken", desc := "(I)Z" } : Jvm.MethodName) prog_23_method_13_code (2 : Nat) (Option.some Jvm.ClassFile.FieldType.boolean)) ∈ lw_all := lw_g (lw_at lw_m7 104 rfl) rfl
theorem q1621 : (Jvm.Cond.methodLink "GeeseKeysModel" (183 : Nat) ({ cls := "GeeseKeysModel", name := "isEnd", desc := "(II)Z" } : Jvm.MethodName)) ∈ lw_all := lw_g (lw_at lw_m7 105 rfl) rfl
theorem q1622 : (Jvm.Cond.privateMethod ({ cls := "GeeseKeysModel", name := "isEnd", desc := "(II)Z" } : Jvm.MethodName)) ∈ lw_tbl := lw_at lw_m7 106 rfl
theorem q1623 : (Jvm.Cond.instanceMethod ({ cls := "GeeseKeysModel", name := "isEnd", desc := "(II)Z" } : Jvm.MethodName)) ∈ lw_all := lw_g (lw_at lw_m7 107 rfl) rfl
theorem q1624 : (Jvm.Cond.code ({ cls := "GeeseKeysModel", name := "isEnd", desc := "(II)Z" } : Jvm.MethodName) prog_23_method_38_code (3 : Nat) (Option.some Jvm.ClassFile.FieldType.boolean)) ∈ lw_all := lw_g (lw_at lw_m7 108 rfl) rfl
theorem q1625 : (Jvm.Cond.methodLink "GeeseKeysModel" (169 : Nat) ({ cls := "GeeseKeysModel", name := "isGate", desc := "(I)Z" } : Jvm.MethodName)) ∈ lw_all := lw_g (lw_at lw_m7 109 rfl) rfl
theorem q1626 : (Jvm.Cond.privateMethod ({ cls := "GeeseKeysModel", name := "isGate", desc := "(I)Z" } : Jvm.MethodName)) ∈ lw_tbl := lw_at lw_m7 110 rfl
theorem q1627 : (Jvm.Cond.instanceMethod ({ cls := "GeeseKeysModel", name := "isGate", desc := "(I)Z" } : Jvm.MethodName)) ∈ lw_all := lw_g (lw_at lw_m7 111 rfl) rfl
theorem q1628 : (Jvm.Cond.code ({ cls := "GeeseKeysModel", name := "isGate", desc := "(I)Z" } : Jvm.MethodName) prog_23_method_9_code (2 : Nat) (Option.some Jvm.ClassFile.FieldType.boolean)) ∈ lw_all := lw_g (lw_at lw_m7 112 rfl) rfl
theorem q1629 : (Jvm.Cond.methodLink "GeeseKeysModel" (172 : Nat) ({ cls := "GeeseKeysModel", name := "end", desc := "(II)I" } : Jvm.MethodName)) ∈ lw_all := lw_g (lw_at lw_m7 113 rfl) rfl
theorem q1630 : (Jvm.Cond.privateMethod ({ cls := "GeeseKeysModel", name := "end", desc := "(II)I" } : Jvm.MethodName)) ∈ lw_tbl := lw_at lw_m7 114 rfl
theorem q1631 : (Jvm.Cond.instanceMethod ({ cls := "GeeseKeysModel", name := "end", desc := "(II)I" } : Jvm.MethodName)) ∈ lw_all := lw_g (lw_at lw_m7 115 rfl) rfl
theorem q1632 : (Jvm.Cond.code ({ cls := "GeeseKeysModel", name := "end", desc := "(II)I" } : Jvm.MethodName) prog_23_method_11_code (3 : Nat) (Option.some Jvm.ClassFile.FieldType.int)) ∈ lw_all := lw_g (lw_at lw_m7 116 rfl) rfl
theorem q1633 : (Jvm.Cond.methodLink "GeeseKeysModel" (186 : Nat) ({ cls := "GeeseKeysModel", name := "beyond", desc := "(II)I" } : Jvm.MethodName)) ∈ lw_all := lw_g (lw_at lw_m7 117 rfl) rfl
theorem q1634 : (Jvm.Cond.privateMethod ({ cls := "GeeseKeysModel", name := "beyond", desc := "(II)I" } : Jvm.MethodName)) ∈ lw_tbl := lw_at lw_m7 118 rfl
theorem q1635 : (Jvm.Cond.instanceMethod ({ cls := "GeeseKeysModel", name := "beyond", desc := "(II)I" } : Jvm.MethodName)) ∈ lw_all := lw_g (lw_at lw_m7 119 rfl) rfl
theorem q1636 : (Jvm.Cond.code ({ cls := "GeeseKeysModel", name := "beyond", desc := "(II)I" } : Jvm.MethodName) prog_23_method_40_code (3 : Nat) (Option.some Jvm.ClassFile.FieldType.int)) ∈ lw_all := lw_g (lw_at lw_m7 120 rfl) rfl
theorem q1638 : (Jvm.Cond.instanceMethod ({ cls := "GeeseKeysModel", name := "key", desc := "(II)I" } : Jvm.MethodName)) ∈ lw_all := lw_g (lw_at lw_m7 122 rfl) rfl
theorem q1639 : (Jvm.Cond.selects "GeeseKeysModel" ({ cls := "GeeseKeysModel", name := "key", desc := "(II)I" } : Jvm.MethodName) ({ cls := "GeeseKeysModel", name := "key", desc := "(II)I" } : Jvm.MethodName)) ∈ lw_all := lw_g (lw_at lw_m7 123 rfl) rfl
theorem q1640 : (Jvm.Cond.code ({ cls := "GeeseKeysModel", name := "key", desc := "(II)I" } : Jvm.MethodName) prog_23_method_19_code (3 : Nat) (Option.some Jvm.ClassFile.FieldType.int)) ∈ lw_all := lw_g (lw_at lw_m7 124 rfl) rfl
theorem q1641 : (Jvm.Cond.methodLink "GeeseKeysModel" (104 : Nat) ({ cls := "GeeseKeysModel", name := "change", desc := "(III)I" } : Jvm.MethodName)) ∈ lw_all := lw_g (lw_at lw_m7 125 rfl) rfl
theorem q1642 : (Jvm.Cond.privateMethod ({ cls := "GeeseKeysModel", name := "change", desc := "(III)I" } : Jvm.MethodName)) ∈ lw_tbl := lw_at lw_m7 126 rfl
theorem q1643 : (Jvm.Cond.instanceMethod ({ cls := "GeeseKeysModel", name := "change", desc := "(III)I" } : Jvm.MethodName)) ∈ lw_all := lw_g (lw_at lw_m7 127 rfl) rfl
theorem q1644 : (Jvm.Cond.code ({ cls := "GeeseKeysModel", name := "change", desc := "(III)I" } : Jvm.MethodName) prog_23_method_18_code (5 : Nat) (Option.some Jvm.ClassFile.FieldType.int)) ∈ lw_all := lw_g (lw_at lw_m7 128 rfl) rfl
theorem q1646 : (Jvm.Cond.instanceMethod ({ cls := "GeeseKeysModel", name := "put", desc := "(II)I" } : Jvm.MethodName)) ∈ lw_all := lw_g (lw_at lw_m7 130 rfl) rfl
theorem q1647 : (Jvm.Cond.selects "GeeseKeysModel" ({ cls := "GeeseKeysModel", name := "put", desc := "(II)I" } : Jvm.MethodName) ({ cls := "GeeseKeysModel", name := "put", desc := "(II)I" } : Jvm.MethodName)) ∈ lw_all := lw_g (lw_at lw_m7 131 rfl) rfl
theorem q1648 : (Jvm.Cond.code ({ cls := "GeeseKeysModel", name := "put", desc := "(II)I" } : Jvm.MethodName) prog_23_method_20_code (3 : Nat) (Option.some Jvm.ClassFile.FieldType.int)) ∈ lw_all := lw_g (lw_at lw_m7 132 rfl) rfl
theorem q1650 : (Jvm.Cond.instanceMethod ({ cls := "GeeseKeysModel", name := "take", desc := "(IZ)I" } : Jvm.MethodName)) ∈ lw_all := lw_g (lw_at lw_m7 134 rfl) rfl
theorem q1651 : (Jvm.Cond.selects "GeeseKeysModel" ({ cls := "GeeseKeysModel", name := "take", desc := "(IZ)I" } : Jvm.MethodName) ({ cls := "GeeseKeysModel", name := "take", desc := "(IZ)I" } : Jvm.MethodName)) ∈ lw_all := lw_g (lw_at lw_m7 135 rfl) rfl
theorem q1652 : (Jvm.Cond.code ({ cls := "GeeseKeysModel", name := "take", desc := "(IZ)I" } : Jvm.MethodName) prog_23_method_21_code (3 : Nat) (Option.some Jvm.ClassFile.FieldType.int)) ∈ lw_all := lw_g (lw_at lw_m7 136 rfl) rfl
theorem q1654 : (Jvm.Cond.instanceMethod ({ cls := "GeeseKeysModel", name := "grain", desc := "(II)I" } : Jvm.MethodName)) ∈ lw_all := lw_g (lw_at lw_m7 138 rfl) rfl
theorem q1655 : (Jvm.Cond.selects "GeeseKeysModel" ({ cls := "GeeseKeysModel", name := "grain", desc := "(II)I" } : Jvm.MethodName) ({ cls := "GeeseKeysModel", name := "grain", desc := "(II)I" } : Jvm.MethodName)) ∈ lw_all := lw_g (lw_at lw_m7 139 rfl) rfl
theorem q1656 : (Jvm.Cond.code ({ cls := "GeeseKeysModel", name := "grain", desc := "(II)I" } : Jvm.MethodName) prog_23_method_22_code (4 : Nat) (Option.some Jvm.ClassFile.FieldType.int)) ∈ lw_all := lw_g (lw_at lw_m7 140 rfl) rfl
theorem q1658 : (Jvm.Cond.instanceMethod ({ cls := "GeeseKeysModel", name := "row", desc := "(III)I" } : Jvm.MethodName)) ∈ lw_all := lw_g (lw_at lw_m7 142 rfl) rfl
theorem q1659 : (Jvm.Cond.selects "GeeseKeysModel" ({ cls := "GeeseKeysModel", name := "row", desc := "(III)I" } : Jvm.MethodName) ({ cls := "GeeseKeysModel", name := "row", desc := "(III)I" } : Jvm.MethodName)) ∈ lw_all := lw_g (lw_at lw_m7 143 rfl) rfl
theorem q1660 : (Jvm.Cond.code ({ cls := "GeeseKeysModel", name := "row", desc := "(III)I" } : Jvm.MethodName) prog_23_method_23_code (4 : Nat) (Option.some Jvm.ClassFile.FieldType.int)) ∈ lw_all := lw_g (lw_at lw_m7 144 rfl) rfl
theorem q1662 : (Jvm.Cond.instanceMethod ({ cls := "GeeseKeysModel", name := "feed", desc := "(I)I" } : Jvm.MethodName)) ∈ lw_all := lw_g (lw_at lw_m7 146 rfl) rfl
theorem q1663 : (Jvm.Cond.selects "GeeseKeysModel" ({ cls := "GeeseKeysModel", name := "feed", desc := "(I)I" } : Jvm.MethodName) ({ cls := "GeeseKeysModel", name := "feed", desc := "(I)I" } : Jvm.MethodName)) ∈ lw_all := lw_g (lw_at lw_m7 147 rfl) rfl
theorem q1664 : (Jvm.Cond.code ({ cls := "GeeseKeysModel", name := "feed", desc := "(I)I" } : Jvm.MethodName) prog_23_method_24_code (2 : Nat) (Option.some Jvm.ClassFile.FieldType.int)) ∈ lw_all := lw_g (lw_at lw_m7 148 rfl) rfl
theorem q1666 : (Jvm.Cond.instanceMethod ({ cls := "GeeseKeysModel", name := "fortress", desc := "()I" } : Jvm.MethodName)) ∈ lw_all := lw_g (lw_at lw_m7 150 rfl) rfl
theorem q1667 : (Jvm.Cond.selects "GeeseKeysModel" ({ cls := "GeeseKeysModel", name := "fortress", desc := "()I" } : Jvm.MethodName) ({ cls := "GeeseKeysModel", name := "fortress", desc := "()I" } : Jvm.MethodName)) ∈ lw_all := lw_g (lw_at lw_m7 151 rfl) rfl
theorem q1668 : (Jvm.Cond.code ({ cls := "GeeseKeysModel", name := "fortress", desc := "()I" } : Jvm.MethodName) prog_23_method_36_code (2 : Nat) (Option.some Jvm.ClassFile.FieldType.int)) ∈ lw_all := lw_g (lw_at lw_m7 152 rfl) rfl
theorem q1670 : (Jvm.Cond.instanceMethod ({ cls := "GeeseKeysModel", name := "told", desc := "(I)I" } : Jvm.MethodName)) ∈ lw_all := lw_g (lw_at lw_m7 154 rfl) rfl
theorem q1671 : (Jvm.Cond.selects "GeeseKeysModel" ({ cls := "GeeseKeysModel", name := "told", desc := "(I)I" } : Jvm.MethodName) ({ cls := "GeeseKeysModel", name := "told", desc := "(I)I" } : Jvm.MethodName)) ∈ lw_all := lw_g (lw_at lw_m7 155 rfl) rfl
theorem q1672 : (Jvm.Cond.code ({ cls := "GeeseKeysModel", name := "told", desc := "(I)I" } : Jvm.MethodName) prog_23_method_51_code (2 : Nat) (Option.some Jvm.ClassFile.FieldType.int)) ∈ lw_all := lw_g (lw_at lw_m7 156 rfl) rfl
theorem q1673 : (Jvm.Cond.methodLink "GeeseKeysModel" (189 : Nat) ({ cls := "GeeseKeysModel", name := "eatNow", desc := "()I" } : Jvm.MethodName)) ∈ lw_all := lw_g (lw_at lw_m7 157 rfl) rfl
theorem q1674 : (Jvm.Cond.privateMethod ({ cls := "GeeseKeysModel", name := "eatNow", desc := "()I" } : Jvm.MethodName)) ∈ lw_tbl := lw_at lw_m7 158 rfl
theorem q1675 : (Jvm.Cond.instanceMethod ({ cls := "GeeseKeysModel", name := "eatNow", desc := "()I" } : Jvm.MethodName)) ∈ lw_all := lw_g (lw_at lw_m7 159 rfl) rfl
theorem q1676 : (Jvm.Cond.code ({ cls := "GeeseKeysModel", name := "eatNow", desc := "()I" } : Jvm.MethodName) prog_23_method_42_code (1 : Nat) (Option.some Jvm.ClassFile.FieldType.int)) ∈ lw_all := lw_g (lw_at lw_m7 160 rfl) rfl
theorem q1677 : (Jvm.Cond.methodLink "GeeseKeysModel" (200 : Nat) ({ cls := "GeeseKeysModel", name := "open", desc := "()I" } : Jvm.MethodName)) ∈ lw_all := lw_g (lw_at lw_m7 161 rfl) rfl
theorem q1678 : (Jvm.Cond.privateMethod ({ cls := "GeeseKeysModel", name := "open", desc := "()I" } : Jvm.MethodName)) ∈ lw_tbl := lw_at lw_m7 162 rfl
theorem q1679 : (Jvm.Cond.instanceMethod ({ cls := "GeeseKeysModel", name := "open", desc := "()I" } : Jvm.MethodName)) ∈ lw_all := lw_g (lw_at lw_m7 163 rfl) rfl
theorem q1680 : (Jvm.Cond.code ({ cls := "GeeseKeysModel", name := "open", desc := "()I" } : Jvm.MethodName) prog_23_method_44_code (3 : Nat) (Option.some Jvm.ClassFile.FieldType.int)) ∈ lw_all := lw_g (lw_at lw_m7 164 rfl) rfl
theorem q1681 : (Jvm.Cond.methodLink "GeeseKeysModel" (212 : Nat) ({ cls := "GeeseKeysModel", name := "shut", desc := "()I" } : Jvm.MethodName)) ∈ lw_all := lw_g (lw_at lw_m7 165 rfl) rfl
theorem q1682 : (Jvm.Cond.privateMethod ({ cls := "GeeseKeysModel", name := "shut", desc := "()I" } : Jvm.MethodName)) ∈ lw_tbl := lw_at lw_m7 166 rfl
theorem q1683 : (Jvm.Cond.instanceMethod ({ cls := "GeeseKeysModel", name := "shut", desc := "()I" } : Jvm.MethodName)) ∈ lw_all := lw_g (lw_at lw_m7 167 rfl) rfl
theorem q1684 : (Jvm.Cond.code ({ cls := "GeeseKeysModel", name := "shut", desc := "()I" } : Jvm.MethodName) prog_23_method_47_code (3 : Nat) (Option.some Jvm.ClassFile.FieldType.int)) ∈ lw_all := lw_g (lw_at lw_m7 168 rfl) rfl
theorem q1685 : (Jvm.Cond.methodLink "GeeseKeysModel" (197 : Nat) ({ cls := "GeeseKeysModel", name := "keep", desc := "(I)V" } : Jvm.MethodName)) ∈ lw_all := lw_g (lw_at lw_m7 169 rfl) rfl
theorem q1686 : (Jvm.Cond.privateMethod ({ cls := "GeeseKeysModel", name := "keep", desc := "(I)V" } : Jvm.MethodName)) ∈ lw_tbl := lw_at lw_m7 170 rfl
theorem q1687 : (Jvm.Cond.instanceMethod ({ cls := "GeeseKeysModel", name := "keep", desc := "(I)V" } : Jvm.MethodName)) ∈ lw_all := lw_g (lw_at lw_m7 171 rfl) rfl
theorem q1688 : (Jvm.Cond.code ({ cls := "GeeseKeysModel", name := "keep", desc := "(I)V" } : Jvm.MethodName) prog_23_method_4_code (3 : Nat) (Option.none : Option Jvm.ClassFile.FieldType)) ∈ lw_all := lw_g (lw_at lw_m7 172 rfl) rfl
theorem q1689 : (Jvm.Cond.methodLink "GeeseKeysModel" (203 : Nat) ({ cls := "GeeseKeysModel", name := "hour", desc := "()V" } : Jvm.MethodName)) ∈ lw_all := lw_g (lw_at lw_m7 173 rfl) rfl
theorem q1690 : (Jvm.Cond.privateMethod ({ cls := "GeeseKeysModel", name := "hour", desc := "()V" } : Jvm.MethodName)) ∈ lw_tbl := lw_at lw_m7 174 rfl
theorem q1691 : (Jvm.Cond.instanceMethod ({ cls := "GeeseKeysModel", name := "hour", desc := "()V" } : Jvm.MethodName)) ∈ lw_all := lw_g (lw_at lw_m7 175 rfl) rfl
theorem q1692 : (Jvm.Cond.code ({ cls := "GeeseKeysModel", name := "hour", desc := "()V" } : Jvm.MethodName) prog_23_method_43_code (4 : Nat) (Option.none : Option Jvm.ClassFile.FieldType)) ∈ lw_all := lw_g (lw_at lw_m7 176 rfl) rfl
theorem q1693 : (Jvm.Cond.methodLink "GeeseKeysModel" (192 : Nat) ({ cls := "java/lang/Math", name := "max", desc := "(II)I" } : Jvm.MethodName)) ∈ lw_all := lw_g (lw_at lw_m7 177 rfl) rfl
theorem q1694 : (Jvm.Cond.methodLink "GeeseKeysModel" (206 : Nat) ({ cls := "GeeseKeysModel", name := "lay", desc := "(I)V" } : Jvm.MethodName)) ∈ lw_all := lw_g (lw_at lw_m7 178 rfl) rfl
theorem q1695 : (Jvm.Cond.privateMethod ({ cls := "GeeseKeysModel", name := "lay", desc := "(I)V" } : Jvm.MethodName)) ∈ lw_tbl := lw_at lw_m7 179 rfl
theorem q1696 : (Jvm.Cond.instanceMethod ({ cls := "GeeseKeysModel", name := "lay", desc := "(I)V" } : Jvm.MethodName)) ∈ lw_all := lw_g (lw_at lw_m7 180 rfl) rfl
theorem q1697 : (Jvm.Cond.code ({ cls := "GeeseKeysModel", name := "lay", desc := "(I)V" } : Jvm.MethodName) prog_23_method_5_code (3 : Nat) (Option.none : Option Jvm.ClassFile.FieldType)) ∈ lw_all := lw_g (lw_at lw_m7 181 rfl) rfl
theorem q1698 : (Jvm.Cond.methodLink "GeeseKeysModel" (215 : Nat) ({ cls := "GeeseKeysModel", name := "grains", desc := "()I" } : Jvm.MethodName)) ∈ lw_all := lw_g (lw_at lw_m7 182 rfl) rfl
theorem q1699 : (Jvm.Cond.privateMethod ({ cls := "GeeseKeysModel", name := "grains", desc := "()I" } : Jvm.MethodName)) ∈ lw_tbl := lw_at lw_m7 183 rfl
theorem q1700 : (Jvm.Cond.instanceMethod ({ cls := "GeeseKeysModel", name := "grains", desc := "()I" } : Jvm.MethodName)) ∈ lw_all := lw_g (lw_at lw_m7 184 rfl) rfl
theorem q1701 : (Jvm.Cond.code ({ cls := "GeeseKeysModel", name := "grains", desc := "()I" } : Jvm.MethodName) prog_23_method_45_code (3 : Nat) (Option.some Jvm.ClassFile.FieldType.int)) ∈ lw_all := lw_g (lw_at lw_m7 185 rfl) rfl
theorem q1702 : (Jvm.Cond.methodLink "GeeseKeysModel" (218 : Nat) ({ cls := "GeeseKeysModel", name := "far", desc := "(I)I" } : Jvm.MethodName)) ∈ lw_all := lw_g (lw_at lw_m7 186 rfl) rfl
theorem q1703 : (Jvm.Cond.privateMethod ({ cls := "GeeseKeysModel", name := "far", desc := "(I)I" } : Jvm.MethodName)) ∈ lw_tbl := lw_at lw_m7 187 rfl
theorem q1704 : (Jvm.Cond.instanceMethod ({ cls := "GeeseKeysModel", name := "far", desc := "(I)I" } : Jvm.MethodName)) ∈ lw_all := lw_g (lw_at lw_m7 188 rfl) rfl
theorem q1705 : (Jvm.Cond.code ({ cls := "GeeseKeysModel", name := "far", desc := "(I)I" } : Jvm.MethodName) prog_23_method_50_code (2 : Nat) (Option.some Jvm.ClassFile.FieldType.int)) ∈ lw_all := lw_g (lw_at lw_m7 189 rfl) rfl
theorem q1706 : (Jvm.Cond.methodLink "GeeseKeysModel" (209 : Nat) ({ cls := "GeeseKeysModel", name := "walk", desc := "(I)V" } : Jvm.MethodName)) ∈ lw_all := lw_g (lw_at lw_m7 190 rfl) rfl
theorem q1707 : (Jvm.Cond.privateMethod ({ cls := "GeeseKeysModel", name := "walk", desc := "(I)V" } : Jvm.MethodName)) ∈ lw_tbl := lw_at lw_m7 191 rfl
theorem q1708 : (Jvm.Cond.instanceMethod ({ cls := "GeeseKeysModel", name := "walk", desc := "(I)V" } : Jvm.MethodName)) ∈ lw_all := lw_g (lw_at lw_m7 192 rfl) rfl
theorem q1709 : (Jvm.Cond.code ({ cls := "GeeseKeysModel", name := "walk", desc := "(I)V" } : Jvm.MethodName) prog_23_method_48_code (7 : Nat) (Option.none : Option Jvm.ClassFile.FieldType)) ∈ lw_all := lw_g (lw_at lw_m7 193 rfl) rfl
theorem q1711 : (Jvm.Cond.instanceMethod ({ cls := "GeeseKeysModel", name := "pass", desc := "(I)I" } : Jvm.MethodName)) ∈ lw_all := lw_g (lw_at lw_m7 195 rfl) rfl
theorem q1712 : (Jvm.Cond.selects "GeeseKeysModel" ({ cls := "GeeseKeysModel", name := "pass", desc := "(I)I" } : Jvm.MethodName) ({ cls := "GeeseKeysModel", name := "pass", desc := "(I)I" } : Jvm.MethodName)) ∈ lw_all := lw_g (lw_at lw_m7 196 rfl) rfl
theorem q1713 : (Jvm.Cond.code ({ cls := "GeeseKeysModel", name := "pass", desc := "(I)I" } : Jvm.MethodName) prog_23_method_52_code (3 : Nat) (Option.some Jvm.ClassFile.FieldType.int)) ∈ lw_all := lw_g (lw_at lw_m7 197 rfl) rfl
theorem q1715 : (Jvm.Cond.instanceMethod ({ cls := "GeeseKeysModel", name := "on", desc := "(II)I" } : Jvm.MethodName)) ∈ lw_all := lw_g (lw_at lw_m7 199 rfl) rfl
theorem q1716 : (Jvm.Cond.selects "GeeseKeysModel" ({ cls := "GeeseKeysModel", name := "on", desc := "(II)I" } : Jvm.MethodName) ({ cls := "GeeseKeysModel", name := "on", desc := "(II)I" } : Jvm.MethodName)) ∈ lw_all := lw_g (lw_at lw_m7 200 rfl) rfl
theorem q1717 : (Jvm.Cond.code ({ cls := "GeeseKeysModel", name := "on", desc := "(II)I" } : Jvm.MethodName) prog_23_method_53_code (4 : Nat) (Option.some Jvm.ClassFile.FieldType.int)) ∈ lw_all := lw_g (lw_at lw_m7 201 rfl) rfl
theorem q1719 : (Jvm.Cond.instanceMethod ({ cls := "GeeseKeysModel", name := "opens", desc := "(I)I" } : Jvm.MethodName)) ∈ lw_all := lw_g (lw_at lw_m7 203 rfl) rfl
theorem q1720 : (Jvm.Cond.selects "GeeseKeysModel" ({ cls := "GeeseKeysModel", name := "opens", desc := "(I)I" } : Jvm.MethodName) ({ cls := "GeeseKeysModel", name := "opens", desc := "(I)I" } : Jvm.MethodName)) ∈ lw_all := lw_g (lw_at lw_m7 204 rfl) rfl
theorem q1721 : (Jvm.Cond.code ({ cls := "GeeseKeysModel", name := "opens", desc := "(I)I" } : Jvm.MethodName) prog_23_method_54_code (2 : Nat) (Option.some Jvm.ClassFile.FieldType.int)) ∈ lw_all := lw_g (lw_at lw_m7 205 rfl) rfl
theorem q1722 : (Jvm.Cond.methodLink "GeeseKeysModel" (221 : Nat) ({ cls := "GeeseKeysModel", name := "soon", desc := "(I)I" } : Jvm.MethodName)) ∈ lw_all := lw_g (lw_at lw_m7 206 rfl) rfl
theorem q1723 : (Jvm.Cond.privateMethod ({ cls := "GeeseKeysModel", name := "soon", desc := "(I)I" } : Jvm.MethodName)) ∈ lw_tbl := lw_at lw_m7 207 rfl
theorem q1724 : (Jvm.Cond.instanceMethod ({ cls := "GeeseKeysModel", name := "soon", desc := "(I)I" } : Jvm.MethodName)) ∈ lw_all := lw_g (lw_at lw_m7 208 rfl) rfl
theorem q1725 : (Jvm.Cond.code ({ cls := "GeeseKeysModel", name := "soon", desc := "(I)I" } : Jvm.MethodName) prog_23_method_46_code (4 : Nat) (Option.some Jvm.ClassFile.FieldType.int)) ∈ lw_all := lw_g (lw_at lw_m7 209 rfl) rfl
theorem q1727 : (Jvm.Cond.instanceMethod ({ cls := "GeeseKeysModel", name := "way", desc := "(III)I" } : Jvm.MethodName)) ∈ lw_all := lw_g (lw_at lw_m7 211 rfl) rfl
theorem q1728 : (Jvm.Cond.selects "GeeseKeysModel" ({ cls := "GeeseKeysModel", name := "way", desc := "(III)I" } : Jvm.MethodName) ({ cls := "GeeseKeysModel", name := "way", desc := "(III)I" } : Jvm.MethodName)) ∈ lw_all := lw_g (lw_at lw_m7 212 rfl) rfl
theorem q1729 : (Jvm.Cond.code ({ cls := "GeeseKeysModel", name := "way", desc := "(III)I" } : Jvm.MethodName) prog_23_method_57_code (4 : Nat) (Option.some Jvm.ClassFile.FieldType.int)) ∈ lw_all := lw_g (lw_at lw_m7 213 rfl) rfl
theorem q1730 : (Jvm.Cond.methodLink "GeeseKeysModel" (224 : Nat) ({ cls := "GeeseKeysModel", name := "wayTo", desc := "(II)I" } : Jvm.MethodName)) ∈ lw_all := lw_g (lw_at lw_m7 214 rfl) rfl
theorem q1731 : (Jvm.Cond.privateMethod ({ cls := "GeeseKeysModel", name := "wayTo", desc := "(II)I" } : Jvm.MethodName)) ∈ lw_tbl := lw_at lw_m7 215 rfl
theorem q1732 : (Jvm.Cond.instanceMethod ({ cls := "GeeseKeysModel", name := "wayTo", desc := "(II)I" } : Jvm.MethodName)) ∈ lw_all := lw_g (lw_at lw_m7 216 rfl) rfl
theorem q1733 : (Jvm.Cond.code ({ cls := "GeeseKeysModel", name := "wayTo", desc := "(II)I" } : Jvm.MethodName) prog_23_method_49_code (4 : Nat) (Option.some Jvm.ClassFile.FieldType.int)) ∈ lw_all := lw_g (lw_at lw_m7 217 rfl) rfl
theorem q1734 : (Jvm.Cond.methodLink "GeeseKeysModel" (233 : Nat) ({ cls := "GeeseKeysModel", name := "keys", desc := "(II)I" } : Jvm.MethodName)) ∈ lw_all := lw_g (lw_at lw_m7 218 rfl) rfl
theorem q1735 : (Jvm.Cond.privateMethod ({ cls := "GeeseKeysModel", name := "keys", desc := "(II)I" } : Jvm.MethodName)) ∈ lw_tbl := lw_at lw_m7 219 rfl
theorem q1736 : (Jvm.Cond.instanceMethod ({ cls := "GeeseKeysModel", name := "keys", desc := "(II)I" } : Jvm.MethodName)) ∈ lw_all := lw_g (lw_at lw_m7 220 rfl) rfl
theorem q1737 : (Jvm.Cond.code ({ cls := "GeeseKeysModel", name := "keys", desc := "(II)I" } : Jvm.MethodName) prog_23_method_56_code (10 : Nat) (Option.some Jvm.ClassFile.FieldType.int)) ∈ lw_all := lw_g (lw_at lw_m7 221 rfl) rfl
theorem q1738 : (Jvm.Cond.methodLink "GeeseKeysModel" (227 : Nat) ({ cls := "GeeseKeysModel", name := "late", desc := "(I)I" } : Jvm.MethodName)) ∈ lw_all := lw_g (lw_at lw_m7 222 rfl) rfl
theorem q1739 : (Jvm.Cond.static ({ cls := "GeeseKeysModel", name := "late", desc := "(I)I" } : Jvm.MethodName)) ∈ lw_all := lw_g (lw_at lw_m7 223 rfl) rfl
theorem q1740 : (Jvm.Cond.code ({ cls := "GeeseKeysModel", name := "late", desc := "(I)I" } : Jvm.MethodName) prog_23_method_55_code (1 : Nat) (Option.some Jvm.ClassFile.FieldType.int)) ∈ lw_all := lw_g (lw_at lw_m7 224 rfl) rfl
theorem q1741 : (Jvm.Cond.methodLink "GeeseKeysModel" (230 : Nat) ({ cls := "java/lang/Math", name := "min", desc := "(II)I" } : Jvm.MethodName)) ∈ lw_all := lw_g (lw_at lw_m7 225 rfl) rfl
theorem q1743 : (Jvm.Cond.instanceMethod ({ cls := "GeeseKeysModel", name := "lead", desc := "(II)I" } : Jvm.MethodName)) ∈ lw_all := lw_g (lw_at lw_m7 227 rfl) rfl
theorem q1744 : (Jvm.Cond.selects "GeeseKeysModel" ({ cls := "GeeseKeysModel", name := "lead", desc := "(II)I" } : Jvm.MethodName) ({ cls := "GeeseKeysModel", name := "lead", desc := "(II)I" } : Jvm.MethodName)) ∈ lw_all := lw_g (lw_at lw_m7 228 rfl) rfl
theorem q1745 : (Jvm.Cond.code ({ cls := "GeeseKeysModel", name := "lead", desc := "(II)I" } : Jvm.MethodName) prog_23_method_58_code (8 : Nat) (Option.some Jvm.ClassFile.FieldType.int)) ∈ lw_all := lw_g (lw_at lw_m7 229 rfl) rfl
theorem q1747 : (Jvm.Cond.instanceMethod ({ cls := "GeeseKeysModel", name := "see", desc := "(III)I" } : Jvm.MethodName)) ∈ lw_all := lw_g (lw_at lw_m7 231 rfl) rfl
theorem q1748 : (Jvm.Cond.selects "GeeseKeysModel" ({ cls := "GeeseKeysModel", name := "see", desc := "(III)I" } : Jvm.MethodName) ({ cls := "GeeseKeysModel", name := "see", desc := "(III)I" } : Jvm.MethodName)) ∈ lw_all := lw_g (lw_at lw_m7 232 rfl) rfl
theorem q1749 : (Jvm.Cond.code ({ cls := "GeeseKeysModel", name := "see", desc := "(III)I" } : Jvm.MethodName) prog_23_method_59_code (5 : Nat) (Option.some Jvm.ClassFile.FieldType.int)) ∈ lw_all := lw_g (lw_at lw_m7 233 rfl) rfl
theorem q1751 : (Jvm.Cond.instanceMethod ({ cls := "GeeseKeysModel", name := "from", desc := "(I)I" } : Jvm.MethodName)) ∈ lw_all := lw_g (lw_at lw_m7 235 rfl) rfl
theorem q1752 : (Jvm.Cond.selects "GeeseKeysModel" ({ cls := "GeeseKeysModel", name := "from", desc := "(I)I" } : Jvm.MethodName) ({ cls := "GeeseKeysModel", name := "from", desc := "(I)I" } : Jvm.MethodName)) ∈ lw_all := lw_g (lw_at lw_m7 236 rfl) rfl
theorem q1753 : (Jvm.Cond.code ({ cls := "GeeseKeysModel", name := "from", desc := "(I)I" } : Jvm.MethodName) prog_23_method_62_code (2 : Nat) (Option.some Jvm.ClassFile.FieldType.int)) ∈ lw_all := lw_g (lw_at lw_m7 237 rfl) rfl
theorem q1754 : (Jvm.Cond.methodLink "GeeseKeysModel" (239 : Nat) ({ cls := "GeeseKeysModel", name := "fits", desc := "(III)I" } : Jvm.MethodName)) ∈ lw_all := lw_g (lw_at lw_m7 238 rfl) rfl
theorem q1755 : (Jvm.Cond.privateMethod ({ cls := "GeeseKeysModel", name := "fits", desc := "(III)I" } : Jvm.MethodName)) ∈ lw_tbl := lw_at lw_m7 239 rfl
theorem q1756 : (Jvm.Cond.instanceMethod ({ cls := "GeeseKeysModel", name := "fits", desc := "(III)I" } : Jvm.MethodName)) ∈ lw_all := lw_g (lw_at lw_m8 0 rfl) rfl
theorem q1757 : (Jvm.Cond.code ({ cls := "GeeseKeysModel", name := "fits", desc := "(III)I" } : Jvm.MethodName) prog_23_method_61_code (7 : Nat) (Option.some Jvm.ClassFile.FieldType.int)) ∈ lw_all := lw_g (lw_at lw_m8 1 rfl) rfl
theorem q1758 : (Jvm.Cond.methodLink "GeeseKeysModel" (236 : Nat) ({ cls := "GeeseKeysModel", name := "isAllSeen", desc := "()Z" } : Jvm.MethodName)) ∈ lw_all := lw_g (lw_at lw_m8 2 rfl) rfl
theorem q1759 : (Jvm.Cond.privateMethod ({ cls := "GeeseKeysModel", name := "isAllSeen", desc := "()Z" } : Jvm.MethodName)) ∈ lw_tbl := lw_at lw_m8 3 rfl
theorem q1760 : (Jvm.Cond.instanceMethod ({ cls := "GeeseKeysModel", name := "isAllSeen", desc := "()Z" } : Jvm.MethodName)) ∈ lw_all := lw_g (lw_at lw_m8 4 rfl) rfl
theorem q1761 : (Jvm.Cond.code ({ cls := "GeeseKeysModel", name := "isAllSeen", desc := "()Z" } : Jvm.MethodName) prog_23_method_60_code (5 : Nat) (Option.some Jvm.ClassFile.FieldType.boolean)) ∈ lw_all := lw_g (lw_at lw_m8 5 rfl) rfl
theorem q1763 : (Jvm.Cond.instanceMethod ({ cls := "GeeseKeysModel", name := "can", desc := "(II)I" } : Jvm.MethodName)) ∈ lw_all := lw_g (lw_at lw_m8 7 rfl) rfl
theorem q1764 : (Jvm.Cond.selects "GeeseKeysModel" ({ cls := "GeeseKeysModel", name := "can", desc := "(II)I" } : Jvm.MethodName) ({ cls := "GeeseKeysModel", name := "can", desc := "(II)I" } : Jvm.MethodName)) ∈ lw_all := lw_g (lw_at lw_m8 8 rfl) rfl
theorem q1765 : (Jvm.Cond.code ({ cls := "GeeseKeysModel", name := "can", desc := "(II)I" } : Jvm.MethodName) prog_23_method_63_code (7 : Nat) (Option.some Jvm.ClassFile.FieldType.int)) ∈ lw_all := lw_g (lw_at lw_m8 9 rfl) rfl
theorem q1767 : (Jvm.Cond.instanceMethod ({ cls := "GeeseKeysModel", name := "odds", desc := "(III)J" } : Jvm.MethodName)) ∈ lw_all := lw_g (lw_at lw_m8 11 rfl) rfl
theorem q1768 : (Jvm.Cond.selects "GeeseKeysModel" ({ cls := "GeeseKeysModel", name := "odds", desc := "(III)J" } : Jvm.MethodName) ({ cls := "GeeseKeysModel", name := "odds", desc := "(III)J" } : Jvm.MethodName)) ∈ lw_all := lw_g (lw_at lw_m8 12 rfl) rfl
theorem q1769 : (Jvm.Cond.code ({ cls := "GeeseKeysModel", name := "odds", desc := "(III)J" } : Jvm.MethodName) prog_23_method_65_code (7 : Nat) (Option.some Jvm.ClassFile.FieldType.long)) ∈ lw_all := lw_g (lw_at lw_m8 13 rfl) rfl
theorem q1770 : (Jvm.Cond.constantLong "GeeseKeysModel" (242 : Nat) (-9223372036854775808 : Int64)) ∈ lw_all := lw_g (lw_at lw_m8 14 rfl) rfl
theorem q1771 : (Jvm.Cond.methodLink "GeeseKeysModel" (244 : Nat) ({ cls := "GeeseKeysModel", name := "on", desc := "(II)I" } : Jvm.MethodName)) ∈ lw_all := lw_g (lw_at lw_m8 15 rfl) rfl
theorem q1772 : (Jvm.Cond.constantLong "GeeseKeysModel" (247 : Nat) (8 : Int64)) ∈ lw_all := lw_g (lw_at lw_m8 16 rfl) rfl
theorem q1773 : (Jvm.Cond.methodLink "GeeseKeysModel" (249 : Nat) ({ cls := "GeeseKeysModel", name := "fraction", desc := "(JJI)J" } : Jvm.MethodName)) ∈ lw_all := lw_g (lw_at lw_m8 17 rfl) rfl
theorem q1774 : (Jvm.Cond.static ({ cls := "GeeseKeysModel", name := "fraction", desc := "(JJI)J" } : Jvm.MethodName)) ∈ lw_all := lw_g (lw_at lw_m8 18 rfl) rfl
theorem q1775 : (Jvm.Cond.code ({ cls := "GeeseKeysModel", name := "fraction", desc := "(JJI)J" } : Jvm.MethodName) prog_23_method_64_code (11 : Nat) (Option.some Jvm.ClassFile.FieldType.long)) ∈ lw_all := lw_g (lw_at lw_m8 19 rfl) rfl
theorem q1777 : (Jvm.Cond.instanceMethod ({ cls := "GeeseKeysModel", name := "mean", desc := "(II)J" } : Jvm.MethodName)) ∈ lw_all := lw_g (lw_at lw_m8 21 rfl) rfl
theorem q1778 : (Jvm.Cond.selects "GeeseKeysModel" ({ cls := "GeeseKeysModel", name := "mean", desc := "(II)J" } : Jvm.MethodName) ({ cls := "GeeseKeysModel", name := "mean", desc := "(II)J" } : Jvm.MethodName)) ∈ lw_all := lw_g (lw_at lw_m8 22 rfl) rfl
theorem q1779 : (Jvm.Cond.code ({ cls := "GeeseKeysModel", name := "mean", desc := "(II)J" } : Jvm.MethodName) prog_23_method_66_code (4 : Nat) (Option.some Jvm.ClassFile.FieldType.long)) ∈ lw_all := lw_g (lw_at lw_m8 23 rfl) rfl
theorem q1781 : (Jvm.Cond.instanceMethod ({ cls := "GeeseKeysModel", name := "plan", desc := "(II)I" } : Jvm.MethodName)) ∈ lw_all := lw_g (lw_at lw_m8 25 rfl) rfl
theorem q1782 : (Jvm.Cond.selects "GeeseKeysModel" ({ cls := "GeeseKeysModel", name := "plan", desc := "(II)I" } : Jvm.MethodName) ({ cls := "GeeseKeysModel", name := "plan", desc := "(II)I" } : Jvm.MethodName)) ∈ lw_all := lw_g (lw_at lw_m8 26 rfl) rfl
theorem q1783 : (Jvm.Cond.code ({ cls := "GeeseKeysModel", name := "plan", desc := "(II)I" } : Jvm.MethodName) prog_23_method_67_code (4 : Nat) (Option.some Jvm.ClassFile.FieldType.int)) ∈ lw_all := lw_g (lw_at lw_m8 27 rfl) rfl
theorem q1785 : (Jvm.Cond.instanceMethod ({ cls := "GeeseKeysModel", name := "ends", desc := "(I)I" } : Jvm.MethodName)) ∈ lw_all := lw_g (lw_at lw_m8 29 rfl) rfl
theorem q1786 : (Jvm.Cond.selects "GeeseKeysModel" ({ cls := "GeeseKeysModel", name := "ends", desc := "(I)I" } : Jvm.MethodName) ({ cls := "GeeseKeysModel", name := "ends", desc := "(I)I" } : Jvm.MethodName)) ∈ lw_all := lw_g (lw_at lw_m8 30 rfl) rfl
theorem q1787 : (Jvm.Cond.code ({ cls := "GeeseKeysModel", name := "ends", desc := "(I)I" } : Jvm.MethodName) prog_23_method_68_code (5 : Nat) (Option.some Jvm.ClassFile.FieldType.int)) ∈ lw_all := lw_g (lw_at lw_m8 31 rfl) rfl
theorem q1789 : (Jvm.Cond.instanceMethod ({ cls := "GeeseKeysModel", name := "book", desc := "(II)I" } : Jvm.MethodName)) ∈ lw_all := lw_g (lw_at lw_m8 33 rfl) rfl
theorem q1790 : (Jvm.Cond.selects "GeeseKeysModel" ({ cls := "GeeseKeysModel", name := "book", desc := "(II)I" } : Jvm.MethodName) ({ cls := "GeeseKeysModel", name := "book", desc := "(II)I" } : Jvm.MethodName)) ∈ lw_all := lw_g (lw_at lw_m8 34 rfl) rfl
theorem q1791 : (Jvm.Cond.code ({ cls := "GeeseKeysModel", name := "book", desc := "(II)I" } : Jvm.MethodName) prog_23_method_69_code (3 : Nat) (Option.some Jvm.ClassFile.FieldType.int)) ∈ lw_all := lw_g (lw_at lw_m8 35 rfl) rfl
theorem q1793 : (Jvm.Cond.instanceMethod ({ cls := "GeeseKeysModel", name := "looked", desc := "()I" } : Jvm.MethodName)) ∈ lw_all := lw_g (lw_at lw_m8 37 rfl) rfl
theorem q1794 : (Jvm.Cond.selects "GeeseKeysModel" ({ cls := "GeeseKeysModel", name := "looked", desc := "()I" } : Jvm.MethodName) ({ cls := "GeeseKeysModel", name := "looked", desc := "()I" } : Jvm.MethodName)) ∈ lw_all := lw_g (lw_at lw_m8 38 rfl) rfl
theorem q1795 : (Jvm.Cond.code ({ cls := "GeeseKeysModel", name := "looked", desc := "()I" } : Jvm.MethodName) prog_23_method_70_code (2 : Nat) (Option.some Jvm.ClassFile.FieldType.int)) ∈ lw_all := lw_g (lw_at lw_m8 39 rfl) rfl
theorem q1797 : (Jvm.Cond.instanceMethod ({ cls := "GeeseKeysModel", name := "act", desc := "(III)I" } : Jvm.MethodName)) ∈ lw_all := lw_g (lw_at lw_m8 41 rfl) rfl
theorem q1798 : (Jvm.Cond.selects "GeeseKeysModel" ({ cls := "GeeseKeysModel", name := "act", desc := "(III)I" } : Jvm.MethodName) ({ cls := "GeeseKeysModel", name := "act", desc := "(III)I" } : Jvm.MethodName)) ∈ lw_all := lw_g (lw_at lw_m8 42 rfl) rfl
theorem q1799 : (Jvm.Cond.code ({ cls := "GeeseKeysModel", name := "act", desc := "(III)I" } : Jvm.MethodName) prog_23_method_74_code (4 : Nat) (Option.some Jvm.ClassFile.FieldType.int)) ∈ lw_all := lw_g (lw_at lw_m8 43 rfl) rfl
theorem q1800 : (Jvm.Cond.methodLink "GeeseKeysModel" (263 : Nat) ({ cls := "GeeseKeysModel", name := "all", desc := "(III)I" } : Jvm.MethodName)) ∈ lw_all := lw_g (lw_at lw_m8 44 rfl) rfl
theorem q1801 : (Jvm.Cond.privateMethod ({ cls := "GeeseKeysModel", name := "all", desc := "(III)I" } : Jvm.MethodName)) ∈ lw_tbl := lw_at lw_m8 45 rfl
theorem q1802 : (Jvm.Cond.instanceMethod ({ cls := "GeeseKeysModel", name := "all", desc := "(III)I" } : Jvm.MethodName)) ∈ lw_all := lw_g (lw_at lw_m8 46 rfl) rfl
theorem q1803 : (Jvm.Cond.code ({ cls := "GeeseKeysModel", name := "all", desc := "(III)I" } : Jvm.MethodName) prog_23_method_72_code (4 : Nat) (Option.some Jvm.ClassFile.FieldType.int)) ∈ lw_all := lw_g (lw_at lw_m8 47 rfl) rfl
theorem q1804 : (Jvm.Cond.methodLink "GeeseKeysModel" (256 : Nat) ({ cls := "GeeseKeysModel", name := "byKind", desc := "(IIII)I" } : Jvm.MethodName)) ∈ lw_all := lw_g (lw_at lw_m8 48 rfl) rfl
theorem q1805 : (Jvm.Cond.privateMethod ({ cls := "GeeseKeysModel", name := "byKind", desc := "(IIII)I" } : Jvm.MethodName)) ∈ lw_tbl := lw_at lw_m8 49 rfl
theorem q1806 : (Jvm.Cond.instanceMethod ({ cls := "GeeseKeysModel", name := "byKind", desc := "(IIII)I" } : Jvm.MethodName)) ∈ lw_all := lw_g (lw_at lw_m8 50 rfl) rfl
theorem q1807 : (Jvm.Cond.code ({ cls := "GeeseKeysModel", name := "byKind", desc := "(IIII)I" } : Jvm.MethodName) prog_23_method_73_code (7 : Nat) (Option.some Jvm.ClassFile.FieldType.int)) ∈ lw_all := lw_g (lw_at lw_m8 51 rfl) rfl
theorem q1808 : (Jvm.Cond.methodLink "GeeseKeysModel" (260 : Nat) ({ cls := "GeeseKeysModel", name := "body", desc := "(I)I" } : Jvm.MethodName)) ∈ lw_all := lw_g (lw_at lw_m8 52 rfl) rfl
theorem q1809 : (Jvm.Cond.privateMethod ({ cls := "GeeseKeysModel", name := "body", desc := "(I)I" } : Jvm.MethodName)) ∈ lw_tbl := lw_at lw_m8 53 rfl
theorem q1810 : (Jvm.Cond.instanceMethod ({ cls := "GeeseKeysModel", name := "body", desc := "(I)I" } : Jvm.MethodName)) ∈ lw_all := lw_g (lw_at lw_m8 54 rfl) rfl
theorem q1811 : (Jvm.Cond.code ({ cls := "GeeseKeysModel", name := "body", desc := "(I)I" } : Jvm.MethodName) prog_23_method_71_code (2 : Nat) (Option.some Jvm.ClassFile.FieldType.int)) ∈ lw_all := lw_g (lw_at lw_m8 55 rfl) rfl
theorem q1813 : (Jvm.Cond.instanceMethod ({ cls := "GeeseKeysModel", name := "trace", desc := "(I)I" } : Jvm.MethodName)) ∈ lw_all := lw_g (lw_at lw_m8 57 rfl) rfl
theorem q1814 : (Jvm.Cond.selects "GeeseKeysModel" ({ cls := "GeeseKeysModel", name := "trace", desc := "(I)I" } : Jvm.MethodName) ({ cls := "GeeseKeysModel", name := "trace", desc := "(I)I" } : Jvm.MethodName)) ∈ lw_all := lw_g (lw_at lw_m8 58 rfl) rfl
theorem q1815 : (Jvm.Cond.code ({ cls := "GeeseKeysModel", name := "trace", desc := "(I)I" } : Jvm.MethodName) prog_23_method_75_code (2 : Nat) (Option.some Jvm.ClassFile.FieldType.int)) ∈ lw_all := lw_g (lw_at lw_m8 59 rfl) rfl
theorem q1817 : (Jvm.Cond.instanceMethod ({ cls := "GeeseKeysModel", name := "taken", desc := "(II)I" } : Jvm.MethodName)) ∈ lw_all := lw_g (lw_at lw_m8 61 rfl) rfl
theorem q1818 : (Jvm.Cond.selects "GeeseKeysModel" ({ cls := "GeeseKeysModel", name := "taken", desc := "(II)I" } : Jvm.MethodName) ({ cls := "GeeseKeysModel", name := "taken", desc := "(II)I" } : Jvm.MethodName)) ∈ lw_all := lw_g (lw_at lw_m8 62 rfl) rfl
theorem q1819 : (Jvm.Cond.code ({ cls := "GeeseKeysModel", name := "taken", desc := "(II)I" } : Jvm.MethodName) prog_23_method_76_code (4 : Nat) (Option.some Jvm.ClassFile.FieldType.int)) ∈ lw_all := lw_g (lw_at lw_m8 63 rfl) rfl
theorem q1821 : (Jvm.Cond.instanceMethod ({ cls := "GeeseKeysModel", name := "count", desc := "(I)I" } : Jvm.MethodName)) ∈ lw_all := lw_g (lw_at lw_m8 65 rfl) rfl
theorem q1822 : (Jvm.Cond.selects "GeeseKeysModel" ({ cls := "GeeseKeysModel", name := "count", desc := "(I)I" } : Jvm.MethodName) ({ cls := "GeeseKeysModel", name := "count", desc := "(I)I" } : Jvm.MethodName)) ∈ lw_all := lw_g (lw_at lw_m8 66 rfl) rfl
theorem q1823 : (Jvm.Cond.code ({ cls := "GeeseKeysModel", name := "count", desc := "(I)I" } : Jvm.MethodName) prog_23_method_77_code (2 : Nat) (Option.some Jvm.ClassFile.FieldType.int)) ∈ lw_all := lw_g (lw_at lw_m8 67 rfl) rfl
theorem q1825 : (Jvm.Cond.instanceMethod ({ cls := "GeeseKeysModel", name := "tape", desc := "(III)I" } : Jvm.MethodName)) ∈ lw_all := lw_g (lw_at lw_m8 69 rfl) rfl
theorem q1826 : (Jvm.Cond.selects "GeeseKeysModel" ({ cls := "GeeseKeysModel", name := "tape", desc := "(III)I" } : Jvm.MethodName) ({ cls := "GeeseKeysModel", name := "tape", desc := "(III)I" } : Jvm.MethodName)) ∈ lw_all := lw_g (lw_at lw_m8 70 rfl) rfl
theorem q1827 : (Jvm.Cond.code ({ cls := "GeeseKeysModel", name := "tape", desc := "(III)I" } : Jvm.MethodName) prog_23_method_79_code (5 : Nat) (Option.some Jvm.ClassFile.FieldType.int)) ∈ lw_all := lw_g (lw_at lw_m8 71 rfl) rfl
theorem q1828 : (Jvm.Cond.methodLink "GeeseKeysModel" (266 : Nat) ({ cls := "GeeseKeysModel", name := "isTape", desc := "(I)Z" } : Jvm.MethodName)) ∈ lw_all := lw_g (lw_at lw_m8 72 rfl) rfl
theorem q1829 : (Jvm.Cond.static ({ cls := "GeeseKeysModel", name := "isTape", desc := "(I)Z" } : Jvm.MethodName)) ∈ lw_all := lw_g (lw_at lw_m8 73 rfl) rfl
theorem q1830 : (Jvm.Cond.code ({ cls := "GeeseKeysModel", name := "isTape", desc := "(I)Z" } : Jvm.MethodName) prog_23_method_78_code (1 : Nat) (Option.some Jvm.ClassFile.FieldType.boolean)) ∈ lw_all := lw_g (lw_at lw_m8 74 rfl) rfl
theorem q1832 : (Jvm.Cond.instanceMethod ({ cls := "GeeseKeysModel", name := "item", desc := "(IIJ)I" } : Jvm.MethodName)) ∈ lw_all := lw_g (lw_at lw_m8 76 rfl) rfl
theorem q1833 : (Jvm.Cond.selects "GeeseKeysModel" ({ cls := "GeeseKeysModel", name := "item", desc := "(IIJ)I" } : Jvm.MethodName) ({ cls := "GeeseKeysModel", name := "item", desc := "(IIJ)I" } : Jvm.MethodName)) ∈ lw_all := lw_g (lw_at lw_m8 77 rfl) rfl
theorem q1834 : (Jvm.Cond.code ({ cls := "GeeseKeysModel", name := "item", desc := "(IIJ)I" } : Jvm.MethodName) prog_23_method_80_code (6 : Nat) (Option.some Jvm.ClassFile.FieldType.int)) ∈ lw_all := lw_g (lw_at lw_m8 78 rfl) rfl
theorem q1836 : (Jvm.Cond.instanceMethod ({ cls := "GeeseKeysModel", name := "read", desc := "(II)J" } : Jvm.MethodName)) ∈ lw_all := lw_g (lw_at lw_m8 80 rfl) rfl
theorem q1837 : (Jvm.Cond.selects "GeeseKeysModel" ({ cls := "GeeseKeysModel", name := "read", desc := "(II)J" } : Jvm.MethodName) ({ cls := "GeeseKeysModel", name := "read", desc := "(II)J" } : Jvm.MethodName)) ∈ lw_all := lw_g (lw_at lw_m8 81 rfl) rfl
theorem q1838 : (Jvm.Cond.code ({ cls := "GeeseKeysModel", name := "read", desc := "(II)J" } : Jvm.MethodName) prog_23_method_81_code (3 : Nat) (Option.some Jvm.ClassFile.FieldType.long)) ∈ lw_all := lw_g (lw_at lw_m8 82 rfl) rfl
theorem q1840 : (Jvm.Cond.instanceMethod ({ cls := "GeeseKeysModel", name := "shift", desc := "(IIIII)I" } : Jvm.MethodName)) ∈ lw_all := lw_g (lw_at lw_m8 84 rfl) rfl
theorem q1841 : (Jvm.Cond.selects "GeeseKeysModel" ({ cls := "GeeseKeysModel", name := "shift", desc := "(IIIII)I" } : Jvm.MethodName) ({ cls := "GeeseKeysModel", name := "shift", desc := "(IIIII)I" } : Jvm.MethodName)) ∈ lw_all := lw_g (lw_at lw_m8 85 rfl) rfl
theorem q1842 : (Jvm.Cond.code ({ cls := "GeeseKeysModel", name := "shift", desc := "(IIIII)I" } : Jvm.MethodName) prog_23_method_82_code (7 : Nat) (Option.some Jvm.ClassFile.FieldType.int)) ∈ lw_all := lw_g (lw_at lw_m8 86 rfl) rfl
theorem q1844 : (Jvm.Cond.instanceMethod ({ cls := "GeeseKeysModel", name := "judge", desc := "(II)I" } : Jvm.MethodName)) ∈ lw_all := lw_g (lw_at lw_m8 88 rfl) rfl
theorem q1845 : (Jvm.Cond.selects "GeeseKeysModel" ({ cls := "GeeseKeysModel", name := "judge", desc := "(II)I" } : Jvm.MethodName) ({ cls := "GeeseKeysModel", name := "judge", desc := "(II)I" } : Jvm.MethodName)) ∈ lw_all := lw_g (lw_at lw_m8 89 rfl) rfl
theorem q1846 : (Jvm.Cond.code ({ cls := "GeeseKeysModel", name := "judge", desc := "(II)I" } : Jvm.MethodName) prog_23_method_83_code (6 : Nat) (Option.some Jvm.ClassFile.FieldType.int)) ∈ lw_all := lw_g (lw_at lw_m8 90 rfl) rfl
theorem q1875 : (Jvm.Cond.castable "GeeseKeysModel" "java/lang/Object") ∈ lw_tbl := lw_at lw_m8 119 rfl
theorem in_X6 : ∀ w ∈ wsX60, w ∈ lw_all := lw_in wsX60 [1464, 1466, 1468, 1470, 1472, 1474, 1476, 1478, 1480, 1482, 1484, 1486, 1488, 1490, 1492, 1494, 1496, 1498, 1500, 1502, 1504, 1506, 1508, 1510, 1512, 1514, 1516, 1518, 1520] (by decide +kernel) (by decide +kernel)
