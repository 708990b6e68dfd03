/-! GeeseKeys$Time -/
set_option maxRecDepth 100000
def RX1 : String := "GeeseKeys$Time"
def TX1 : u_T := fun k => match k with
  | 0 => ("GeeseKeys$Time", "grains", "[B", true)
  | 1 => ("GeeseKeys$Time", "ones", "[B", true)
  | 2 => ("GeeseKeys$Time", "others", "[B", true)
  | 3 => ("GeeseKeys$Time", "places", "[B", true)
  | 4 => ("GeeseKeys$Time", "keys", "[B", true)
  | 5 => ("GeeseKeys$Time", "many", "I", false)
  | 6 => ("GeeseKeys$Time", "gates", "I", false)
  | 7 => ("GeeseKeys$Time", "gone", "I", false)
  | _ => ("GeeseKeys$Time", "hour", "I", false)
def tyX1 : Nat → FieldType := fun k => match k with
  | 0 => .array .byte
  | 1 => .array .byte
  | 2 => .array .byte
  | 3 => .array .byte
  | 4 => .array .byte
  | 5 => .int
  | 6 => .int
  | 7 => .int
  | _ => .int
abbrev wsX10 : List Cond := u_ws RX1 TX1 9
theorem nmX1 : ∀ a, a < 9 → ∀ b, b < 9 → a ≠ b → (TX1 a).2.1 ≠ (TX1 b).2.1 := by decide +kernel
theorem tyX1_ok : ∀ k, k < 9 → parseFieldDescriptor (TX1 k).2.2.1 = some (tyX1 k) := by decide +kernel
abbrev cX1_init : ByteArray := prog_19_method_1_code
def yX1_init : MethodName := ⟨RX1, "<init>", "()V"⟩
def dkwX1_init_2 : List UInt8 := [16, 8, 162, 0, 16, 42, 180, 0, 9, 27, 8, 84, 132, 1, 1, 167, 255, 240, 177]
abbrev dktX1_init_2 : List UInt8 := dkwX1_init_2 ++ []
def dkwX1_init_1 : List UInt8 := [188, 8, 181, 0, 18, 42, 16, 6, 188, 8, 181, 0, 21, 42, 16, 6, 188, 8, 181, 0, 24, 3, 60, 27]
abbrev dktX1_init_1 : List UInt8 := dkwX1_init_1 ++ dktX1_init_2
def dkwX1_init_0 : List UInt8 := [42, 183, 0, 3, 42, 16, 8, 188, 8, 181, 0, 9, 42, 16, 9, 188, 8, 181, 0, 15, 42, 16, 9]
abbrev dktX1_init_0 : List UInt8 := dkwX1_init_0 ++ dktX1_init_1
theorem dksX1_init_0 : cX1_init.data.toList.drop 0 = dktX1_init_0 := by decide +kernel
theorem dksX1_init_1 : cX1_init.data.toList.drop 23 = dktX1_init_1 := dk_seg dksX1_init_0 23 rfl rfl
theorem dksX1_init_2 : cX1_init.data.toList.drop 47 = dktX1_init_2 := dk_seg dksX1_init_1 24 rfl rfl
theorem dX1_init_0 : decode cX1_init 0 = .ok (.aload_n 0, 1) := dk_42 (dk_at dksX1_init_0 0 rfl rfl)
theorem dX1_init_1 : decode cX1_init 1 = .ok (.invokespecial 3, 3) := dk_183 0 3 (dk_at dksX1_init_0 1 rfl rfl)
theorem dX1_init_4 : decode cX1_init 4 = .ok (.aload_n 0, 1) := dk_42 (dk_at dksX1_init_0 4 rfl rfl)
theorem dX1_init_5 : decode cX1_init 5 = .ok (.bipush 8, 2) := dk_16 8 (dk_at dksX1_init_0 5 rfl rfl)
theorem dX1_init_7 : decode cX1_init 7 = .ok (.newarray .byte, 2) := dk_188_8 (dk_at dksX1_init_0 7 rfl rfl)
theorem dX1_init_9 : decode cX1_init 9 = .ok (.putfield 9, 3) := dk_181 0 9 (dk_at dksX1_init_0 9 rfl rfl)
theorem dX1_init_12 : decode cX1_init 12 = .ok (.aload_n 0, 1) := dk_42 (dk_at dksX1_init_0 12 rfl rfl)
theorem dX1_init_13 : decode cX1_init 13 = .ok (.bipush 9, 2) := dk_16 9 (dk_at dksX1_init_0 13 rfl rfl)
theorem dX1_init_15 : decode cX1_init 15 = .ok (.newarray .byte, 2) := dk_188_8 (dk_at dksX1_init_0 15 rfl rfl)
theorem dX1_init_17 : decode cX1_init 17 = .ok (.putfield 15, 3) := dk_181 0 15 (dk_at dksX1_init_0 17 rfl rfl)
theorem dX1_init_20 : decode cX1_init 20 = .ok (.aload_n 0, 1) := dk_42 (dk_at dksX1_init_0 20 rfl rfl)
theorem dX1_init_21 : decode cX1_init 21 = .ok (.bipush 9, 2) := dk_16 9 (dk_at dksX1_init_0 21 rfl rfl)
theorem dX1_init_23 : decode cX1_init 23 = .ok (.newarray .byte, 2) := dk_188_8 (dk_at dksX1_init_1 0 rfl rfl)
theorem dX1_init_25 : decode cX1_init 25 = .ok (.putfield 18, 3) := dk_181 0 18 (dk_at dksX1_init_1 2 rfl rfl)
theorem dX1_init_28 : decode cX1_init 28 = .ok (.aload_n 0, 1) := dk_42 (dk_at dksX1_init_1 5 rfl rfl)
theorem dX1_init_29 : decode cX1_init 29 = .ok (.bipush 6, 2) := dk_16 6 (dk_at dksX1_init_1 6 rfl rfl)
theorem dX1_init_31 : decode cX1_init 31 = .ok (.newarray .byte, 2) := dk_188_8 (dk_at dksX1_init_1 8 rfl rfl)
theorem dX1_init_33 : decode cX1_init 33 = .ok (.putfield 21, 3) := dk_181 0 21 (dk_at dksX1_init_1 10 rfl rfl)
theorem dX1_init_36 : decode cX1_init 36 = .ok (.aload_n 0, 1) := dk_42 (dk_at dksX1_init_1 13 rfl rfl)
theorem dX1_init_37 : decode cX1_init 37 = .ok (.bipush 6, 2) := dk_16 6 (dk_at dksX1_init_1 14 rfl rfl)
theorem dX1_init_39 : decode cX1_init 39 = .ok (.newarray .byte, 2) := dk_188_8 (dk_at dksX1_init_1 16 rfl rfl)
theorem dX1_init_41 : decode cX1_init 41 = .ok (.putfield 24, 3) := dk_181 0 24 (dk_at dksX1_init_1 18 rfl rfl)
theorem dX1_init_44 : decode cX1_init 44 = .ok (.iconst 0, 1) := dk_3 (dk_at dksX1_init_1 21 rfl rfl)
theorem dX1_init_45 : decode cX1_init 45 = .ok (.istore_n 1, 1) := dk_60 (dk_at dksX1_init_1 22 rfl rfl)
theorem dX1_init_46 : decode cX1_init 46 = .ok (.iload_n 1, 1) := dk_27 (dk_at dksX1_init_1 23 rfl rfl)
theorem dX1_init_47 : decode cX1_init 47 = .ok (.bipush 8, 2) := dk_16 8 (dk_at dksX1_init_2 0 rfl rfl)
theorem dX1_init_49 : decode cX1_init 49 = .ok (.if_icmp .ge 16, 3) := dk_162 0 16 (dk_at dksX1_init_2 2 rfl rfl)
theorem dX1_init_52 : decode cX1_init 52 = .ok (.aload_n 0, 1) := dk_42 (dk_at dksX1_init_2 5 rfl rfl)
theorem dX1_init_53 : decode cX1_init 53 = .ok (.getfield 9, 3) := dk_180 0 9 (dk_at dksX1_init_2 6 rfl rfl)
theorem dX1_init_56 : decode cX1_init 56 = .ok (.iload_n 1, 1) := dk_27 (dk_at dksX1_init_2 9 rfl rfl)
theorem dX1_init_57 : decode cX1_init 57 = .ok (.iconst 5, 1) := dk_8 (dk_at dksX1_init_2 10 rfl rfl)
theorem dX1_init_58 : decode cX1_init 58 = .ok (.bastore, 1) := dk_84 (dk_at dksX1_init_2 11 rfl rfl)
theorem dX1_init_59 : decode cX1_init 59 = .ok (.iinc 1 1, 3) := dk_132 1 1 (dk_at dksX1_init_2 12 rfl rfl)
theorem dX1_init_62 : decode cX1_init 62 = .ok (.goto (-16), 3) := dk_167 255 240 (dk_at dksX1_init_2 15 rfl rfl)
theorem dX1_init_65 : decode cX1_init 65 = .ok (.return_, 1) := dk_177 (dk_at dksX1_init_2 18 rfl rfl)
abbrev cX1_isTaken : ByteArray := prog_19_method_3_code
def yX1_isTaken : MethodName := ⟨RX1, "isTaken", "(I)Z"⟩
def dkwX1_isTaken_0 : List UInt8 := [42, 180, 0, 40, 27, 184, 0, 46, 172]
abbrev dktX1_isTaken_0 : List UInt8 := dkwX1_isTaken_0 ++ []
theorem dksX1_isTaken_0 : cX1_isTaken.data.toList.drop 0 = dktX1_isTaken_0 := by decide +kernel
theorem dX1_isTaken_0 : decode cX1_isTaken 0 = .ok (.aload_n 0, 1) := dk_42 (dk_at dksX1_isTaken_0 0 rfl rfl)
theorem dX1_isTaken_1 : decode cX1_isTaken 1 = .ok (.getfield 40, 3) := dk_180 0 40 (dk_at dksX1_isTaken_0 1 rfl rfl)
theorem dX1_isTaken_4 : decode cX1_isTaken 4 = .ok (.iload_n 1, 1) := dk_27 (dk_at dksX1_isTaken_0 4 rfl rfl)
theorem dX1_isTaken_5 : decode cX1_isTaken 5 = .ok (.invokestatic 46, 3) := dk_184 0 46 (dk_at dksX1_isTaken_0 5 rfl rfl)
theorem dX1_isTaken_8 : decode cX1_isTaken 8 = .ok (.ireturn, 1) := dk_172 (dk_at dksX1_isTaken_0 8 rfl rfl)
abbrev cX1_isWithOther : ByteArray := prog_19_method_6_code
def yX1_isWithOther : MethodName := ⟨RX1, "isWithOther", "(II)Z"⟩
def dkwX1_isWithOther_1 : List UInt8 := [180, 0, 21, 29, 51, 28, 160, 0, 5, 4, 172, 132, 3, 1, 167, 255, 220, 3, 172]
abbrev dktX1_isWithOther_1 : List UInt8 := dkwX1_isWithOther_1 ++ []
def dkwX1_isWithOther_0 : List UInt8 := [3, 62, 29, 42, 180, 0, 33, 162, 0, 34, 29, 27, 159, 0, 23, 42, 29, 182, 0, 53, 154, 0, 15, 42]
abbrev dktX1_isWithOther_0 : List UInt8 := dkwX1_isWithOther_0 ++ dktX1_isWithOther_1
theorem dksX1_isWithOther_0 : cX1_isWithOther.data.toList.drop 0 = dktX1_isWithOther_0 := by decide +kernel
theorem dksX1_isWithOther_1 : cX1_isWithOther.data.toList.drop 24 = dktX1_isWithOther_1 := dk_seg dksX1_isWithOther_0 24 rfl rfl
theorem dX1_isWithOther_0 : decode cX1_isWithOther 0 = .ok (.iconst 0, 1) := dk_3 (dk_at dksX1_isWithOther_0 0 rfl rfl)
theorem dX1_isWithOther_1 : decode cX1_isWithOther 1 = .ok (.istore_n 3, 1) := dk_62 (dk_at dksX1_isWithOther_0 1 rfl rfl)
theorem dX1_isWithOther_2 : decode cX1_isWithOther 2 = .ok (.iload_n 3, 1) := dk_29 (dk_at dksX1_isWithOther_0 2 rfl rfl)
theorem dX1_isWithOther_3 : decode cX1_isWithOther 3 = .ok (.aload_n 0, 1) := dk_42 (dk_at dksX1_isWithOther_0 3 rfl rfl)
theorem dX1_isWithOther_4 : decode cX1_isWithOther 4 = .ok (.getfield 33, 3) := dk_180 0 33 (dk_at dksX1_isWithOther_0 4 rfl rfl)
theorem dX1_isWithOther_7 : decode cX1_isWithOther 7 = .ok (.if_icmp .ge 34, 3) := dk_162 0 34 (dk_at dksX1_isWithOther_0 7 rfl rfl)
theorem dX1_isWithOther_10 : decode cX1_isWithOther 10 = .ok (.iload_n 3, 1) := dk_29 (dk_at dksX1_isWithOther_0 10 rfl rfl)
theorem dX1_isWithOther_11 : decode cX1_isWithOther 11 = .ok (.iload_n 1, 1) := dk_27 (dk_at dksX1_isWithOther_0 11 rfl rfl)
theorem dX1_isWithOther_12 : decode cX1_isWithOther 12 = .ok (.if_icmp .eq 23, 3) := dk_159 0 23 (dk_at dksX1_isWithOther_0 12 rfl rfl)
theorem dX1_isWithOther_15 : decode cX1_isWithOther 15 = .ok (.aload_n 0, 1) := dk_42 (dk_at dksX1_isWithOther_0 15 rfl rfl)
theorem dX1_isWithOther_16 : decode cX1_isWithOther 16 = .ok (.iload_n 3, 1) := dk_29 (dk_at dksX1_isWithOther_0 16 rfl rfl)
theorem dX1_isWithOther_17 : decode cX1_isWithOther 17 = .ok (.invokevirtual 53, 3) := dk_182 0 53 (dk_at dksX1_isWithOther_0 17 rfl rfl)
theorem dX1_isWithOther_20 : decode cX1_isWithOther 20 = .ok (.ifCond .ne 15, 3) := dk_154 0 15 (dk_at dksX1_isWithOther_0 20 rfl rfl)
theorem dX1_isWithOther_23 : decode cX1_isWithOther 23 = .ok (.aload_n 0, 1) := dk_42 (dk_at dksX1_isWithOther_0 23 rfl rfl)
theorem dX1_isWithOther_24 : decode cX1_isWithOther 24 = .ok (.getfield 21, 3) := dk_180 0 21 (dk_at dksX1_isWithOther_1 0 rfl rfl)
theorem dX1_isWithOther_27 : decode cX1_isWithOther 27 = .ok (.iload_n 3, 1) := dk_29 (dk_at dksX1_isWithOther_1 3 rfl rfl)
theorem dX1_isWithOther_28 : decode cX1_isWithOther 28 = .ok (.baload, 1) := dk_51 (dk_at dksX1_isWithOther_1 4 rfl rfl)
theorem dX1_isWithOther_29 : decode cX1_isWithOther 29 = .ok (.iload_n 2, 1) := dk_28 (dk_at dksX1_isWithOther_1 5 rfl rfl)
theorem dX1_isWithOther_30 : decode cX1_isWithOther 30 = .ok (.if_icmp .ne 5, 3) := dk_160 0 5 (dk_at dksX1_isWithOther_1 6 rfl rfl)
theorem dX1_isWithOther_33 : decode cX1_isWithOther 33 = .ok (.iconst 1, 1) := dk_4 (dk_at dksX1_isWithOther_1 9 rfl rfl)
theorem dX1_isWithOther_34 : decode cX1_isWithOther 34 = .ok (.ireturn, 1) := dk_172 (dk_at dksX1_isWithOther_1 10 rfl rfl)
theorem dX1_isWithOther_35 : decode cX1_isWithOther 35 = .ok (.iinc 3 1, 3) := dk_132 3 1 (dk_at dksX1_isWithOther_1 11 rfl rfl)
theorem dX1_isWithOther_38 : decode cX1_isWithOther 38 = .ok (.goto (-36), 3) := dk_167 255 220 (dk_at dksX1_isWithOther_1 14 rfl rfl)
theorem dX1_isWithOther_41 : decode cX1_isWithOther 41 = .ok (.iconst 0, 1) := dk_3 (dk_at dksX1_isWithOther_1 17 rfl rfl)
theorem dX1_isWithOther_42 : decode cX1_isWithOther 42 = .ok (.ireturn, 1) := dk_172 (dk_at dksX1_isWithOther_1 18 rfl rfl)
abbrev cX1_isGuard : ByteArray := prog_19_method_7_code
def yX1_isGuard : MethodName := ⟨RX1, "isGuard", "(II)Z"⟩
def dkwX1_isGuard_1 : List UInt8 := [153, 0, 7, 4, 167, 0, 4, 3, 172]
abbrev dktX1_isGuard_1 : List UInt8 := dkwX1_isGuard_1 ++ []
def dkwX1_isGuard_0 : List UInt8 := [42, 180, 0, 24, 27, 51, 16, 251, 159, 0, 21, 42, 42, 180, 0, 24, 27, 51, 28, 182, 0, 50]
abbrev dktX1_isGuard_0 : List UInt8 := dkwX1_isGuard_0 ++ dktX1_isGuard_1
theorem dksX1_isGuard_0 : cX1_isGuard.data.toList.drop 0 = dktX1_isGuard_0 := by decide +kernel
theorem dksX1_isGuard_1 : cX1_isGuard.data.toList.drop 22 = dktX1_isGuard_1 := dk_seg dksX1_isGuard_0 22 rfl rfl
theorem dX1_isGuard_0 : decode cX1_isGuard 0 = .ok (.aload_n 0, 1) := dk_42 (dk_at dksX1_isGuard_0 0 rfl rfl)
theorem dX1_isGuard_1 : decode cX1_isGuard 1 = .ok (.getfield 24, 3) := dk_180 0 24 (dk_at dksX1_isGuard_0 1 rfl rfl)
theorem dX1_isGuard_4 : decode cX1_isGuard 4 = .ok (.iload_n 1, 1) := dk_27 (dk_at dksX1_isGuard_0 4 rfl rfl)
theorem dX1_isGuard_5 : decode cX1_isGuard 5 = .ok (.baload, 1) := dk_51 (dk_at dksX1_isGuard_0 5 rfl rfl)
theorem dX1_isGuard_6 : decode cX1_isGuard 6 = .ok (.bipush (-5), 2) := dk_16 251 (dk_at dksX1_isGuard_0 6 rfl rfl)
theorem dX1_isGuard_8 : decode cX1_isGuard 8 = .ok (.if_icmp .eq 21, 3) := dk_159 0 21 (dk_at dksX1_isGuard_0 8 rfl rfl)
theorem dX1_isGuard_11 : decode cX1_isGuard 11 = .ok (.aload_n 0, 1) := dk_42 (dk_at dksX1_isGuard_0 11 rfl rfl)
theorem dX1_isGuard_12 : decode cX1_isGuard 12 = .ok (.aload_n 0, 1) := dk_42 (dk_at dksX1_isGuard_0 12 rfl rfl)
theorem dX1_isGuard_13 : decode cX1_isGuard 13 = .ok (.getfield 24, 3) := dk_180 0 24 (dk_at dksX1_isGuard_0 13 rfl rfl)
theorem dX1_isGuard_16 : decode cX1_isGuard 16 = .ok (.iload_n 1, 1) := dk_27 (dk_at dksX1_isGuard_0 16 rfl rfl)
theorem dX1_isGuard_17 : decode cX1_isGuard 17 = .ok (.baload, 1) := dk_51 (dk_at dksX1_isGuard_0 17 rfl rfl)
theorem dX1_isGuard_18 : decode cX1_isGuard 18 = .ok (.iload_n 2, 1) := dk_28 (dk_at dksX1_isGuard_0 18 rfl rfl)
theorem dX1_isGuard_19 : decode cX1_isGuard 19 = .ok (.invokevirtual 50, 3) := dk_182 0 50 (dk_at dksX1_isGuard_0 19 rfl rfl)
theorem dX1_isGuard_22 : decode cX1_isGuard 22 = .ok (.ifCond .eq 7, 3) := dk_153 0 7 (dk_at dksX1_isGuard_1 0 rfl rfl)
theorem dX1_isGuard_25 : decode cX1_isGuard 25 = .ok (.iconst 1, 1) := dk_4 (dk_at dksX1_isGuard_1 3 rfl rfl)
theorem dX1_isGuard_26 : decode cX1_isGuard 26 = .ok (.goto 4, 3) := dk_167 0 4 (dk_at dksX1_isGuard_1 4 rfl rfl)
theorem dX1_isGuard_29 : decode cX1_isGuard 29 = .ok (.iconst 0, 1) := dk_3 (dk_at dksX1_isGuard_1 7 rfl rfl)
theorem dX1_isGuard_30 : decode cX1_isGuard 30 = .ok (.ireturn, 1) := dk_172 (dk_at dksX1_isGuard_1 8 rfl rfl)
abbrev cX1_isEnd : ByteArray := prog_19_method_4_code
def yX1_isEnd : MethodName := ⟨RX1, "isEnd", "(II)Z"⟩
def dkwX1_isEnd_1 : List UInt8 := [28, 160, 0, 7, 4, 167, 0, 4, 3, 172]
abbrev dktX1_isEnd_1 : List UInt8 := dkwX1_isEnd_1 ++ []
def dkwX1_isEnd_0 : List UInt8 := [27, 42, 180, 0, 37, 162, 0, 27, 42, 180, 0, 15, 27, 51, 28, 159, 0, 13, 42, 180, 0, 18, 27, 51]
abbrev dktX1_isEnd_0 : List UInt8 := dkwX1_isEnd_0 ++ dktX1_isEnd_1
theorem dksX1_isEnd_0 : cX1_isEnd.data.toList.drop 0 = dktX1_isEnd_0 := by decide +kernel
theorem dksX1_isEnd_1 : cX1_isEnd.data.toList.drop 24 = dktX1_isEnd_1 := dk_seg dksX1_isEnd_0 24 rfl rfl
theorem dX1_isEnd_0 : decode cX1_isEnd 0 = .ok (.iload_n 1, 1) := dk_27 (dk_at dksX1_isEnd_0 0 rfl rfl)
theorem dX1_isEnd_1 : decode cX1_isEnd 1 = .ok (.aload_n 0, 1) := dk_42 (dk_at dksX1_isEnd_0 1 rfl rfl)
theorem dX1_isEnd_2 : decode cX1_isEnd 2 = .ok (.getfield 37, 3) := dk_180 0 37 (dk_at dksX1_isEnd_0 2 rfl rfl)
theorem dX1_isEnd_5 : decode cX1_isEnd 5 = .ok (.if_icmp .ge 27, 3) := dk_162 0 27 (dk_at dksX1_isEnd_0 5 rfl rfl)
theorem dX1_isEnd_8 : decode cX1_isEnd 8 = .ok (.aload_n 0, 1) := dk_42 (dk_at dksX1_isEnd_0 8 rfl rfl)
theorem dX1_isEnd_9 : decode cX1_isEnd 9 = .ok (.getfield 15, 3) := dk_180 0 15 (dk_at dksX1_isEnd_0 9 rfl rfl)
theorem dX1_isEnd_12 : decode cX1_isEnd 12 = .ok (.iload_n 1, 1) := dk_27 (dk_at dksX1_isEnd_0 12 rfl rfl)
theorem dX1_isEnd_13 : decode cX1_isEnd 13 = .ok (.baload, 1) := dk_51 (dk_at dksX1_isEnd_0 13 rfl rfl)
theorem dX1_isEnd_14 : decode cX1_isEnd 14 = .ok (.iload_n 2, 1) := dk_28 (dk_at dksX1_isEnd_0 14 rfl rfl)
theorem dX1_isEnd_15 : decode cX1_isEnd 15 = .ok (.if_icmp .eq 13, 3) := dk_159 0 13 (dk_at dksX1_isEnd_0 15 rfl rfl)
theorem dX1_isEnd_18 : decode cX1_isEnd 18 = .ok (.aload_n 0, 1) := dk_42 (dk_at dksX1_isEnd_0 18 rfl rfl)
theorem dX1_isEnd_19 : decode cX1_isEnd 19 = .ok (.getfield 18, 3) := dk_180 0 18 (dk_at dksX1_isEnd_0 19 rfl rfl)
theorem dX1_isEnd_22 : decode cX1_isEnd 22 = .ok (.iload_n 1, 1) := dk_27 (dk_at dksX1_isEnd_0 22 rfl rfl)
theorem dX1_isEnd_23 : decode cX1_isEnd 23 = .ok (.baload, 1) := dk_51 (dk_at dksX1_isEnd_0 23 rfl rfl)
theorem dX1_isEnd_24 : decode cX1_isEnd 24 = .ok (.iload_n 2, 1) := dk_28 (dk_at dksX1_isEnd_1 0 rfl rfl)
theorem dX1_isEnd_25 : decode cX1_isEnd 25 = .ok (.if_icmp .ne 7, 3) := dk_160 0 7 (dk_at dksX1_isEnd_1 1 rfl rfl)
theorem dX1_isEnd_28 : decode cX1_isEnd 28 = .ok (.iconst 1, 1) := dk_4 (dk_at dksX1_isEnd_1 4 rfl rfl)
theorem dX1_isEnd_29 : decode cX1_isEnd 29 = .ok (.goto 4, 3) := dk_167 0 4 (dk_at dksX1_isEnd_1 5 rfl rfl)
theorem dX1_isEnd_32 : decode cX1_isEnd 32 = .ok (.iconst 0, 1) := dk_3 (dk_at dksX1_isEnd_1 8 rfl rfl)
theorem dX1_isEnd_33 : decode cX1_isEnd 33 = .ok (.ireturn, 1) := dk_172 (dk_at dksX1_isEnd_1 9 rfl rfl)
abbrev cX1_besides : ByteArray := prog_19_method_5_code
def yX1_besides : MethodName := ⟨RX1, "besides", "(I)I"⟩
def dkwX1_besides_2 : List UInt8 := [172]
abbrev dktX1_besides_2 : List UInt8 := dkwX1_besides_2 ++ []
def dkwX1_besides_1 : List UInt8 := [180, 0, 15, 29, 51, 42, 180, 0, 18, 29, 51, 96, 27, 100, 120, 128, 61, 132, 3, 1, 167, 255, 216, 28]
abbrev dktX1_besides_1 : List UInt8 := dkwX1_besides_1 ++ dktX1_besides_2
def dkwX1_besides_0 : List UInt8 := [3, 61, 3, 62, 29, 42, 180, 0, 37, 162, 0, 38, 42, 29, 27, 182, 0, 50, 153, 0, 23, 28, 4, 42]
abbrev dktX1_besides_0 : List UInt8 := dkwX1_besides_0 ++ dktX1_besides_1
theorem dksX1_besides_0 : cX1_besides.data.toList.drop 0 = dktX1_besides_0 := by decide +kernel
theorem dksX1_besides_1 : cX1_besides.data.toList.drop 24 = dktX1_besides_1 := dk_seg dksX1_besides_0 24 rfl rfl
theorem dksX1_besides_2 : cX1_besides.data.toList.drop 48 = dktX1_besides_2 := dk_seg dksX1_besides_1 24 rfl rfl
theorem dX1_besides_0 : decode cX1_besides 0 = .ok (.iconst 0, 1) := dk_3 (dk_at dksX1_besides_0 0 rfl rfl)
theorem dX1_besides_1 : decode cX1_besides 1 = .ok (.istore_n 2, 1) := dk_61 (dk_at dksX1_besides_0 1 rfl rfl)
theorem dX1_besides_2 : decode cX1_besides 2 = .ok (.iconst 0, 1) := dk_3 (dk_at dksX1_besides_0 2 rfl rfl)
theorem dX1_besides_3 : decode cX1_besides 3 = .ok (.istore_n 3, 1) := dk_62 (dk_at dksX1_besides_0 3 rfl rfl)
theorem dX1_besides_4 : decode cX1_besides 4 = .ok (.iload_n 3, 1) := dk_29 (dk_at dksX1_besides_0 4 rfl rfl)
theorem dX1_besides_5 : decode cX1_besides 5 = .ok (.aload_n 0, 1) := dk_42 (dk_at dksX1_besides_0 5 rfl rfl)
theorem dX1_besides_6 : decode cX1_besides 6 = .ok (.getfield 37, 3) := dk_180 0 37 (dk_at dksX1_besides_0 6 rfl rfl)
theorem dX1_besides_9 : decode cX1_besides 9 = .ok (.if_icmp .ge 38, 3) := dk_162 0 38 (dk_at dksX1_besides_0 9 rfl rfl)
theorem dX1_besides_12 : decode cX1_besides 12 = .ok (.aload_n 0, 1) := dk_42 (dk_at dksX1_besides_0 12 rfl rfl)
theorem dX1_besides_13 : decode cX1_besides 13 = .ok (.iload_n 3, 1) := dk_29 (dk_at dksX1_besides_0 13 rfl rfl)
theorem dX1_besides_14 : decode cX1_besides 14 = .ok (.iload_n 1, 1) := dk_27 (dk_at dksX1_besides_0 14 rfl rfl)
theorem dX1_besides_15 : decode cX1_besides 15 = .ok (.invokevirtual 50, 3) := dk_182 0 50 (dk_at dksX1_besides_0 15 rfl rfl)
theorem dX1_besides_18 : decode cX1_besides 18 = .ok (.ifCond .eq 23, 3) := dk_153 0 23 (dk_at dksX1_besides_0 18 rfl rfl)
theorem dX1_besides_21 : decode cX1_besides 21 = .ok (.iload_n 2, 1) := dk_28 (dk_at dksX1_besides_0 21 rfl rfl)
theorem dX1_besides_22 : decode cX1_besides 22 = .ok (.iconst 1, 1) := dk_4 (dk_at dksX1_besides_0 22 rfl rfl)
theorem dX1_besides_23 : decode cX1_besides 23 = .ok (.aload_n 0, 1) := dk_42 (dk_at dksX1_besides_0 23 rfl rfl)
theorem dX1_besides_24 : decode cX1_besides 24 = .ok (.getfield 15, 3) := dk_180 0 15 (dk_at dksX1_besides_1 0 rfl rfl)
theorem dX1_besides_27 : decode cX1_besides 27 = .ok (.iload_n 3, 1) := dk_29 (dk_at dksX1_besides_1 3 rfl rfl)
theorem dX1_besides_28 : decode cX1_besides 28 = .ok (.baload, 1) := dk_51 (dk_at dksX1_besides_1 4 rfl rfl)
theorem dX1_besides_29 : decode cX1_besides 29 = .ok (.aload_n 0, 1) := dk_42 (dk_at dksX1_besides_1 5 rfl rfl)
theorem dX1_besides_30 : decode cX1_besides 30 = .ok (.getfield 18, 3) := dk_180 0 18 (dk_at dksX1_besides_1 6 rfl rfl)
theorem dX1_besides_33 : decode cX1_besides 33 = .ok (.iload_n 3, 1) := dk_29 (dk_at dksX1_besides_1 9 rfl rfl)
theorem dX1_besides_34 : decode cX1_besides 34 = .ok (.baload, 1) := dk_51 (dk_at dksX1_besides_1 10 rfl rfl)
theorem dX1_besides_35 : decode cX1_besides 35 = .ok (.iadd, 1) := dk_96 (dk_at dksX1_besides_1 11 rfl rfl)
theorem dX1_besides_36 : decode cX1_besides 36 = .ok (.iload_n 1, 1) := dk_27 (dk_at dksX1_besides_1 12 rfl rfl)
theorem dX1_besides_37 : decode cX1_besides 37 = .ok (.isub, 1) := dk_100 (dk_at dksX1_besides_1 13 rfl rfl)
theorem dX1_besides_38 : decode cX1_besides 38 = .ok (.ishl, 1) := dk_120 (dk_at dksX1_besides_1 14 rfl rfl)
theorem dX1_besides_39 : decode cX1_besides 39 = .ok (.ior, 1) := dk_128 (dk_at dksX1_besides_1 15 rfl rfl)
theorem dX1_besides_40 : decode cX1_besides 40 = .ok (.istore_n 2, 1) := dk_61 (dk_at dksX1_besides_1 16 rfl rfl)
theorem dX1_besides_41 : decode cX1_besides 41 = .ok (.iinc 3 1, 3) := dk_132 3 1 (dk_at dksX1_besides_1 17 rfl rfl)
theorem dX1_besides_44 : decode cX1_besides 44 = .ok (.goto (-40), 3) := dk_167 255 216 (dk_at dksX1_besides_1 20 rfl rfl)
theorem dX1_besides_47 : decode cX1_besides 47 = .ok (.iload_n 2, 1) := dk_28 (dk_at dksX1_besides_1 23 rfl rfl)
theorem dX1_besides_48 : decode cX1_besides 48 = .ok (.ireturn, 1) := dk_172 (dk_at dksX1_besides_2 0 rfl rfl)
abbrev cX1_brings : ByteArray := prog_19_method_11_code
def yX1_brings : MethodName := ⟨RX1, "brings", "(II)V"⟩
def dkwX1_brings_1 : List UInt8 := [177]
abbrev dktX1_brings_1 : List UInt8 := dkwX1_brings_1 ++ []
def dkwX1_brings_0 : List UInt8 := [42, 180, 0, 9, 27, 3, 16, 99, 42, 180, 0, 9, 27, 51, 28, 96, 184, 0, 60, 184, 0, 66, 145, 84]
abbrev dktX1_brings_0 : List UInt8 := dkwX1_brings_0 ++ dktX1_brings_1
theorem dksX1_brings_0 : cX1_brings.data.toList.drop 0 = dktX1_brings_0 := by decide +kernel
theorem dksX1_brings_1 : cX1_brings.data.toList.drop 24 = dktX1_brings_1 := dk_seg dksX1_brings_0 24 rfl rfl
theorem dX1_brings_0 : decode cX1_brings 0 = .ok (.aload_n 0, 1) := dk_42 (dk_at dksX1_brings_0 0 rfl rfl)
theorem dX1_brings_1 : decode cX1_brings 1 = .ok (.getfield 9, 3) := dk_180 0 9 (dk_at dksX1_brings_0 1 rfl rfl)
theorem dX1_brings_4 : decode cX1_brings 4 = .ok (.iload_n 1, 1) := dk_27 (dk_at dksX1_brings_0 4 rfl rfl)
theorem dX1_brings_5 : decode cX1_brings 5 = .ok (.iconst 0, 1) := dk_3 (dk_at dksX1_brings_0 5 rfl rfl)
theorem dX1_brings_6 : decode cX1_brings 6 = .ok (.bipush 99, 2) := dk_16 99 (dk_at dksX1_brings_0 6 rfl rfl)
theorem dX1_brings_8 : decode cX1_brings 8 = .ok (.aload_n 0, 1) := dk_42 (dk_at dksX1_brings_0 8 rfl rfl)
theorem dX1_brings_9 : decode cX1_brings 9 = .ok (.getfield 9, 3) := dk_180 0 9 (dk_at dksX1_brings_0 9 rfl rfl)
theorem dX1_brings_12 : decode cX1_brings 12 = .ok (.iload_n 1, 1) := dk_27 (dk_at dksX1_brings_0 12 rfl rfl)
theorem dX1_brings_13 : decode cX1_brings 13 = .ok (.baload, 1) := dk_51 (dk_at dksX1_brings_0 13 rfl rfl)
theorem dX1_brings_14 : decode cX1_brings 14 = .ok (.iload_n 2, 1) := dk_28 (dk_at dksX1_brings_0 14 rfl rfl)
theorem dX1_brings_15 : decode cX1_brings 15 = .ok (.iadd, 1) := dk_96 (dk_at dksX1_brings_0 15 rfl rfl)
theorem dX1_brings_16 : decode cX1_brings 16 = .ok (.invokestatic 60, 3) := dk_184 0 60 (dk_at dksX1_brings_0 16 rfl rfl)
theorem dX1_brings_19 : decode cX1_brings 19 = .ok (.invokestatic 66, 3) := dk_184 0 66 (dk_at dksX1_brings_0 19 rfl rfl)
theorem dX1_brings_22 : decode cX1_brings 22 = .ok (.i2b, 1) := dk_145 (dk_at dksX1_brings_0 22 rfl rfl)
theorem dX1_brings_23 : decode cX1_brings 23 = .ok (.bastore, 1) := dk_84 (dk_at dksX1_brings_0 23 rfl rfl)
theorem dX1_brings_24 : decode cX1_brings 24 = .ok (.return_, 1) := dk_177 (dk_at dksX1_brings_1 0 rfl rfl)
abbrev cX1_takes : ByteArray := prog_19_method_2_code
def yX1_takes : MethodName := ⟨RX1, "takes", "(LGeeseKeys$Time;)V"⟩
def dkwX1_takes_4 : List UInt8 := [180, 0, 40, 181, 0, 40, 42, 43, 180, 0, 43, 181, 0, 43, 177]
abbrev dktX1_takes_4 : List UInt8 := dkwX1_takes_4 ++ []
def dkwX1_takes_3 : List UInt8 := [16, 6, 184, 0, 27, 42, 43, 180, 0, 33, 181, 0, 33, 42, 43, 180, 0, 37, 181, 0, 37, 42, 43]
abbrev dktX1_takes_3 : List UInt8 := dkwX1_takes_3 ++ dktX1_takes_4
def dkwX1_takes_2 : List UInt8 := [180, 0, 21, 3, 42, 180, 0, 21, 3, 16, 6, 184, 0, 27, 43, 180, 0, 24, 3, 42, 180, 0, 24, 3]
abbrev dktX1_takes_2 : List UInt8 := dkwX1_takes_2 ++ dktX1_takes_3
def dkwX1_takes_1 : List UInt8 := [3, 16, 9, 184, 0, 27, 43, 180, 0, 18, 3, 42, 180, 0, 18, 3, 16, 9, 184, 0, 27, 43]
abbrev dktX1_takes_1 : List UInt8 := dkwX1_takes_1 ++ dktX1_takes_2
def dkwX1_takes_0 : List UInt8 := [43, 180, 0, 9, 3, 42, 180, 0, 9, 3, 16, 8, 184, 0, 27, 43, 180, 0, 15, 3, 42, 180, 0, 15]
abbrev dktX1_takes_0 : List UInt8 := dkwX1_takes_0 ++ dktX1_takes_1
theorem dksX1_takes_0 : cX1_takes.data.toList.drop 0 = dktX1_takes_0 := by decide +kernel
theorem dksX1_takes_1 : cX1_takes.data.toList.drop 24 = dktX1_takes_1 := dk_seg dksX1_takes_0 24 rfl rfl
theorem dksX1_takes_2 : cX1_takes.data.toList.drop 46 = dktX1_takes_2 := dk_seg dksX1_takes_1 22 rfl rfl
theorem dksX1_takes_3 : cX1_takes.data.toList.drop 70 = dktX1_takes_3 := dk_seg dksX1_takes_2 24 rfl rfl
theorem dksX1_takes_4 : cX1_takes.data.toList.drop 93 = dktX1_takes_4 := dk_seg dksX1_takes_3 23 rfl rfl
theorem dX1_takes_0 : decode cX1_takes 0 = .ok (.aload_n 1, 1) := dk_43 (dk_at dksX1_takes_0 0 rfl rfl)
theorem dX1_takes_1 : decode cX1_takes 1 = .ok (.getfield 9, 3) := dk_180 0 9 (dk_at dksX1_takes_0 1 rfl rfl)
theorem dX1_takes_4 : decode cX1_takes 4 = .ok (.iconst 0, 1) := dk_3 (dk_at dksX1_takes_0 4 rfl rfl)
theorem dX1_takes_5 : decode cX1_takes 5 = .ok (.aload_n 0, 1) := dk_42 (dk_at dksX1_takes_0 5 rfl rfl)
theorem dX1_takes_6 : decode cX1_takes 6 = .ok (.getfield 9, 3) := dk_180 0 9 (dk_at dksX1_takes_0 6 rfl rfl)
theorem dX1_takes_9 : decode cX1_takes 9 = .ok (.iconst 0, 1) := dk_3 (dk_at dksX1_takes_0 9 rfl rfl)
theorem dX1_takes_10 : decode cX1_takes 10 = .ok (.bipush 8, 2) := dk_16 8 (dk_at dksX1_takes_0 10 rfl rfl)
theorem dX1_takes_12 : decode cX1_takes 12 = .ok (.invokestatic 27, 3) := dk_184 0 27 (dk_at dksX1_takes_0 12 rfl rfl)
theorem dX1_takes_15 : decode cX1_takes 15 = .ok (.aload_n 1, 1) := dk_43 (dk_at dksX1_takes_0 15 rfl rfl)
theorem dX1_takes_16 : decode cX1_takes 16 = .ok (.getfield 15, 3) := dk_180 0 15 (dk_at dksX1_takes_0 16 rfl rfl)
theorem dX1_takes_19 : decode cX1_takes 19 = .ok (.iconst 0, 1) := dk_3 (dk_at dksX1_takes_0 19 rfl rfl)
theorem dX1_takes_20 : decode cX1_takes 20 = .ok (.aload_n 0, 1) := dk_42 (dk_at dksX1_takes_0 20 rfl rfl)
theorem dX1_takes_21 : decode cX1_takes 21 = .ok (.getfield 15, 3) := dk_180 0 15 (dk_at dksX1_takes_0 21 rfl rfl)
theorem dX1_takes_24 : decode cX1_takes 24 = .ok (.iconst 0, 1) := dk_3 (dk_at dksX1_takes_1 0 rfl rfl)
theorem dX1_takes_25 : decode cX1_takes 25 = .ok (.bipush 9, 2) := dk_16 9 (dk_at dksX1_takes_1 1 rfl rfl)
theorem dX1_takes_27 : decode cX1_takes 27 = .ok (.invokestatic 27, 3) := dk_184 0 27 (dk_at dksX1_takes_1 3 rfl rfl)
theorem dX1_takes_30 : decode cX1_takes 30 = .ok (.aload_n 1, 1) := dk_43 (dk_at dksX1_takes_1 6 rfl rfl)
theorem dX1_takes_31 : decode cX1_takes 31 = .ok (.getfield 18, 3) := dk_180 0 18 (dk_at dksX1_takes_1 7 rfl rfl)
theorem dX1_takes_34 : decode cX1_takes 34 = .ok (.iconst 0, 1) := dk_3 (dk_at dksX1_takes_1 10 rfl rfl)
theorem dX1_takes_35 : decode cX1_takes 35 = .ok (.aload_n 0, 1) := dk_42 (dk_at dksX1_takes_1 11 rfl rfl)
theorem dX1_takes_36 : decode cX1_takes 36 = .ok (.getfield 18, 3) := dk_180 0 18 (dk_at dksX1_takes_1 12 rfl rfl)
theorem dX1_takes_39 : decode cX1_takes 39 = .ok (.iconst 0, 1) := dk_3 (dk_at dksX1_takes_1 15 rfl rfl)
theorem dX1_takes_40 : decode cX1_takes 40 = .ok (.bipush 9, 2) := dk_16 9 (dk_at dksX1_takes_1 16 rfl rfl)
theorem dX1_takes_42 : decode cX1_takes 42 = .ok (.invokestatic 27, 3) := dk_184 0 27 (dk_at dksX1_takes_1 18 rfl rfl)
theorem dX1_takes_45 : decode cX1_takes 45 = .ok (.aload_n 1, 1) := dk_43 (dk_at dksX1_takes_1 21 rfl rfl)
theorem dX1_takes_46 : decode cX1_takes 46 = .ok (.getfield 21, 3) := dk_180 0 21 (dk_at dksX1_takes_2 0 rfl rfl)
theorem dX1_takes_49 : decode cX1_takes 49 = .ok (.iconst 0, 1) := dk_3 (dk_at dksX1_takes_2 3 rfl rfl)
theorem dX1_takes_50 : decode cX1_takes 50 = .ok (.aload_n 0, 1) := dk_42 (dk_at dksX1_takes_2 4 rfl rfl)
theorem dX1_takes_51 : decode cX1_takes 51 = .ok (.getfield 21, 3) := dk_180 0 21 (dk_at dksX1_takes_2 5 rfl rfl)
theorem dX1_takes_54 : decode cX1_takes 54 = .ok (.iconst 0, 1) := dk_3 (dk_at dksX1_takes_2 8 rfl rfl)
theorem dX1_takes_55 : decode cX1_takes 55 = .ok (.bipush 6, 2) := dk_16 6 (dk_at dksX1_takes_2 9 rfl rfl)
theorem dX1_takes_57 : decode cX1_takes 57 = .ok (.invokestatic 27, 3) := dk_184 0 27 (dk_at dksX1_takes_2 11 rfl rfl)
theorem dX1_takes_60 : decode cX1_takes 60 = .ok (.aload_n 1, 1) := dk_43 (dk_at dksX1_takes_2 14 rfl rfl)
theorem dX1_takes_61 : decode cX1_takes 61 = .ok (.getfield 24, 3) := dk_180 0 24 (dk_at dksX1_takes_2 15 rfl rfl)
theorem dX1_takes_64 : decode cX1_takes 64 = .ok (.iconst 0, 1) := dk_3 (dk_at dksX1_takes_2 18 rfl rfl)
theorem dX1_takes_65 : decode cX1_takes 65 = .ok (.aload_n 0, 1) := dk_42 (dk_at dksX1_takes_2 19 rfl rfl)
theorem dX1_takes_66 : decode cX1_takes 66 = .ok (.getfield 24, 3) := dk_180 0 24 (dk_at dksX1_takes_2 20 rfl rfl)
theorem dX1_takes_69 : decode cX1_takes 69 = .ok (.iconst 0, 1) := dk_3 (dk_at dksX1_takes_2 23 rfl rfl)
theorem dX1_takes_70 : decode cX1_takes 70 = .ok (.bipush 6, 2) := dk_16 6 (dk_at dksX1_takes_3 0 rfl rfl)
theorem dX1_takes_72 : decode cX1_takes 72 = .ok (.invokestatic 27, 3) := dk_184 0 27 (dk_at dksX1_takes_3 2 rfl rfl)
theorem dX1_takes_75 : decode cX1_takes 75 = .ok (.aload_n 0, 1) := dk_42 (dk_at dksX1_takes_3 5 rfl rfl)
theorem dX1_takes_76 : decode cX1_takes 76 = .ok (.aload_n 1, 1) := dk_43 (dk_at dksX1_takes_3 6 rfl rfl)
theorem dX1_takes_77 : decode cX1_takes 77 = .ok (.getfield 33, 3) := dk_180 0 33 (dk_at dksX1_takes_3 7 rfl rfl)
theorem dX1_takes_80 : decode cX1_takes 80 = .ok (.putfield 33, 3) := dk_181 0 33 (dk_at dksX1_takes_3 10 rfl rfl)
theorem dX1_takes_83 : decode cX1_takes 83 = .ok (.aload_n 0, 1) := dk_42 (dk_at dksX1_takes_3 13 rfl rfl)
theorem dX1_takes_84 : decode cX1_takes 84 = .ok (.aload_n 1, 1) := dk_43 (dk_at dksX1_takes_3 14 rfl rfl)
theorem dX1_takes_85 : decode cX1_takes 85 = .ok (.getfield 37, 3) := dk_180 0 37 (dk_at dksX1_takes_3 15 rfl rfl)
theorem dX1_takes_88 : decode cX1_takes 88 = .ok (.putfield 37, 3) := dk_181 0 37 (dk_at dksX1_takes_3 18 rfl rfl)
theorem dX1_takes_91 : decode cX1_takes 91 = .ok (.aload_n 0, 1) := dk_42 (dk_at dksX1_takes_3 21 rfl rfl)
theorem dX1_takes_92 : decode cX1_takes 92 = .ok (.aload_n 1, 1) := dk_43 (dk_at dksX1_takes_3 22 rfl rfl)
theorem dX1_takes_93 : decode cX1_takes 93 = .ok (.getfield 40, 3) := dk_180 0 40 (dk_at dksX1_takes_4 0 rfl rfl)
theorem dX1_takes_96 : decode cX1_takes 96 = .ok (.putfield 40, 3) := dk_181 0 40 (dk_at dksX1_takes_4 3 rfl rfl)
theorem dX1_takes_99 : decode cX1_takes 99 = .ok (.aload_n 0, 1) := dk_42 (dk_at dksX1_takes_4 6 rfl rfl)
theorem dX1_takes_100 : decode cX1_takes 100 = .ok (.aload_n 1, 1) := dk_43 (dk_at dksX1_takes_4 7 rfl rfl)
theorem dX1_takes_101 : decode cX1_takes 101 = .ok (.getfield 43, 3) := dk_180 0 43 (dk_at dksX1_takes_4 8 rfl rfl)
theorem dX1_takes_104 : decode cX1_takes 104 = .ok (.putfield 43, 3) := dk_181 0 43 (dk_at dksX1_takes_4 11 rfl rfl)
theorem dX1_takes_107 : decode cX1_takes 107 = .ok (.return_, 1) := dk_177 (dk_at dksX1_takes_4 14 rfl rfl)
abbrev cX1_openOnes : ByteArray := prog_19_method_9_code
def yX1_openOnes : MethodName := ⟨RX1, "openOnes", "()I"⟩
def dkwX1_openOnes_1 : List UInt8 := [128, 60, 132, 2, 1, 167, 255, 231, 27, 172]
abbrev dktX1_openOnes_1 : List UInt8 := dkwX1_openOnes_1 ++ []
def dkwX1_openOnes_0 : List UInt8 := [3, 60, 3, 61, 28, 42, 180, 0, 37, 162, 0, 23, 42, 28, 182, 0, 57, 153, 0, 9, 27, 4, 28, 120]
abbrev dktX1_openOnes_0 : List UInt8 := dkwX1_openOnes_0 ++ dktX1_openOnes_1
theorem dksX1_openOnes_0 : cX1_openOnes.data.toList.drop 0 = dktX1_openOnes_0 := by decide +kernel
theorem dksX1_openOnes_1 : cX1_openOnes.data.toList.drop 24 = dktX1_openOnes_1 := dk_seg dksX1_openOnes_0 24 rfl rfl
theorem dX1_openOnes_0 : decode cX1_openOnes 0 = .ok (.iconst 0, 1) := dk_3 (dk_at dksX1_openOnes_0 0 rfl rfl)
theorem dX1_openOnes_1 : decode cX1_openOnes 1 = .ok (.istore_n 1, 1) := dk_60 (dk_at dksX1_openOnes_0 1 rfl rfl)
theorem dX1_openOnes_2 : decode cX1_openOnes 2 = .ok (.iconst 0, 1) := dk_3 (dk_at dksX1_openOnes_0 2 rfl rfl)
theorem dX1_openOnes_3 : decode cX1_openOnes 3 = .ok (.istore_n 2, 1) := dk_61 (dk_at dksX1_openOnes_0 3 rfl rfl)
theorem dX1_openOnes_4 : decode cX1_openOnes 4 = .ok (.iload_n 2, 1) := dk_28 (dk_at dksX1_openOnes_0 4 rfl rfl)
theorem dX1_openOnes_5 : decode cX1_openOnes 5 = .ok (.aload_n 0, 1) := dk_42 (dk_at dksX1_openOnes_0 5 rfl rfl)
theorem dX1_openOnes_6 : decode cX1_openOnes 6 = .ok (.getfield 37, 3) := dk_180 0 37 (dk_at dksX1_openOnes_0 6 rfl rfl)
theorem dX1_openOnes_9 : decode cX1_openOnes 9 = .ok (.if_icmp .ge 23, 3) := dk_162 0 23 (dk_at dksX1_openOnes_0 9 rfl rfl)
theorem dX1_openOnes_12 : decode cX1_openOnes 12 = .ok (.aload_n 0, 1) := dk_42 (dk_at dksX1_openOnes_0 12 rfl rfl)
theorem dX1_openOnes_13 : decode cX1_openOnes 13 = .ok (.iload_n 2, 1) := dk_28 (dk_at dksX1_openOnes_0 13 rfl rfl)
theorem dX1_openOnes_14 : decode cX1_openOnes 14 = .ok (.invokevirtual 57, 3) := dk_182 0 57 (dk_at dksX1_openOnes_0 14 rfl rfl)
theorem dX1_openOnes_17 : decode cX1_openOnes 17 = .ok (.ifCond .eq 9, 3) := dk_153 0 9 (dk_at dksX1_openOnes_0 17 rfl rfl)
theorem dX1_openOnes_20 : decode cX1_openOnes 20 = .ok (.iload_n 1, 1) := dk_27 (dk_at dksX1_openOnes_0 20 rfl rfl)
theorem dX1_openOnes_21 : decode cX1_openOnes 21 = .ok (.iconst 1, 1) := dk_4 (dk_at dksX1_openOnes_0 21 rfl rfl)
theorem dX1_openOnes_22 : decode cX1_openOnes 22 = .ok (.iload_n 2, 1) := dk_28 (dk_at dksX1_openOnes_0 22 rfl rfl)
theorem dX1_openOnes_23 : decode cX1_openOnes 23 = .ok (.ishl, 1) := dk_120 (dk_at dksX1_openOnes_0 23 rfl rfl)
theorem dX1_openOnes_24 : decode cX1_openOnes 24 = .ok (.ior, 1) := dk_128 (dk_at dksX1_openOnes_1 0 rfl rfl)
theorem dX1_openOnes_25 : decode cX1_openOnes 25 = .ok (.istore_n 1, 1) := dk_60 (dk_at dksX1_openOnes_1 1 rfl rfl)
theorem dX1_openOnes_26 : decode cX1_openOnes 26 = .ok (.iinc 2 1, 3) := dk_132 2 1 (dk_at dksX1_openOnes_1 2 rfl rfl)
theorem dX1_openOnes_29 : decode cX1_openOnes 29 = .ok (.goto (-25), 3) := dk_167 255 231 (dk_at dksX1_openOnes_1 5 rfl rfl)
theorem dX1_openOnes_32 : decode cX1_openOnes 32 = .ok (.iload_n 1, 1) := dk_27 (dk_at dksX1_openOnes_1 8 rfl rfl)
theorem dX1_openOnes_33 : decode cX1_openOnes 33 = .ok (.ireturn, 1) := dk_172 (dk_at dksX1_openOnes_1 9 rfl rfl)
abbrev cX1_isOpen : ByteArray := prog_19_method_8_code
def yX1_isOpen : MethodName := ⟨RX1, "isOpen", "(I)Z"⟩
def dkwX1_isOpen_2 : List UInt8 := [167, 255, 211, 3, 172]
abbrev dktX1_isOpen_2 : List UInt8 := dkwX1_isOpen_2 ++ []
def dkwX1_isOpen_1 : List UInt8 := [27, 160, 0, 19, 42, 27, 42, 180, 0, 21, 28, 51, 182, 0, 50, 153, 0, 5, 4, 172, 132, 2, 1]
abbrev dktX1_isOpen_1 : List UInt8 := dkwX1_isOpen_1 ++ dktX1_isOpen_2
def dkwX1_isOpen_0 : List UInt8 := [3, 61, 28, 42, 180, 0, 33, 162, 0, 43, 42, 28, 182, 0, 53, 154, 0, 29, 42, 180, 0, 24, 28, 51]
abbrev dktX1_isOpen_0 : List UInt8 := dkwX1_isOpen_0 ++ dktX1_isOpen_1
theorem dksX1_isOpen_0 : cX1_isOpen.data.toList.drop 0 = dktX1_isOpen_0 := by decide +kernel
theorem dksX1_isOpen_1 : cX1_isOpen.data.toList.drop 24 = dktX1_isOpen_1 := dk_seg dksX1_isOpen_0 24 rfl rfl
theorem dksX1_isOpen_2 : cX1_isOpen.data.toList.drop 47 = dktX1_isOpen_2 := dk_seg dksX1_isOpen_1 23 rfl rfl
theorem dX1_isOpen_0 : decode cX1_isOpen 0 = .ok (.iconst 0, 1) := dk_3 (dk_at dksX1_isOpen_0 0 rfl rfl)
theorem dX1_isOpen_1 : decode cX1_isOpen 1 = .ok (.istore_n 2, 1) := dk_61 (dk_at dksX1_isOpen_0 1 rfl rfl)
theorem dX1_isOpen_2 : decode cX1_isOpen 2 = .ok (.iload_n 2, 1) := dk_28 (dk_at dksX1_isOpen_0 2 rfl rfl)
theorem dX1_isOpen_3 : decode cX1_isOpen 3 = .ok (.aload_n 0, 1) := dk_42 (dk_at dksX1_isOpen_0 3 rfl rfl)
theorem dX1_isOpen_4 : decode cX1_isOpen 4 = .ok (.getfield 33, 3) := dk_180 0 33 (dk_at dksX1_isOpen_0 4 rfl rfl)
theorem dX1_isOpen_7 : decode cX1_isOpen 7 = .ok (.if_icmp .ge 43, 3) := dk_162 0 43 (dk_at dksX1_isOpen_0 7 rfl rfl)
theorem dX1_isOpen_10 : decode cX1_isOpen 10 = .ok (.aload_n 0, 1) := dk_42 (dk_at dksX1_isOpen_0 10 rfl rfl)
theorem dX1_isOpen_11 : decode cX1_isOpen 11 = .ok (.iload_n 2, 1) := dk_28 (dk_at dksX1_isOpen_0 11 rfl rfl)
theorem dX1_isOpen_12 : decode cX1_isOpen 12 = .ok (.invokevirtual 53, 3) := dk_182 0 53 (dk_at dksX1_isOpen_0 12 rfl rfl)
theorem dX1_isOpen_15 : decode cX1_isOpen 15 = .ok (.ifCond .ne 29, 3) := dk_154 0 29 (dk_at dksX1_isOpen_0 15 rfl rfl)
theorem dX1_isOpen_18 : decode cX1_isOpen 18 = .ok (.aload_n 0, 1) := dk_42 (dk_at dksX1_isOpen_0 18 rfl rfl)
theorem dX1_isOpen_19 : decode cX1_isOpen 19 = .ok (.getfield 24, 3) := dk_180 0 24 (dk_at dksX1_isOpen_0 19 rfl rfl)
theorem dX1_isOpen_22 : decode cX1_isOpen 22 = .ok (.iload_n 2, 1) := dk_28 (dk_at dksX1_isOpen_0 22 rfl rfl)
theorem dX1_isOpen_23 : decode cX1_isOpen 23 = .ok (.baload, 1) := dk_51 (dk_at dksX1_isOpen_0 23 rfl rfl)
theorem dX1_isOpen_24 : decode cX1_isOpen 24 = .ok (.iload_n 1, 1) := dk_27 (dk_at dksX1_isOpen_1 0 rfl rfl)
theorem dX1_isOpen_25 : decode cX1_isOpen 25 = .ok (.if_icmp .ne 19, 3) := dk_160 0 19 (dk_at dksX1_isOpen_1 1 rfl rfl)
theorem dX1_isOpen_28 : decode cX1_isOpen 28 = .ok (.aload_n 0, 1) := dk_42 (dk_at dksX1_isOpen_1 4 rfl rfl)
theorem dX1_isOpen_29 : decode cX1_isOpen 29 = .ok (.iload_n 1, 1) := dk_27 (dk_at dksX1_isOpen_1 5 rfl rfl)
theorem dX1_isOpen_30 : decode cX1_isOpen 30 = .ok (.aload_n 0, 1) := dk_42 (dk_at dksX1_isOpen_1 6 rfl rfl)
theorem dX1_isOpen_31 : decode cX1_isOpen 31 = .ok (.getfield 21, 3) := dk_180 0 21 (dk_at dksX1_isOpen_1 7 rfl rfl)
theorem dX1_isOpen_34 : decode cX1_isOpen 34 = .ok (.iload_n 2, 1) := dk_28 (dk_at dksX1_isOpen_1 10 rfl rfl)
theorem dX1_isOpen_35 : decode cX1_isOpen 35 = .ok (.baload, 1) := dk_51 (dk_at dksX1_isOpen_1 11 rfl rfl)
theorem dX1_isOpen_36 : decode cX1_isOpen 36 = .ok (.invokevirtual 50, 3) := dk_182 0 50 (dk_at dksX1_isOpen_1 12 rfl rfl)
theorem dX1_isOpen_39 : decode cX1_isOpen 39 = .ok (.ifCond .eq 5, 3) := dk_153 0 5 (dk_at dksX1_isOpen_1 15 rfl rfl)
theorem dX1_isOpen_42 : decode cX1_isOpen 42 = .ok (.iconst 1, 1) := dk_4 (dk_at dksX1_isOpen_1 18 rfl rfl)
theorem dX1_isOpen_43 : decode cX1_isOpen 43 = .ok (.ireturn, 1) := dk_172 (dk_at dksX1_isOpen_1 19 rfl rfl)
theorem dX1_isOpen_44 : decode cX1_isOpen 44 = .ok (.iinc 2 1, 3) := dk_132 2 1 (dk_at dksX1_isOpen_1 20 rfl rfl)
theorem dX1_isOpen_47 : decode cX1_isOpen 47 = .ok (.goto (-45), 3) := dk_167 255 211 (dk_at dksX1_isOpen_2 0 rfl rfl)
theorem dX1_isOpen_50 : decode cX1_isOpen 50 = .ok (.iconst 0, 1) := dk_3 (dk_at dksX1_isOpen_2 3 rfl rfl)
theorem dX1_isOpen_51 : decode cX1_isOpen 51 = .ok (.ireturn, 1) := dk_172 (dk_at dksX1_isOpen_2 4 rfl rfl)
abbrev cX1_reached : ByteArray := prog_19_method_10_code
def yX1_reached : MethodName := ⟨RX1, "reached", "(I)I"⟩
def dkwX1_reached_3 : List UInt8 := [167, 255, 191, 28, 172]
abbrev dktX1_reached_3 : List UInt8 := dkwX1_reached_3 ++ []
def dkwX1_reached_2 : List UInt8 := [28, 4, 42, 180, 0, 15, 29, 51, 120, 4, 42, 180, 0, 18, 29, 51, 120, 128, 128, 61, 132, 3, 1]
abbrev dktX1_reached_2 : List UInt8 := dkwX1_reached_2 ++ dktX1_reached_3
def dkwX1_reached_1 : List UInt8 := [180, 0, 15, 29, 51, 184, 0, 46, 154, 0, 16, 27, 42, 180, 0, 18, 29, 51, 184, 0, 46, 153, 0, 23]
abbrev dktX1_reached_1 : List UInt8 := dkwX1_reached_1 ++ dktX1_reached_2
def dkwX1_reached_0 : List UInt8 := [27, 61, 3, 62, 29, 42, 180, 0, 37, 162, 0, 63, 42, 29, 182, 0, 57, 153, 0, 49, 27, 42]
abbrev dktX1_reached_0 : List UInt8 := dkwX1_reached_0 ++ dktX1_reached_1
theorem dksX1_reached_0 : cX1_reached.data.toList.drop 0 = dktX1_reached_0 := by decide +kernel
theorem dksX1_reached_1 : cX1_reached.data.toList.drop 22 = dktX1_reached_1 := dk_seg dksX1_reached_0 22 rfl rfl
theorem dksX1_reached_2 : cX1_reached.data.toList.drop 46 = dktX1_reached_2 := dk_seg dksX1_reached_1 24 rfl rfl
theorem dksX1_reached_3 : cX1_reached.data.toList.drop 69 = dktX1_reached_3 := dk_seg dksX1_reached_2 23 rfl rfl
theorem dX1_reached_0 : decode cX1_reached 0 = .ok (.iload_n 1, 1) := dk_27 (dk_at dksX1_reached_0 0 rfl rfl)
theorem dX1_reached_1 : decode cX1_reached 1 = .ok (.istore_n 2, 1) := dk_61 (dk_at dksX1_reached_0 1 rfl rfl)
theorem dX1_reached_2 : decode cX1_reached 2 = .ok (.iconst 0, 1) := dk_3 (dk_at dksX1_reached_0 2 rfl rfl)
theorem dX1_reached_3 : decode cX1_reached 3 = .ok (.istore_n 3, 1) := dk_62 (dk_at dksX1_reached_0 3 rfl rfl)
theorem dX1_reached_4 : decode cX1_reached 4 = .ok (.iload_n 3, 1) := dk_29 (dk_at dksX1_reached_0 4 rfl rfl)
theorem dX1_reached_5 : decode cX1_reached 5 = .ok (.aload_n 0, 1) := dk_42 (dk_at dksX1_reached_0 5 rfl rfl)
theorem dX1_reached_6 : decode cX1_reached 6 = .ok (.getfield 37, 3) := dk_180 0 37 (dk_at dksX1_reached_0 6 rfl rfl)
theorem dX1_reached_9 : decode cX1_reached 9 = .ok (.if_icmp .ge 63, 3) := dk_162 0 63 (dk_at dksX1_reached_0 9 rfl rfl)
theorem dX1_reached_12 : decode cX1_reached 12 = .ok (.aload_n 0, 1) := dk_42 (dk_at dksX1_reached_0 12 rfl rfl)
theorem dX1_reached_13 : decode cX1_reached 13 = .ok (.iload_n 3, 1) := dk_29 (dk_at dksX1_reached_0 13 rfl rfl)
theorem dX1_reached_14 : decode cX1_reached 14 = .ok (.invokevirtual 57, 3) := dk_182 0 57 (dk_at dksX1_reached_0 14 rfl rfl)
theorem dX1_reached_17 : decode cX1_reached 17 = .ok (.ifCond .eq 49, 3) := dk_153 0 49 (dk_at dksX1_reached_0 17 rfl rfl)
theorem dX1_reached_20 : decode cX1_reached 20 = .ok (.iload_n 1, 1) := dk_27 (dk_at dksX1_reached_0 20 rfl rfl)
theorem dX1_reached_21 : decode cX1_reached 21 = .ok (.aload_n 0, 1) := dk_42 (dk_at dksX1_reached_0 21 rfl rfl)
theorem dX1_reached_22 : decode cX1_reached 22 = .ok (.getfield 15, 3) := dk_180 0 15 (dk_at dksX1_reached_1 0 rfl rfl)
theorem dX1_reached_25 : decode cX1_reached 25 = .ok (.iload_n 3, 1) := dk_29 (dk_at dksX1_reached_1 3 rfl rfl)
theorem dX1_reached_26 : decode cX1_reached 26 = .ok (.baload, 1) := dk_51 (dk_at dksX1_reached_1 4 rfl rfl)
theorem dX1_reached_27 : decode cX1_reached 27 = .ok (.invokestatic 46, 3) := dk_184 0 46 (dk_at dksX1_reached_1 5 rfl rfl)
theorem dX1_reached_30 : decode cX1_reached 30 = .ok (.ifCond .ne 16, 3) := dk_154 0 16 (dk_at dksX1_reached_1 8 rfl rfl)
theorem dX1_reached_33 : decode cX1_reached 33 = .ok (.iload_n 1, 1) := dk_27 (dk_at dksX1_reached_1 11 rfl rfl)
theorem dX1_reached_34 : decode cX1_reached 34 = .ok (.aload_n 0, 1) := dk_42 (dk_at dksX1_reached_1 12 rfl rfl)
theorem dX1_reached_35 : decode cX1_reached 35 = .ok (.getfield 18, 3) := dk_180 0 18 (dk_at dksX1_reached_1 13 rfl rfl)
theorem dX1_reached_38 : decode cX1_reached 38 = .ok (.iload_n 3, 1) := dk_29 (dk_at dksX1_reached_1 16 rfl rfl)
theorem dX1_reached_39 : decode cX1_reached 39 = .ok (.baload, 1) := dk_51 (dk_at dksX1_reached_1 17 rfl rfl)
theorem dX1_reached_40 : decode cX1_reached 40 = .ok (.invokestatic 46, 3) := dk_184 0 46 (dk_at dksX1_reached_1 18 rfl rfl)
theorem dX1_reached_43 : decode cX1_reached 43 = .ok (.ifCond .eq 23, 3) := dk_153 0 23 (dk_at dksX1_reached_1 21 rfl rfl)
theorem dX1_reached_46 : decode cX1_reached 46 = .ok (.iload_n 2, 1) := dk_28 (dk_at dksX1_reached_2 0 rfl rfl)
theorem dX1_reached_47 : decode cX1_reached 47 = .ok (.iconst 1, 1) := dk_4 (dk_at dksX1_reached_2 1 rfl rfl)
theorem dX1_reached_48 : decode cX1_reached 48 = .ok (.aload_n 0, 1) := dk_42 (dk_at dksX1_reached_2 2 rfl rfl)
theorem dX1_reached_49 : decode cX1_reached 49 = .ok (.getfield 15, 3) := dk_180 0 15 (dk_at dksX1_reached_2 3 rfl rfl)
theorem dX1_reached_52 : decode cX1_reached 52 = .ok (.iload_n 3, 1) := dk_29 (dk_at dksX1_reached_2 6 rfl rfl)
theorem dX1_reached_53 : decode cX1_reached 53 = .ok (.baload, 1) := dk_51 (dk_at dksX1_reached_2 7 rfl rfl)
theorem dX1_reached_54 : decode cX1_reached 54 = .ok (.ishl, 1) := dk_120 (dk_at dksX1_reached_2 8 rfl rfl)
theorem dX1_reached_55 : decode cX1_reached 55 = .ok (.iconst 1, 1) := dk_4 (dk_at dksX1_reached_2 9 rfl rfl)
theorem dX1_reached_56 : decode cX1_reached 56 = .ok (.aload_n 0, 1) := dk_42 (dk_at dksX1_reached_2 10 rfl rfl)
theorem dX1_reached_57 : decode cX1_reached 57 = .ok (.getfield 18, 3) := dk_180 0 18 (dk_at dksX1_reached_2 11 rfl rfl)
theorem dX1_reached_60 : decode cX1_reached 60 = .ok (.iload_n 3, 1) := dk_29 (dk_at dksX1_reached_2 14 rfl rfl)
theorem dX1_reached_61 : decode cX1_reached 61 = .ok (.baload, 1) := dk_51 (dk_at dksX1_reached_2 15 rfl rfl)
theorem dX1_reached_62 : decode cX1_reached 62 = .ok (.ishl, 1) := dk_120 (dk_at dksX1_reached_2 16 rfl rfl)
theorem dX1_reached_63 : decode cX1_reached 63 = .ok (.ior, 1) := dk_128 (dk_at dksX1_reached_2 17 rfl rfl)
theorem dX1_reached_64 : decode cX1_reached 64 = .ok (.ior, 1) := dk_128 (dk_at dksX1_reached_2 18 rfl rfl)
theorem dX1_reached_65 : decode cX1_reached 65 = .ok (.istore_n 2, 1) := dk_61 (dk_at dksX1_reached_2 19 rfl rfl)
theorem dX1_reached_66 : decode cX1_reached 66 = .ok (.iinc 3 1, 3) := dk_132 3 1 (dk_at dksX1_reached_2 20 rfl rfl)
theorem dX1_reached_69 : decode cX1_reached 69 = .ok (.goto (-65), 3) := dk_167 255 191 (dk_at dksX1_reached_3 0 rfl rfl)
theorem dX1_reached_72 : decode cX1_reached 72 = .ok (.iload_n 2, 1) := dk_28 (dk_at dksX1_reached_3 3 rfl rfl)
theorem dX1_reached_73 : decode cX1_reached 73 = .ok (.ireturn, 1) := dk_172 (dk_at dksX1_reached_3 4 rfl rfl)
abbrev cX1_allGrain : ByteArray := prog_19_method_12_code
def yX1_allGrain : MethodName := ⟨RX1, "allGrain", "()I"⟩
def dkwX1_allGrain_1 : List UInt8 := [167, 255, 238, 27, 172]
abbrev dktX1_allGrain_1 : List UInt8 := dkwX1_allGrain_1 ++ []
def dkwX1_allGrain_0 : List UInt8 := [3, 60, 3, 61, 28, 16, 8, 162, 0, 18, 27, 42, 180, 0, 9, 28, 51, 96, 60, 132, 2, 1]
abbrev dktX1_allGrain_0 : List UInt8 := dkwX1_allGrain_0 ++ dktX1_allGrain_1
theorem dksX1_allGrain_0 : cX1_allGrain.data.toList.drop 0 = dktX1_allGrain_0 := by decide +kernel
theorem dksX1_allGrain_1 : cX1_allGrain.data.toList.drop 22 = dktX1_allGrain_1 := dk_seg dksX1_allGrain_0 22 rfl rfl
theorem dX1_allGrain_0 : decode cX1_allGrain 0 = .ok (.iconst 0, 1) := dk_3 (dk_at dksX1_allGrain_0 0 rfl rfl)
theorem dX1_allGrain_1 : decode cX1_allGrain 1 = .ok (.istore_n 1, 1) := dk_60 (dk_at dksX1_allGrain_0 1 rfl rfl)
theorem dX1_allGrain_2 : decode cX1_allGrain 2 = .ok (.iconst 0, 1) := dk_3 (dk_at dksX1_allGrain_0 2 rfl rfl)
theorem dX1_allGrain_3 : decode cX1_allGrain 3 = .ok (.istore_n 2, 1) := dk_61 (dk_at dksX1_allGrain_0 3 rfl rfl)
theorem dX1_allGrain_4 : decode cX1_allGrain 4 = .ok (.iload_n 2, 1) := dk_28 (dk_at dksX1_allGrain_0 4 rfl rfl)
theorem dX1_allGrain_5 : decode cX1_allGrain 5 = .ok (.bipush 8, 2) := dk_16 8 (dk_at dksX1_allGrain_0 5 rfl rfl)
theorem dX1_allGrain_7 : decode cX1_allGrain 7 = .ok (.if_icmp .ge 18, 3) := dk_162 0 18 (dk_at dksX1_allGrain_0 7 rfl rfl)
theorem dX1_allGrain_10 : decode cX1_allGrain 10 = .ok (.iload_n 1, 1) := dk_27 (dk_at dksX1_allGrain_0 10 rfl rfl)
theorem dX1_allGrain_11 : decode cX1_allGrain 11 = .ok (.aload_n 0, 1) := dk_42 (dk_at dksX1_allGrain_0 11 rfl rfl)
theorem dX1_allGrain_12 : decode cX1_allGrain 12 = .ok (.getfield 9, 3) := dk_180 0 9 (dk_at dksX1_allGrain_0 12 rfl rfl)
theorem dX1_allGrain_15 : decode cX1_allGrain 15 = .ok (.iload_n 2, 1) := dk_28 (dk_at dksX1_allGrain_0 15 rfl rfl)
theorem dX1_allGrain_16 : decode cX1_allGrain 16 = .ok (.baload, 1) := dk_51 (dk_at dksX1_allGrain_0 16 rfl rfl)
theorem dX1_allGrain_17 : decode cX1_allGrain 17 = .ok (.iadd, 1) := dk_96 (dk_at dksX1_allGrain_0 17 rfl rfl)
theorem dX1_allGrain_18 : decode cX1_allGrain 18 = .ok (.istore_n 1, 1) := dk_60 (dk_at dksX1_allGrain_0 18 rfl rfl)
theorem dX1_allGrain_19 : decode cX1_allGrain 19 = .ok (.iinc 2 1, 3) := dk_132 2 1 (dk_at dksX1_allGrain_0 19 rfl rfl)
theorem dX1_allGrain_22 : decode cX1_allGrain 22 = .ok (.goto (-18), 3) := dk_167 255 238 (dk_at dksX1_allGrain_1 0 rfl rfl)
theorem dX1_allGrain_25 : decode cX1_allGrain 25 = .ok (.iload_n 1, 1) := dk_27 (dk_at dksX1_allGrain_1 3 rfl rfl)
theorem dX1_allGrain_26 : decode cX1_allGrain 26 = .ok (.ireturn, 1) := dk_172 (dk_at dksX1_allGrain_1 4 rfl rfl)
theorem q78 : (Jvm.Cond.initialized "GeeseKeys$Time") ∈ lw_all := lw_g (lw_at lw_m1 2 rfl) rfl
theorem q130 : (Jvm.Cond.instantiable "GeeseKeys$Time" (9 : Nat)) ∈ lw_all := lw_g (lw_at lw_m1 54 rfl) rfl
theorem q132 : (Jvm.Cond.instanceMethod ({ cls := "GeeseKeys$Time", name := "<init>", desc := "()V" } : Jvm.MethodName)) ∈ lw_all := lw_g (lw_at lw_m1 56 rfl) rfl
theorem q133 : (Jvm.Cond.code ({ cls := "GeeseKeys$Time", name := "<init>", desc := "()V" } : Jvm.MethodName) prog_19_method_1_code (2 : Nat) (Option.none : Option Jvm.ClassFile.FieldType)) ∈ lw_all := lw_g (lw_at lw_m1 57 rfl) rfl
theorem q134 : (Jvm.Cond.methodLink "GeeseKeys$Time" (3 : Nat) ({ cls := "java/lang/Object", name := "<init>", desc := "()V" } : Jvm.MethodName)) ∈ lw_all := lw_g (lw_at lw_m1 58 rfl) rfl
theorem q135 : (Jvm.Cond.fieldLink "GeeseKeys$Time" (9 : Nat) "GeeseKeys$Time" "grains" "[B") ∈ lw_all := lw_g (lw_at lw_m1 59 rfl) rfl
theorem q137 : (Jvm.Cond.fieldLink "GeeseKeys$Time" (15 : Nat) "GeeseKeys$Time" "ones" "[B") ∈ lw_all := lw_g (lw_at lw_m1 61 rfl) rfl
theorem q139 : (Jvm.Cond.fieldLink "GeeseKeys$Time" (18 : Nat) "GeeseKeys$Time" "others" "[B") ∈ lw_all := lw_g (lw_at lw_m1 63 rfl) rfl
theorem q141 : (Jvm.Cond.fieldLink "GeeseKeys$Time" (21 : Nat) "GeeseKeys$Time" "places" "[B") ∈ lw_all := lw_g (lw_at lw_m1 65 rfl) rfl
theorem q143 : (Jvm.Cond.fieldLink "GeeseKeys$Time" (24 : Nat) "GeeseKeys$Time" "keys" "[B") ∈ lw_all := lw_g (lw_at lw_m1 67 rfl) rfl
theorem q145 : (Jvm.Cond.fieldLink "GeeseKeys$Time" (33 : Nat) "GeeseKeys$Time" "many" "I") ∈ lw_all := lw_g (lw_at lw_m1 69 rfl) rfl
theorem q147 : (Jvm.Cond.fieldLink "GeeseKeys$Time" (37 : Nat) "GeeseKeys$Time" "gates" "I") ∈ lw_all := lw_g (lw_at lw_m1 71 rfl) rfl
theorem q149 : (Jvm.Cond.fieldLink "GeeseKeys$Time" (40 : Nat) "GeeseKeys$Time" "gone" "I") ∈ lw_all := lw_g (lw_at lw_m1 73 rfl) rfl
theorem q151 : (Jvm.Cond.fieldLink "GeeseKeys$Time" (43 : Nat) "GeeseKeys$Time" "hour" "I") ∈ lw_all := lw_g (lw_at lw_m1 75 rfl) rfl
theorem q153 : (Jvm.Cond.laysFinal "GeeseKeys$Time" "GeeseKeys$Time" "grains" "[B") ∈ lw_all := lw_g (lw_at lw_m1 77 rfl) rfl
theorem q154 : (Jvm.Cond.soleField "GeeseKeys$Time" "grains") ∈ lw_all := lw_g (lw_at lw_m1 78 rfl) rfl
theorem q155 : (Jvm.Cond.laysFinal "GeeseKeys$Time" "GeeseKeys$Time" "ones" "[B") ∈ lw_all := lw_g (lw_at lw_m1 79 rfl) rfl
theorem q156 : (Jvm.Cond.soleField "GeeseKeys$Time" "ones") ∈ lw_all := lw_g (lw_at lw_m1 80 rfl) rfl
theorem q157 : (Jvm.Cond.laysFinal "GeeseKeys$Time" "GeeseKeys$Time" "others" "[B") ∈ lw_all := lw_g (lw_at lw_m1 81 rfl) rfl
theorem q158 : (Jvm.Cond.soleField "GeeseKeys$Time" "others") ∈ lw_all := lw_g (lw_at lw_m1 82 rfl) rfl
theorem q159 : (Jvm.Cond.laysFinal "GeeseKeys$Time" "GeeseKeys$Time" "places" "[B") ∈ lw_all := lw_g (lw_at lw_m1 83 rfl) rfl
theorem q160 : (Jvm.Cond.soleField "GeeseKeys$Time" "places") ∈ lw_all := lw_g (lw_at lw_m1 84 rfl) rfl
theorem q161 : (Jvm.Cond.laysFinal "GeeseKeys$Time" "GeeseKeys$Time" "keys" "[B") ∈ lw_all := lw_g (lw_at lw_m1 85 rfl) rfl
theorem q162 : (Jvm.Cond.soleField "GeeseKeys$Time" "keys") ∈ lw_all := lw_g (lw_at lw_m1 86 rfl) rfl
theorem q163 : (Jvm.Cond.lays "GeeseKeys$Time" "GeeseKeys$Time" "many" "I") ∈ lw_all := lw_g (lw_at lw_m1 87 rfl) rfl
theorem q164 : (Jvm.Cond.soleField "GeeseKeys$Time" "many") ∈ lw_all := lw_g (lw_at lw_m1 88 rfl) rfl
theorem q165 : (Jvm.Cond.lays "GeeseKeys$Time" "GeeseKeys$Time" "gates" "I") ∈ lw_all := lw_g (lw_at lw_m1 89 rfl) rfl
theorem q166 : (Jvm.Cond.soleField "GeeseKeys$Time" "gates") ∈ lw_all := lw_g (lw_at lw_m1 90 rfl) rfl
theorem q167 : (Jvm.Cond.lays "GeeseKeys$Time" "GeeseKeys$Time" "gone" "I") ∈ lw_all := lw_g (lw_at lw_m1 91 rfl) rfl
theorem q168 : (Jvm.Cond.soleField "GeeseKeys$Time" "gone") ∈ lw_all := lw_g (lw_at lw_m1 92 rfl) rfl
theorem q169 : (Jvm.Cond.lays "GeeseKeys$Time" "GeeseKeys$Time" "hour" "I") ∈ lw_all := lw_g (lw_at lw_m1 93 rfl) rfl
theorem q170 : (Jvm.Cond.soleField "GeeseKeys$Time" "hour") ∈ lw_all := lw_g (lw_at lw_m1 94 rfl) rfl
theorem q171 : (Jvm.Cond.superclass "GeeseKeys$Time" "java/lang/Object") ∈ lw_all := lw_g (lw_at lw_m1 95 rfl) rfl
theorem q538 : (Jvm.Cond.instanceMethod ({ cls := "GeeseKeys$Time", name := "isTaken", desc := "(I)Z" } : Jvm.MethodName)) ∈ lw_all := lw_g (lw_at lw_m2 222 rfl) rfl
theorem q539 : (Jvm.Cond.selects "GeeseKeys$Time" ({ cls := "GeeseKeys$Time", name := "isTaken", desc := "(I)Z" } : Jvm.MethodName) ({ cls := "GeeseKeys$Time", name := "isTaken", desc := "(I)Z" } : Jvm.MethodName)) ∈ lw_all := lw_g (lw_at lw_m2 223 rfl) rfl
theorem q540 : (Jvm.Cond.code ({ cls := "GeeseKeys$Time", name := "isTaken", desc := "(I)Z" } : Jvm.MethodName) prog_19_method_3_code (2 : Nat) (Option.some Jvm.ClassFile.FieldType.boolean)) ∈ lw_all := lw_g (lw_at lw_m2 224 rfl) rfl
theorem q541 : (Jvm.Cond.methodLinkNest "GeeseKeys$Time" (46 : Nat) ({ cls := "GeeseKeys", name := "isIn", desc := "(II)Z" } : Jvm.MethodName) "GeeseKeys") ∈ lw_tbl := lw_at lw_m2 225 rfl
theorem q597 : (Jvm.Cond.instanceMethod ({ cls := "GeeseKeys$Time", name := "isWithOther", desc := "(II)Z" } : Jvm.MethodName)) ∈ lw_all := lw_g (lw_at lw_m3 41 rfl) rfl
theorem q598 : (Jvm.Cond.selects "GeeseKeys$Time" ({ cls := "GeeseKeys$Time", name := "isWithOther", desc := "(II)Z" } : Jvm.MethodName) ({ cls := "GeeseKeys$Time", name := "isWithOther", desc := "(II)Z" } : Jvm.MethodName)) ∈ lw_all := lw_g (lw_at lw_m3 42 rfl) rfl
theorem q599 : (Jvm.Cond.code ({ cls := "GeeseKeys$Time", name := "isWithOther", desc := "(II)Z" } : Jvm.MethodName) prog_19_method_6_code (4 : Nat) (Option.some Jvm.ClassFile.FieldType.boolean)) ∈ lw_all := lw_g (lw_at lw_m3 43 rfl) rfl
theorem q600 : (Jvm.Cond.methodLink "GeeseKeys$Time" (53 : Nat) ({ cls := "GeeseKeys$Time", name := "isTaken", desc := "(I)Z" } : Jvm.MethodName)) ∈ lw_all := lw_g (lw_at lw_m3 44 rfl) rfl
theorem q602 : (Jvm.Cond.instanceMethod ({ cls := "GeeseKeys$Time", name := "isGuard", desc := "(II)Z" } : Jvm.MethodName)) ∈ lw_all := lw_g (lw_at lw_m3 46 rfl) rfl
theorem q603 : (Jvm.Cond.selects "GeeseKeys$Time" ({ cls := "GeeseKeys$Time", name := "isGuard", desc := "(II)Z" } : Jvm.MethodName) ({ cls := "GeeseKeys$Time", name := "isGuard", desc := "(II)Z" } : Jvm.MethodName)) ∈ lw_all := lw_g (lw_at lw_m3 47 rfl) rfl
theorem q604 : (Jvm.Cond.code ({ cls := "GeeseKeys$Time", name := "isGuard", desc := "(II)Z" } : Jvm.MethodName) prog_19_method_7_code (3 : Nat) (Option.some Jvm.ClassFile.FieldType.boolean)) ∈ lw_all := lw_g (lw_at lw_m3 48 rfl) rfl
theorem q605 : (Jvm.Cond.methodLink "GeeseKeys$Time" (50 : Nat) ({ cls := "GeeseKeys$Time", name := "isEnd", desc := "(II)Z" } : Jvm.MethodName)) ∈ lw_all := lw_g (lw_at lw_m3 49 rfl) rfl
theorem q606 : (Jvm.Cond.instanceMethod ({ cls := "GeeseKeys$Time", name := "isEnd", desc := "(II)Z" } : Jvm.MethodName)) ∈ lw_all := lw_g (lw_at lw_m3 50 rfl) rfl
theorem q607 : (Jvm.Cond.selects "GeeseKeys$Time" ({ cls := "GeeseKeys$Time", name := "isEnd", desc := "(II)Z" } : Jvm.MethodName) ({ cls := "GeeseKeys$Time", name := "isEnd", desc := "(II)Z" } : Jvm.MethodName)) ∈ lw_all := lw_g (lw_at lw_m3 51 rfl) rfl
theorem q608 : (Jvm.Cond.code ({ cls := "GeeseKeys$Time", name := "isEnd", desc := "(II)Z" } : Jvm.MethodName) prog_19_method_4_code (3 : Nat) (Option.some Jvm.ClassFile.FieldType.boolean)) ∈ lw_all := lw_g (lw_at lw_m3 52 rfl) rfl
theorem q639 : (Jvm.Cond.instanceMethod ({ cls := "GeeseKeys$Time", name := "besides", desc := "(I)I" } : Jvm.MethodName)) ∈ lw_all := lw_g (lw_at lw_m3 83 rfl) rfl
theorem q640 : (Jvm.Cond.selects "GeeseKeys$Time" ({ cls := "GeeseKeys$Time", name := "besides", desc := "(I)I" } : Jvm.MethodName) ({ cls := "GeeseKeys$Time", name := "besides", desc := "(I)I" } : Jvm.MethodName)) ∈ lw_all := lw_g (lw_at lw_m3 84 rfl) rfl
theorem q641 : (Jvm.Cond.code ({ cls := "GeeseKeys$Time", name := "besides", desc := "(I)I" } : Jvm.MethodName) prog_19_method_5_code (4 : Nat) (Option.some Jvm.ClassFile.FieldType.int)) ∈ lw_all := lw_g (lw_at lw_m3 85 rfl) rfl
theorem q974 : (Jvm.Cond.selects "GeeseKeys$Time" ({ cls := "java/lang/Object", name := "getClass", desc := "()Ljava/lang/Class;" } : Jvm.MethodName) ({ cls := "java/lang/Object", name := "getClass", desc := "()Ljava/lang/Class;" } : Jvm.MethodName)) ∈ lw_all := lw_g (lw_at lw_m4 178 rfl) rfl
theorem q1026 : (Jvm.Cond.instanceMethod ({ cls := "GeeseKeys$Time", name := "brings", desc := "(II)V" } : Jvm.MethodName)) ∈ lw_all := lw_g (lw_at lw_m4 230 rfl) rfl
theorem q1027 : (Jvm.Cond.selects "GeeseKeys$Time" ({ cls := "GeeseKeys$Time", name := "brings", desc := "(II)V" } : Jvm.MethodName) ({ cls := "GeeseKeys$Time", name := "brings", desc := "(II)V" } : Jvm.MethodName)) ∈ lw_all := lw_g (lw_at lw_m4 231 rfl) rfl
theorem q1028 : (Jvm.Cond.code ({ cls := "GeeseKeys$Time", name := "brings", desc := "(II)V" } : Jvm.MethodName) prog_19_method_11_code (3 : Nat) (Option.none : Option Jvm.ClassFile.FieldType)) ∈ lw_all := lw_g (lw_at lw_m4 232 rfl) rfl
theorem q1029 : (Jvm.Cond.methodLink "GeeseKeys$Time" (60 : Nat) ({ cls := "java/lang/Math", name := "min", desc := "(II)I" } : Jvm.MethodName)) ∈ lw_all := lw_g (lw_at lw_m4 233 rfl) rfl
theorem q1030 : (Jvm.Cond.methodLink "GeeseKeys$Time" (66 : Nat) ({ cls := "java/lang/Math", name := "max", desc := "(II)I" } : Jvm.MethodName)) ∈ lw_all := lw_g (lw_at lw_m4 234 rfl) rfl
theorem q1040 : (Jvm.Cond.instanceMethod ({ cls := "GeeseKeys$Time", name := "takes", desc := "(LGeeseKeys$Time;)V" } : Jvm.MethodName)) ∈ lw_all := lw_g (lw_at lw_m5 4 rfl) rfl
theorem q1041 : (Jvm.Cond.selects "GeeseKeys$Time" ({ cls := "GeeseKeys$Time", name := "takes", desc := "(LGeeseKeys$Time;)V" } : Jvm.MethodName) ({ cls := "GeeseKeys$Time", name := "takes", desc := "(LGeeseKeys$Time;)V" } : Jvm.MethodName)) ∈ lw_all := lw_g (lw_at lw_m5 5 rfl) rfl
theorem q1042 : (Jvm.Cond.code ({ cls := "GeeseKeys$Time", name := "takes", desc := "(LGeeseKeys$Time;)V" } : Jvm.MethodName) prog_19_method_2_code (2 : Nat) (Option.none : Option Jvm.ClassFile.FieldType)) ∈ lw_all := lw_g (lw_at lw_m5 6 rfl) rfl
theorem q1043 : (Jvm.Cond.methodLink "GeeseKeys$Time" (27 : Nat) ({ cls := "java/lang/System", name := "arraycopy", desc := "(Ljava/lang/Object;ILjava/lang/Object;II)V" } : Jvm.MethodName)) ∈ lw_all := lw_g (lw_at lw_m5 7 rfl) rfl
theorem q1049 : (Jvm.Cond.instanceMethod ({ cls := "GeeseKeys$Time", name := "openOnes", desc := "()I" } : Jvm.MethodName)) ∈ lw_all := lw_g (lw_at lw_m5 13 rfl) rfl
theorem q1050 : (Jvm.Cond.selects "GeeseKeys$Time" ({ cls := "GeeseKeys$Time", name := "openOnes", desc := "()I" } : Jvm.MethodName) ({ cls := "GeeseKeys$Time", name := "openOnes", desc := "()I" } : Jvm.MethodName)) ∈ lw_all := lw_g (lw_at lw_m5 14 rfl) rfl
theorem q1051 : (Jvm.Cond.code ({ cls := "GeeseKeys$Time", name := "openOnes", desc := "()I" } : Jvm.MethodName) prog_19_method_9_code (3 : Nat) (Option.some Jvm.ClassFile.FieldType.int)) ∈ lw_all := lw_g (lw_at lw_m5 15 rfl) rfl
theorem q1052 : (Jvm.Cond.methodLink "GeeseKeys$Time" (57 : Nat) ({ cls := "GeeseKeys$Time", name := "isOpen", desc := "(I)Z" } : Jvm.MethodName)) ∈ lw_all := lw_g (lw_at lw_m5 16 rfl) rfl
theorem q1053 : (Jvm.Cond.instanceMethod ({ cls := "GeeseKeys$Time", name := "isOpen", desc := "(I)Z" } : Jvm.MethodName)) ∈ lw_all := lw_g (lw_at lw_m5 17 rfl) rfl
theorem q1054 : (Jvm.Cond.selects "GeeseKeys$Time" ({ cls := "GeeseKeys$Time", name := "isOpen", desc := "(I)Z" } : Jvm.MethodName) ({ cls := "GeeseKeys$Time", name := "isOpen", desc := "(I)Z" } : Jvm.MethodName)) ∈ lw_all := lw_g (lw_at lw_m5 18 rfl) rfl
theorem q1055 : (Jvm.Cond.code ({ cls := "GeeseKeys$Time", name := "isOpen", desc := "(I)Z" } : Jvm.MethodName) prog_19_method_8_code (3 : Nat) (Option.some Jvm.ClassFile.FieldType.boolean)) ∈ lw_all := lw_g (lw_at lw_m5 19 rfl) rfl
theorem q1082 : (Jvm.Cond.instanceMethod ({ cls := "GeeseKeys$Time", name := "reached", desc := "(I)I" } : Jvm.MethodName)) ∈ lw_all := lw_g (lw_at lw_m5 46 rfl) rfl
theorem q1083 : (Jvm.Cond.selects "GeeseKeys$Time" ({ cls := "GeeseKeys$Time", name := "reached", desc := "(I)I" } : Jvm.MethodName) ({ cls := "GeeseKeys$Time", name := "reached", desc := "(I)I" } : Jvm.MethodName)) ∈ lw_all := lw_g (lw_at lw_m5 47 rfl) rfl
theorem q1084 : (Jvm.Cond.code ({ cls := "GeeseKeys$Time", name := "reached", desc := "(I)I" } : Jvm.MethodName) prog_19_method_10_code (4 : Nat) (Option.some Jvm.ClassFile.FieldType.int)) ∈ lw_all := lw_g (lw_at lw_m5 48 rfl) rfl
theorem q1102 : (Jvm.Cond.instanceMethod ({ cls := "GeeseKeys$Time", name := "allGrain", desc := "()I" } : Jvm.MethodName)) ∈ lw_all := lw_g (lw_at lw_m5 66 rfl) rfl
theorem q1103 : (Jvm.Cond.selects "GeeseKeys$Time" ({ cls := "GeeseKeys$Time", name := "allGrain", desc := "()I" } : Jvm.MethodName) ({ cls := "GeeseKeys$Time", name := "allGrain", desc := "()I" } : Jvm.MethodName)) ∈ lw_all := lw_g (lw_at lw_m5 67 rfl) rfl
theorem q1104 : (Jvm.Cond.code ({ cls := "GeeseKeys$Time", name := "allGrain", desc := "()I" } : Jvm.MethodName) prog_19_method_12_code (3 : Nat) (Option.some Jvm.ClassFile.FieldType.int)) ∈ lw_all := lw_g (lw_at lw_m5 68 rfl) rfl
theorem q1870 : (Jvm.Cond.castable "GeeseKeys$Time" "java/lang/Object") ∈ lw_tbl := lw_at lw_m8 114 rfl
theorem in_X1 : ∀ w ∈ wsX10, w ∈ lw_all := lw_in wsX10 [153, 155, 157, 159, 161, 163, 165, 167, 169] (by decide +kernel) (by decide +kernel)
/-! GeeseKeys$Old -/
set_option maxRecDepth 100000
def RX10 : String := "GeeseKeys$Old"
def TX10 : u_T := fun k => match k with
  | 0 => ("GeeseKeys$Goose", "trace", "LGeeseKeys$Trace;", true)
  | 1 => ("GeeseKeys$Goose", "number", "I", true)
  | _ => ("GeeseKeys$Goose", "v", "I", false)
def tyX10 : Nat → FieldType := fun k => match k with
  | 0 => .object "GeeseKeys$Trace"
  | 1 => .int
  | _ => .int
abbrev wsX100 : List Cond := u_ws RX10 TX10 3
theorem nmX10 : ∀ a, a < 3 → ∀ b, b < 3 → a ≠ b → (TX10 a).2.1 ≠ (TX10 b).2.1 := by decide +kernel
theorem tyX10_ok : ∀ k, k < 3 → parseFieldDescriptor (TX10 k).2.2.1 = some (tyX10 k) := by decide +kernel
abbrev cX10_init : ByteArray := prog_12_method_1_code
def yX10_init : MethodName := ⟨RX10, "<init>", "(LGeeseKeys$Trace;II)V"⟩
def dkwX10_init_0 : List UInt8 := [42, 43, 28, 29, 183, 0, 3, 177]
abbrev dktX10_init_0 : List UInt8 := dkwX10_init_0 ++ []
theorem dksX10_init_0 : cX10_init.data.toList.drop 0 = dktX10_init_0 := by decide +kernel
theorem dX10_init_0 : decode cX10_init 0 = .ok (.aload_n 0, 1) := dk_42 (dk_at dksX10_init_0 0 rfl rfl)
theorem dX10_init_1 : decode cX10_init 1 = .ok (.aload_n 1, 1) := dk_43 (dk_at dksX10_init_0 1 rfl rfl)
theorem dX10_init_2 : decode cX10_init 2 = .ok (.iload_n 2, 1) := dk_28 (dk_at dksX10_init_0 2 rfl rfl)
theorem dX10_init_3 : decode cX10_init 3 = .ok (.iload_n 3, 1) := dk_29 (dk_at dksX10_init_0 3 rfl rfl)
theorem dX10_init_4 : decode cX10_init 4 = .ok (.invokespecial 3, 3) := dk_183 0 3 (dk_at dksX10_init_0 4 rfl rfl)
theorem dX10_init_7 : decode cX10_init 7 = .ok (.return_, 1) := dk_177 (dk_at dksX10_init_0 7 rfl rfl)
abbrev cX10_kind : ByteArray := prog_12_method_2_code
def yX10_kind : MethodName := ⟨RX10, "kind", "()I"⟩
theorem dX10_kind_0 : decode cX10_kind 0 = .ok (.iconst 3, 1) := by decide +kernel
theorem dX10_kind_1 : decode cX10_kind 1 = .ok (.ireturn, 1) := by decide +kernel
abbrev cX10_feels : ByteArray := prog_12_method_3_code
def yX10_feels : MethodName := ⟨RX10, "feels", "(IIZZZ)I"⟩
def dkwX10_feels_0 : List UInt8 := [29, 153, 0, 17, 42, 27, 28, 29, 21, 4, 21, 5, 183, 0, 9, 167, 0, 4, 3, 172]
abbrev dktX10_feels_0 : List UInt8 := dkwX10_feels_0 ++ []
theorem dksX10_feels_0 : cX10_feels.data.toList.drop 0 = dktX10_feels_0 := by decide +kernel
theorem dX10_feels_0 : decode cX10_feels 0 = .ok (.iload_n 3, 1) := dk_29 (dk_at dksX10_feels_0 0 rfl rfl)
theorem dX10_feels_1 : decode cX10_feels 1 = .ok (.ifCond .eq 17, 3) := dk_153 0 17 (dk_at dksX10_feels_0 1 rfl rfl)
theorem dX10_feels_4 : decode cX10_feels 4 = .ok (.aload_n 0, 1) := dk_42 (dk_at dksX10_feels_0 4 rfl rfl)
theorem dX10_feels_5 : decode cX10_feels 5 = .ok (.iload_n 1, 1) := dk_27 (dk_at dksX10_feels_0 5 rfl rfl)
theorem dX10_feels_6 : decode cX10_feels 6 = .ok (.iload_n 2, 1) := dk_28 (dk_at dksX10_feels_0 6 rfl rfl)
theorem dX10_feels_7 : decode cX10_feels 7 = .ok (.iload_n 3, 1) := dk_29 (dk_at dksX10_feels_0 7 rfl rfl)
theorem dX10_feels_8 : decode cX10_feels 8 = .ok (.iload 4, 2) := dk_21 4 (dk_at dksX10_feels_0 8 rfl rfl)
theorem dX10_feels_10 : decode cX10_feels 10 = .ok (.iload 5, 2) := dk_21 5 (dk_at dksX10_feels_0 10 rfl rfl)
theorem dX10_feels_12 : decode cX10_feels 12 = .ok (.invokespecial 9, 3) := dk_183 0 9 (dk_at dksX10_feels_0 12 rfl rfl)
theorem dX10_feels_15 : decode cX10_feels 15 = .ok (.goto 4, 3) := dk_167 0 4 (dk_at dksX10_feels_0 15 rfl rfl)
theorem dX10_feels_18 : decode cX10_feels 18 = .ok (.iconst 0, 1) := dk_3 (dk_at dksX10_feels_0 18 rfl rfl)
theorem dX10_feels_19 : decode cX10_feels 19 = .ok (.ireturn, 1) := dk_172 (dk_at dksX10_feels_0 19 rfl rfl)
abbrev cX10_tells : ByteArray := prog_12_method_4_code
def yX10_tells : MethodName := ⟨RX10, "tells", "(I)I"⟩
def dkwX10_tells_0 : List UInt8 := [42, 180, 0, 13, 16, 40, 182, 0, 19, 42, 27, 183, 0, 25, 61, 28, 42, 4, 182, 0, 29, 96, 172]
abbrev dktX10_tells_0 : List UInt8 := dkwX10_tells_0 ++ []
theorem dksX10_tells_0 : cX10_tells.data.toList.drop 0 = dktX10_tells_0 := by decide +kernel
theorem dX10_tells_0 : decode cX10_tells 0 = .ok (.aload_n 0, 1) := dk_42 (dk_at dksX10_tells_0 0 rfl rfl)
theorem dX10_tells_1 : decode cX10_tells 1 = .ok (.getfield 13, 3) := dk_180 0 13 (dk_at dksX10_tells_0 1 rfl rfl)
theorem dX10_tells_4 : decode cX10_tells 4 = .ok (.bipush 40, 2) := dk_16 40 (dk_at dksX10_tells_0 4 rfl rfl)
theorem dX10_tells_6 : decode cX10_tells 6 = .ok (.invokevirtual 19, 3) := dk_182 0 19 (dk_at dksX10_tells_0 6 rfl rfl)
theorem dX10_tells_9 : decode cX10_tells 9 = .ok (.aload_n 0, 1) := dk_42 (dk_at dksX10_tells_0 9 rfl rfl)
theorem dX10_tells_10 : decode cX10_tells 10 = .ok (.iload_n 1, 1) := dk_27 (dk_at dksX10_tells_0 10 rfl rfl)
theorem dX10_tells_11 : decode cX10_tells 11 = .ok (.invokespecial 25, 3) := dk_183 0 25 (dk_at dksX10_tells_0 11 rfl rfl)
theorem dX10_tells_14 : decode cX10_tells 14 = .ok (.istore_n 2, 1) := dk_61 (dk_at dksX10_tells_0 14 rfl rfl)
theorem dX10_tells_15 : decode cX10_tells 15 = .ok (.iload_n 2, 1) := dk_28 (dk_at dksX10_tells_0 15 rfl rfl)
theorem dX10_tells_16 : decode cX10_tells 16 = .ok (.aload_n 0, 1) := dk_42 (dk_at dksX10_tells_0 16 rfl rfl)
theorem dX10_tells_17 : decode cX10_tells 17 = .ok (.iconst 1, 1) := dk_4 (dk_at dksX10_tells_0 17 rfl rfl)
theorem dX10_tells_18 : decode cX10_tells 18 = .ok (.invokevirtual 29, 3) := dk_182 0 29 (dk_at dksX10_tells_0 18 rfl rfl)
theorem dX10_tells_21 : decode cX10_tells 21 = .ok (.iadd, 1) := dk_96 (dk_at dksX10_tells_0 21 rfl rfl)
theorem dX10_tells_22 : decode cX10_tells 22 = .ok (.ireturn, 1) := dk_172 (dk_at dksX10_tells_0 22 rfl rfl)
theorem q90 : (Jvm.Cond.initialized "GeeseKeys$Old") ∈ lw_all := lw_g (lw_at lw_m1 14 rfl) rfl
theorem q424 : (Jvm.Cond.fieldLink "GeeseKeys$Old" (13 : Nat) "GeeseKeys$Old" "trace" "LGeeseKeys$Trace;") ∈ lw_all := lw_g (lw_at lw_m2 108 rfl) rfl
theorem q425 : (Jvm.Cond.sameField "GeeseKeys$Old" "GeeseKeys$Goose" "trace" "LGeeseKeys$Trace;") ∈ lw_all := lw_g (lw_at lw_m2 109 rfl) rfl
theorem q455 : (Jvm.Cond.instantiable "GeeseKeys$Old" (3 : Nat)) ∈ lw_all := lw_g (lw_at lw_m2 139 rfl) rfl
theorem q457 : (Jvm.Cond.instanceMethod ({ cls := "GeeseKeys$Old", name := "<init>", desc := "(LGeeseKeys$Trace;II)V" } : Jvm.MethodName)) ∈ lw_all := lw_g (lw_at lw_m2 141 rfl) rfl
theorem q458 : (Jvm.Cond.code ({ cls := "GeeseKeys$Old", name := "<init>", desc := "(LGeeseKeys$Trace;II)V" } : Jvm.MethodName) prog_12_method_1_code (4 : Nat) (Option.none : Option Jvm.ClassFile.FieldType)) ∈ lw_all := lw_g (lw_at lw_m2 142 rfl) rfl
theorem q459 : (Jvm.Cond.methodLink "GeeseKeys$Old" (3 : Nat) ({ cls := "GeeseKeys$Goose", name := "<init>", desc := "(LGeeseKeys$Trace;II)V" } : Jvm.MethodName)) ∈ lw_all := lw_g (lw_at lw_m2 143 rfl) rfl
theorem q460 : (Jvm.Cond.laysFinal "GeeseKeys$Old" "GeeseKeys$Goose" "trace" "LGeeseKeys$Trace;") ∈ lw_all := lw_g (lw_at lw_m2 144 rfl) rfl
theorem q461 : (Jvm.Cond.laysFinal "GeeseKeys$Old" "GeeseKeys$Goose" "number" "I") ∈ lw_all := lw_g (lw_at lw_m2 145 rfl) rfl
theorem q462 : (Jvm.Cond.lays "GeeseKeys$Old" "GeeseKeys$Goose" "v" "I") ∈ lw_all := lw_g (lw_at lw_m2 146 rfl) rfl
theorem q463 : (Jvm.Cond.superclass "GeeseKeys$Old" "GeeseKeys$Goose") ∈ lw_all := lw_g (lw_at lw_m2 147 rfl) rfl
theorem q527 : (Jvm.Cond.selects "GeeseKeys$Old" ({ cls := "GeeseKeys$Goose", name := "kind", desc := "()I" } : Jvm.MethodName) ({ cls := "GeeseKeys$Old", name := "kind", desc := "()I" } : Jvm.MethodName)) ∈ lw_all := lw_g (lw_at lw_m2 211 rfl) rfl
theorem q528 : (Jvm.Cond.instanceMethod ({ cls := "GeeseKeys$Old", name := "kind", desc := "()I" } : Jvm.MethodName)) ∈ lw_all := lw_g (lw_at lw_m2 212 rfl) rfl
theorem q529 : (Jvm.Cond.code ({ cls := "GeeseKeys$Old", name := "kind", desc := "()I" } : Jvm.MethodName) prog_12_method_2_code (1 : Nat) (Option.some Jvm.ClassFile.FieldType.int)) ∈ lw_all := lw_g (lw_at lw_m2 213 rfl) rfl
theorem q626 : (Jvm.Cond.selects "GeeseKeys$Old" ({ cls := "GeeseKeys$Goose", name := "feels", desc := "(IIZZZ)I" } : Jvm.MethodName) ({ cls := "GeeseKeys$Old", name := "feels", desc := "(IIZZZ)I" } : Jvm.MethodName)) ∈ lw_all := lw_g (lw_at lw_m3 70 rfl) rfl
theorem q627 : (Jvm.Cond.instanceMethod ({ cls := "GeeseKeys$Old", name := "feels", desc := "(IIZZZ)I" } : Jvm.MethodName)) ∈ lw_all := lw_g (lw_at lw_m3 71 rfl) rfl
theorem q628 : (Jvm.Cond.code ({ cls := "GeeseKeys$Old", name := "feels", desc := "(IIZZZ)I" } : Jvm.MethodName) prog_12_method_3_code (6 : Nat) (Option.some Jvm.ClassFile.FieldType.int)) ∈ lw_all := lw_g (lw_at lw_m3 72 rfl) rfl
theorem q629 : (Jvm.Cond.methodLink "GeeseKeys$Old" (9 : Nat) ({ cls := "GeeseKeys$Goose", name := "feels", desc := "(IIZZZ)I" } : Jvm.MethodName)) ∈ lw_all := lw_g (lw_at lw_m3 73 rfl) rfl
theorem q969 : (Jvm.Cond.selects "GeeseKeys$Old" ({ cls := "java/lang/Object", name := "getClass", desc := "()Ljava/lang/Class;" } : Jvm.MethodName) ({ cls := "java/lang/Object", name := "getClass", desc := "()Ljava/lang/Class;" } : Jvm.MethodName)) ∈ lw_all := lw_g (lw_at lw_m4 173 rfl) rfl
theorem q1257 : (Jvm.Cond.selects "GeeseKeys$Old" ({ cls := "GeeseKeys$Goose", name := "honks", desc := "(I)I" } : Jvm.MethodName) ({ cls := "GeeseKeys$Goose", name := "honks", desc := "(I)I" } : Jvm.MethodName)) ∈ lw_all := lw_g (lw_at lw_m5 221 rfl) rfl
theorem q1270 : (Jvm.Cond.sameMethod "GeeseKeys$Old" "GeeseKeys$Goose" "honks" "(I)I") ∈ lw_all := lw_g (lw_at lw_m5 234 rfl) rfl
theorem q1284 : (Jvm.Cond.selects "GeeseKeys$Old" ({ cls := "GeeseKeys$Goose", name := "struts", desc := "(I)I" } : Jvm.MethodName) ({ cls := "GeeseKeys$Goose", name := "struts", desc := "(I)I" } : Jvm.MethodName)) ∈ lw_all := lw_g (lw_at lw_m6 8 rfl) rfl
theorem q1293 : (Jvm.Cond.sameMethod "GeeseKeys$Old" "GeeseKeys$Goose" "struts" "(I)I") ∈ lw_all := lw_g (lw_at lw_m6 17 rfl) rfl
theorem q1310 : (Jvm.Cond.selects "GeeseKeys$Old" ({ cls := "GeeseKeys$Goose", name := "tells", desc := "(I)I" } : Jvm.MethodName) ({ cls := "GeeseKeys$Old", name := "tells", desc := "(I)I" } : Jvm.MethodName)) ∈ lw_all := lw_g (lw_at lw_m6 34 rfl) rfl
theorem q1311 : (Jvm.Cond.instanceMethod ({ cls := "GeeseKeys$Old", name := "tells", desc := "(I)I" } : Jvm.MethodName)) ∈ lw_all := lw_g (lw_at lw_m6 35 rfl) rfl
theorem q1312 : (Jvm.Cond.code ({ cls := "GeeseKeys$Old", name := "tells", desc := "(I)I" } : Jvm.MethodName) prog_12_method_4_code (3 : Nat) (Option.some Jvm.ClassFile.FieldType.int)) ∈ lw_all := lw_g (lw_at lw_m6 36 rfl) rfl
theorem q1313 : (Jvm.Cond.methodLink "GeeseKeys$Old" (19 : Nat) ({ cls := "GeeseKeys$Trace", name := "ran", desc := "(I)V" } : Jvm.MethodName)) ∈ lw_all := lw_g (lw_at lw_m6 37 rfl) rfl
theorem q1314 : (Jvm.Cond.methodLink "GeeseKeys$Old" (25 : Nat) ({ cls := "GeeseKeys$Goose", name := "tells", desc := "(I)I" } : Jvm.MethodName)) ∈ lw_all := lw_g (lw_at lw_m6 38 rfl) rfl
theorem q1315 : (Jvm.Cond.methodLink "GeeseKeys$Old" (29 : Nat) ({ cls := "GeeseKeys$Old", name := "struts", desc := "(I)I" } : Jvm.MethodName)) ∈ lw_all := lw_g (lw_at lw_m6 39 rfl) rfl
theorem q1316 : (Jvm.Cond.selects "GeeseKeys$Old" ({ cls := "GeeseKeys$Old", name := "struts", desc := "(I)I" } : Jvm.MethodName) ({ cls := "GeeseKeys$Goose", name := "struts", desc := "(I)I" } : Jvm.MethodName)) ∈ lw_all := lw_g (lw_at lw_m6 40 rfl) rfl
theorem q1850 : (Jvm.Cond.sameMethod "GeeseKeys$Old" "GeeseKeys$Old" "feels" "(IIZZZ)I") ∈ lw_all := lw_g (lw_at lw_m8 94 rfl) rfl
theorem q1861 : (Jvm.Cond.castable "GeeseKeys$Old" "GeeseKeys$Goose") ∈ lw_tbl := lw_at lw_m8 105 rfl
theorem q1878 : (Jvm.Cond.castable "GeeseKeys$Old" "java/lang/Object") ∈ lw_tbl := lw_at lw_m8 122 rfl
theorem in_X10 : ∀ w ∈ wsX100, w ∈ lw_all := lw_in wsX100 [460, 461, 462] (by decide +kernel) (by decide +kernel)
/-! GeeseKeys$Sentry -/
set_option maxRecDepth 100000
def RX11 : String := "GeeseKeys$Sentry"
def TX11 : u_T := fun k => match k with
  | 0 => ("GeeseKeys$Goose", "trace", "LGeeseKeys$Trace;", true)
  | 1 => ("GeeseKeys$Goose", "number", "I", true)
  | _ => ("GeeseKeys$Goose", "v", "I", false)
def tyX11 : Nat → FieldType := fun k => match k with
  | 0 => .object "GeeseKeys$Trace"
  | 1 => .int
  | _ => .int
abbrev wsX110 : List Cond := u_ws RX11 TX11 3
theorem nmX11 : ∀ a, a < 3 → ∀ b, b < 3 → a ≠ b → (TX11 a).2.1 ≠ (TX11 b).2.1 := by decide +kernel
theorem tyX11_ok : ∀ k, k < 3 → parseFieldDescriptor (TX11 k).2.2.1 = some (tyX11 k) := by decide +kernel
abbrev cX11_init : ByteArray := prog_14_method_1_code
def yX11_init : MethodName := ⟨RX11, "<init>", "(LGeeseKeys$Trace;II)V"⟩
def dkwX11_init_0 : List UInt8 := [42, 43, 28, 29, 183, 0, 3, 177]
abbrev dktX11_init_0 : List UInt8 := dkwX11_init_0 ++ []
theorem dksX11_init_0 : cX11_init.data.toList.drop 0 = dktX11_init_0 := by decide +kernel
theorem dX11_init_0 : decode cX11_init 0 = .ok (.aload_n 0, 1) := dk_42 (dk_at dksX11_init_0 0 rfl rfl)
theorem dX11_init_1 : decode cX11_init 1 = .ok (.aload_n 1, 1) := dk_43 (dk_at dksX11_init_0 1 rfl rfl)
theorem dX11_init_2 : decode cX11_init 2 = .ok (.iload_n 2, 1) := dk_28 (dk_at dksX11_init_0 2 rfl rfl)
theorem dX11_init_3 : decode cX11_init 3 = .ok (.iload_n 3, 1) := dk_29 (dk_at dksX11_init_0 3 rfl rfl)
theorem dX11_init_4 : decode cX11_init 4 = .ok (.invokespecial 3, 3) := dk_183 0 3 (dk_at dksX11_init_0 4 rfl rfl)
theorem dX11_init_7 : decode cX11_init 7 = .ok (.return_, 1) := dk_177 (dk_at dksX11_init_0 7 rfl rfl)
abbrev cX11_kind : ByteArray := prog_14_method_2_code
def yX11_kind : MethodName := ⟨RX11, "kind", "()I"⟩
theorem dX11_kind_0 : decode cX11_kind 0 = .ok (.iconst 4, 1) := by decide +kernel
theorem dX11_kind_1 : decode cX11_kind 1 = .ok (.ireturn, 1) := by decide +kernel
abbrev cX11_feels : ByteArray := prog_14_method_3_code
def yX11_feels : MethodName := ⟨RX11, "feels", "(IIZZZ)I"⟩
def dkwX11_feels_0 : List UInt8 := [42, 27, 28, 29, 21, 4, 21, 5, 183, 0, 9, 21, 5, 153, 0, 8, 16, 10, 167, 0, 4, 3, 96, 172]
abbrev dktX11_feels_0 : List UInt8 := dkwX11_feels_0 ++ []
theorem dksX11_feels_0 : cX11_feels.data.toList.drop 0 = dktX11_feels_0 := by decide +kernel
theorem dX11_feels_0 : decode cX11_feels 0 = .ok (.aload_n 0, 1) := dk_42 (dk_at dksX11_feels_0 0 rfl rfl)
theorem dX11_feels_1 : decode cX11_feels 1 = .ok (.iload_n 1, 1) := dk_27 (dk_at dksX11_feels_0 1 rfl rfl)
theorem dX11_feels_2 : decode cX11_feels 2 = .ok (.iload_n 2, 1) := dk_28 (dk_at dksX11_feels_0 2 rfl rfl)
theorem dX11_feels_3 : decode cX11_feels 3 = .ok (.iload_n 3, 1) := dk_29 (dk_at dksX11_feels_0 3 rfl rfl)
theorem dX11_feels_4 : decode cX11_feels 4 = .ok (.iload 4, 2) := dk_21 4 (dk_at dksX11_feels_0 4 rfl rfl)
theorem dX11_feels_6 : decode cX11_feels 6 = .ok (.iload 5, 2) := dk_21 5 (dk_at dksX11_feels_0 6 rfl rfl)
theorem dX11_feels_8 : decode cX11_feels 8 = .ok (.invokespecial 9, 3) := dk_183 0 9 (dk_at dksX11_feels_0 8 rfl rfl)
theorem dX11_feels_11 : decode cX11_feels 11 = .ok (.iload 5, 2) := dk_21 5 (dk_at dksX11_feels_0 11 rfl rfl)
theorem dX11_feels_13 : decode cX11_feels 13 = .ok (.ifCond .eq 8, 3) := dk_153 0 8 (dk_at dksX11_feels_0 13 rfl rfl)
theorem dX11_feels_16 : decode cX11_feels 16 = .ok (.bipush 10, 2) := dk_16 10 (dk_at dksX11_feels_0 16 rfl rfl)
theorem dX11_feels_18 : decode cX11_feels 18 = .ok (.goto 4, 3) := dk_167 0 4 (dk_at dksX11_feels_0 18 rfl rfl)
theorem dX11_feels_21 : decode cX11_feels 21 = .ok (.iconst 0, 1) := dk_3 (dk_at dksX11_feels_0 21 rfl rfl)
theorem dX11_feels_22 : decode cX11_feels 22 = .ok (.iadd, 1) := dk_96 (dk_at dksX11_feels_0 22 rfl rfl)
theorem dX11_feels_23 : decode cX11_feels 23 = .ok (.ireturn, 1) := dk_172 (dk_at dksX11_feels_0 23 rfl rfl)
abbrev cX11_honks : ByteArray := prog_14_method_4_code
def yX11_honks : MethodName := ⟨RX11, "honks", "(I)I"⟩
def dkwX11_honks_0 : List UInt8 := [42, 180, 0, 13, 16, 50, 182, 0, 19, 42, 27, 183, 0, 25, 116, 172]
abbrev dktX11_honks_0 : List UInt8 := dkwX11_honks_0 ++ []
theorem dksX11_honks_0 : cX11_honks.data.toList.drop 0 = dktX11_honks_0 := by decide +kernel
theorem dX11_honks_0 : decode cX11_honks 0 = .ok (.aload_n 0, 1) := dk_42 (dk_at dksX11_honks_0 0 rfl rfl)
theorem dX11_honks_1 : decode cX11_honks 1 = .ok (.getfield 13, 3) := dk_180 0 13 (dk_at dksX11_honks_0 1 rfl rfl)
theorem dX11_honks_4 : decode cX11_honks 4 = .ok (.bipush 50, 2) := dk_16 50 (dk_at dksX11_honks_0 4 rfl rfl)
theorem dX11_honks_6 : decode cX11_honks 6 = .ok (.invokevirtual 19, 3) := dk_182 0 19 (dk_at dksX11_honks_0 6 rfl rfl)
theorem dX11_honks_9 : decode cX11_honks 9 = .ok (.aload_n 0, 1) := dk_42 (dk_at dksX11_honks_0 9 rfl rfl)
theorem dX11_honks_10 : decode cX11_honks 10 = .ok (.iload_n 1, 1) := dk_27 (dk_at dksX11_honks_0 10 rfl rfl)
theorem dX11_honks_11 : decode cX11_honks 11 = .ok (.invokespecial 25, 3) := dk_183 0 25 (dk_at dksX11_honks_0 11 rfl rfl)
theorem dX11_honks_14 : decode cX11_honks 14 = .ok (.ineg, 1) := dk_116 (dk_at dksX11_honks_0 14 rfl rfl)
theorem dX11_honks_15 : decode cX11_honks 15 = .ok (.ireturn, 1) := dk_172 (dk_at dksX11_honks_0 15 rfl rfl)
abbrev cX11_struts : ByteArray := prog_14_method_5_code
def yX11_struts : MethodName := ⟨RX11, "struts", "(I)I"⟩
def dkwX11_struts_0 : List UInt8 := [42, 180, 0, 13, 16, 51, 182, 0, 19, 42, 27, 4, 96, 183, 0, 29, 172]
abbrev dktX11_struts_0 : List UInt8 := dkwX11_struts_0 ++ []
theorem dksX11_struts_0 : cX11_struts.data.toList.drop 0 = dktX11_struts_0 := by decide +kernel
theorem dX11_struts_0 : decode cX11_struts 0 = .ok (.aload_n 0, 1) := dk_42 (dk_at dksX11_struts_0 0 rfl rfl)
theorem dX11_struts_1 : decode cX11_struts 1 = .ok (.getfield 13, 3) := dk_180 0 13 (dk_at dksX11_struts_0 1 rfl rfl)
theorem dX11_struts_4 : decode cX11_struts 4 = .ok (.bipush 51, 2) := dk_16 51 (dk_at dksX11_struts_0 4 rfl rfl)
theorem dX11_struts_6 : decode cX11_struts 6 = .ok (.invokevirtual 19, 3) := dk_182 0 19 (dk_at dksX11_struts_0 6 rfl rfl)
theorem dX11_struts_9 : decode cX11_struts 9 = .ok (.aload_n 0, 1) := dk_42 (dk_at dksX11_struts_0 9 rfl rfl)
theorem dX11_struts_10 : decode cX11_struts 10 = .ok (.iload_n 1, 1) := dk_27 (dk_at dksX11_struts_0 10 rfl rfl)
theorem dX11_struts_11 : decode cX11_struts 11 = .ok (.iconst 1, 1) := dk_4 (dk_at dksX11_struts_0 11 rfl rfl)
theorem dX11_struts_12 : decode cX11_struts 12 = .ok (.iadd, 1) := dk_96 (dk_at dksX11_struts_0 12 rfl rfl)
theorem dX11_struts_13 : decode cX11_struts 13 = .ok (.invokespecial 29, 3) := dk_183 0 29 (dk_at dksX11_struts_0 13 rfl rfl)
theorem dX11_struts_16 : decode cX11_struts 16 = .ok (.ireturn, 1) := dk_172 (dk_at dksX11_struts_0 16 rfl rfl)
theorem q91 : (Jvm.Cond.initialized "GeeseKeys$Sentry") ∈ lw_all := lw_g (lw_at lw_m1 15 rfl) rfl
theorem q416 : (Jvm.Cond.fieldLink "GeeseKeys$Sentry" (13 : Nat) "GeeseKeys$Sentry" "trace" "LGeeseKeys$Trace;") ∈ lw_all := lw_g (lw_at lw_m2 100 rfl) rfl
theorem q417 : (Jvm.Cond.sameField "GeeseKeys$Sentry" "GeeseKeys$Goose" "trace" "LGeeseKeys$Trace;") ∈ lw_all := lw_g (lw_at lw_m2 101 rfl) rfl
theorem q465 : (Jvm.Cond.instantiable "GeeseKeys$Sentry" (3 : Nat)) ∈ lw_all := lw_g (lw_at lw_m2 149 rfl) rfl
theorem q467 : (Jvm.Cond.instanceMethod ({ cls := "GeeseKeys$Sentry", name := "<init>", desc := "(LGeeseKeys$Trace;II)V" } : Jvm.MethodName)) ∈ lw_all := lw_g (lw_at lw_m2 151 rfl) rfl
theorem q468 : (Jvm.Cond.code ({ cls := "GeeseKeys$Sentry", name := "<init>", desc := "(LGeeseKeys$Trace;II)V" } : Jvm.MethodName) prog_14_method_1_code (4 : Nat) (Option.none : Option Jvm.ClassFile.FieldType)) ∈ lw_all := lw_g (lw_at lw_m2 152 rfl) rfl
theorem q469 : (Jvm.Cond.methodLink "GeeseKeys$Sentry" (3 : Nat) ({ cls := "GeeseKeys$Gander", name := "<init>", desc := "(LGeeseKeys$Trace;II)V" } : Jvm.MethodName)) ∈ lw_all := lw_g (lw_at lw_m2 153 rfl) rfl
theorem q470 : (Jvm.Cond.laysFinal "GeeseKeys$Sentry" "GeeseKeys$Goose" "trace" "LGeeseKeys$Trace;") ∈ lw_all := lw_g (lw_at lw_m2 154 rfl) rfl
theorem q471 : (Jvm.Cond.laysFinal "GeeseKeys$Sentry" "GeeseKeys$Goose" "number" "I") ∈ lw_all := lw_g (lw_at lw_m2 155 rfl) rfl
theorem q472 : (Jvm.Cond.lays "GeeseKeys$Sentry" "GeeseKeys$Goose" "v" "I") ∈ lw_all := lw_g (lw_at lw_m2 156 rfl) rfl
theorem q473 : (Jvm.Cond.superclass "GeeseKeys$Sentry" "GeeseKeys$Gander") ∈ lw_all := lw_g (lw_at lw_m2 157 rfl) rfl
theorem q530 : (Jvm.Cond.selects "GeeseKeys$Sentry" ({ cls := "GeeseKeys$Goose", name := "kind", desc := "()I" } : Jvm.MethodName) ({ cls := "GeeseKeys$Sentry", name := "kind", desc := "()I" } : Jvm.MethodName)) ∈ lw_all := lw_g (lw_at lw_m2 214 rfl) rfl
theorem q531 : (Jvm.Cond.instanceMethod ({ cls := "GeeseKeys$Sentry", name := "kind", desc := "()I" } : Jvm.MethodName)) ∈ lw_all := lw_g (lw_at lw_m2 215 rfl) rfl
theorem q532 : (Jvm.Cond.code ({ cls := "GeeseKeys$Sentry", name := "kind", desc := "()I" } : Jvm.MethodName) prog_14_method_2_code (1 : Nat) (Option.some Jvm.ClassFile.FieldType.int)) ∈ lw_all := lw_g (lw_at lw_m2 216 rfl) rfl
theorem q630 : (Jvm.Cond.selects "GeeseKeys$Sentry" ({ cls := "GeeseKeys$Goose", name := "feels", desc := "(IIZZZ)I" } : Jvm.MethodName) ({ cls := "GeeseKeys$Sentry", name := "feels", desc := "(IIZZZ)I" } : Jvm.MethodName)) ∈ lw_all := lw_g (lw_at lw_m3 74 rfl) rfl
theorem q631 : (Jvm.Cond.instanceMethod ({ cls := "GeeseKeys$Sentry", name := "feels", desc := "(IIZZZ)I" } : Jvm.MethodName)) ∈ lw_all := lw_g (lw_at lw_m3 75 rfl) rfl
theorem q632 : (Jvm.Cond.code ({ cls := "GeeseKeys$Sentry", name := "feels", desc := "(IIZZZ)I" } : Jvm.MethodName) prog_14_method_3_code (6 : Nat) (Option.some Jvm.ClassFile.FieldType.int)) ∈ lw_all := lw_g (lw_at lw_m3 76 rfl) rfl
theorem q633 : (Jvm.Cond.methodLink "GeeseKeys$Sentry" (9 : Nat) ({ cls := "GeeseKeys$Gander", name := "feels", desc := "(IIZZZ)I" } : Jvm.MethodName)) ∈ lw_all := lw_g (lw_at lw_m3 77 rfl) rfl
theorem q971 : (Jvm.Cond.selects "GeeseKeys$Sentry" ({ cls := "java/lang/Object", name := "getClass", desc := "()Ljava/lang/Class;" } : Jvm.MethodName) ({ cls := "java/lang/Object", name := "getClass", desc := "()Ljava/lang/Class;" } : Jvm.MethodName)) ∈ lw_all := lw_g (lw_at lw_m4 175 rfl) rfl
theorem q1258 : (Jvm.Cond.selects "GeeseKeys$Sentry" ({ cls := "GeeseKeys$Goose", name := "honks", desc := "(I)I" } : Jvm.MethodName) ({ cls := "GeeseKeys$Sentry", name := "honks", desc := "(I)I" } : Jvm.MethodName)) ∈ lw_all := lw_g (lw_at lw_m5 222 rfl) rfl
theorem q1259 : (Jvm.Cond.instanceMethod ({ cls := "GeeseKeys$Sentry", name := "honks", desc := "(I)I" } : Jvm.MethodName)) ∈ lw_all := lw_g (lw_at lw_m5 223 rfl) rfl
theorem q1260 : (Jvm.Cond.code ({ cls := "GeeseKeys$Sentry", name := "honks", desc := "(I)I" } : Jvm.MethodName) prog_14_method_4_code (2 : Nat) (Option.some Jvm.ClassFile.FieldType.int)) ∈ lw_all := lw_g (lw_at lw_m5 224 rfl) rfl
theorem q1261 : (Jvm.Cond.methodLink "GeeseKeys$Sentry" (19 : Nat) ({ cls := "GeeseKeys$Trace", name := "ran", desc := "(I)V" } : Jvm.MethodName)) ∈ lw_all := lw_g (lw_at lw_m5 225 rfl) rfl
theorem q1262 : (Jvm.Cond.methodLink "GeeseKeys$Sentry" (25 : Nat) ({ cls := "GeeseKeys$Gander", name := "honks", desc := "(I)I" } : Jvm.MethodName)) ∈ lw_all := lw_g (lw_at lw_m5 226 rfl) rfl
theorem q1285 : (Jvm.Cond.selects "GeeseKeys$Sentry" ({ cls := "GeeseKeys$Goose", name := "struts", desc := "(I)I" } : Jvm.MethodName) ({ cls := "GeeseKeys$Sentry", name := "struts", desc := "(I)I" } : Jvm.MethodName)) ∈ lw_all := lw_g (lw_at lw_m6 9 rfl) rfl
theorem q1286 : (Jvm.Cond.instanceMethod ({ cls := "GeeseKeys$Sentry", name := "struts", desc := "(I)I" } : Jvm.MethodName)) ∈ lw_all := lw_g (lw_at lw_m6 10 rfl) rfl
theorem q1287 : (Jvm.Cond.code ({ cls := "GeeseKeys$Sentry", name := "struts", desc := "(I)I" } : Jvm.MethodName) prog_14_method_5_code (2 : Nat) (Option.some Jvm.ClassFile.FieldType.int)) ∈ lw_all := lw_g (lw_at lw_m6 11 rfl) rfl
theorem q1288 : (Jvm.Cond.methodLink "GeeseKeys$Sentry" (29 : Nat) ({ cls := "GeeseKeys$Gander", name := "struts", desc := "(I)I" } : Jvm.MethodName)) ∈ lw_all := lw_g (lw_at lw_m6 12 rfl) rfl
theorem q1318 : (Jvm.Cond.selects "GeeseKeys$Sentry" ({ cls := "GeeseKeys$Goose", name := "tells", desc := "(I)I" } : Jvm.MethodName) ({ cls := "GeeseKeys$Goose", name := "tells", desc := "(I)I" } : Jvm.MethodName)) ∈ lw_all := lw_g (lw_at lw_m6 42 rfl) rfl
theorem q1862 : (Jvm.Cond.castable "GeeseKeys$Sentry" "GeeseKeys$Goose") ∈ lw_tbl := lw_at lw_m8 106 rfl
theorem q1864 : (Jvm.Cond.castable "GeeseKeys$Sentry" "GeeseKeys$Gander") ∈ lw_tbl := lw_at lw_m8 108 rfl
theorem q1879 : (Jvm.Cond.castable "GeeseKeys$Sentry" "java/lang/Object") ∈ lw_tbl := lw_at lw_m8 123 rfl
theorem in_X11 : ∀ w ∈ wsX110, w ∈ lw_all := lw_in wsX110 [470, 471, 472] (by decide +kernel) (by decide +kernel)
/-! GeeseKeys$Larder -/
set_option maxRecDepth 100000
def RX12 : String := "GeeseKeys$Larder"
def TX12 : u_T := fun k => match k with
  | 0 => ("GeeseKeys$Goose", "trace", "LGeeseKeys$Trace;", true)
  | 1 => ("GeeseKeys$Goose", "number", "I", true)
  | _ => ("GeeseKeys$Goose", "v", "I", false)
def tyX12 : Nat → FieldType := fun k => match k with
  | 0 => .object "GeeseKeys$Trace"
  | 1 => .int
  | _ => .int
abbrev wsX120 : List Cond := u_ws RX12 TX12 3
theorem nmX12 : ∀ a, a < 3 → ∀ b, b < 3 → a ≠ b → (TX12 a).2.1 ≠ (TX12 b).2.1 := by decide +kernel
theorem tyX12_ok : ∀ k, k < 3 → parseFieldDescriptor (TX12 k).2.2.1 = some (tyX12 k) := by decide +kernel
abbrev cX12_init : ByteArray := prog_8_method_1_code
def yX12_init : MethodName := ⟨RX12, "<init>", "(LGeeseKeys$Trace;II)V"⟩
def dkwX12_init_0 : List UInt8 := [42, 43, 28, 29, 183, 0, 3, 177]
abbrev dktX12_init_0 : List UInt8 := dkwX12_init_0 ++ []
theorem dksX12_init_0 : cX12_init.data.toList.drop 0 = dktX12_init_0 := by decide +kernel
theorem dX12_init_0 : decode cX12_init 0 = .ok (.aload_n 0, 1) := dk_42 (dk_at dksX12_init_0 0 rfl rfl)
theorem dX12_init_1 : decode cX12_init 1 = .ok (.aload_n 1, 1) := dk_43 (dk_at dksX12_init_0 1 rfl rfl)
theorem dX12_init_2 : decode cX12_init 2 = .ok (.iload_n 2, 1) := dk_28 (dk_at dksX12_init_0 2 rfl rfl)
theorem dX12_init_3 : decode cX12_init 3 = .ok (.iload_n 3, 1) := dk_29 (dk_at dksX12_init_0 3 rfl rfl)
theorem dX12_init_4 : decode cX12_init 4 = .ok (.invokespecial 3, 3) := dk_183 0 3 (dk_at dksX12_init_0 4 rfl rfl)
theorem dX12_init_7 : decode cX12_init 7 = .ok (.return_, 1) := dk_177 (dk_at dksX12_init_0 7 rfl rfl)
abbrev cX12_kind : ByteArray := prog_8_method_2_code
def yX12_kind : MethodName := ⟨RX12, "kind", "()I"⟩
theorem dX12_kind_0 : decode cX12_kind 0 = .ok (.iconst 5, 1) := by decide +kernel
theorem dX12_kind_1 : decode cX12_kind 1 = .ok (.ireturn, 1) := by decide +kernel
abbrev cX12_feels : ByteArray := prog_8_method_3_code
def yX12_feels : MethodName := ⟨RX12, "feels", "(IIZZZ)I"⟩
def dkwX12_feels_0 : List UInt8 := [42, 27, 28, 29, 21, 4, 21, 5, 183, 0, 9, 28, 154, 0, 7, 8, 167, 0, 4, 3, 96, 172]
abbrev dktX12_feels_0 : List UInt8 := dkwX12_feels_0 ++ []
theorem dksX12_feels_0 : cX12_feels.data.toList.drop 0 = dktX12_feels_0 := by decide +kernel
theorem dX12_feels_0 : decode cX12_feels 0 = .ok (.aload_n 0, 1) := dk_42 (dk_at dksX12_feels_0 0 rfl rfl)
theorem dX12_feels_1 : decode cX12_feels 1 = .ok (.iload_n 1, 1) := dk_27 (dk_at dksX12_feels_0 1 rfl rfl)
theorem dX12_feels_2 : decode cX12_feels 2 = .ok (.iload_n 2, 1) := dk_28 (dk_at dksX12_feels_0 2 rfl rfl)
theorem dX12_feels_3 : decode cX12_feels 3 = .ok (.iload_n 3, 1) := dk_29 (dk_at dksX12_feels_0 3 rfl rfl)
theorem dX12_feels_4 : decode cX12_feels 4 = .ok (.iload 4, 2) := dk_21 4 (dk_at dksX12_feels_0 4 rfl rfl)
theorem dX12_feels_6 : decode cX12_feels 6 = .ok (.iload 5, 2) := dk_21 5 (dk_at dksX12_feels_0 6 rfl rfl)
theorem dX12_feels_8 : decode cX12_feels 8 = .ok (.invokespecial 9, 3) := dk_183 0 9 (dk_at dksX12_feels_0 8 rfl rfl)
theorem dX12_feels_11 : decode cX12_feels 11 = .ok (.iload_n 2, 1) := dk_28 (dk_at dksX12_feels_0 11 rfl rfl)
theorem dX12_feels_12 : decode cX12_feels 12 = .ok (.ifCond .ne 7, 3) := dk_154 0 7 (dk_at dksX12_feels_0 12 rfl rfl)
theorem dX12_feels_15 : decode cX12_feels 15 = .ok (.iconst 5, 1) := dk_8 (dk_at dksX12_feels_0 15 rfl rfl)
theorem dX12_feels_16 : decode cX12_feels 16 = .ok (.goto 4, 3) := dk_167 0 4 (dk_at dksX12_feels_0 16 rfl rfl)
theorem dX12_feels_19 : decode cX12_feels 19 = .ok (.iconst 0, 1) := dk_3 (dk_at dksX12_feels_0 19 rfl rfl)
theorem dX12_feels_20 : decode cX12_feels 20 = .ok (.iadd, 1) := dk_96 (dk_at dksX12_feels_0 20 rfl rfl)
theorem dX12_feels_21 : decode cX12_feels 21 = .ok (.ireturn, 1) := dk_172 (dk_at dksX12_feels_0 21 rfl rfl)
abbrev cX12_tells : ByteArray := prog_8_method_4_code
def yX12_tells : MethodName := ⟨RX12, "tells", "(I)I"⟩
def dkwX12_tells_0 : List UInt8 := [42, 180, 0, 13, 16, 60, 182, 0, 19, 42, 27, 42, 180, 0, 25, 100, 183, 0, 29, 172]
abbrev dktX12_tells_0 : List UInt8 := dkwX12_tells_0 ++ []
theorem dksX12_tells_0 : cX12_tells.data.toList.drop 0 = dktX12_tells_0 := by decide +kernel
theorem dX12_tells_0 : decode cX12_tells 0 = .ok (.aload_n 0, 1) := dk_42 (dk_at dksX12_tells_0 0 rfl rfl)
theorem dX12_tells_1 : decode cX12_tells 1 = .ok (.getfield 13, 3) := dk_180 0 13 (dk_at dksX12_tells_0 1 rfl rfl)
theorem dX12_tells_4 : decode cX12_tells 4 = .ok (.bipush 60, 2) := dk_16 60 (dk_at dksX12_tells_0 4 rfl rfl)
theorem dX12_tells_6 : decode cX12_tells 6 = .ok (.invokevirtual 19, 3) := dk_182 0 19 (dk_at dksX12_tells_0 6 rfl rfl)
theorem dX12_tells_9 : decode cX12_tells 9 = .ok (.aload_n 0, 1) := dk_42 (dk_at dksX12_tells_0 9 rfl rfl)
theorem dX12_tells_10 : decode cX12_tells 10 = .ok (.iload_n 1, 1) := dk_27 (dk_at dksX12_tells_0 10 rfl rfl)
theorem dX12_tells_11 : decode cX12_tells 11 = .ok (.aload_n 0, 1) := dk_42 (dk_at dksX12_tells_0 11 rfl rfl)
theorem dX12_tells_12 : decode cX12_tells 12 = .ok (.getfield 25, 3) := dk_180 0 25 (dk_at dksX12_tells_0 12 rfl rfl)
theorem dX12_tells_15 : decode cX12_tells 15 = .ok (.isub, 1) := dk_100 (dk_at dksX12_tells_0 15 rfl rfl)
theorem dX12_tells_16 : decode cX12_tells 16 = .ok (.invokespecial 29, 3) := dk_183 0 29 (dk_at dksX12_tells_0 16 rfl rfl)
theorem dX12_tells_19 : decode cX12_tells 19 = .ok (.ireturn, 1) := dk_172 (dk_at dksX12_tells_0 19 rfl rfl)
theorem q92 : (Jvm.Cond.initialized "GeeseKeys$Larder") ∈ lw_all := lw_g (lw_at lw_m1 16 rfl) rfl
theorem q422 : (Jvm.Cond.fieldLink "GeeseKeys$Larder" (13 : Nat) "GeeseKeys$Larder" "trace" "LGeeseKeys$Trace;") ∈ lw_all := lw_g (lw_at lw_m2 106 rfl) rfl
theorem q423 : (Jvm.Cond.sameField "GeeseKeys$Larder" "GeeseKeys$Goose" "trace" "LGeeseKeys$Trace;") ∈ lw_all := lw_g (lw_at lw_m2 107 rfl) rfl
theorem q429 : (Jvm.Cond.fieldLink "GeeseKeys$Larder" (25 : Nat) "GeeseKeys$Larder" "number" "I") ∈ lw_all := lw_g (lw_at lw_m2 113 rfl) rfl
theorem q430 : (Jvm.Cond.sameField "GeeseKeys$Larder" "GeeseKeys$Goose" "number" "I") ∈ lw_all := lw_g (lw_at lw_m2 114 rfl) rfl
theorem q475 : (Jvm.Cond.instantiable "GeeseKeys$Larder" (3 : Nat)) ∈ lw_all := lw_g (lw_at lw_m2 159 rfl) rfl
theorem q477 : (Jvm.Cond.instanceMethod ({ cls := "GeeseKeys$Larder", name := "<init>", desc := "(LGeeseKeys$Trace;II)V" } : Jvm.MethodName)) ∈ lw_all := lw_g (lw_at lw_m2 161 rfl) rfl
theorem q478 : (Jvm.Cond.code ({ cls := "GeeseKeys$Larder", name := "<init>", desc := "(LGeeseKeys$Trace;II)V" } : Jvm.MethodName) prog_8_method_1_code (4 : Nat) (Option.none : Option Jvm.ClassFile.FieldType)) ∈ lw_all := lw_g (lw_at lw_m2 162 rfl) rfl
theorem q479 : (Jvm.Cond.methodLink "GeeseKeys$Larder" (3 : Nat) ({ cls := "GeeseKeys$Gosling", name := "<init>", desc := "(LGeeseKeys$Trace;II)V" } : Jvm.MethodName)) ∈ lw_all := lw_g (lw_at lw_m2 163 rfl) rfl
theorem q480 : (Jvm.Cond.laysFinal "GeeseKeys$Larder" "GeeseKeys$Goose" "trace" "LGeeseKeys$Trace;") ∈ lw_all := lw_g (lw_at lw_m2 164 rfl) rfl
theorem q481 : (Jvm.Cond.laysFinal "GeeseKeys$Larder" "GeeseKeys$Goose" "number" "I") ∈ lw_all := lw_g (lw_at lw_m2 165 rfl) rfl
theorem q482 : (Jvm.Cond.lays "GeeseKeys$Larder" "GeeseKeys$Goose" "v" "I") ∈ lw_all := lw_g (lw_at lw_m2 166 rfl) rfl
theorem q483 : (Jvm.Cond.superclass "GeeseKeys$Larder" "GeeseKeys$Gosling") ∈ lw_all := lw_g (lw_at lw_m2 167 rfl) rfl
theorem q524 : (Jvm.Cond.selects "GeeseKeys$Larder" ({ cls := "GeeseKeys$Goose", name := "kind", desc := "()I" } : Jvm.MethodName) ({ cls := "GeeseKeys$Larder", name := "kind", desc := "()I" } : Jvm.MethodName)) ∈ lw_all := lw_g (lw_at lw_m2 208 rfl) rfl
theorem q525 : (Jvm.Cond.instanceMethod ({ cls := "GeeseKeys$Larder", name := "kind", desc := "()I" } : Jvm.MethodName)) ∈ lw_all := lw_g (lw_at lw_m2 209 rfl) rfl
theorem q526 : (Jvm.Cond.code ({ cls := "GeeseKeys$Larder", name := "kind", desc := "()I" } : Jvm.MethodName) prog_8_method_2_code (1 : Nat) (Option.some Jvm.ClassFile.FieldType.int)) ∈ lw_all := lw_g (lw_at lw_m2 210 rfl) rfl
theorem q622 : (Jvm.Cond.selects "GeeseKeys$Larder" ({ cls := "GeeseKeys$Goose", name := "feels", desc := "(IIZZZ)I" } : Jvm.MethodName) ({ cls := "GeeseKeys$Larder", name := "feels", desc := "(IIZZZ)I" } : Jvm.MethodName)) ∈ lw_all := lw_g (lw_at lw_m3 66 rfl) rfl
theorem q623 : (Jvm.Cond.instanceMethod ({ cls := "GeeseKeys$Larder", name := "feels", desc := "(IIZZZ)I" } : Jvm.MethodName)) ∈ lw_all := lw_g (lw_at lw_m3 67 rfl) rfl
theorem q624 : (Jvm.Cond.code ({ cls := "GeeseKeys$Larder", name := "feels", desc := "(IIZZZ)I" } : Jvm.MethodName) prog_8_method_3_code (6 : Nat) (Option.some Jvm.ClassFile.FieldType.int)) ∈ lw_all := lw_g (lw_at lw_m3 68 rfl) rfl
theorem q625 : (Jvm.Cond.methodLink "GeeseKeys$Larder" (9 : Nat) ({ cls := "GeeseKeys$Gosling", name := "feels", desc := "(IIZZZ)I" } : Jvm.MethodName)) ∈ lw_all := lw_g (lw_at lw_m3 69 rfl) rfl
theorem q965 : (Jvm.Cond.selects "GeeseKeys$Larder" ({ cls := "java/lang/Object", name := "getClass", desc := "()Ljava/lang/Class;" } : Jvm.MethodName) ({ cls := "java/lang/Object", name := "getClass", desc := "()Ljava/lang/Class;" } : Jvm.MethodName)) ∈ lw_all := lw_g (lw_at lw_m4 169 rfl) rfl
theorem q1256 : (Jvm.Cond.selects "GeeseKeys$Larder" ({ cls := "GeeseKeys$Goose", name := "honks", desc := "(I)I" } : Jvm.MethodName) ({ cls := "GeeseKeys$Gosling", name := "honks", desc := "(I)I" } : Jvm.MethodName)) ∈ lw_all := lw_g (lw_at lw_m5 220 rfl) rfl
theorem q1283 : (Jvm.Cond.selects "GeeseKeys$Larder" ({ cls := "GeeseKeys$Goose", name := "struts", desc := "(I)I" } : Jvm.MethodName) ({ cls := "GeeseKeys$Goose", name := "struts", desc := "(I)I" } : Jvm.MethodName)) ∈ lw_all := lw_g (lw_at lw_m6 7 rfl) rfl
theorem q1301 : (Jvm.Cond.selects "GeeseKeys$Larder" ({ cls := "GeeseKeys$Goose", name := "tells", desc := "(I)I" } : Jvm.MethodName) ({ cls := "GeeseKeys$Larder", name := "tells", desc := "(I)I" } : Jvm.MethodName)) ∈ lw_all := lw_g (lw_at lw_m6 25 rfl) rfl
theorem q1302 : (Jvm.Cond.instanceMethod ({ cls := "GeeseKeys$Larder", name := "tells", desc := "(I)I" } : Jvm.MethodName)) ∈ lw_all := lw_g (lw_at lw_m6 26 rfl) rfl
theorem q1303 : (Jvm.Cond.code ({ cls := "GeeseKeys$Larder", name := "tells", desc := "(I)I" } : Jvm.MethodName) prog_8_method_4_code (2 : Nat) (Option.some Jvm.ClassFile.FieldType.int)) ∈ lw_all := lw_g (lw_at lw_m6 27 rfl) rfl
theorem q1304 : (Jvm.Cond.methodLink "GeeseKeys$Larder" (19 : Nat) ({ cls := "GeeseKeys$Trace", name := "ran", desc := "(I)V" } : Jvm.MethodName)) ∈ lw_all := lw_g (lw_at lw_m6 28 rfl) rfl
theorem q1305 : (Jvm.Cond.methodLink "GeeseKeys$Larder" (29 : Nat) ({ cls := "GeeseKeys$Gosling", name := "tells", desc := "(I)I" } : Jvm.MethodName)) ∈ lw_all := lw_g (lw_at lw_m6 29 rfl) rfl
theorem q1860 : (Jvm.Cond.castable "GeeseKeys$Larder" "GeeseKeys$Goose") ∈ lw_tbl := lw_at lw_m8 104 rfl
theorem q1865 : (Jvm.Cond.castable "GeeseKeys$Larder" "GeeseKeys$Gosling") ∈ lw_tbl := lw_at lw_m8 109 rfl
theorem q1880 : (Jvm.Cond.castable "GeeseKeys$Larder" "java/lang/Object") ∈ lw_tbl := lw_at lw_m8 124 rfl
theorem in_X12 : ∀ w ∈ wsX120, w ∈ lw_all := lw_in wsX120 [480, 481, 482] (by decide +kernel) (by decide +kernel)
/-! GeeseKeys$Told -/
set_option maxRecDepth 100000
def RX13 : String := "GeeseKeys$Told"
def TX13 : u_T := fun k => match k with
  | 0 => ("GeeseKeys$Goose", "trace", "LGeeseKeys$Trace;", true)
  | 1 => ("GeeseKeys$Goose", "number", "I", true)
  | 2 => ("GeeseKeys$Goose", "v", "I", false)
  | _ => ("GeeseKeys$Told", "rows", "[I", true)
def tyX13 : Nat → FieldType := fun k => match k with
  | 0 => .object "GeeseKeys$Trace"
  | 1 => .int
  | 2 => .int
  | _ => .array .int
abbrev wsX130 : List Cond := u_ws RX13 TX13 4
theorem nmX13 : ∀ a, a < 4 → ∀ b, b < 4 → a ≠ b → (TX13 a).2.1 ≠ (TX13 b).2.1 := by decide +kernel
theorem tyX13_ok : ∀ k, k < 4 → parseFieldDescriptor (TX13 k).2.2.1 = some (tyX13 k) := by decide +kernel
abbrev cX13_init : ByteArray := prog_20_method_1_code
def yX13_init : MethodName := ⟨RX13, "<init>", "(LGeeseKeys$Trace;II[I)V"⟩
def dkwX13_init_0 : List UInt8 := [42, 43, 28, 29, 183, 0, 3, 42, 25, 4, 181, 0, 9, 177]
abbrev dktX13_init_0 : List UInt8 := dkwX13_init_0 ++ []
theorem dksX13_init_0 : cX13_init.data.toList.drop 0 = dktX13_init_0 := by decide +kernel
theorem dX13_init_0 : decode cX13_init 0 = .ok (.aload_n 0, 1) := dk_42 (dk_at dksX13_init_0 0 rfl rfl)
theorem dX13_init_1 : decode cX13_init 1 = .ok (.aload_n 1, 1) := dk_43 (dk_at dksX13_init_0 1 rfl rfl)
theorem dX13_init_2 : decode cX13_init 2 = .ok (.iload_n 2, 1) := dk_28 (dk_at dksX13_init_0 2 rfl rfl)
theorem dX13_init_3 : decode cX13_init 3 = .ok (.iload_n 3, 1) := dk_29 (dk_at dksX13_init_0 3 rfl rfl)
theorem dX13_init_4 : decode cX13_init 4 = .ok (.invokespecial 3, 3) := dk_183 0 3 (dk_at dksX13_init_0 4 rfl rfl)
theorem dX13_init_7 : decode cX13_init 7 = .ok (.aload_n 0, 1) := dk_42 (dk_at dksX13_init_0 7 rfl rfl)
theorem dX13_init_8 : decode cX13_init 8 = .ok (.aload 4, 2) := dk_25 4 (dk_at dksX13_init_0 8 rfl rfl)
theorem dX13_init_10 : decode cX13_init 10 = .ok (.putfield 9, 3) := dk_181 0 9 (dk_at dksX13_init_0 10 rfl rfl)
theorem dX13_init_13 : decode cX13_init 13 = .ok (.return_, 1) := dk_177 (dk_at dksX13_init_0 13 rfl rfl)
abbrev cX13_kind : ByteArray := prog_20_method_2_code
def yX13_kind : MethodName := ⟨RX13, "kind", "()I"⟩
theorem dX13_kind_0 : decode cX13_kind 0 = .ok (.bipush 6, 2) := by decide +kernel
theorem dX13_kind_2 : decode cX13_kind 2 = .ok (.ireturn, 1) := by decide +kernel
abbrev cX13_feels : ByteArray := prog_20_method_3_code
def yX13_feels : MethodName := ⟨RX13, "feels", "(IIZZZ)I"⟩
def dkwX13_feels_1 : List UInt8 := [96, 46, 96, 172]
abbrev dktX13_feels_1 : List UInt8 := dkwX13_feels_1 ++ []
def dkwX13_feels_0 : List UInt8 := [42, 27, 28, 29, 21, 4, 21, 5, 183, 0, 15, 42, 180, 0, 9, 7, 42, 180, 0, 19, 104, 28, 7, 112]
abbrev dktX13_feels_0 : List UInt8 := dkwX13_feels_0 ++ dktX13_feels_1
theorem dksX13_feels_0 : cX13_feels.data.toList.drop 0 = dktX13_feels_0 := by decide +kernel
theorem dksX13_feels_1 : cX13_feels.data.toList.drop 24 = dktX13_feels_1 := dk_seg dksX13_feels_0 24 rfl rfl
theorem dX13_feels_0 : decode cX13_feels 0 = .ok (.aload_n 0, 1) := dk_42 (dk_at dksX13_feels_0 0 rfl rfl)
theorem dX13_feels_1 : decode cX13_feels 1 = .ok (.iload_n 1, 1) := dk_27 (dk_at dksX13_feels_0 1 rfl rfl)
theorem dX13_feels_2 : decode cX13_feels 2 = .ok (.iload_n 2, 1) := dk_28 (dk_at dksX13_feels_0 2 rfl rfl)
theorem dX13_feels_3 : decode cX13_feels 3 = .ok (.iload_n 3, 1) := dk_29 (dk_at dksX13_feels_0 3 rfl rfl)
theorem dX13_feels_4 : decode cX13_feels 4 = .ok (.iload 4, 2) := dk_21 4 (dk_at dksX13_feels_0 4 rfl rfl)
theorem dX13_feels_6 : decode cX13_feels 6 = .ok (.iload 5, 2) := dk_21 5 (dk_at dksX13_feels_0 6 rfl rfl)
theorem dX13_feels_8 : decode cX13_feels 8 = .ok (.invokespecial 15, 3) := dk_183 0 15 (dk_at dksX13_feels_0 8 rfl rfl)
theorem dX13_feels_11 : decode cX13_feels 11 = .ok (.aload_n 0, 1) := dk_42 (dk_at dksX13_feels_0 11 rfl rfl)
theorem dX13_feels_12 : decode cX13_feels 12 = .ok (.getfield 9, 3) := dk_180 0 9 (dk_at dksX13_feels_0 12 rfl rfl)
theorem dX13_feels_15 : decode cX13_feels 15 = .ok (.iconst 4, 1) := dk_7 (dk_at dksX13_feels_0 15 rfl rfl)
theorem dX13_feels_16 : decode cX13_feels 16 = .ok (.aload_n 0, 1) := dk_42 (dk_at dksX13_feels_0 16 rfl rfl)
theorem dX13_feels_17 : decode cX13_feels 17 = .ok (.getfield 19, 3) := dk_180 0 19 (dk_at dksX13_feels_0 17 rfl rfl)
theorem dX13_feels_20 : decode cX13_feels 20 = .ok (.imul, 1) := dk_104 (dk_at dksX13_feels_0 20 rfl rfl)
theorem dX13_feels_21 : decode cX13_feels 21 = .ok (.iload_n 2, 1) := dk_28 (dk_at dksX13_feels_0 21 rfl rfl)
theorem dX13_feels_22 : decode cX13_feels 22 = .ok (.iconst 4, 1) := dk_7 (dk_at dksX13_feels_0 22 rfl rfl)
theorem dX13_feels_23 : decode cX13_feels 23 = .ok (.irem, 1) := dk_112 (dk_at dksX13_feels_0 23 rfl rfl)
theorem dX13_feels_24 : decode cX13_feels 24 = .ok (.iadd, 1) := dk_96 (dk_at dksX13_feels_1 0 rfl rfl)
theorem dX13_feels_25 : decode cX13_feels 25 = .ok (.iaload, 1) := dk_46 (dk_at dksX13_feels_1 1 rfl rfl)
theorem dX13_feels_26 : decode cX13_feels 26 = .ok (.iadd, 1) := dk_96 (dk_at dksX13_feels_1 2 rfl rfl)
theorem dX13_feels_27 : decode cX13_feels 27 = .ok (.ireturn, 1) := dk_172 (dk_at dksX13_feels_1 3 rfl rfl)
abbrev cX13_honks : ByteArray := prog_20_method_5_code
def yX13_honks : MethodName := ⟨RX13, "honks", "(I)I"⟩
def dkwX13_honks_0 : List UInt8 := [42, 180, 0, 23, 16, 71, 182, 0, 27, 42, 27, 183, 0, 37, 42, 180, 0, 40, 130, 172]
abbrev dktX13_honks_0 : List UInt8 := dkwX13_honks_0 ++ []
theorem dksX13_honks_0 : cX13_honks.data.toList.drop 0 = dktX13_honks_0 := by decide +kernel
theorem dX13_honks_0 : decode cX13_honks 0 = .ok (.aload_n 0, 1) := dk_42 (dk_at dksX13_honks_0 0 rfl rfl)
theorem dX13_honks_1 : decode cX13_honks 1 = .ok (.getfield 23, 3) := dk_180 0 23 (dk_at dksX13_honks_0 1 rfl rfl)
theorem dX13_honks_4 : decode cX13_honks 4 = .ok (.bipush 71, 2) := dk_16 71 (dk_at dksX13_honks_0 4 rfl rfl)
theorem dX13_honks_6 : decode cX13_honks 6 = .ok (.invokevirtual 27, 3) := dk_182 0 27 (dk_at dksX13_honks_0 6 rfl rfl)
theorem dX13_honks_9 : decode cX13_honks 9 = .ok (.aload_n 0, 1) := dk_42 (dk_at dksX13_honks_0 9 rfl rfl)
theorem dX13_honks_10 : decode cX13_honks 10 = .ok (.iload_n 1, 1) := dk_27 (dk_at dksX13_honks_0 10 rfl rfl)
theorem dX13_honks_11 : decode cX13_honks 11 = .ok (.invokespecial 37, 3) := dk_183 0 37 (dk_at dksX13_honks_0 11 rfl rfl)
theorem dX13_honks_14 : decode cX13_honks 14 = .ok (.aload_n 0, 1) := dk_42 (dk_at dksX13_honks_0 14 rfl rfl)
theorem dX13_honks_15 : decode cX13_honks 15 = .ok (.getfield 40, 3) := dk_180 0 40 (dk_at dksX13_honks_0 15 rfl rfl)
theorem dX13_honks_18 : decode cX13_honks 18 = .ok (.ixor, 1) := dk_130 (dk_at dksX13_honks_0 18 rfl rfl)
theorem dX13_honks_19 : decode cX13_honks 19 = .ok (.ireturn, 1) := dk_172 (dk_at dksX13_honks_0 19 rfl rfl)
abbrev cX13_struts : ByteArray := prog_20_method_4_code
def yX13_struts : MethodName := ⟨RX13, "struts", "(I)I"⟩
def dkwX13_struts_0 : List UInt8 := [42, 180, 0, 23, 16, 70, 182, 0, 27, 42, 27, 183, 0, 33, 61, 28, 42, 5, 183, 0, 37, 96, 172]
abbrev dktX13_struts_0 : List UInt8 := dkwX13_struts_0 ++ []
theorem dksX13_struts_0 : cX13_struts.data.toList.drop 0 = dktX13_struts_0 := by decide +kernel
theorem dX13_struts_0 : decode cX13_struts 0 = .ok (.aload_n 0, 1) := dk_42 (dk_at dksX13_struts_0 0 rfl rfl)
theorem dX13_struts_1 : decode cX13_struts 1 = .ok (.getfield 23, 3) := dk_180 0 23 (dk_at dksX13_struts_0 1 rfl rfl)
theorem dX13_struts_4 : decode cX13_struts 4 = .ok (.bipush 70, 2) := dk_16 70 (dk_at dksX13_struts_0 4 rfl rfl)
theorem dX13_struts_6 : decode cX13_struts 6 = .ok (.invokevirtual 27, 3) := dk_182 0 27 (dk_at dksX13_struts_0 6 rfl rfl)
theorem dX13_struts_9 : decode cX13_struts 9 = .ok (.aload_n 0, 1) := dk_42 (dk_at dksX13_struts_0 9 rfl rfl)
theorem dX13_struts_10 : decode cX13_struts 10 = .ok (.iload_n 1, 1) := dk_27 (dk_at dksX13_struts_0 10 rfl rfl)
theorem dX13_struts_11 : decode cX13_struts 11 = .ok (.invokespecial 33, 3) := dk_183 0 33 (dk_at dksX13_struts_0 11 rfl rfl)
theorem dX13_struts_14 : decode cX13_struts 14 = .ok (.istore_n 2, 1) := dk_61 (dk_at dksX13_struts_0 14 rfl rfl)
theorem dX13_struts_15 : decode cX13_struts 15 = .ok (.iload_n 2, 1) := dk_28 (dk_at dksX13_struts_0 15 rfl rfl)
theorem dX13_struts_16 : decode cX13_struts 16 = .ok (.aload_n 0, 1) := dk_42 (dk_at dksX13_struts_0 16 rfl rfl)
theorem dX13_struts_17 : decode cX13_struts 17 = .ok (.iconst 2, 1) := dk_5 (dk_at dksX13_struts_0 17 rfl rfl)
theorem dX13_struts_18 : decode cX13_struts 18 = .ok (.invokespecial 37, 3) := dk_183 0 37 (dk_at dksX13_struts_0 18 rfl rfl)
theorem dX13_struts_21 : decode cX13_struts 21 = .ok (.iadd, 1) := dk_96 (dk_at dksX13_struts_0 21 rfl rfl)
theorem dX13_struts_22 : decode cX13_struts 22 = .ok (.ireturn, 1) := dk_172 (dk_at dksX13_struts_0 22 rfl rfl)
theorem q93 : (Jvm.Cond.initialized "GeeseKeys$Told") ∈ lw_all := lw_g (lw_at lw_m1 17 rfl) rfl
theorem q420 : (Jvm.Cond.fieldLink "GeeseKeys$Told" (23 : Nat) "GeeseKeys$Told" "trace" "LGeeseKeys$Trace;") ∈ lw_all := lw_g (lw_at lw_m2 104 rfl) rfl
theorem q421 : (Jvm.Cond.sameField "GeeseKeys$Told" "GeeseKeys$Goose" "trace" "LGeeseKeys$Trace;") ∈ lw_all := lw_g (lw_at lw_m2 105 rfl) rfl
theorem q427 : (Jvm.Cond.fieldLink "GeeseKeys$Told" (19 : Nat) "GeeseKeys$Told" "number" "I") ∈ lw_all := lw_g (lw_at lw_m2 111 rfl) rfl
theorem q428 : (Jvm.Cond.sameField "GeeseKeys$Told" "GeeseKeys$Goose" "number" "I") ∈ lw_all := lw_g (lw_at lw_m2 112 rfl) rfl
theorem q434 : (Jvm.Cond.fieldLink "GeeseKeys$Told" (40 : Nat) "GeeseKeys$Told" "v" "I") ∈ lw_all := lw_g (lw_at lw_m2 118 rfl) rfl
theorem q435 : (Jvm.Cond.sameField "GeeseKeys$Told" "GeeseKeys$Goose" "v" "I") ∈ lw_all := lw_g (lw_at lw_m2 119 rfl) rfl
theorem q485 : (Jvm.Cond.instantiable "GeeseKeys$Told" (4 : Nat)) ∈ lw_all := lw_g (lw_at lw_m2 169 rfl) rfl
theorem q487 : (Jvm.Cond.instanceMethod ({ cls := "GeeseKeys$Told", name := "<init>", desc := "(LGeeseKeys$Trace;II[I)V" } : Jvm.MethodName)) ∈ lw_all := lw_g (lw_at lw_m2 171 rfl) rfl
theorem q488 : (Jvm.Cond.code ({ cls := "GeeseKeys$Told", name := "<init>", desc := "(LGeeseKeys$Trace;II[I)V" } : Jvm.MethodName) prog_20_method_1_code (5 : Nat) (Option.none : Option Jvm.ClassFile.FieldType)) ∈ lw_all := lw_g (lw_at lw_m2 172 rfl) rfl
theorem q489 : (Jvm.Cond.methodLink "GeeseKeys$Told" (3 : Nat) ({ cls := "GeeseKeys$Old", name := "<init>", desc := "(LGeeseKeys$Trace;II)V" } : Jvm.MethodName)) ∈ lw_all := lw_g (lw_at lw_m2 173 rfl) rfl
theorem q490 : (Jvm.Cond.fieldLink "GeeseKeys$Told" (9 : Nat) "GeeseKeys$Told" "rows" "[I") ∈ lw_all := lw_g (lw_at lw_m2 174 rfl) rfl
theorem q491 : (Jvm.Cond.laysFinal "GeeseKeys$Told" "GeeseKeys$Told" "rows" "[I") ∈ lw_all := lw_g (lw_at lw_m2 175 rfl) rfl
theorem q492 : (Jvm.Cond.soleField "GeeseKeys$Told" "rows") ∈ lw_all := lw_g (lw_at lw_m2 176 rfl) rfl
theorem q493 : (Jvm.Cond.laysFinal "GeeseKeys$Told" "GeeseKeys$Goose" "trace" "LGeeseKeys$Trace;") ∈ lw_all := lw_g (lw_at lw_m2 177 rfl) rfl
theorem q494 : (Jvm.Cond.laysFinal "GeeseKeys$Told" "GeeseKeys$Goose" "number" "I") ∈ lw_all := lw_g (lw_at lw_m2 178 rfl) rfl
theorem q495 : (Jvm.Cond.lays "GeeseKeys$Told" "GeeseKeys$Goose" "v" "I") ∈ lw_all := lw_g (lw_at lw_m2 179 rfl) rfl
theorem q496 : (Jvm.Cond.superclass "GeeseKeys$Told" "GeeseKeys$Old") ∈ lw_all := lw_g (lw_at lw_m2 180 rfl) rfl
theorem q533 : (Jvm.Cond.selects "GeeseKeys$Told" ({ cls := "GeeseKeys$Goose", name := "kind", desc := "()I" } : Jvm.MethodName) ({ cls := "GeeseKeys$Told", name := "kind", desc := "()I" } : Jvm.MethodName)) ∈ lw_all := lw_g (lw_at lw_m2 217 rfl) rfl
theorem q534 : (Jvm.Cond.instanceMethod ({ cls := "GeeseKeys$Told", name := "kind", desc := "()I" } : Jvm.MethodName)) ∈ lw_all := lw_g (lw_at lw_m2 218 rfl) rfl
theorem q535 : (Jvm.Cond.code ({ cls := "GeeseKeys$Told", name := "kind", desc := "()I" } : Jvm.MethodName) prog_20_method_2_code (1 : Nat) (Option.some Jvm.ClassFile.FieldType.int)) ∈ lw_all := lw_g (lw_at lw_m2 219 rfl) rfl
theorem q634 : (Jvm.Cond.selects "GeeseKeys$Told" ({ cls := "GeeseKeys$Goose", name := "feels", desc := "(IIZZZ)I" } : Jvm.MethodName) ({ cls := "GeeseKeys$Told", name := "feels", desc := "(IIZZZ)I" } : Jvm.MethodName)) ∈ lw_all := lw_g (lw_at lw_m3 78 rfl) rfl
theorem q635 : (Jvm.Cond.instanceMethod ({ cls := "GeeseKeys$Told", name := "feels", desc := "(IIZZZ)I" } : Jvm.MethodName)) ∈ lw_all := lw_g (lw_at lw_m3 79 rfl) rfl
theorem q636 : (Jvm.Cond.code ({ cls := "GeeseKeys$Told", name := "feels", desc := "(IIZZZ)I" } : Jvm.MethodName) prog_20_method_3_code (6 : Nat) (Option.some Jvm.ClassFile.FieldType.int)) ∈ lw_all := lw_g (lw_at lw_m3 80 rfl) rfl
theorem q637 : (Jvm.Cond.methodLink "GeeseKeys$Told" (15 : Nat) ({ cls := "GeeseKeys$Old", name := "feels", desc := "(IIZZZ)I" } : Jvm.MethodName)) ∈ lw_all := lw_g (lw_at lw_m3 81 rfl) rfl
theorem q975 : (Jvm.Cond.selects "GeeseKeys$Told" ({ cls := "java/lang/Object", name := "getClass", desc := "()Ljava/lang/Class;" } : Jvm.MethodName) ({ cls := "java/lang/Object", name := "getClass", desc := "()Ljava/lang/Class;" } : Jvm.MethodName)) ∈ lw_all := lw_g (lw_at lw_m4 179 rfl) rfl
theorem q1265 : (Jvm.Cond.selects "GeeseKeys$Told" ({ cls := "GeeseKeys$Goose", name := "honks", desc := "(I)I" } : Jvm.MethodName) ({ cls := "GeeseKeys$Told", name := "honks", desc := "(I)I" } : Jvm.MethodName)) ∈ lw_all := lw_g (lw_at lw_m5 229 rfl) rfl
theorem q1266 : (Jvm.Cond.instanceMethod ({ cls := "GeeseKeys$Told", name := "honks", desc := "(I)I" } : Jvm.MethodName)) ∈ lw_all := lw_g (lw_at lw_m5 230 rfl) rfl
theorem q1267 : (Jvm.Cond.code ({ cls := "GeeseKeys$Told", name := "honks", desc := "(I)I" } : Jvm.MethodName) prog_20_method_5_code (2 : Nat) (Option.some Jvm.ClassFile.FieldType.int)) ∈ lw_all := lw_g (lw_at lw_m5 231 rfl) rfl
theorem q1268 : (Jvm.Cond.methodLink "GeeseKeys$Told" (27 : Nat) ({ cls := "GeeseKeys$Trace", name := "ran", desc := "(I)V" } : Jvm.MethodName)) ∈ lw_all := lw_g (lw_at lw_m5 232 rfl) rfl
theorem q1269 : (Jvm.Cond.methodLink "GeeseKeys$Told" (37 : Nat) ({ cls := "GeeseKeys$Old", name := "honks", desc := "(I)I" } : Jvm.MethodName)) ∈ lw_all := lw_g (lw_at lw_m5 233 rfl) rfl
theorem q1289 : (Jvm.Cond.selects "GeeseKeys$Told" ({ cls := "GeeseKeys$Goose", name := "struts", desc := "(I)I" } : Jvm.MethodName) ({ cls := "GeeseKeys$Told", name := "struts", desc := "(I)I" } : Jvm.MethodName)) ∈ lw_all := lw_g (lw_at lw_m6 13 rfl) rfl
theorem q1290 : (Jvm.Cond.instanceMethod ({ cls := "GeeseKeys$Told", name := "struts", desc := "(I)I" } : Jvm.MethodName)) ∈ lw_all := lw_g (lw_at lw_m6 14 rfl) rfl
theorem q1291 : (Jvm.Cond.code ({ cls := "GeeseKeys$Told", name := "struts", desc := "(I)I" } : Jvm.MethodName) prog_20_method_4_code (3 : Nat) (Option.some Jvm.ClassFile.FieldType.int)) ∈ lw_all := lw_g (lw_at lw_m6 15 rfl) rfl
theorem q1292 : (Jvm.Cond.methodLink "GeeseKeys$Told" (33 : Nat) ({ cls := "GeeseKeys$Old", name := "struts", desc := "(I)I" } : Jvm.MethodName)) ∈ lw_all := lw_g (lw_at lw_m6 16 rfl) rfl
theorem q1317 : (Jvm.Cond.selects "GeeseKeys$Told" ({ cls := "GeeseKeys$Old", name := "struts", desc := "(I)I" } : Jvm.MethodName) ({ cls := "GeeseKeys$Told", name := "struts", desc := "(I)I" } : Jvm.MethodName)) ∈ lw_all := lw_g (lw_at lw_m6 41 rfl) rfl
theorem q1319 : (Jvm.Cond.selects "GeeseKeys$Told" ({ cls := "GeeseKeys$Goose", name := "tells", desc := "(I)I" } : Jvm.MethodName) ({ cls := "GeeseKeys$Old", name := "tells", desc := "(I)I" } : Jvm.MethodName)) ∈ lw_all := lw_g (lw_at lw_m6 43 rfl) rfl
theorem q1863 : (Jvm.Cond.castable "GeeseKeys$Told" "GeeseKeys$Goose") ∈ lw_tbl := lw_at lw_m8 107 rfl
theorem q1866 : (Jvm.Cond.castable "GeeseKeys$Told" "GeeseKeys$Old") ∈ lw_tbl := lw_at lw_m8 110 rfl
theorem q1881 : (Jvm.Cond.castable "GeeseKeys$Told" "java/lang/Object") ∈ lw_tbl := lw_at lw_m8 125 rfl
theorem in_X13 : ∀ w ∈ wsX130, w ∈ lw_all := lw_in wsX130 [493, 494, 495, 491] (by decide +kernel) (by decide +kernel)
/-! GeeseKeys$Reader -/
set_option maxRecDepth 100000
def RX14 : String := "GeeseKeys$Reader"
def TX14 : u_T := fun k => match k with
  | 0 => ("GeeseKeys$Reader", "text", "[B", true)
  | 1 => ("GeeseKeys$Reader", "size", "I", true)
  | 2 => ("GeeseKeys$Reader", "at", "I", false)
  | 3 => ("GeeseKeys$Reader", "deep", "I", false)
  | _ => ("GeeseKeys$Reader", "read", "LGeeseKeys$Fortress;", true)
def tyX14 : Nat → FieldType := fun k => match k with
  | 0 => .array .byte
  | 1 => .int
  | 2 => .int
  | 3 => .int
  | _ => .object "GeeseKeys$Fortress"
abbrev wsX140 : List Cond := u_ws RX14 TX14 5
theorem nmX14 : ∀ a, a < 5 → ∀ b, b < 5 → a ≠ b → (TX14 a).2.1 ≠ (TX14 b).2.1 := by decide +kernel
theorem tyX14_ok : ∀ k, k < 5 → parseFieldDescriptor (TX14 k).2.2.1 = some (tyX14 k) := by decide +kernel
abbrev cX14_init : ByteArray := prog_13_method_1_code
def yX14_init : MethodName := ⟨RX14, "<init>", "([BI)V"⟩
def dkwX14_init_1 : List UInt8 := [181, 0, 22, 177]
abbrev dktX14_init_1 : List UInt8 := dkwX14_init_1 ++ []
def dkwX14_init_0 : List UInt8 := [42, 183, 0, 3, 42, 187, 0, 9, 89, 183, 0, 11, 181, 0, 12, 42, 43, 181, 0, 18, 42, 28]
abbrev dktX14_init_0 : List UInt8 := dkwX14_init_0 ++ dktX14_init_1
theorem dksX14_init_0 : cX14_init.data.toList.drop 0 = dktX14_init_0 := by decide +kernel
theorem dksX14_init_1 : cX14_init.data.toList.drop 22 = dktX14_init_1 := dk_seg dksX14_init_0 22 rfl rfl
theorem dX14_init_0 : decode cX14_init 0 = .ok (.aload_n 0, 1) := dk_42 (dk_at dksX14_init_0 0 rfl rfl)
theorem dX14_init_1 : decode cX14_init 1 = .ok (.invokespecial 3, 3) := dk_183 0 3 (dk_at dksX14_init_0 1 rfl rfl)
theorem dX14_init_4 : decode cX14_init 4 = .ok (.aload_n 0, 1) := dk_42 (dk_at dksX14_init_0 4 rfl rfl)
theorem dX14_init_5 : decode cX14_init 5 = .ok (.new 9, 3) := dk_187 0 9 (dk_at dksX14_init_0 5 rfl rfl)
theorem dX14_init_8 : decode cX14_init 8 = .ok (.dup, 1) := dk_89 (dk_at dksX14_init_0 8 rfl rfl)
theorem dX14_init_9 : decode cX14_init 9 = .ok (.invokespecial 11, 3) := dk_183 0 11 (dk_at dksX14_init_0 9 rfl rfl)
theorem dX14_init_12 : decode cX14_init 12 = .ok (.putfield 12, 3) := dk_181 0 12 (dk_at dksX14_init_0 12 rfl rfl)
theorem dX14_init_15 : decode cX14_init 15 = .ok (.aload_n 0, 1) := dk_42 (dk_at dksX14_init_0 15 rfl rfl)
theorem dX14_init_16 : decode cX14_init 16 = .ok (.aload_n 1, 1) := dk_43 (dk_at dksX14_init_0 16 rfl rfl)
theorem dX14_init_17 : decode cX14_init 17 = .ok (.putfield 18, 3) := dk_181 0 18 (dk_at dksX14_init_0 17 rfl rfl)
theorem dX14_init_20 : decode cX14_init 20 = .ok (.aload_n 0, 1) := dk_42 (dk_at dksX14_init_0 20 rfl rfl)
theorem dX14_init_21 : decode cX14_init 21 = .ok (.iload_n 2, 1) := dk_28 (dk_at dksX14_init_0 21 rfl rfl)
theorem dX14_init_22 : decode cX14_init 22 = .ok (.putfield 22, 3) := dk_181 0 22 (dk_at dksX14_init_1 0 rfl rfl)
theorem dX14_init_25 : decode cX14_init 25 = .ok (.return_, 1) := dk_177 (dk_at dksX14_init_1 3 rfl rfl)
abbrev cX14_whole : ByteArray := prog_13_method_13_code
def yX14_whole : MethodName := ⟨RX14, "whole", "()LGeeseKeys$Fortress;"⟩
def dkwX14_whole_2 : List UInt8 := [42, 180, 0, 22, 162, 0, 8, 42, 182, 0, 38, 191, 42, 180, 0, 12, 176]
abbrev dktX14_whole_2 : List UInt8 := dkwX14_whole_2 ++ []
def dkwX14_whole_1 : List UInt8 := [160, 0, 20, 42, 89, 180, 0, 26, 4, 96, 181, 0, 26, 42, 182, 0, 130, 167, 255, 221, 42, 180, 0, 26]
abbrev dktX14_whole_1 : List UInt8 := dkwX14_whole_1 ++ dktX14_whole_2
def dkwX14_whole_0 : List UInt8 := [42, 182, 0, 130, 42, 180, 0, 12, 180, 0, 127, 16, 10, 162, 0, 29, 42, 182, 0, 34, 16, 59]
abbrev dktX14_whole_0 : List UInt8 := dkwX14_whole_0 ++ dktX14_whole_1
theorem dksX14_whole_0 : cX14_whole.data.toList.drop 0 = dktX14_whole_0 := by decide +kernel
theorem dksX14_whole_1 : cX14_whole.data.toList.drop 22 = dktX14_whole_1 := dk_seg dksX14_whole_0 22 rfl rfl
theorem dksX14_whole_2 : cX14_whole.data.toList.drop 46 = dktX14_whole_2 := dk_seg dksX14_whole_1 24 rfl rfl
theorem dX14_whole_0 : decode cX14_whole 0 = .ok (.aload_n 0, 1) := dk_42 (dk_at dksX14_whole_0 0 rfl rfl)
theorem dX14_whole_1 : decode cX14_whole 1 = .ok (.invokevirtual 130, 3) := dk_182 0 130 (dk_at dksX14_whole_0 1 rfl rfl)
theorem dX14_whole_4 : decode cX14_whole 4 = .ok (.aload_n 0, 1) := dk_42 (dk_at dksX14_whole_0 4 rfl rfl)
theorem dX14_whole_5 : decode cX14_whole 5 = .ok (.getfield 12, 3) := dk_180 0 12 (dk_at dksX14_whole_0 5 rfl rfl)
theorem dX14_whole_8 : decode cX14_whole 8 = .ok (.getfield 127, 3) := dk_180 0 127 (dk_at dksX14_whole_0 8 rfl rfl)
theorem dX14_whole_11 : decode cX14_whole 11 = .ok (.bipush 10, 2) := dk_16 10 (dk_at dksX14_whole_0 11 rfl rfl)
theorem dX14_whole_13 : decode cX14_whole 13 = .ok (.if_icmp .ge 29, 3) := dk_162 0 29 (dk_at dksX14_whole_0 13 rfl rfl)
theorem dX14_whole_16 : decode cX14_whole 16 = .ok (.aload_n 0, 1) := dk_42 (dk_at dksX14_whole_0 16 rfl rfl)
theorem dX14_whole_17 : decode cX14_whole 17 = .ok (.invokevirtual 34, 3) := dk_182 0 34 (dk_at dksX14_whole_0 17 rfl rfl)
theorem dX14_whole_20 : decode cX14_whole 20 = .ok (.bipush 59, 2) := dk_16 59 (dk_at dksX14_whole_0 20 rfl rfl)
theorem dX14_whole_22 : decode cX14_whole 22 = .ok (.if_icmp .ne 20, 3) := dk_160 0 20 (dk_at dksX14_whole_1 0 rfl rfl)
theorem dX14_whole_25 : decode cX14_whole 25 = .ok (.aload_n 0, 1) := dk_42 (dk_at dksX14_whole_1 3 rfl rfl)
theorem dX14_whole_26 : decode cX14_whole 26 = .ok (.dup, 1) := dk_89 (dk_at dksX14_whole_1 4 rfl rfl)
theorem dX14_whole_27 : decode cX14_whole 27 = .ok (.getfield 26, 3) := dk_180 0 26 (dk_at dksX14_whole_1 5 rfl rfl)
theorem dX14_whole_30 : decode cX14_whole 30 = .ok (.iconst 1, 1) := dk_4 (dk_at dksX14_whole_1 8 rfl rfl)
theorem dX14_whole_31 : decode cX14_whole 31 = .ok (.iadd, 1) := dk_96 (dk_at dksX14_whole_1 9 rfl rfl)
theorem dX14_whole_32 : decode cX14_whole 32 = .ok (.putfield 26, 3) := dk_181 0 26 (dk_at dksX14_whole_1 10 rfl rfl)
theorem dX14_whole_35 : decode cX14_whole 35 = .ok (.aload_n 0, 1) := dk_42 (dk_at dksX14_whole_1 13 rfl rfl)
theorem dX14_whole_36 : decode cX14_whole 36 = .ok (.invokevirtual 130, 3) := dk_182 0 130 (dk_at dksX14_whole_1 14 rfl rfl)
theorem dX14_whole_39 : decode cX14_whole 39 = .ok (.goto (-35), 3) := dk_167 255 221 (dk_at dksX14_whole_1 17 rfl rfl)
theorem dX14_whole_42 : decode cX14_whole 42 = .ok (.aload_n 0, 1) := dk_42 (dk_at dksX14_whole_1 20 rfl rfl)
theorem dX14_whole_43 : decode cX14_whole 43 = .ok (.getfield 26, 3) := dk_180 0 26 (dk_at dksX14_whole_1 21 rfl rfl)
theorem dX14_whole_46 : decode cX14_whole 46 = .ok (.aload_n 0, 1) := dk_42 (dk_at dksX14_whole_2 0 rfl rfl)
theorem dX14_whole_47 : decode cX14_whole 47 = .ok (.getfield 22, 3) := dk_180 0 22 (dk_at dksX14_whole_2 1 rfl rfl)
theorem dX14_whole_50 : decode cX14_whole 50 = .ok (.if_icmp .ge 8, 3) := dk_162 0 8 (dk_at dksX14_whole_2 4 rfl rfl)
theorem dX14_whole_53 : decode cX14_whole 53 = .ok (.aload_n 0, 1) := dk_42 (dk_at dksX14_whole_2 7 rfl rfl)
theorem dX14_whole_54 : decode cX14_whole 54 = .ok (.invokevirtual 38, 3) := dk_182 0 38 (dk_at dksX14_whole_2 8 rfl rfl)
theorem dX14_whole_57 : decode cX14_whole 57 = .ok (.athrow, 1) := dk_191 (dk_at dksX14_whole_2 11 rfl rfl)
theorem dX14_whole_58 : decode cX14_whole 58 = .ok (.aload_n 0, 1) := dk_42 (dk_at dksX14_whole_2 12 rfl rfl)
theorem dX14_whole_59 : decode cX14_whole 59 = .ok (.getfield 12, 3) := dk_180 0 12 (dk_at dksX14_whole_2 13 rfl rfl)
theorem dX14_whole_62 : decode cX14_whole 62 = .ok (.areturn, 1) := dk_176 (dk_at dksX14_whole_2 16 rfl rfl)
abbrev cX14_clause : ByteArray := prog_13_method_12_code
def yX14_clause : MethodName := ⟨RX14, "clause", "()V"⟩
def dkwX14_clause_4 : List UInt8 := [180, 0, 12, 89, 180, 0, 127, 4, 96, 181, 0, 127, 177]
abbrev dktX14_clause_4 : List UInt8 := dkwX14_clause_4 ++ []
def dkwX14_clause_3 : List UInt8 := [182, 0, 102, 42, 180, 0, 12, 42, 182, 0, 78, 181, 0, 124, 167, 0, 8, 42, 182, 0, 38, 191, 42]
abbrev dktX14_clause_3 : List UInt8 := dkwX14_clause_3 ++ dktX14_clause_4
def dkwX14_clause_2 : List UInt8 := [42, 18, 114, 4, 182, 0, 116, 167, 0, 38, 42, 18, 120, 2, 182, 0, 116, 167, 0, 28, 42, 18, 122]
abbrev dktX14_clause_2 : List UInt8 := dkwX14_clause_2 ++ dktX14_clause_3
def dkwX14_clause_1 : List UInt8 := [171, 0, 0, 0, 0, 0, 0, 76, 0, 0, 0, 3, 0, 0, 0, 101, 0, 0, 0, 56, 0, 0, 0, 108, 0, 0, 0, 36, 0, 0, 0, 115, 0, 0, 0, 46]
abbrev dktX14_clause_1 : List UInt8 := dkwX14_clause_1 ++ dktX14_clause_2
def dkwX14_clause_0 : List UInt8 := [42, 182, 0, 34]
abbrev dktX14_clause_0 : List UInt8 := dkwX14_clause_0 ++ dktX14_clause_1
theorem dksX14_clause_0 : cX14_clause.data.toList.drop 0 = dktX14_clause_0 := by decide +kernel
theorem dksX14_clause_1 : cX14_clause.data.toList.drop 4 = dktX14_clause_1 := dk_seg dksX14_clause_0 4 rfl rfl
theorem dksX14_clause_2 : cX14_clause.data.toList.drop 40 = dktX14_clause_2 := dk_seg dksX14_clause_1 36 rfl rfl
theorem dksX14_clause_3 : cX14_clause.data.toList.drop 63 = dktX14_clause_3 := dk_seg dksX14_clause_2 23 rfl rfl
theorem dksX14_clause_4 : cX14_clause.data.toList.drop 86 = dktX14_clause_4 := dk_seg dksX14_clause_3 23 rfl rfl
theorem dX14_clause_0 : decode cX14_clause 0 = .ok (.aload_n 0, 1) := dk_42 (dk_at dksX14_clause_0 0 rfl rfl)
theorem dX14_clause_1 : decode cX14_clause 1 = .ok (.invokevirtual 34, 3) := dk_182 0 34 (dk_at dksX14_clause_0 1 rfl rfl)
theorem dX14_clause_4 : decode cX14_clause 4 = .ok (.lookupswitch 76 #[(101, 56), (108, 36), (115, 46)], 36) := by decide +kernel
theorem dX14_clause_40 : decode cX14_clause 40 = .ok (.aload_n 0, 1) := dk_42 (dk_at dksX14_clause_2 0 rfl rfl)
theorem dX14_clause_41 : decode cX14_clause 41 = .ok (.ldc 114, 2) := dk_18 114 (dk_at dksX14_clause_2 1 rfl rfl)
theorem dX14_clause_43 : decode cX14_clause 43 = .ok (.iconst 1, 1) := dk_4 (dk_at dksX14_clause_2 3 rfl rfl)
theorem dX14_clause_44 : decode cX14_clause 44 = .ok (.invokevirtual 116, 3) := dk_182 0 116 (dk_at dksX14_clause_2 4 rfl rfl)
theorem dX14_clause_47 : decode cX14_clause 47 = .ok (.goto 38, 3) := dk_167 0 38 (dk_at dksX14_clause_2 7 rfl rfl)
theorem dX14_clause_50 : decode cX14_clause 50 = .ok (.aload_n 0, 1) := dk_42 (dk_at dksX14_clause_2 10 rfl rfl)
theorem dX14_clause_51 : decode cX14_clause 51 = .ok (.ldc 120, 2) := dk_18 120 (dk_at dksX14_clause_2 11 rfl rfl)
theorem dX14_clause_53 : decode cX14_clause 53 = .ok (.iconst (-1), 1) := dk_2 (dk_at dksX14_clause_2 13 rfl rfl)
theorem dX14_clause_54 : decode cX14_clause 54 = .ok (.invokevirtual 116, 3) := dk_182 0 116 (dk_at dksX14_clause_2 14 rfl rfl)
theorem dX14_clause_57 : decode cX14_clause 57 = .ok (.goto 28, 3) := dk_167 0 28 (dk_at dksX14_clause_2 17 rfl rfl)
theorem dX14_clause_60 : decode cX14_clause 60 = .ok (.aload_n 0, 1) := dk_42 (dk_at dksX14_clause_2 20 rfl rfl)
theorem dX14_clause_61 : decode cX14_clause 61 = .ok (.ldc 122, 2) := dk_18 122 (dk_at dksX14_clause_2 21 rfl rfl)
theorem dX14_clause_63 : decode cX14_clause 63 = .ok (.invokevirtual 102, 3) := dk_182 0 102 (dk_at dksX14_clause_3 0 rfl rfl)
theorem dX14_clause_66 : decode cX14_clause 66 = .ok (.aload_n 0, 1) := dk_42 (dk_at dksX14_clause_3 3 rfl rfl)
theorem dX14_clause_67 : decode cX14_clause 67 = .ok (.getfield 12, 3) := dk_180 0 12 (dk_at dksX14_clause_3 4 rfl rfl)
theorem dX14_clause_70 : decode cX14_clause 70 = .ok (.aload_n 0, 1) := dk_42 (dk_at dksX14_clause_3 7 rfl rfl)
theorem dX14_clause_71 : decode cX14_clause 71 = .ok (.invokevirtual 78, 3) := dk_182 0 78 (dk_at dksX14_clause_3 8 rfl rfl)
theorem dX14_clause_74 : decode cX14_clause 74 = .ok (.putfield 124, 3) := dk_181 0 124 (dk_at dksX14_clause_3 11 rfl rfl)
theorem dX14_clause_77 : decode cX14_clause 77 = .ok (.goto 8, 3) := dk_167 0 8 (dk_at dksX14_clause_3 14 rfl rfl)
theorem dX14_clause_80 : decode cX14_clause 80 = .ok (.aload_n 0, 1) := dk_42 (dk_at dksX14_clause_3 17 rfl rfl)
theorem dX14_clause_81 : decode cX14_clause 81 = .ok (.invokevirtual 38, 3) := dk_182 0 38 (dk_at dksX14_clause_3 18 rfl rfl)
theorem dX14_clause_84 : decode cX14_clause 84 = .ok (.athrow, 1) := dk_191 (dk_at dksX14_clause_3 21 rfl rfl)
theorem dX14_clause_85 : decode cX14_clause 85 = .ok (.aload_n 0, 1) := dk_42 (dk_at dksX14_clause_3 22 rfl rfl)
theorem dX14_clause_86 : decode cX14_clause 86 = .ok (.getfield 12, 3) := dk_180 0 12 (dk_at dksX14_clause_4 0 rfl rfl)
theorem dX14_clause_89 : decode cX14_clause 89 = .ok (.dup, 1) := dk_89 (dk_at dksX14_clause_4 3 rfl rfl)
theorem dX14_clause_90 : decode cX14_clause 90 = .ok (.getfield 127, 3) := dk_180 0 127 (dk_at dksX14_clause_4 4 rfl rfl)
theorem dX14_clause_93 : decode cX14_clause 93 = .ok (.iconst 1, 1) := dk_4 (dk_at dksX14_clause_4 7 rfl rfl)
theorem dX14_clause_94 : decode cX14_clause 94 = .ok (.iadd, 1) := dk_96 (dk_at dksX14_clause_4 8 rfl rfl)
theorem dX14_clause_95 : decode cX14_clause 95 = .ok (.putfield 127, 3) := dk_181 0 127 (dk_at dksX14_clause_4 9 rfl rfl)
theorem dX14_clause_98 : decode cX14_clause 98 = .ok (.return_, 1) := dk_177 (dk_at dksX14_clause_4 12 rfl rfl)
abbrev cX14_here : ByteArray := prog_13_method_2_code
def yX14_here : MethodName := ⟨RX14, "here", "()I"⟩
def dkwX14_here_1 : List UInt8 := [172]
abbrev dktX14_here_1 : List UInt8 := dkwX14_here_1 ++ []
def dkwX14_here_0 : List UInt8 := [42, 180, 0, 26, 42, 180, 0, 22, 162, 0, 15, 42, 180, 0, 18, 42, 180, 0, 26, 51, 167, 0, 4, 2]
abbrev dktX14_here_0 : List UInt8 := dkwX14_here_0 ++ dktX14_here_1
theorem dksX14_here_0 : cX14_here.data.toList.drop 0 = dktX14_here_0 := by decide +kernel
theorem dksX14_here_1 : cX14_here.data.toList.drop 24 = dktX14_here_1 := dk_seg dksX14_here_0 24 rfl rfl
theorem dX14_here_0 : decode cX14_here 0 = .ok (.aload_n 0, 1) := dk_42 (dk_at dksX14_here_0 0 rfl rfl)
theorem dX14_here_1 : decode cX14_here 1 = .ok (.getfield 26, 3) := dk_180 0 26 (dk_at dksX14_here_0 1 rfl rfl)
theorem dX14_here_4 : decode cX14_here 4 = .ok (.aload_n 0, 1) := dk_42 (dk_at dksX14_here_0 4 rfl rfl)
theorem dX14_here_5 : decode cX14_here 5 = .ok (.getfield 22, 3) := dk_180 0 22 (dk_at dksX14_here_0 5 rfl rfl)
theorem dX14_here_8 : decode cX14_here 8 = .ok (.if_icmp .ge 15, 3) := dk_162 0 15 (dk_at dksX14_here_0 8 rfl rfl)
theorem dX14_here_11 : decode cX14_here 11 = .ok (.aload_n 0, 1) := dk_42 (dk_at dksX14_here_0 11 rfl rfl)
theorem dX14_here_12 : decode cX14_here 12 = .ok (.getfield 18, 3) := dk_180 0 18 (dk_at dksX14_here_0 12 rfl rfl)
theorem dX14_here_15 : decode cX14_here 15 = .ok (.aload_n 0, 1) := dk_42 (dk_at dksX14_here_0 15 rfl rfl)
theorem dX14_here_16 : decode cX14_here 16 = .ok (.getfield 26, 3) := dk_180 0 26 (dk_at dksX14_here_0 16 rfl rfl)
theorem dX14_here_19 : decode cX14_here 19 = .ok (.baload, 1) := dk_51 (dk_at dksX14_here_0 19 rfl rfl)
theorem dX14_here_20 : decode cX14_here 20 = .ok (.goto 4, 3) := dk_167 0 4 (dk_at dksX14_here_0 20 rfl rfl)
theorem dX14_here_23 : decode cX14_here 23 = .ok (.iconst (-1), 1) := dk_2 (dk_at dksX14_here_0 23 rfl rfl)
theorem dX14_here_24 : decode cX14_here 24 = .ok (.ireturn, 1) := dk_172 (dk_at dksX14_here_1 0 rfl rfl)
abbrev cX14_tested : ByteArray := prog_13_method_11_code
def yX14_tested : MethodName := ⟨RX14, "tested", "(Ljava/lang/String;I)V"⟩
def dkwX14_tested_1 : List UInt8 := [187, 0, 109, 89, 28, 29, 104, 42, 182, 0, 73, 183, 0, 111, 182, 0, 93, 87, 177]
abbrev dktX14_tested_1 : List UInt8 := dkwX14_tested_1 ++ []
def dkwX14_tested_0 : List UInt8 := [42, 43, 182, 0, 102, 42, 182, 0, 78, 62, 42, 16, 32, 182, 0, 51, 42, 180, 0, 12, 180, 0, 106]
abbrev dktX14_tested_0 : List UInt8 := dkwX14_tested_0 ++ dktX14_tested_1
theorem dksX14_tested_0 : cX14_tested.data.toList.drop 0 = dktX14_tested_0 := by decide +kernel
theorem dksX14_tested_1 : cX14_tested.data.toList.drop 23 = dktX14_tested_1 := dk_seg dksX14_tested_0 23 rfl rfl
theorem dX14_tested_0 : decode cX14_tested 0 = .ok (.aload_n 0, 1) := dk_42 (dk_at dksX14_tested_0 0 rfl rfl)
theorem dX14_tested_1 : decode cX14_tested 1 = .ok (.aload_n 1, 1) := dk_43 (dk_at dksX14_tested_0 1 rfl rfl)
theorem dX14_tested_2 : decode cX14_tested 2 = .ok (.invokevirtual 102, 3) := dk_182 0 102 (dk_at dksX14_tested_0 2 rfl rfl)
theorem dX14_tested_5 : decode cX14_tested 5 = .ok (.aload_n 0, 1) := dk_42 (dk_at dksX14_tested_0 5 rfl rfl)
theorem dX14_tested_6 : decode cX14_tested 6 = .ok (.invokevirtual 78, 3) := dk_182 0 78 (dk_at dksX14_tested_0 6 rfl rfl)
theorem dX14_tested_9 : decode cX14_tested 9 = .ok (.istore_n 3, 1) := dk_62 (dk_at dksX14_tested_0 9 rfl rfl)
theorem dX14_tested_10 : decode cX14_tested 10 = .ok (.aload_n 0, 1) := dk_42 (dk_at dksX14_tested_0 10 rfl rfl)
theorem dX14_tested_11 : decode cX14_tested 11 = .ok (.bipush 32, 2) := dk_16 32 (dk_at dksX14_tested_0 11 rfl rfl)
theorem dX14_tested_13 : decode cX14_tested 13 = .ok (.invokevirtual 51, 3) := dk_182 0 51 (dk_at dksX14_tested_0 13 rfl rfl)
theorem dX14_tested_16 : decode cX14_tested 16 = .ok (.aload_n 0, 1) := dk_42 (dk_at dksX14_tested_0 16 rfl rfl)
theorem dX14_tested_17 : decode cX14_tested 17 = .ok (.getfield 12, 3) := dk_180 0 12 (dk_at dksX14_tested_0 17 rfl rfl)
theorem dX14_tested_20 : decode cX14_tested 20 = .ok (.getfield 106, 3) := dk_180 0 106 (dk_at dksX14_tested_0 20 rfl rfl)
theorem dX14_tested_23 : decode cX14_tested 23 = .ok (.new 109, 3) := dk_187 0 109 (dk_at dksX14_tested_1 0 rfl rfl)
theorem dX14_tested_26 : decode cX14_tested 26 = .ok (.dup, 1) := dk_89 (dk_at dksX14_tested_1 3 rfl rfl)
theorem dX14_tested_27 : decode cX14_tested 27 = .ok (.iload_n 2, 1) := dk_28 (dk_at dksX14_tested_1 4 rfl rfl)
theorem dX14_tested_28 : decode cX14_tested 28 = .ok (.iload_n 3, 1) := dk_29 (dk_at dksX14_tested_1 5 rfl rfl)
theorem dX14_tested_29 : decode cX14_tested 29 = .ok (.imul, 1) := dk_104 (dk_at dksX14_tested_1 6 rfl rfl)
theorem dX14_tested_30 : decode cX14_tested 30 = .ok (.aload_n 0, 1) := dk_42 (dk_at dksX14_tested_1 7 rfl rfl)
theorem dX14_tested_31 : decode cX14_tested 31 = .ok (.invokevirtual 73, 3) := dk_182 0 73 (dk_at dksX14_tested_1 8 rfl rfl)
theorem dX14_tested_34 : decode cX14_tested 34 = .ok (.invokespecial 111, 3) := dk_183 0 111 (dk_at dksX14_tested_1 11 rfl rfl)
theorem dX14_tested_37 : decode cX14_tested 37 = .ok (.invokevirtual 93, 3) := dk_182 0 93 (dk_at dksX14_tested_1 14 rfl rfl)
theorem dX14_tested_40 : decode cX14_tested 40 = .ok (.pop, 1) := dk_87 (dk_at dksX14_tested_1 17 rfl rfl)
theorem dX14_tested_41 : decode cX14_tested 41 = .ok (.return_, 1) := dk_177 (dk_at dksX14_tested_1 18 rfl rfl)
abbrev cX14_word : ByteArray := prog_13_method_5_code
def yX14_word : MethodName := ⟨RX14, "word", "(Ljava/lang/String;)V"⟩
def dkwX14_word_1 : List UInt8 := [167, 255, 236, 177]
abbrev dktX14_word_1 : List UInt8 := dkwX14_word_1 ++ []
def dkwX14_word_0 : List UInt8 := [3, 61, 28, 43, 182, 0, 42, 162, 0, 18, 42, 43, 28, 182, 0, 47, 182, 0, 51, 132, 2, 1]
abbrev dktX14_word_0 : List UInt8 := dkwX14_word_0 ++ dktX14_word_1
theorem dksX14_word_0 : cX14_word.data.toList.drop 0 = dktX14_word_0 := by decide +kernel
theorem dksX14_word_1 : cX14_word.data.toList.drop 22 = dktX14_word_1 := dk_seg dksX14_word_0 22 rfl rfl
theorem dX14_word_0 : decode cX14_word 0 = .ok (.iconst 0, 1) := dk_3 (dk_at dksX14_word_0 0 rfl rfl)
theorem dX14_word_1 : decode cX14_word 1 = .ok (.istore_n 2, 1) := dk_61 (dk_at dksX14_word_0 1 rfl rfl)
theorem dX14_word_2 : decode cX14_word 2 = .ok (.iload_n 2, 1) := dk_28 (dk_at dksX14_word_0 2 rfl rfl)
theorem dX14_word_3 : decode cX14_word 3 = .ok (.aload_n 1, 1) := dk_43 (dk_at dksX14_word_0 3 rfl rfl)
theorem dX14_word_4 : decode cX14_word 4 = .ok (.invokevirtual 42, 3) := dk_182 0 42 (dk_at dksX14_word_0 4 rfl rfl)
theorem dX14_word_7 : decode cX14_word 7 = .ok (.if_icmp .ge 18, 3) := dk_162 0 18 (dk_at dksX14_word_0 7 rfl rfl)
theorem dX14_word_10 : decode cX14_word 10 = .ok (.aload_n 0, 1) := dk_42 (dk_at dksX14_word_0 10 rfl rfl)
theorem dX14_word_11 : decode cX14_word 11 = .ok (.aload_n 1, 1) := dk_43 (dk_at dksX14_word_0 11 rfl rfl)
theorem dX14_word_12 : decode cX14_word 12 = .ok (.iload_n 2, 1) := dk_28 (dk_at dksX14_word_0 12 rfl rfl)
theorem dX14_word_13 : decode cX14_word 13 = .ok (.invokevirtual 47, 3) := dk_182 0 47 (dk_at dksX14_word_0 13 rfl rfl)
theorem dX14_word_16 : decode cX14_word 16 = .ok (.invokevirtual 51, 3) := dk_182 0 51 (dk_at dksX14_word_0 16 rfl rfl)
theorem dX14_word_19 : decode cX14_word 19 = .ok (.iinc 2 1, 3) := dk_132 2 1 (dk_at dksX14_word_0 19 rfl rfl)
theorem dX14_word_22 : decode cX14_word 22 = .ok (.goto (-20), 3) := dk_167 255 236 (dk_at dksX14_word_1 0 rfl rfl)
theorem dX14_word_25 : decode cX14_word 25 = .ok (.return_, 1) := dk_177 (dk_at dksX14_word_1 3 rfl rfl)
abbrev cX14_must : ByteArray := prog_13_method_4_code
def yX14_must : MethodName := ⟨RX14, "must", "(I)V"⟩
def dkwX14_must_0 : List UInt8 := [42, 182, 0, 34, 27, 159, 0, 8, 42, 182, 0, 38, 191, 42, 89, 180, 0, 26, 4, 96, 181, 0, 26, 177]
abbrev dktX14_must_0 : List UInt8 := dkwX14_must_0 ++ []
theorem dksX14_must_0 : cX14_must.data.toList.drop 0 = dktX14_must_0 := by decide +kernel
theorem dX14_must_0 : decode cX14_must 0 = .ok (.aload_n 0, 1) := dk_42 (dk_at dksX14_must_0 0 rfl rfl)
theorem dX14_must_1 : decode cX14_must 1 = .ok (.invokevirtual 34, 3) := dk_182 0 34 (dk_at dksX14_must_0 1 rfl rfl)
theorem dX14_must_4 : decode cX14_must 4 = .ok (.iload_n 1, 1) := dk_27 (dk_at dksX14_must_0 4 rfl rfl)
theorem dX14_must_5 : decode cX14_must 5 = .ok (.if_icmp .eq 8, 3) := dk_159 0 8 (dk_at dksX14_must_0 5 rfl rfl)
theorem dX14_must_8 : decode cX14_must 8 = .ok (.aload_n 0, 1) := dk_42 (dk_at dksX14_must_0 8 rfl rfl)
theorem dX14_must_9 : decode cX14_must 9 = .ok (.invokevirtual 38, 3) := dk_182 0 38 (dk_at dksX14_must_0 9 rfl rfl)
theorem dX14_must_12 : decode cX14_must 12 = .ok (.athrow, 1) := dk_191 (dk_at dksX14_must_0 12 rfl rfl)
theorem dX14_must_13 : decode cX14_must 13 = .ok (.aload_n 0, 1) := dk_42 (dk_at dksX14_must_0 13 rfl rfl)
theorem dX14_must_14 : decode cX14_must 14 = .ok (.dup, 1) := dk_89 (dk_at dksX14_must_0 14 rfl rfl)
theorem dX14_must_15 : decode cX14_must 15 = .ok (.getfield 26, 3) := dk_180 0 26 (dk_at dksX14_must_0 15 rfl rfl)
theorem dX14_must_18 : decode cX14_must 18 = .ok (.iconst 1, 1) := dk_4 (dk_at dksX14_must_0 18 rfl rfl)
theorem dX14_must_19 : decode cX14_must 19 = .ok (.iadd, 1) := dk_96 (dk_at dksX14_must_0 19 rfl rfl)
theorem dX14_must_20 : decode cX14_must 20 = .ok (.putfield 26, 3) := dk_181 0 26 (dk_at dksX14_must_0 20 rfl rfl)
theorem dX14_must_23 : decode cX14_must 23 = .ok (.return_, 1) := dk_177 (dk_at dksX14_must_0 23 rfl rfl)
abbrev cX14_off : ByteArray := prog_13_method_3_code
def yX14_off : MethodName := ⟨RX14, "off", "()LGeeseKeys$Off;"⟩
def dkwX14_off_0 : List UInt8 := [187, 0, 29, 89, 42, 180, 0, 26, 183, 0, 31, 176]
abbrev dktX14_off_0 : List UInt8 := dkwX14_off_0 ++ []
theorem dksX14_off_0 : cX14_off.data.toList.drop 0 = dktX14_off_0 := by decide +kernel
theorem dX14_off_0 : decode cX14_off 0 = .ok (.new 29, 3) := dk_187 0 29 (dk_at dksX14_off_0 0 rfl rfl)
theorem dX14_off_3 : decode cX14_off 3 = .ok (.dup, 1) := dk_89 (dk_at dksX14_off_0 3 rfl rfl)
theorem dX14_off_4 : decode cX14_off 4 = .ok (.aload_n 0, 1) := dk_42 (dk_at dksX14_off_0 4 rfl rfl)
theorem dX14_off_5 : decode cX14_off 5 = .ok (.getfield 26, 3) := dk_180 0 26 (dk_at dksX14_off_0 5 rfl rfl)
theorem dX14_off_8 : decode cX14_off 8 = .ok (.invokespecial 31, 3) := dk_183 0 31 (dk_at dksX14_off_0 8 rfl rfl)
theorem dX14_off_11 : decode cX14_off 11 = .ok (.areturn, 1) := dk_176 (dk_at dksX14_off_0 11 rfl rfl)
abbrev cX14_number : ByteArray := prog_13_method_6_code
def yX14_number : MethodName := ⟨RX14, "number", "()I"⟩
def dkwX14_number_3 : List UInt8 := [167, 255, 209, 27, 172]
abbrev dktX14_number_3 : List UInt8 := dkwX14_number_3 ++ []
def dkwX14_number_2 : List UInt8 := [180, 0, 18, 42, 89, 180, 0, 26, 90, 4, 96, 181, 0, 26, 51, 96, 16, 48, 100, 60, 132, 2, 1]
abbrev dktX14_number_2 : List UInt8 := dkwX14_number_2 ++ dktX14_number_3
def dkwX14_number_1 : List UInt8 := [5, 162, 0, 48, 42, 182, 0, 34, 16, 48, 16, 57, 184, 0, 54, 153, 0, 34, 16, 10, 27, 104, 42]
abbrev dktX14_number_1 : List UInt8 := dkwX14_number_1 ++ dktX14_number_2
def dkwX14_number_0 : List UInt8 := [42, 182, 0, 34, 16, 48, 16, 57, 184, 0, 54, 154, 0, 8, 42, 182, 0, 38, 191, 3, 60, 3, 61, 28]
abbrev dktX14_number_0 : List UInt8 := dkwX14_number_0 ++ dktX14_number_1
theorem dksX14_number_0 : cX14_number.data.toList.drop 0 = dktX14_number_0 := by decide +kernel
theorem dksX14_number_1 : cX14_number.data.toList.drop 24 = dktX14_number_1 := dk_seg dksX14_number_0 24 rfl rfl
theorem dksX14_number_2 : cX14_number.data.toList.drop 47 = dktX14_number_2 := dk_seg dksX14_number_1 23 rfl rfl
theorem dksX14_number_3 : cX14_number.data.toList.drop 70 = dktX14_number_3 := dk_seg dksX14_number_2 23 rfl rfl
theorem dX14_number_0 : decode cX14_number 0 = .ok (.aload_n 0, 1) := dk_42 (dk_at dksX14_number_0 0 rfl rfl)
theorem dX14_number_1 : decode cX14_number 1 = .ok (.invokevirtual 34, 3) := dk_182 0 34 (dk_at dksX14_number_0 1 rfl rfl)
theorem dX14_number_4 : decode cX14_number 4 = .ok (.bipush 48, 2) := dk_16 48 (dk_at dksX14_number_0 4 rfl rfl)
theorem dX14_number_6 : decode cX14_number 6 = .ok (.bipush 57, 2) := dk_16 57 (dk_at dksX14_number_0 6 rfl rfl)
theorem dX14_number_8 : decode cX14_number 8 = .ok (.invokestatic 54, 3) := dk_184 0 54 (dk_at dksX14_number_0 8 rfl rfl)
theorem dX14_number_11 : decode cX14_number 11 = .ok (.ifCond .ne 8, 3) := dk_154 0 8 (dk_at dksX14_number_0 11 rfl rfl)
theorem dX14_number_14 : decode cX14_number 14 = .ok (.aload_n 0, 1) := dk_42 (dk_at dksX14_number_0 14 rfl rfl)
theorem dX14_number_15 : decode cX14_number 15 = .ok (.invokevirtual 38, 3) := dk_182 0 38 (dk_at dksX14_number_0 15 rfl rfl)
theorem dX14_number_18 : decode cX14_number 18 = .ok (.athrow, 1) := dk_191 (dk_at dksX14_number_0 18 rfl rfl)
theorem dX14_number_19 : decode cX14_number 19 = .ok (.iconst 0, 1) := dk_3 (dk_at dksX14_number_0 19 rfl rfl)
theorem dX14_number_20 : decode cX14_number 20 = .ok (.istore_n 1, 1) := dk_60 (dk_at dksX14_number_0 20 rfl rfl)
theorem dX14_number_21 : decode cX14_number 21 = .ok (.iconst 0, 1) := dk_3 (dk_at dksX14_number_0 21 rfl rfl)
theorem dX14_number_22 : decode cX14_number 22 = .ok (.istore_n 2, 1) := dk_61 (dk_at dksX14_number_0 22 rfl rfl)
theorem dX14_number_23 : decode cX14_number 23 = .ok (.iload_n 2, 1) := dk_28 (dk_at dksX14_number_0 23 rfl rfl)
theorem dX14_number_24 : decode cX14_number 24 = .ok (.iconst 2, 1) := dk_5 (dk_at dksX14_number_1 0 rfl rfl)
theorem dX14_number_25 : decode cX14_number 25 = .ok (.if_icmp .ge 48, 3) := dk_162 0 48 (dk_at dksX14_number_1 1 rfl rfl)
theorem dX14_number_28 : decode cX14_number 28 = .ok (.aload_n 0, 1) := dk_42 (dk_at dksX14_number_1 4 rfl rfl)
theorem dX14_number_29 : decode cX14_number 29 = .ok (.invokevirtual 34, 3) := dk_182 0 34 (dk_at dksX14_number_1 5 rfl rfl)
theorem dX14_number_32 : decode cX14_number 32 = .ok (.bipush 48, 2) := dk_16 48 (dk_at dksX14_number_1 8 rfl rfl)
theorem dX14_number_34 : decode cX14_number 34 = .ok (.bipush 57, 2) := dk_16 57 (dk_at dksX14_number_1 10 rfl rfl)
theorem dX14_number_36 : decode cX14_number 36 = .ok (.invokestatic 54, 3) := dk_184 0 54 (dk_at dksX14_number_1 12 rfl rfl)
theorem dX14_number_39 : decode cX14_number 39 = .ok (.ifCond .eq 34, 3) := dk_153 0 34 (dk_at dksX14_number_1 15 rfl rfl)
theorem dX14_number_42 : decode cX14_number 42 = .ok (.bipush 10, 2) := dk_16 10 (dk_at dksX14_number_1 18 rfl rfl)
theorem dX14_number_44 : decode cX14_number 44 = .ok (.iload_n 1, 1) := dk_27 (dk_at dksX14_number_1 20 rfl rfl)
theorem dX14_number_45 : decode cX14_number 45 = .ok (.imul, 1) := dk_104 (dk_at dksX14_number_1 21 rfl rfl)
theorem dX14_number_46 : decode cX14_number 46 = .ok (.aload_n 0, 1) := dk_42 (dk_at dksX14_number_1 22 rfl rfl)
theorem dX14_number_47 : decode cX14_number 47 = .ok (.getfield 18, 3) := dk_180 0 18 (dk_at dksX14_number_2 0 rfl rfl)
theorem dX14_number_50 : decode cX14_number 50 = .ok (.aload_n 0, 1) := dk_42 (dk_at dksX14_number_2 3 rfl rfl)
theorem dX14_number_51 : decode cX14_number 51 = .ok (.dup, 1) := dk_89 (dk_at dksX14_number_2 4 rfl rfl)
theorem dX14_number_52 : decode cX14_number 52 = .ok (.getfield 26, 3) := dk_180 0 26 (dk_at dksX14_number_2 5 rfl rfl)
theorem dX14_number_55 : decode cX14_number 55 = .ok (.dup_x1, 1) := dk_90 (dk_at dksX14_number_2 8 rfl rfl)
theorem dX14_number_56 : decode cX14_number 56 = .ok (.iconst 1, 1) := dk_4 (dk_at dksX14_number_2 9 rfl rfl)
theorem dX14_number_57 : decode cX14_number 57 = .ok (.iadd, 1) := dk_96 (dk_at dksX14_number_2 10 rfl rfl)
theorem dX14_number_58 : decode cX14_number 58 = .ok (.putfield 26, 3) := dk_181 0 26 (dk_at dksX14_number_2 11 rfl rfl)
theorem dX14_number_61 : decode cX14_number 61 = .ok (.baload, 1) := dk_51 (dk_at dksX14_number_2 14 rfl rfl)
theorem dX14_number_62 : decode cX14_number 62 = .ok (.iadd, 1) := dk_96 (dk_at dksX14_number_2 15 rfl rfl)
theorem dX14_number_63 : decode cX14_number 63 = .ok (.bipush 48, 2) := dk_16 48 (dk_at dksX14_number_2 16 rfl rfl)
theorem dX14_number_65 : decode cX14_number 65 = .ok (.isub, 1) := dk_100 (dk_at dksX14_number_2 18 rfl rfl)
theorem dX14_number_66 : decode cX14_number 66 = .ok (.istore_n 1, 1) := dk_60 (dk_at dksX14_number_2 19 rfl rfl)
theorem dX14_number_67 : decode cX14_number 67 = .ok (.iinc 2 1, 3) := dk_132 2 1 (dk_at dksX14_number_2 20 rfl rfl)
theorem dX14_number_70 : decode cX14_number 70 = .ok (.goto (-47), 3) := dk_167 255 209 (dk_at dksX14_number_3 0 rfl rfl)
theorem dX14_number_73 : decode cX14_number 73 = .ok (.iload_n 1, 1) := dk_27 (dk_at dksX14_number_3 3 rfl rfl)
theorem dX14_number_74 : decode cX14_number 74 = .ok (.ireturn, 1) := dk_172 (dk_at dksX14_number_3 4 rfl rfl)
abbrev cX14_some : ByteArray := prog_13_method_10_code
def yX14_some : MethodName := ⟨RX14, "some", "()LGeeseKeys$Test;"⟩
def dkwX14_some_2 : List UInt8 := [182, 0, 99, 182, 0, 93, 87, 167, 255, 225, 43, 176]
abbrev dktX14_some_2 : List UInt8 := dkwX14_some_2 ++ []
def dkwX14_some_1 : List UInt8 := [182, 0, 34, 16, 124, 160, 0, 28, 42, 89, 180, 0, 26, 4, 96, 181, 0, 26, 43, 180, 0, 89, 42]
abbrev dktX14_some_1 : List UInt8 := dkwX14_some_1 ++ dktX14_some_2
def dkwX14_some_0 : List UInt8 := [187, 0, 84, 89, 3, 183, 0, 86, 76, 43, 180, 0, 89, 42, 182, 0, 99, 182, 0, 93, 87, 42]
abbrev dktX14_some_0 : List UInt8 := dkwX14_some_0 ++ dktX14_some_1
theorem dksX14_some_0 : cX14_some.data.toList.drop 0 = dktX14_some_0 := by decide +kernel
theorem dksX14_some_1 : cX14_some.data.toList.drop 22 = dktX14_some_1 := dk_seg dksX14_some_0 22 rfl rfl
theorem dksX14_some_2 : cX14_some.data.toList.drop 45 = dktX14_some_2 := dk_seg dksX14_some_1 23 rfl rfl
theorem dX14_some_0 : decode cX14_some 0 = .ok (.new 84, 3) := dk_187 0 84 (dk_at dksX14_some_0 0 rfl rfl)
theorem dX14_some_3 : decode cX14_some 3 = .ok (.dup, 1) := dk_89 (dk_at dksX14_some_0 3 rfl rfl)
theorem dX14_some_4 : decode cX14_some 4 = .ok (.iconst 0, 1) := dk_3 (dk_at dksX14_some_0 4 rfl rfl)
theorem dX14_some_5 : decode cX14_some 5 = .ok (.invokespecial 86, 3) := dk_183 0 86 (dk_at dksX14_some_0 5 rfl rfl)
theorem dX14_some_8 : decode cX14_some 8 = .ok (.astore_n 1, 1) := dk_76 (dk_at dksX14_some_0 8 rfl rfl)
theorem dX14_some_9 : decode cX14_some 9 = .ok (.aload_n 1, 1) := dk_43 (dk_at dksX14_some_0 9 rfl rfl)
theorem dX14_some_10 : decode cX14_some 10 = .ok (.getfield 89, 3) := dk_180 0 89 (dk_at dksX14_some_0 10 rfl rfl)
theorem dX14_some_13 : decode cX14_some 13 = .ok (.aload_n 0, 1) := dk_42 (dk_at dksX14_some_0 13 rfl rfl)
theorem dX14_some_14 : decode cX14_some 14 = .ok (.invokevirtual 99, 3) := dk_182 0 99 (dk_at dksX14_some_0 14 rfl rfl)
theorem dX14_some_17 : decode cX14_some 17 = .ok (.invokevirtual 93, 3) := dk_182 0 93 (dk_at dksX14_some_0 17 rfl rfl)
theorem dX14_some_20 : decode cX14_some 20 = .ok (.pop, 1) := dk_87 (dk_at dksX14_some_0 20 rfl rfl)
theorem dX14_some_21 : decode cX14_some 21 = .ok (.aload_n 0, 1) := dk_42 (dk_at dksX14_some_0 21 rfl rfl)
theorem dX14_some_22 : decode cX14_some 22 = .ok (.invokevirtual 34, 3) := dk_182 0 34 (dk_at dksX14_some_1 0 rfl rfl)
theorem dX14_some_25 : decode cX14_some 25 = .ok (.bipush 124, 2) := dk_16 124 (dk_at dksX14_some_1 3 rfl rfl)
theorem dX14_some_27 : decode cX14_some 27 = .ok (.if_icmp .ne 28, 3) := dk_160 0 28 (dk_at dksX14_some_1 5 rfl rfl)
theorem dX14_some_30 : decode cX14_some 30 = .ok (.aload_n 0, 1) := dk_42 (dk_at dksX14_some_1 8 rfl rfl)
theorem dX14_some_31 : decode cX14_some 31 = .ok (.dup, 1) := dk_89 (dk_at dksX14_some_1 9 rfl rfl)
theorem dX14_some_32 : decode cX14_some 32 = .ok (.getfield 26, 3) := dk_180 0 26 (dk_at dksX14_some_1 10 rfl rfl)
theorem dX14_some_35 : decode cX14_some 35 = .ok (.iconst 1, 1) := dk_4 (dk_at dksX14_some_1 13 rfl rfl)
theorem dX14_some_36 : decode cX14_some 36 = .ok (.iadd, 1) := dk_96 (dk_at dksX14_some_1 14 rfl rfl)
theorem dX14_some_37 : decode cX14_some 37 = .ok (.putfield 26, 3) := dk_181 0 26 (dk_at dksX14_some_1 15 rfl rfl)
theorem dX14_some_40 : decode cX14_some 40 = .ok (.aload_n 1, 1) := dk_43 (dk_at dksX14_some_1 18 rfl rfl)
theorem dX14_some_41 : decode cX14_some 41 = .ok (.getfield 89, 3) := dk_180 0 89 (dk_at dksX14_some_1 19 rfl rfl)
theorem dX14_some_44 : decode cX14_some 44 = .ok (.aload_n 0, 1) := dk_42 (dk_at dksX14_some_1 22 rfl rfl)
theorem dX14_some_45 : decode cX14_some 45 = .ok (.invokevirtual 99, 3) := dk_182 0 99 (dk_at dksX14_some_2 0 rfl rfl)
theorem dX14_some_48 : decode cX14_some 48 = .ok (.invokevirtual 93, 3) := dk_182 0 93 (dk_at dksX14_some_2 3 rfl rfl)
theorem dX14_some_51 : decode cX14_some 51 = .ok (.pop, 1) := dk_87 (dk_at dksX14_some_2 6 rfl rfl)
theorem dX14_some_52 : decode cX14_some 52 = .ok (.goto (-31), 3) := dk_167 255 225 (dk_at dksX14_some_2 7 rfl rfl)
theorem dX14_some_55 : decode cX14_some 55 = .ok (.aload_n 1, 1) := dk_43 (dk_at dksX14_some_2 10 rfl rfl)
theorem dX14_some_56 : decode cX14_some 56 = .ok (.areturn, 1) := dk_176 (dk_at dksX14_some_2 11 rfl rfl)
abbrev cX14_all : ByteArray := prog_13_method_9_code
def yX14_all : MethodName := ⟨RX14, "all", "()LGeeseKeys$Test;"⟩
def dkwX14_all_2 : List UInt8 := [182, 0, 66, 182, 0, 93, 87, 167, 255, 225, 43, 176]
abbrev dktX14_all_2 : List UInt8 := dkwX14_all_2 ++ []
def dkwX14_all_1 : List UInt8 := [182, 0, 34, 16, 38, 160, 0, 28, 42, 89, 180, 0, 26, 4, 96, 181, 0, 26, 43, 180, 0, 89, 42]
abbrev dktX14_all_1 : List UInt8 := dkwX14_all_1 ++ dktX14_all_2
def dkwX14_all_0 : List UInt8 := [187, 0, 84, 89, 4, 183, 0, 86, 76, 43, 180, 0, 89, 42, 182, 0, 66, 182, 0, 93, 87, 42]
abbrev dktX14_all_0 : List UInt8 := dkwX14_all_0 ++ dktX14_all_1
theorem dksX14_all_0 : cX14_all.data.toList.drop 0 = dktX14_all_0 := by decide +kernel
theorem dksX14_all_1 : cX14_all.data.toList.drop 22 = dktX14_all_1 := dk_seg dksX14_all_0 22 rfl rfl
theorem dksX14_all_2 : cX14_all.data.toList.drop 45 = dktX14_all_2 := dk_seg dksX14_all_1 23 rfl rfl
theorem dX14_all_0 : decode cX14_all 0 = .ok (.new 84, 3) := dk_187 0 84 (dk_at dksX14_all_0 0 rfl rfl)
theorem dX14_all_3 : decode cX14_all 3 = .ok (.dup, 1) := dk_89 (dk_at dksX14_all_0 3 rfl rfl)
theorem dX14_all_4 : decode cX14_all 4 = .ok (.iconst 1, 1) := dk_4 (dk_at dksX14_all_0 4 rfl rfl)
theorem dX14_all_5 : decode cX14_all 5 = .ok (.invokespecial 86, 3) := dk_183 0 86 (dk_at dksX14_all_0 5 rfl rfl)
theorem dX14_all_8 : decode cX14_all 8 = .ok (.astore_n 1, 1) := dk_76 (dk_at dksX14_all_0 8 rfl rfl)
theorem dX14_all_9 : decode cX14_all 9 = .ok (.aload_n 1, 1) := dk_43 (dk_at dksX14_all_0 9 rfl rfl)
theorem dX14_all_10 : decode cX14_all 10 = .ok (.getfield 89, 3) := dk_180 0 89 (dk_at dksX14_all_0 10 rfl rfl)
theorem dX14_all_13 : decode cX14_all 13 = .ok (.aload_n 0, 1) := dk_42 (dk_at dksX14_all_0 13 rfl rfl)
theorem dX14_all_14 : decode cX14_all 14 = .ok (.invokevirtual 66, 3) := dk_182 0 66 (dk_at dksX14_all_0 14 rfl rfl)
theorem dX14_all_17 : decode cX14_all 17 = .ok (.invokevirtual 93, 3) := dk_182 0 93 (dk_at dksX14_all_0 17 rfl rfl)
theorem dX14_all_20 : decode cX14_all 20 = .ok (.pop, 1) := dk_87 (dk_at dksX14_all_0 20 rfl rfl)
theorem dX14_all_21 : decode cX14_all 21 = .ok (.aload_n 0, 1) := dk_42 (dk_at dksX14_all_0 21 rfl rfl)
theorem dX14_all_22 : decode cX14_all 22 = .ok (.invokevirtual 34, 3) := dk_182 0 34 (dk_at dksX14_all_1 0 rfl rfl)
theorem dX14_all_25 : decode cX14_all 25 = .ok (.bipush 38, 2) := dk_16 38 (dk_at dksX14_all_1 3 rfl rfl)
theorem dX14_all_27 : decode cX14_all 27 = .ok (.if_icmp .ne 28, 3) := dk_160 0 28 (dk_at dksX14_all_1 5 rfl rfl)
theorem dX14_all_30 : decode cX14_all 30 = .ok (.aload_n 0, 1) := dk_42 (dk_at dksX14_all_1 8 rfl rfl)
theorem dX14_all_31 : decode cX14_all 31 = .ok (.dup, 1) := dk_89 (dk_at dksX14_all_1 9 rfl rfl)
theorem dX14_all_32 : decode cX14_all 32 = .ok (.getfield 26, 3) := dk_180 0 26 (dk_at dksX14_all_1 10 rfl rfl)
theorem dX14_all_35 : decode cX14_all 35 = .ok (.iconst 1, 1) := dk_4 (dk_at dksX14_all_1 13 rfl rfl)
theorem dX14_all_36 : decode cX14_all 36 = .ok (.iadd, 1) := dk_96 (dk_at dksX14_all_1 14 rfl rfl)
theorem dX14_all_37 : decode cX14_all 37 = .ok (.putfield 26, 3) := dk_181 0 26 (dk_at dksX14_all_1 15 rfl rfl)
theorem dX14_all_40 : decode cX14_all 40 = .ok (.aload_n 1, 1) := dk_43 (dk_at dksX14_all_1 18 rfl rfl)
theorem dX14_all_41 : decode cX14_all 41 = .ok (.getfield 89, 3) := dk_180 0 89 (dk_at dksX14_all_1 19 rfl rfl)
theorem dX14_all_44 : decode cX14_all 44 = .ok (.aload_n 0, 1) := dk_42 (dk_at dksX14_all_1 22 rfl rfl)
theorem dX14_all_45 : decode cX14_all 45 = .ok (.invokevirtual 66, 3) := dk_182 0 66 (dk_at dksX14_all_2 0 rfl rfl)
theorem dX14_all_48 : decode cX14_all 48 = .ok (.invokevirtual 93, 3) := dk_182 0 93 (dk_at dksX14_all_2 3 rfl rfl)
theorem dX14_all_51 : decode cX14_all 51 = .ok (.pop, 1) := dk_87 (dk_at dksX14_all_2 6 rfl rfl)
theorem dX14_all_52 : decode cX14_all 52 = .ok (.goto (-31), 3) := dk_167 255 225 (dk_at dksX14_all_2 7 rfl rfl)
theorem dX14_all_55 : decode cX14_all 55 = .ok (.aload_n 1, 1) := dk_43 (dk_at dksX14_all_2 10 rfl rfl)
theorem dX14_all_56 : decode cX14_all 56 = .ok (.areturn, 1) := dk_176 (dk_at dksX14_all_2 11 rfl rfl)
abbrev cX14_factor : ByteArray := prog_13_method_8_code
def yX14_factor : MethodName := ⟨RX14, "factor", "()LGeeseKeys$Test;"⟩
def dkwX14_factor_7 : List UInt8 := [27, 28, 42, 182, 0, 78, 183, 0, 81, 176, 42, 182, 0, 38, 191]
abbrev dktX14_factor_7 : List UInt8 := dkwX14_factor_7 ++ []
def dkwX14_factor_6 : List UInt8 := [16, 62, 159, 0, 8, 42, 182, 0, 38, 191, 42, 89, 180, 0, 26, 4, 96, 181, 0, 26, 187, 0, 76, 89]
abbrev dktX14_factor_6 : List UInt8 := dkwX14_factor_6 ++ dktX14_factor_7
def dkwX14_factor_5 : List UInt8 := [181, 0, 26, 51, 60, 42, 182, 0, 34, 61, 28, 16, 60, 159, 0, 20, 28, 16, 61, 159, 0, 14, 28]
abbrev dktX14_factor_5 : List UInt8 := dkwX14_factor_5 ++ dktX14_factor_6
def dkwX14_factor_4 : List UInt8 := [180, 0, 58, 4, 100, 181, 0, 58, 43, 176, 42, 180, 0, 18, 42, 89, 180, 0, 26, 90, 4, 96]
abbrev dktX14_factor_4 : List UInt8 := dkwX14_factor_4 ++ dktX14_factor_5
def dkwX14_factor_3 : List UInt8 := [181, 0, 58, 43, 176, 42, 182, 0, 61, 42, 182, 0, 73, 76, 42, 16, 41, 182, 0, 51, 42, 89]
abbrev dktX14_factor_3 : List UInt8 := dkwX14_factor_3 ++ dktX14_factor_4
def dkwX14_factor_2 : List UInt8 := [42, 182, 0, 61, 187, 0, 64, 89, 42, 182, 0, 66, 183, 0, 70, 76, 42, 89, 180, 0, 58, 4, 100]
abbrev dktX14_factor_2 : List UInt8 := dkwX14_factor_2 ++ dktX14_factor_3
def dkwX14_factor_1 : List UInt8 := [171, 0, 0, 0, 0, 0, 0, 200, 0, 0, 0, 8, 0, 0, 0, 33, 0, 0, 0, 76, 0, 0, 0, 40, 0, 0, 0, 104, 0, 0, 0, 99, 0, 0, 0, 131, 0, 0, 0, 103, 0, 0, 0, 131, 0, 0, 0, 104, 0, 0, 0, 131, 0, 0, 0, 107, 0, 0, 0, 131, 0, 0, 0, 112, 0, 0, 0, 131, 0, 0, 0, 118, 0, 0, 0, 131]
abbrev dktX14_factor_1 : List UInt8 := dkwX14_factor_1 ++ dktX14_factor_2
def dkwX14_factor_0 : List UInt8 := [42, 182, 0, 34]
abbrev dktX14_factor_0 : List UInt8 := dkwX14_factor_0 ++ dktX14_factor_1
theorem dksX14_factor_0 : cX14_factor.data.toList.drop 0 = dktX14_factor_0 := by decide +kernel
theorem dksX14_factor_1 : cX14_factor.data.toList.drop 4 = dktX14_factor_1 := dk_seg dksX14_factor_0 4 rfl rfl
theorem dksX14_factor_2 : cX14_factor.data.toList.drop 80 = dktX14_factor_2 := dk_seg dksX14_factor_1 76 rfl rfl
theorem dksX14_factor_3 : cX14_factor.data.toList.drop 103 = dktX14_factor_3 := dk_seg dksX14_factor_2 23 rfl rfl
theorem dksX14_factor_4 : cX14_factor.data.toList.drop 125 = dktX14_factor_4 := dk_seg dksX14_factor_3 22 rfl rfl
theorem dksX14_factor_5 : cX14_factor.data.toList.drop 147 = dktX14_factor_5 := dk_seg dksX14_factor_4 22 rfl rfl
theorem dksX14_factor_6 : cX14_factor.data.toList.drop 170 = dktX14_factor_6 := dk_seg dksX14_factor_5 23 rfl rfl
theorem dksX14_factor_7 : cX14_factor.data.toList.drop 194 = dktX14_factor_7 := dk_seg dksX14_factor_6 24 rfl rfl
theorem dX14_factor_0 : decode cX14_factor 0 = .ok (.aload_n 0, 1) := dk_42 (dk_at dksX14_factor_0 0 rfl rfl)
theorem dX14_factor_1 : decode cX14_factor 1 = .ok (.invokevirtual 34, 3) := dk_182 0 34 (dk_at dksX14_factor_0 1 rfl rfl)
theorem dX14_factor_4 : decode cX14_factor 4 = .ok (.lookupswitch 200 #[(33, 76), (40, 104), (99, 131), (103, 131), (104, 131), (107, 131), (112, 131), (118, 131)], 76) := by decide +kernel
theorem dX14_factor_80 : decode cX14_factor 80 = .ok (.aload_n 0, 1) := dk_42 (dk_at dksX14_factor_2 0 rfl rfl)
theorem dX14_factor_81 : decode cX14_factor 81 = .ok (.invokevirtual 61, 3) := dk_182 0 61 (dk_at dksX14_factor_2 1 rfl rfl)
theorem dX14_factor_84 : decode cX14_factor 84 = .ok (.new 64, 3) := dk_187 0 64 (dk_at dksX14_factor_2 4 rfl rfl)
theorem dX14_factor_87 : decode cX14_factor 87 = .ok (.dup, 1) := dk_89 (dk_at dksX14_factor_2 7 rfl rfl)
theorem dX14_factor_88 : decode cX14_factor 88 = .ok (.aload_n 0, 1) := dk_42 (dk_at dksX14_factor_2 8 rfl rfl)
theorem dX14_factor_89 : decode cX14_factor 89 = .ok (.invokevirtual 66, 3) := dk_182 0 66 (dk_at dksX14_factor_2 9 rfl rfl)
theorem dX14_factor_92 : decode cX14_factor 92 = .ok (.invokespecial 70, 3) := dk_183 0 70 (dk_at dksX14_factor_2 12 rfl rfl)
theorem dX14_factor_95 : decode cX14_factor 95 = .ok (.astore_n 1, 1) := dk_76 (dk_at dksX14_factor_2 15 rfl rfl)
theorem dX14_factor_96 : decode cX14_factor 96 = .ok (.aload_n 0, 1) := dk_42 (dk_at dksX14_factor_2 16 rfl rfl)
theorem dX14_factor_97 : decode cX14_factor 97 = .ok (.dup, 1) := dk_89 (dk_at dksX14_factor_2 17 rfl rfl)
theorem dX14_factor_98 : decode cX14_factor 98 = .ok (.getfield 58, 3) := dk_180 0 58 (dk_at dksX14_factor_2 18 rfl rfl)
theorem dX14_factor_101 : decode cX14_factor 101 = .ok (.iconst 1, 1) := dk_4 (dk_at dksX14_factor_2 21 rfl rfl)
theorem dX14_factor_102 : decode cX14_factor 102 = .ok (.isub, 1) := dk_100 (dk_at dksX14_factor_2 22 rfl rfl)
theorem dX14_factor_103 : decode cX14_factor 103 = .ok (.putfield 58, 3) := dk_181 0 58 (dk_at dksX14_factor_3 0 rfl rfl)
theorem dX14_factor_106 : decode cX14_factor 106 = .ok (.aload_n 1, 1) := dk_43 (dk_at dksX14_factor_3 3 rfl rfl)
theorem dX14_factor_107 : decode cX14_factor 107 = .ok (.areturn, 1) := dk_176 (dk_at dksX14_factor_3 4 rfl rfl)
theorem dX14_factor_108 : decode cX14_factor 108 = .ok (.aload_n 0, 1) := dk_42 (dk_at dksX14_factor_3 5 rfl rfl)
theorem dX14_factor_109 : decode cX14_factor 109 = .ok (.invokevirtual 61, 3) := dk_182 0 61 (dk_at dksX14_factor_3 6 rfl rfl)
theorem dX14_factor_112 : decode cX14_factor 112 = .ok (.aload_n 0, 1) := dk_42 (dk_at dksX14_factor_3 9 rfl rfl)
theorem dX14_factor_113 : decode cX14_factor 113 = .ok (.invokevirtual 73, 3) := dk_182 0 73 (dk_at dksX14_factor_3 10 rfl rfl)
theorem dX14_factor_116 : decode cX14_factor 116 = .ok (.astore_n 1, 1) := dk_76 (dk_at dksX14_factor_3 13 rfl rfl)
theorem dX14_factor_117 : decode cX14_factor 117 = .ok (.aload_n 0, 1) := dk_42 (dk_at dksX14_factor_3 14 rfl rfl)
theorem dX14_factor_118 : decode cX14_factor 118 = .ok (.bipush 41, 2) := dk_16 41 (dk_at dksX14_factor_3 15 rfl rfl)
theorem dX14_factor_120 : decode cX14_factor 120 = .ok (.invokevirtual 51, 3) := dk_182 0 51 (dk_at dksX14_factor_3 17 rfl rfl)
theorem dX14_factor_123 : decode cX14_factor 123 = .ok (.aload_n 0, 1) := dk_42 (dk_at dksX14_factor_3 20 rfl rfl)
theorem dX14_factor_124 : decode cX14_factor 124 = .ok (.dup, 1) := dk_89 (dk_at dksX14_factor_3 21 rfl rfl)
theorem dX14_factor_125 : decode cX14_factor 125 = .ok (.getfield 58, 3) := dk_180 0 58 (dk_at dksX14_factor_4 0 rfl rfl)
theorem dX14_factor_128 : decode cX14_factor 128 = .ok (.iconst 1, 1) := dk_4 (dk_at dksX14_factor_4 3 rfl rfl)
theorem dX14_factor_129 : decode cX14_factor 129 = .ok (.isub, 1) := dk_100 (dk_at dksX14_factor_4 4 rfl rfl)
theorem dX14_factor_130 : decode cX14_factor 130 = .ok (.putfield 58, 3) := dk_181 0 58 (dk_at dksX14_factor_4 5 rfl rfl)
theorem dX14_factor_133 : decode cX14_factor 133 = .ok (.aload_n 1, 1) := dk_43 (dk_at dksX14_factor_4 8 rfl rfl)
theorem dX14_factor_134 : decode cX14_factor 134 = .ok (.areturn, 1) := dk_176 (dk_at dksX14_factor_4 9 rfl rfl)
theorem dX14_factor_135 : decode cX14_factor 135 = .ok (.aload_n 0, 1) := dk_42 (dk_at dksX14_factor_4 10 rfl rfl)
theorem dX14_factor_136 : decode cX14_factor 136 = .ok (.getfield 18, 3) := dk_180 0 18 (dk_at dksX14_factor_4 11 rfl rfl)
theorem dX14_factor_139 : decode cX14_factor 139 = .ok (.aload_n 0, 1) := dk_42 (dk_at dksX14_factor_4 14 rfl rfl)
theorem dX14_factor_140 : decode cX14_factor 140 = .ok (.dup, 1) := dk_89 (dk_at dksX14_factor_4 15 rfl rfl)
theorem dX14_factor_141 : decode cX14_factor 141 = .ok (.getfield 26, 3) := dk_180 0 26 (dk_at dksX14_factor_4 16 rfl rfl)
theorem dX14_factor_144 : decode cX14_factor 144 = .ok (.dup_x1, 1) := dk_90 (dk_at dksX14_factor_4 19 rfl rfl)
theorem dX14_factor_145 : decode cX14_factor 145 = .ok (.iconst 1, 1) := dk_4 (dk_at dksX14_factor_4 20 rfl rfl)
theorem dX14_factor_146 : decode cX14_factor 146 = .ok (.iadd, 1) := dk_96 (dk_at dksX14_factor_4 21 rfl rfl)
theorem dX14_factor_147 : decode cX14_factor 147 = .ok (.putfield 26, 3) := dk_181 0 26 (dk_at dksX14_factor_5 0 rfl rfl)
theorem dX14_factor_150 : decode cX14_factor 150 = .ok (.baload, 1) := dk_51 (dk_at dksX14_factor_5 3 rfl rfl)
theorem dX14_factor_151 : decode cX14_factor 151 = .ok (.istore_n 1, 1) := dk_60 (dk_at dksX14_factor_5 4 rfl rfl)
theorem dX14_factor_152 : decode cX14_factor 152 = .ok (.aload_n 0, 1) := dk_42 (dk_at dksX14_factor_5 5 rfl rfl)
theorem dX14_factor_153 : decode cX14_factor 153 = .ok (.invokevirtual 34, 3) := dk_182 0 34 (dk_at dksX14_factor_5 6 rfl rfl)
theorem dX14_factor_156 : decode cX14_factor 156 = .ok (.istore_n 2, 1) := dk_61 (dk_at dksX14_factor_5 9 rfl rfl)
theorem dX14_factor_157 : decode cX14_factor 157 = .ok (.iload_n 2, 1) := dk_28 (dk_at dksX14_factor_5 10 rfl rfl)
theorem dX14_factor_158 : decode cX14_factor 158 = .ok (.bipush 60, 2) := dk_16 60 (dk_at dksX14_factor_5 11 rfl rfl)
theorem dX14_factor_160 : decode cX14_factor 160 = .ok (.if_icmp .eq 20, 3) := dk_159 0 20 (dk_at dksX14_factor_5 13 rfl rfl)
theorem dX14_factor_163 : decode cX14_factor 163 = .ok (.iload_n 2, 1) := dk_28 (dk_at dksX14_factor_5 16 rfl rfl)
theorem dX14_factor_164 : decode cX14_factor 164 = .ok (.bipush 61, 2) := dk_16 61 (dk_at dksX14_factor_5 17 rfl rfl)
theorem dX14_factor_166 : decode cX14_factor 166 = .ok (.if_icmp .eq 14, 3) := dk_159 0 14 (dk_at dksX14_factor_5 19 rfl rfl)
theorem dX14_factor_169 : decode cX14_factor 169 = .ok (.iload_n 2, 1) := dk_28 (dk_at dksX14_factor_5 22 rfl rfl)
theorem dX14_factor_170 : decode cX14_factor 170 = .ok (.bipush 62, 2) := dk_16 62 (dk_at dksX14_factor_6 0 rfl rfl)
theorem dX14_factor_172 : decode cX14_factor 172 = .ok (.if_icmp .eq 8, 3) := dk_159 0 8 (dk_at dksX14_factor_6 2 rfl rfl)
theorem dX14_factor_175 : decode cX14_factor 175 = .ok (.aload_n 0, 1) := dk_42 (dk_at dksX14_factor_6 5 rfl rfl)
theorem dX14_factor_176 : decode cX14_factor 176 = .ok (.invokevirtual 38, 3) := dk_182 0 38 (dk_at dksX14_factor_6 6 rfl rfl)
theorem dX14_factor_179 : decode cX14_factor 179 = .ok (.athrow, 1) := dk_191 (dk_at dksX14_factor_6 9 rfl rfl)
theorem dX14_factor_180 : decode cX14_factor 180 = .ok (.aload_n 0, 1) := dk_42 (dk_at dksX14_factor_6 10 rfl rfl)
theorem dX14_factor_181 : decode cX14_factor 181 = .ok (.dup, 1) := dk_89 (dk_at dksX14_factor_6 11 rfl rfl)
theorem dX14_factor_182 : decode cX14_factor 182 = .ok (.getfield 26, 3) := dk_180 0 26 (dk_at dksX14_factor_6 12 rfl rfl)
theorem dX14_factor_185 : decode cX14_factor 185 = .ok (.iconst 1, 1) := dk_4 (dk_at dksX14_factor_6 15 rfl rfl)
theorem dX14_factor_186 : decode cX14_factor 186 = .ok (.iadd, 1) := dk_96 (dk_at dksX14_factor_6 16 rfl rfl)
theorem dX14_factor_187 : decode cX14_factor 187 = .ok (.putfield 26, 3) := dk_181 0 26 (dk_at dksX14_factor_6 17 rfl rfl)
theorem dX14_factor_190 : decode cX14_factor 190 = .ok (.new 76, 3) := dk_187 0 76 (dk_at dksX14_factor_6 20 rfl rfl)
theorem dX14_factor_193 : decode cX14_factor 193 = .ok (.dup, 1) := dk_89 (dk_at dksX14_factor_6 23 rfl rfl)
theorem dX14_factor_194 : decode cX14_factor 194 = .ok (.iload_n 1, 1) := dk_27 (dk_at dksX14_factor_7 0 rfl rfl)
theorem dX14_factor_195 : decode cX14_factor 195 = .ok (.iload_n 2, 1) := dk_28 (dk_at dksX14_factor_7 1 rfl rfl)
theorem dX14_factor_196 : decode cX14_factor 196 = .ok (.aload_n 0, 1) := dk_42 (dk_at dksX14_factor_7 2 rfl rfl)
theorem dX14_factor_197 : decode cX14_factor 197 = .ok (.invokevirtual 78, 3) := dk_182 0 78 (dk_at dksX14_factor_7 3 rfl rfl)
theorem dX14_factor_200 : decode cX14_factor 200 = .ok (.invokespecial 81, 3) := dk_183 0 81 (dk_at dksX14_factor_7 6 rfl rfl)
theorem dX14_factor_203 : decode cX14_factor 203 = .ok (.areturn, 1) := dk_176 (dk_at dksX14_factor_7 9 rfl rfl)
theorem dX14_factor_204 : decode cX14_factor 204 = .ok (.aload_n 0, 1) := dk_42 (dk_at dksX14_factor_7 10 rfl rfl)
theorem dX14_factor_205 : decode cX14_factor 205 = .ok (.invokevirtual 38, 3) := dk_182 0 38 (dk_at dksX14_factor_7 11 rfl rfl)
theorem dX14_factor_208 : decode cX14_factor 208 = .ok (.athrow, 1) := dk_191 (dk_at dksX14_factor_7 14 rfl rfl)
abbrev cX14_deeper : ByteArray := prog_13_method_7_code
def yX14_deeper : MethodName := ⟨RX14, "deeper", "()V"⟩
def dkwX14_deeper_1 : List UInt8 := [89, 180, 0, 26, 4, 96, 181, 0, 26, 177]
abbrev dktX14_deeper_1 : List UInt8 := dkwX14_deeper_1 ++ []
def dkwX14_deeper_0 : List UInt8 := [42, 180, 0, 58, 7, 160, 0, 8, 42, 182, 0, 38, 191, 42, 89, 180, 0, 58, 4, 96, 181, 0, 58, 42]
abbrev dktX14_deeper_0 : List UInt8 := dkwX14_deeper_0 ++ dktX14_deeper_1
theorem dksX14_deeper_0 : cX14_deeper.data.toList.drop 0 = dktX14_deeper_0 := by decide +kernel
theorem dksX14_deeper_1 : cX14_deeper.data.toList.drop 24 = dktX14_deeper_1 := dk_seg dksX14_deeper_0 24 rfl rfl
theorem dX14_deeper_0 : decode cX14_deeper 0 = .ok (.aload_n 0, 1) := dk_42 (dk_at dksX14_deeper_0 0 rfl rfl)
theorem dX14_deeper_1 : decode cX14_deeper 1 = .ok (.getfield 58, 3) := dk_180 0 58 (dk_at dksX14_deeper_0 1 rfl rfl)
theorem dX14_deeper_4 : decode cX14_deeper 4 = .ok (.iconst 4, 1) := dk_7 (dk_at dksX14_deeper_0 4 rfl rfl)
theorem dX14_deeper_5 : decode cX14_deeper 5 = .ok (.if_icmp .ne 8, 3) := dk_160 0 8 (dk_at dksX14_deeper_0 5 rfl rfl)
theorem dX14_deeper_8 : decode cX14_deeper 8 = .ok (.aload_n 0, 1) := dk_42 (dk_at dksX14_deeper_0 8 rfl rfl)
theorem dX14_deeper_9 : decode cX14_deeper 9 = .ok (.invokevirtual 38, 3) := dk_182 0 38 (dk_at dksX14_deeper_0 9 rfl rfl)
theorem dX14_deeper_12 : decode cX14_deeper 12 = .ok (.athrow, 1) := dk_191 (dk_at dksX14_deeper_0 12 rfl rfl)
theorem dX14_deeper_13 : decode cX14_deeper 13 = .ok (.aload_n 0, 1) := dk_42 (dk_at dksX14_deeper_0 13 rfl rfl)
theorem dX14_deeper_14 : decode cX14_deeper 14 = .ok (.dup, 1) := dk_89 (dk_at dksX14_deeper_0 14 rfl rfl)
theorem dX14_deeper_15 : decode cX14_deeper 15 = .ok (.getfield 58, 3) := dk_180 0 58 (dk_at dksX14_deeper_0 15 rfl rfl)
theorem dX14_deeper_18 : decode cX14_deeper 18 = .ok (.iconst 1, 1) := dk_4 (dk_at dksX14_deeper_0 18 rfl rfl)
theorem dX14_deeper_19 : decode cX14_deeper 19 = .ok (.iadd, 1) := dk_96 (dk_at dksX14_deeper_0 19 rfl rfl)
theorem dX14_deeper_20 : decode cX14_deeper 20 = .ok (.putfield 58, 3) := dk_181 0 58 (dk_at dksX14_deeper_0 20 rfl rfl)
theorem dX14_deeper_23 : decode cX14_deeper 23 = .ok (.aload_n 0, 1) := dk_42 (dk_at dksX14_deeper_0 23 rfl rfl)
theorem dX14_deeper_24 : decode cX14_deeper 24 = .ok (.dup, 1) := dk_89 (dk_at dksX14_deeper_1 0 rfl rfl)
theorem dX14_deeper_25 : decode cX14_deeper 25 = .ok (.getfield 26, 3) := dk_180 0 26 (dk_at dksX14_deeper_1 1 rfl rfl)
theorem dX14_deeper_28 : decode cX14_deeper 28 = .ok (.iconst 1, 1) := dk_4 (dk_at dksX14_deeper_1 4 rfl rfl)
theorem dX14_deeper_29 : decode cX14_deeper 29 = .ok (.iadd, 1) := dk_96 (dk_at dksX14_deeper_1 5 rfl rfl)
theorem dX14_deeper_30 : decode cX14_deeper 30 = .ok (.putfield 26, 3) := dk_181 0 26 (dk_at dksX14_deeper_1 6 rfl rfl)
theorem dX14_deeper_33 : decode cX14_deeper 33 = .ok (.return_, 1) := dk_177 (dk_at dksX14_deeper_1 9 rfl rfl)
theorem q96 : (Jvm.Cond.initialized "GeeseKeys$Reader") ∈ lw_all := lw_g (lw_at lw_m1 20 rfl) rfl
theorem q207 : (Jvm.Cond.fieldLinkNest "GeeseKeys$Reader" (106 : Nat) "GeeseKeys$Fortress" "clauses" "Ljava/util/ArrayList;" "GeeseKeys") ∈ lw_tbl := lw_at lw_m1 131 rfl
theorem q208 : (Jvm.Cond.fieldLinkNest "GeeseKeys$Reader" (127 : Nat) "GeeseKeys$Fortress" "many" "I" "GeeseKeys") ∈ lw_tbl := lw_at lw_m1 132 rfl
theorem q210 : (Jvm.Cond.fieldLinkNest "GeeseKeys$Reader" (124 : Nat) "GeeseKeys$Fortress" "eat" "I" "GeeseKeys") ∈ lw_tbl := lw_at lw_m1 134 rfl
theorem q676 : (Jvm.Cond.instantiable "GeeseKeys$Reader" (5 : Nat)) ∈ lw_all := lw_g (lw_at lw_m3 120 rfl) rfl
theorem q678 : (Jvm.Cond.instanceMethod ({ cls := "GeeseKeys$Reader", name := "<init>", desc := "([BI)V" } : Jvm.MethodName)) ∈ lw_all := lw_g (lw_at lw_m3 122 rfl) rfl
theorem q679 : (Jvm.Cond.code ({ cls := "GeeseKeys$Reader", name := "<init>", desc := "([BI)V" } : Jvm.MethodName) prog_13_method_1_code (3 : Nat) (Option.none : Option Jvm.ClassFile.FieldType)) ∈ lw_all := lw_g (lw_at lw_m3 123 rfl) rfl
theorem q680 : (Jvm.Cond.methodLink "GeeseKeys$Reader" (3 : Nat) ({ cls := "java/lang/Object", name := "<init>", desc := "()V" } : Jvm.MethodName)) ∈ lw_all := lw_g (lw_at lw_m3 124 rfl) rfl
theorem q681 : (Jvm.Cond.classLink "GeeseKeys$Reader" (9 : Nat) "GeeseKeys$Fortress") ∈ lw_all := lw_g (lw_at lw_m3 125 rfl) rfl
theorem q682 : (Jvm.Cond.methodLinkNest "GeeseKeys$Reader" (11 : Nat) ({ cls := "GeeseKeys$Fortress", name := "<init>", desc := "()V" } : Jvm.MethodName) "GeeseKeys") ∈ lw_tbl := lw_at lw_m3 126 rfl
theorem q683 : (Jvm.Cond.fieldLink "GeeseKeys$Reader" (18 : Nat) "GeeseKeys$Reader" "text" "[B") ∈ lw_all := lw_g (lw_at lw_m3 127 rfl) rfl
theorem q684 : (Jvm.Cond.fieldLink "GeeseKeys$Reader" (22 : Nat) "GeeseKeys$Reader" "size" "I") ∈ lw_all := lw_g (lw_at lw_m3 128 rfl) rfl
theorem q685 : (Jvm.Cond.fieldLink "GeeseKeys$Reader" (26 : Nat) "GeeseKeys$Reader" "at" "I") ∈ lw_all := lw_g (lw_at lw_m3 129 rfl) rfl
theorem q686 : (Jvm.Cond.fieldLink "GeeseKeys$Reader" (58 : Nat) "GeeseKeys$Reader" "deep" "I") ∈ lw_all := lw_g (lw_at lw_m3 130 rfl) rfl
theorem q687 : (Jvm.Cond.fieldLink "GeeseKeys$Reader" (12 : Nat) "GeeseKeys$Reader" "read" "LGeeseKeys$Fortress;") ∈ lw_all := lw_g (lw_at lw_m3 131 rfl) rfl
theorem q688 : (Jvm.Cond.laysFinal "GeeseKeys$Reader" "GeeseKeys$Reader" "text" "[B") ∈ lw_all := lw_g (lw_at lw_m3 132 rfl) rfl
theorem q689 : (Jvm.Cond.soleField "GeeseKeys$Reader" "text") ∈ lw_all := lw_g (lw_at lw_m3 133 rfl) rfl
theorem q690 : (Jvm.Cond.laysFinal "GeeseKeys$Reader" "GeeseKeys$Reader" "size" "I") ∈ lw_all := lw_g (lw_at lw_m3 134 rfl) rfl
theorem q691 : (Jvm.Cond.soleField "GeeseKeys$Reader" "size") ∈ lw_all := lw_g (lw_at lw_m3 135 rfl) rfl
theorem q692 : (Jvm.Cond.lays "GeeseKeys$Reader" "GeeseKeys$Reader" "at" "I") ∈ lw_all := lw_g (lw_at lw_m3 136 rfl) rfl
theorem q693 : (Jvm.Cond.soleField "GeeseKeys$Reader" "at") ∈ lw_all := lw_g (lw_at lw_m3 137 rfl) rfl
theorem q694 : (Jvm.Cond.lays "GeeseKeys$Reader" "GeeseKeys$Reader" "deep" "I") ∈ lw_all := lw_g (lw_at lw_m3 138 rfl) rfl
theorem q695 : (Jvm.Cond.soleField "GeeseKeys$Reader" "deep") ∈ lw_all := lw_g (lw_at lw_m3 139 rfl) rfl
theorem q696 : (Jvm.Cond.laysFinal "GeeseKeys$Reader" "GeeseKeys$Reader" "read" "LGeeseKeys$Fortress;") ∈ lw_all := lw_g (lw_at lw_m3 140 rfl) rfl
theorem q697 : (Jvm.Cond.soleField "GeeseKeys$Reader" "read") ∈ lw_all := lw_g (lw_at lw_m3 141 rfl) rfl
theorem q698 : (Jvm.Cond.superclass "GeeseKeys$Reader" "java/lang/Object") ∈ lw_all := lw_g (lw_at lw_m3 142 rfl) rfl
theorem q700 : (Jvm.Cond.instanceMethod ({ cls := "GeeseKeys$Reader", name := "whole", desc := "()LGeeseKeys$Fortress;" } : Jvm.MethodName)) ∈ lw_all := lw_g (lw_at lw_m3 144 rfl) rfl
theorem q701 : (Jvm.Cond.selects "GeeseKeys$Reader" ({ cls := "GeeseKeys$Reader", name := "whole", desc := "()LGeeseKeys$Fortress;" } : Jvm.MethodName) ({ cls := "GeeseKeys$Reader", name := "whole", desc := "()LGeeseKeys$Fortress;" } : Jvm.MethodName)) ∈ lw_all := lw_g (lw_at lw_m3 145 rfl) rfl
theorem q702 : (Jvm.Cond.code ({ cls := "GeeseKeys$Reader", name := "whole", desc := "()LGeeseKeys$Fortress;" } : Jvm.MethodName) prog_13_method_13_code (1 : Nat) (Option.some (Jvm.ClassFile.FieldType.object "GeeseKeys$Fortress"))) ∈ lw_all := lw_g (lw_at lw_m3 146 rfl) rfl
theorem q703 : (Jvm.Cond.methodLink "GeeseKeys$Reader" (130 : Nat) ({ cls := "GeeseKeys$Reader", name := "clause", desc := "()V" } : Jvm.MethodName)) ∈ lw_all := lw_g (lw_at lw_m3 147 rfl) rfl
theorem q704 : (Jvm.Cond.privateMethod ({ cls := "GeeseKeys$Reader", name := "clause", desc := "()V" } : Jvm.MethodName)) ∈ lw_tbl := lw_at lw_m3 148 rfl
theorem q705 : (Jvm.Cond.instanceMethod ({ cls := "GeeseKeys$Reader", name := "clause", desc := "()V" } : Jvm.MethodName)) ∈ lw_all := lw_g (lw_at lw_m3 149 rfl) rfl
theorem q706 : (Jvm.Cond.code ({ cls := "GeeseKeys$Reader", name := "clause", desc := "()V" } : Jvm.MethodName) prog_13_method_12_code (1 : Nat) (Option.none : Option Jvm.ClassFile.FieldType)) ∈ lw_all := lw_g (lw_at lw_m3 150 rfl) rfl
theorem q707 : (Jvm.Cond.methodLink "GeeseKeys$Reader" (34 : Nat) ({ cls := "GeeseKeys$Reader", name := "here", desc := "()I" } : Jvm.MethodName)) ∈ lw_all := lw_g (lw_at lw_m3 151 rfl) rfl
theorem q708 : (Jvm.Cond.privateMethod ({ cls := "GeeseKeys$Reader", name := "here", desc := "()I" } : Jvm.MethodName)) ∈ lw_tbl := lw_at lw_m3 152 rfl
theorem q709 : (Jvm.Cond.instanceMethod ({ cls := "GeeseKeys$Reader", name := "here", desc := "()I" } : Jvm.MethodName)) ∈ lw_all := lw_g (lw_at lw_m3 153 rfl) rfl
theorem q710 : (Jvm.Cond.code ({ cls := "GeeseKeys$Reader", name := "here", desc := "()I" } : Jvm.MethodName) prog_13_method_2_code (1 : Nat) (Option.some Jvm.ClassFile.FieldType.int)) ∈ lw_all := lw_g (lw_at lw_m3 154 rfl) rfl
theorem q711 : (Jvm.Cond.stringRef "GeeseKeys$Reader" (114 : Nat) "lure ") ∈ lw_tbl := lw_at lw_m3 155 rfl
theorem q712 : (Jvm.Cond.methodLink "GeeseKeys$Reader" (116 : Nat) ({ cls := "GeeseKeys$Reader", name := "tested", desc := "(Ljava/lang/String;I)V" } : Jvm.MethodName)) ∈ lw_all := lw_g (lw_at lw_m3 156 rfl) rfl
theorem q713 : (Jvm.Cond.privateMethod ({ cls := "GeeseKeys$Reader", name := "tested", desc := "(Ljava/lang/String;I)V" } : Jvm.MethodName)) ∈ lw_tbl := lw_at lw_m3 157 rfl
theorem q714 : (Jvm.Cond.instanceMethod ({ cls := "GeeseKeys$Reader", name := "tested", desc := "(Ljava/lang/String;I)V" } : Jvm.MethodName)) ∈ lw_all := lw_g (lw_at lw_m3 158 rfl) rfl
theorem q715 : (Jvm.Cond.code ({ cls := "GeeseKeys$Reader", name := "tested", desc := "(Ljava/lang/String;I)V" } : Jvm.MethodName) prog_13_method_11_code (4 : Nat) (Option.none : Option Jvm.ClassFile.FieldType)) ∈ lw_all := lw_g (lw_at lw_m3 159 rfl) rfl
theorem q716 : (Jvm.Cond.methodLink "GeeseKeys$Reader" (102 : Nat) ({ cls := "GeeseKeys$Reader", name := "word", desc := "(Ljava/lang/String;)V" } : Jvm.MethodName)) ∈ lw_all := lw_g (lw_at lw_m3 160 rfl) rfl
theorem q717 : (Jvm.Cond.privateMethod ({ cls := "GeeseKeys$Reader", name := "word", desc := "(Ljava/lang/String;)V" } : Jvm.MethodName)) ∈ lw_tbl := lw_at lw_m3 161 rfl
theorem q718 : (Jvm.Cond.instanceMethod ({ cls := "GeeseKeys$Reader", name := "word", desc := "(Ljava/lang/String;)V" } : Jvm.MethodName)) ∈ lw_all := lw_g (lw_at lw_m3 162 rfl) rfl
theorem q719 : (Jvm.Cond.code ({ cls := "GeeseKeys$Reader", name := "word", desc := "(Ljava/lang/String;)V" } : Jvm.MethodName) prog_13_method_5_code (3 : Nat) (Option.none : Option Jvm.ClassFile.FieldType)) ∈ lw_all := lw_g (lw_at lw_m3 163 rfl) rfl
theorem q720 : (Jvm.Cond.methodLink "GeeseKeys$Reader" (42 : Nat) ({ cls := "java/lang/String", name := "length", desc := "()I" } : Jvm.MethodName)) ∈ lw_all := lw_g (lw_at lw_m3 164 rfl) rfl
theorem q730 : (Jvm.Cond.methodLink "GeeseKeys$Reader" (47 : Nat) ({ cls := "java/lang/String", name := "charAt", desc := "(I)C" } : Jvm.MethodName)) ∈ lw_all := lw_g (lw_at lw_m3 174 rfl) rfl
theorem q766 : (Jvm.Cond.methodLink "GeeseKeys$Reader" (51 : Nat) ({ cls := "GeeseKeys$Reader", name := "must", desc := "(I)V" } : Jvm.MethodName)) ∈ lw_all := lw_g (lw_at lw_m3 210 rfl) rfl
theorem q767 : (Jvm.Cond.privateMethod ({ cls := "GeeseKeys$Reader", name := "must", desc := "(I)V" } : Jvm.MethodName)) ∈ lw_tbl := lw_at lw_m3 211 rfl
theorem q768 : (Jvm.Cond.instanceMethod ({ cls := "GeeseKeys$Reader", name := "must", desc := "(I)V" } : Jvm.MethodName)) ∈ lw_all := lw_g (lw_at lw_m3 212 rfl) rfl
theorem q769 : (Jvm.Cond.code ({ cls := "GeeseKeys$Reader", name := "must", desc := "(I)V" } : Jvm.MethodName) prog_13_method_4_code (2 : Nat) (Option.none : Option Jvm.ClassFile.FieldType)) ∈ lw_all := lw_g (lw_at lw_m3 213 rfl) rfl
theorem q770 : (Jvm.Cond.methodLink "GeeseKeys$Reader" (38 : Nat) ({ cls := "GeeseKeys$Reader", name := "off", desc := "()LGeeseKeys$Off;" } : Jvm.MethodName)) ∈ lw_all := lw_g (lw_at lw_m3 214 rfl) rfl
theorem q771 : (Jvm.Cond.privateMethod ({ cls := "GeeseKeys$Reader", name := "off", desc := "()LGeeseKeys$Off;" } : Jvm.MethodName)) ∈ lw_tbl := lw_at lw_m3 215 rfl
theorem q772 : (Jvm.Cond.instanceMethod ({ cls := "GeeseKeys$Reader", name := "off", desc := "()LGeeseKeys$Off;" } : Jvm.MethodName)) ∈ lw_all := lw_g (lw_at lw_m3 216 rfl) rfl
theorem q773 : (Jvm.Cond.code ({ cls := "GeeseKeys$Reader", name := "off", desc := "()LGeeseKeys$Off;" } : Jvm.MethodName) prog_13_method_3_code (1 : Nat) (Option.some (Jvm.ClassFile.FieldType.object "GeeseKeys$Off"))) ∈ lw_all := lw_g (lw_at lw_m3 217 rfl) rfl
theorem q774 : (Jvm.Cond.classLink "GeeseKeys$Reader" (29 : Nat) "GeeseKeys$Off") ∈ lw_all := lw_g (lw_at lw_m3 218 rfl) rfl
theorem q831 : (Jvm.Cond.methodLink "GeeseKeys$Reader" (31 : Nat) ({ cls := "GeeseKeys$Off", name := "<init>", desc := "(I)V" } : Jvm.MethodName)) ∈ lw_all := lw_g (lw_at lw_m4 35 rfl) rfl
theorem q858 : (Jvm.Cond.methodLink "GeeseKeys$Reader" (78 : Nat) ({ cls := "GeeseKeys$Reader", name := "number", desc := "()I" } : Jvm.MethodName)) ∈ lw_all := lw_g (lw_at lw_m4 62 rfl) rfl
theorem q859 : (Jvm.Cond.privateMethod ({ cls := "GeeseKeys$Reader", name := "number", desc := "()I" } : Jvm.MethodName)) ∈ lw_tbl := lw_at lw_m4 63 rfl
theorem q860 : (Jvm.Cond.instanceMethod ({ cls := "GeeseKeys$Reader", name := "number", desc := "()I" } : Jvm.MethodName)) ∈ lw_all := lw_g (lw_at lw_m4 64 rfl) rfl
theorem q861 : (Jvm.Cond.code ({ cls := "GeeseKeys$Reader", name := "number", desc := "()I" } : Jvm.MethodName) prog_13_method_6_code (3 : Nat) (Option.some Jvm.ClassFile.FieldType.int)) ∈ lw_all := lw_g (lw_at lw_m4 65 rfl) rfl
theorem q862 : (Jvm.Cond.methodLinkNest "GeeseKeys$Reader" (54 : Nat) ({ cls := "GeeseKeys", name := "in", desc := "(III)Z" } : Jvm.MethodName) "GeeseKeys") ∈ lw_tbl := lw_at lw_m4 66 rfl
theorem q863 : (Jvm.Cond.classLink "GeeseKeys$Reader" (109 : Nat) "GeeseKeys$Clause") ∈ lw_all := lw_g (lw_at lw_m4 67 rfl) rfl
theorem q865 : (Jvm.Cond.methodLink "GeeseKeys$Reader" (73 : Nat) ({ cls := "GeeseKeys$Reader", name := "some", desc := "()LGeeseKeys$Test;" } : Jvm.MethodName)) ∈ lw_all := lw_g (lw_at lw_m4 69 rfl) rfl
theorem q866 : (Jvm.Cond.privateMethod ({ cls := "GeeseKeys$Reader", name := "some", desc := "()LGeeseKeys$Test;" } : Jvm.MethodName)) ∈ lw_tbl := lw_at lw_m4 70 rfl
theorem q867 : (Jvm.Cond.instanceMethod ({ cls := "GeeseKeys$Reader", name := "some", desc := "()LGeeseKeys$Test;" } : Jvm.MethodName)) ∈ lw_all := lw_g (lw_at lw_m4 71 rfl) rfl
theorem q868 : (Jvm.Cond.code ({ cls := "GeeseKeys$Reader", name := "some", desc := "()LGeeseKeys$Test;" } : Jvm.MethodName) prog_13_method_10_code (2 : Nat) (Option.some (Jvm.ClassFile.FieldType.object "GeeseKeys$Test"))) ∈ lw_all := lw_g (lw_at lw_m4 72 rfl) rfl
theorem q869 : (Jvm.Cond.classLink "GeeseKeys$Reader" (84 : Nat) "GeeseKeys$Some") ∈ lw_all := lw_g (lw_at lw_m4 73 rfl) rfl
theorem q871 : (Jvm.Cond.methodLink "GeeseKeys$Reader" (86 : Nat) ({ cls := "GeeseKeys$Some", name := "<init>", desc := "(Z)V" } : Jvm.MethodName)) ∈ lw_all := lw_g (lw_at lw_m4 75 rfl) rfl
theorem q882 : (Jvm.Cond.fieldLinkNest "GeeseKeys$Reader" (89 : Nat) "GeeseKeys$Some" "of" "Ljava/util/ArrayList;" "GeeseKeys") ∈ lw_tbl := lw_at lw_m4 86 rfl
theorem q888 : (Jvm.Cond.methodLink "GeeseKeys$Reader" (99 : Nat) ({ cls := "GeeseKeys$Reader", name := "all", desc := "()LGeeseKeys$Test;" } : Jvm.MethodName)) ∈ lw_all := lw_g (lw_at lw_m4 92 rfl) rfl
theorem q889 : (Jvm.Cond.privateMethod ({ cls := "GeeseKeys$Reader", name := "all", desc := "()LGeeseKeys$Test;" } : Jvm.MethodName)) ∈ lw_tbl := lw_at lw_m4 93 rfl
theorem q890 : (Jvm.Cond.instanceMethod ({ cls := "GeeseKeys$Reader", name := "all", desc := "()LGeeseKeys$Test;" } : Jvm.MethodName)) ∈ lw_all := lw_g (lw_at lw_m4 94 rfl) rfl
theorem q891 : (Jvm.Cond.code ({ cls := "GeeseKeys$Reader", name := "all", desc := "()LGeeseKeys$Test;" } : Jvm.MethodName) prog_13_method_9_code (2 : Nat) (Option.some (Jvm.ClassFile.FieldType.object "GeeseKeys$Test"))) ∈ lw_all := lw_g (lw_at lw_m4 95 rfl) rfl
theorem q892 : (Jvm.Cond.methodLink "GeeseKeys$Reader" (66 : Nat) ({ cls := "GeeseKeys$Reader", name := "factor", desc := "()LGeeseKeys$Test;" } : Jvm.MethodName)) ∈ lw_all := lw_g (lw_at lw_m4 96 rfl) rfl
theorem q893 : (Jvm.Cond.privateMethod ({ cls := "GeeseKeys$Reader", name := "factor", desc := "()LGeeseKeys$Test;" } : Jvm.MethodName)) ∈ lw_tbl := lw_at lw_m4 97 rfl
theorem q894 : (Jvm.Cond.instanceMethod ({ cls := "GeeseKeys$Reader", name := "factor", desc := "()LGeeseKeys$Test;" } : Jvm.MethodName)) ∈ lw_all := lw_g (lw_at lw_m4 98 rfl) rfl
theorem q895 : (Jvm.Cond.code ({ cls := "GeeseKeys$Reader", name := "factor", desc := "()LGeeseKeys$Test;" } : Jvm.MethodName) prog_13_method_8_code (3 : Nat) (Option.some (Jvm.ClassFile.FieldType.object "GeeseKeys$Test"))) ∈ lw_all := lw_g (lw_at lw_m4 99 rfl) rfl
theorem q896 : (Jvm.Cond.methodLink "GeeseKeys$Reader" (61 : Nat) ({ cls := "GeeseKeys$Reader", name := "deeper", desc := "()V" } : Jvm.MethodName)) ∈ lw_all := lw_g (lw_at lw_m4 100 rfl) rfl
theorem q897 : (Jvm.Cond.privateMethod ({ cls := "GeeseKeys$Reader", name := "deeper", desc := "()V" } : Jvm.MethodName)) ∈ lw_tbl := lw_at lw_m4 101 rfl
theorem q898 : (Jvm.Cond.instanceMethod ({ cls := "GeeseKeys$Reader", name := "deeper", desc := "()V" } : Jvm.MethodName)) ∈ lw_all := lw_g (lw_at lw_m4 102 rfl) rfl
theorem q899 : (Jvm.Cond.code ({ cls := "GeeseKeys$Reader", name := "deeper", desc := "()V" } : Jvm.MethodName) prog_13_method_7_code (1 : Nat) (Option.none : Option Jvm.ClassFile.FieldType)) ∈ lw_all := lw_g (lw_at lw_m4 103 rfl) rfl
theorem q900 : (Jvm.Cond.classLink "GeeseKeys$Reader" (64 : Nat) "GeeseKeys$Not") ∈ lw_all := lw_g (lw_at lw_m4 104 rfl) rfl
theorem q902 : (Jvm.Cond.methodLink "GeeseKeys$Reader" (70 : Nat) ({ cls := "GeeseKeys$Not", name := "<init>", desc := "(LGeeseKeys$Test;)V" } : Jvm.MethodName)) ∈ lw_all := lw_g (lw_at lw_m4 106 rfl) rfl
theorem q910 : (Jvm.Cond.classLink "GeeseKeys$Reader" (76 : Nat) "GeeseKeys$Against") ∈ lw_all := lw_g (lw_at lw_m4 114 rfl) rfl
theorem q912 : (Jvm.Cond.methodLink "GeeseKeys$Reader" (81 : Nat) ({ cls := "GeeseKeys$Against", name := "<init>", desc := "(III)V" } : Jvm.MethodName)) ∈ lw_all := lw_g (lw_at lw_m4 116 rfl) rfl
theorem q926 : (Jvm.Cond.methodLink "GeeseKeys$Reader" (93 : Nat) ({ cls := "java/util/ArrayList", name := "add", desc := "(Ljava/lang/Object;)Z" } : Jvm.MethodName)) ∈ lw_all := lw_g (lw_at lw_m4 130 rfl) rfl
theorem q970 : (Jvm.Cond.selects "GeeseKeys$Reader" ({ cls := "java/lang/Object", name := "getClass", desc := "()Ljava/lang/Class;" } : Jvm.MethodName) ({ cls := "java/lang/Object", name := "getClass", desc := "()Ljava/lang/Class;" } : Jvm.MethodName)) ∈ lw_all := lw_g (lw_at lw_m4 174 rfl) rfl
theorem q999 : (Jvm.Cond.methodLink "GeeseKeys$Reader" (111 : Nat) ({ cls := "GeeseKeys$Clause", name := "<init>", desc := "(ILGeeseKeys$Test;)V" } : Jvm.MethodName)) ∈ lw_all := lw_g (lw_at lw_m4 203 rfl) rfl
theorem q1012 : (Jvm.Cond.stringRef "GeeseKeys$Reader" (120 : Nat) "scare ") ∈ lw_tbl := lw_at lw_m4 216 rfl
theorem q1013 : (Jvm.Cond.stringRef "GeeseKeys$Reader" (122 : Nat) "eat ") ∈ lw_tbl := lw_at lw_m4 217 rfl
theorem q1882 : (Jvm.Cond.castable "GeeseKeys$Reader" "java/lang/Object") ∈ lw_tbl := lw_at lw_m8 126 rfl
theorem in_X14 : ∀ w ∈ wsX140, w ∈ lw_all := lw_in wsX140 [688, 690, 692, 694, 696] (by decide +kernel) (by decide +kernel)
/-! GeeseKeys$Off -/
set_option maxRecDepth 100000
def RX15 : String := "GeeseKeys$Off"
def TX15 : u_T := fun k => match k with
  | 0 => ("java/lang/Throwable", "cause", "Ljava/lang/Throwable;", false)
  | 1 => ("java/lang/Throwable", "stackTrace", "[Ljava/lang/StackTraceElement;", false)
  | 2 => ("java/lang/Throwable", "suppressedExceptions", "Ljava/util/List;", false)
  | 3 => ("java/lang/Throwable", "detailMessage", "Ljava/lang/String;", false)
  | 4 => ("java/lang/Throwable", "backtrace", "Ljava/lang/Object;", false)
  | 5 => ("java/lang/Throwable", "depth", "I", false)
  | _ => ("GeeseKeys$Off", "place", "I", true)
def tyX15 : Nat → FieldType := fun k => match k with
  | 0 => .object "java/lang/Throwable"
  | 1 => .array (.object "java/lang/StackTraceElement")
  | 2 => .object "java/util/List"
  | 3 => .object "java/lang/String"
  | 4 => .object "java/lang/Object"
  | 5 => .int
  | _ => .int
abbrev wsX150 : List Cond := u_ws RX15 TX15 7
theorem nmX15 : ∀ a, a < 7 → ∀ b, b < 7 → a ≠ b → (TX15 a).2.1 ≠ (TX15 b).2.1 := by decide +kernel
theorem tyX15_ok : ∀ k, k < 7 → parseFieldDescriptor (TX15 k).2.2.1 = some (tyX15 k) := by decide +kernel
abbrev cX15_init : ByteArray := prog_11_method_1_code
def yX15_init : MethodName := ⟨RX15, "<init>", "(I)V"⟩
def dkwX15_init_0 : List UInt8 := [42, 183, 0, 1, 42, 27, 181, 0, 7, 177]
abbrev dktX15_init_0 : List UInt8 := dkwX15_init_0 ++ []
theorem dksX15_init_0 : cX15_init.data.toList.drop 0 = dktX15_init_0 := by decide +kernel
theorem dX15_init_0 : decode cX15_init 0 = .ok (.aload_n 0, 1) := dk_42 (dk_at dksX15_init_0 0 rfl rfl)
theorem dX15_init_1 : decode cX15_init 1 = .ok (.invokespecial 1, 3) := dk_183 0 1 (dk_at dksX15_init_0 1 rfl rfl)
theorem dX15_init_4 : decode cX15_init 4 = .ok (.aload_n 0, 1) := dk_42 (dk_at dksX15_init_0 4 rfl rfl)
theorem dX15_init_5 : decode cX15_init 5 = .ok (.iload_n 1, 1) := dk_27 (dk_at dksX15_init_0 5 rfl rfl)
theorem dX15_init_6 : decode cX15_init 6 = .ok (.putfield 7, 3) := dk_181 0 7 (dk_at dksX15_init_0 6 rfl rfl)
theorem dX15_init_9 : decode cX15_init 9 = .ok (.return_, 1) := dk_177 (dk_at dksX15_init_0 9 rfl rfl)
theorem q103 : (Jvm.Cond.initialized "GeeseKeys$Off") ∈ lw_all := lw_g (lw_at lw_m1 27 rfl) rfl
theorem q775 : (Jvm.Cond.instantiable "GeeseKeys$Off" (7 : Nat)) ∈ lw_all := lw_g (lw_at lw_m3 219 rfl) rfl
theorem q776 : (Jvm.Cond.castable "GeeseKeys$Off" "GeeseKeys$Off") ∈ lw_tbl := lw_at lw_m3 220 rfl
theorem q783 : (Jvm.Cond.selects "GeeseKeys$Off" ({ cls := "java/lang/Throwable", name := "fillInStackTrace", desc := "(I)Ljava/lang/Throwable;" } : Jvm.MethodName) ({ cls := "java/lang/Throwable", name := "fillInStackTrace", desc := "(I)Ljava/lang/Throwable;" } : Jvm.MethodName)) ∈ lw_all := lw_g (lw_at lw_m3 227 rfl) rfl
theorem q784 : (Jvm.Cond.selects "GeeseKeys$Off" ({ cls := "java/lang/Throwable", name := "fillInStackTrace", desc := "()Ljava/lang/Throwable;" } : Jvm.MethodName) ({ cls := "java/lang/Throwable", name := "fillInStackTrace", desc := "()Ljava/lang/Throwable;" } : Jvm.MethodName)) ∈ lw_all := lw_g (lw_at lw_m3 228 rfl) rfl
theorem q785 : (Jvm.Cond.lays "GeeseKeys$Off" "java/lang/Throwable" "cause" "Ljava/lang/Throwable;") ∈ lw_all := lw_g (lw_at lw_m3 229 rfl) rfl
theorem q787 : (Jvm.Cond.lays "GeeseKeys$Off" "java/lang/Throwable" "stackTrace" "[Ljava/lang/StackTraceElement;") ∈ lw_all := lw_g (lw_at lw_m3 231 rfl) rfl
theorem q789 : (Jvm.Cond.lays "GeeseKeys$Off" "java/lang/Throwable" "suppressedExceptions" "Ljava/util/List;") ∈ lw_all := lw_g (lw_at lw_m3 233 rfl) rfl
theorem q791 : (Jvm.Cond.lays "GeeseKeys$Off" "java/lang/Throwable" "detailMessage" "Ljava/lang/String;") ∈ lw_all := lw_g (lw_at lw_m3 235 rfl) rfl
theorem q793 : (Jvm.Cond.lays "GeeseKeys$Off" "java/lang/Throwable" "backtrace" "Ljava/lang/Object;") ∈ lw_all := lw_g (lw_at lw_m3 237 rfl) rfl
theorem q832 : (Jvm.Cond.instanceMethod ({ cls := "GeeseKeys$Off", name := "<init>", desc := "(I)V" } : Jvm.MethodName)) ∈ lw_all := lw_g (lw_at lw_m4 36 rfl) rfl
theorem q833 : (Jvm.Cond.code ({ cls := "GeeseKeys$Off", name := "<init>", desc := "(I)V" } : Jvm.MethodName) prog_11_method_1_code (2 : Nat) (Option.none : Option Jvm.ClassFile.FieldType)) ∈ lw_all := lw_g (lw_at lw_m4 37 rfl) rfl
theorem q834 : (Jvm.Cond.methodLink "GeeseKeys$Off" (1 : Nat) ({ cls := "java/lang/RuntimeException", name := "<init>", desc := "()V" } : Jvm.MethodName)) ∈ lw_all := lw_g (lw_at lw_m4 38 rfl) rfl
theorem q841 : (Jvm.Cond.fieldLink "GeeseKeys$Off" (7 : Nat) "GeeseKeys$Off" "place" "I") ∈ lw_all := lw_g (lw_at lw_m4 45 rfl) rfl
theorem q848 : (Jvm.Cond.laysFinal "GeeseKeys$Off" "GeeseKeys$Off" "place" "I") ∈ lw_all := lw_g (lw_at lw_m4 52 rfl) rfl
theorem q849 : (Jvm.Cond.soleField "GeeseKeys$Off" "place") ∈ lw_all := lw_g (lw_at lw_m4 53 rfl) rfl
theorem q854 : (Jvm.Cond.lays "GeeseKeys$Off" "java/lang/Throwable" "depth" "I") ∈ lw_all := lw_g (lw_at lw_m4 58 rfl) rfl
theorem q857 : (Jvm.Cond.superclass "GeeseKeys$Off" "java/lang/RuntimeException") ∈ lw_all := lw_g (lw_at lw_m4 61 rfl) rfl
theorem q968 : (Jvm.Cond.selects "GeeseKeys$Off" ({ cls := "java/lang/Object", name := "getClass", desc := "()Ljava/lang/Class;" } : Jvm.MethodName) ({ cls := "java/lang/Object", name := "getClass", desc := "()Ljava/lang/Class;" } : Jvm.MethodName)) ∈ lw_all := lw_g (lw_at lw_m4 172 rfl) rfl
theorem q1883 : (Jvm.Cond.castable "GeeseKeys$Off" "java/lang/Object") ∈ lw_tbl := lw_at lw_m8 127 rfl
theorem in_X15 : ∀ w ∈ wsX150, w ∈ lw_all := lw_in wsX150 [785, 787, 789, 791, 793, 854, 848] (by decide +kernel) (by decide +kernel)
/-! GeeseKeys$Clause -/
set_option maxRecDepth 100000
def RX16 : String := "GeeseKeys$Clause"
def TX16 : u_T := fun k => match k with
  | 0 => ("GeeseKeys$Clause", "n", "I", true)
  | _ => ("GeeseKeys$Clause", "test", "LGeeseKeys$Test;", true)
def tyX16 : Nat → FieldType := fun k => match k with
  | 0 => .int
  | _ => .object "GeeseKeys$Test"
abbrev wsX160 : List Cond := u_ws RX16 TX16 2
theorem nmX16 : ∀ a, a < 2 → ∀ b, b < 2 → a ≠ b → (TX16 a).2.1 ≠ (TX16 b).2.1 := by decide +kernel
theorem tyX16_ok : ∀ k, k < 2 → parseFieldDescriptor (TX16 k).2.2.1 = some (tyX16 k) := by decide +kernel
abbrev cX16_init : ByteArray := prog_3_method_1_code
def yX16_init : MethodName := ⟨RX16, "<init>", "(ILGeeseKeys$Test;)V"⟩
def dkwX16_init_0 : List UInt8 := [42, 183, 0, 1, 42, 27, 181, 0, 7, 42, 44, 181, 0, 13, 177]
abbrev dktX16_init_0 : List UInt8 := dkwX16_init_0 ++ []
theorem dksX16_init_0 : cX16_init.data.toList.drop 0 = dktX16_init_0 := by decide +kernel
theorem dX16_init_0 : decode cX16_init 0 = .ok (.aload_n 0, 1) := dk_42 (dk_at dksX16_init_0 0 rfl rfl)
theorem dX16_init_1 : decode cX16_init 1 = .ok (.invokespecial 1, 3) := dk_183 0 1 (dk_at dksX16_init_0 1 rfl rfl)
theorem dX16_init_4 : decode cX16_init 4 = .ok (.aload_n 0, 1) := dk_42 (dk_at dksX16_init_0 4 rfl rfl)
theorem dX16_init_5 : decode cX16_init 5 = .ok (.iload_n 1, 1) := dk_27 (dk_at dksX16_init_0 5 rfl rfl)
theorem dX16_init_6 : decode cX16_init 6 = .ok (.putfield 7, 3) := dk_181 0 7 (dk_at dksX16_init_0 6 rfl rfl)
theorem dX16_init_9 : decode cX16_init 9 = .ok (.aload_n 0, 1) := dk_42 (dk_at dksX16_init_0 9 rfl rfl)
theorem dX16_init_10 : decode cX16_init 10 = .ok (.aload_n 2, 1) := dk_44 (dk_at dksX16_init_0 10 rfl rfl)
theorem dX16_init_11 : decode cX16_init 11 = .ok (.putfield 13, 3) := dk_181 0 13 (dk_at dksX16_init_0 11 rfl rfl)
theorem dX16_init_14 : decode cX16_init 14 = .ok (.return_, 1) := dk_177 (dk_at dksX16_init_0 14 rfl rfl)
theorem q104 : (Jvm.Cond.initialized "GeeseKeys$Clause") ∈ lw_all := lw_g (lw_at lw_m1 28 rfl) rfl
theorem q864 : (Jvm.Cond.instantiable "GeeseKeys$Clause" (2 : Nat)) ∈ lw_all := lw_g (lw_at lw_m4 68 rfl) rfl
theorem q960 : (Jvm.Cond.selects "GeeseKeys$Clause" ({ cls := "java/lang/Object", name := "getClass", desc := "()Ljava/lang/Class;" } : Jvm.MethodName) ({ cls := "java/lang/Object", name := "getClass", desc := "()Ljava/lang/Class;" } : Jvm.MethodName)) ∈ lw_all := lw_g (lw_at lw_m4 164 rfl) rfl
theorem q1000 : (Jvm.Cond.instanceMethod ({ cls := "GeeseKeys$Clause", name := "<init>", desc := "(ILGeeseKeys$Test;)V" } : Jvm.MethodName)) ∈ lw_all := lw_g (lw_at lw_m4 204 rfl) rfl
theorem q1001 : (Jvm.Cond.code ({ cls := "GeeseKeys$Clause", name := "<init>", desc := "(ILGeeseKeys$Test;)V" } : Jvm.MethodName) prog_3_method_1_code (3 : Nat) (Option.none : Option Jvm.ClassFile.FieldType)) ∈ lw_all := lw_g (lw_at lw_m4 205 rfl) rfl
theorem q1002 : (Jvm.Cond.methodLink "GeeseKeys$Clause" (1 : Nat) ({ cls := "java/lang/Object", name := "<init>", desc := "()V" } : Jvm.MethodName)) ∈ lw_all := lw_g (lw_at lw_m4 206 rfl) rfl
theorem q1003 : (Jvm.Cond.fieldLink "GeeseKeys$Clause" (7 : Nat) "GeeseKeys$Clause" "n" "I") ∈ lw_all := lw_g (lw_at lw_m4 207 rfl) rfl
theorem q1005 : (Jvm.Cond.fieldLink "GeeseKeys$Clause" (13 : Nat) "GeeseKeys$Clause" "test" "LGeeseKeys$Test;") ∈ lw_all := lw_g (lw_at lw_m4 209 rfl) rfl
theorem q1007 : (Jvm.Cond.laysFinal "GeeseKeys$Clause" "GeeseKeys$Clause" "n" "I") ∈ lw_all := lw_g (lw_at lw_m4 211 rfl) rfl
theorem q1008 : (Jvm.Cond.soleField "GeeseKeys$Clause" "n") ∈ lw_all := lw_g (lw_at lw_m4 212 rfl) rfl
theorem q1009 : (Jvm.Cond.laysFinal "GeeseKeys$Clause" "GeeseKeys$Clause" "test" "LGeeseKeys$Test;") ∈ lw_all := lw_g (lw_at lw_m4 213 rfl) rfl
theorem q1010 : (Jvm.Cond.soleField "GeeseKeys$Clause" "test") ∈ lw_all := lw_g (lw_at lw_m4 214 rfl) rfl
theorem q1011 : (Jvm.Cond.superclass "GeeseKeys$Clause" "java/lang/Object") ∈ lw_all := lw_g (lw_at lw_m4 215 rfl) rfl
theorem q1884 : (Jvm.Cond.castable "GeeseKeys$Clause" "java/lang/Object") ∈ lw_tbl := lw_at lw_m8 128 rfl
theorem in_X16 : ∀ w ∈ wsX160, w ∈ lw_all := lw_in wsX160 [1007, 1009] (by decide +kernel) (by decide +kernel)
/-! GeeseKeys$Test -/
set_option maxRecDepth 100000
def RX17 : String := "GeeseKeys$Test"
abbrev cX17_init : ByteArray := prog_18_method_1_code
def yX17_init : MethodName := ⟨RX17, "<init>", "()V"⟩
theorem dX17_init_0 : decode cX17_init 0 = .ok (.aload_n 0, 1) := by decide +kernel
theorem dX17_init_1 : decode cX17_init 1 = .ok (.invokespecial 1, 3) := by decide +kernel
theorem dX17_init_4 : decode cX17_init 4 = .ok (.return_, 1) := by decide +kernel
theorem q105 : (Jvm.Cond.initialized "GeeseKeys$Test") ∈ lw_all := lw_g (lw_at lw_m1 29 rfl) rfl
theorem q576 : (Jvm.Cond.declares ({ cls := "GeeseKeys$Test", name := "holds", desc := "(LGeeseKeys$Look;)Z" } : Jvm.MethodName)) ∈ lw_tbl := lw_at lw_m3 20 rfl
theorem q577 : (Jvm.Cond.sameMethod "GeeseKeys$Test" "GeeseKeys$Test" "holds" "(LGeeseKeys$Look;)Z") ∈ lw_all := lw_g (lw_at lw_m3 21 rfl) rfl
theorem q875 : (Jvm.Cond.instanceMethod ({ cls := "GeeseKeys$Test", name := "<init>", desc := "()V" } : Jvm.MethodName)) ∈ lw_all := lw_g (lw_at lw_m4 79 rfl) rfl
theorem q876 : (Jvm.Cond.code ({ cls := "GeeseKeys$Test", name := "<init>", desc := "()V" } : Jvm.MethodName) prog_18_method_1_code (1 : Nat) (Option.none : Option Jvm.ClassFile.FieldType)) ∈ lw_all := lw_g (lw_at lw_m4 80 rfl) rfl
theorem q877 : (Jvm.Cond.methodLink "GeeseKeys$Test" (1 : Nat) ({ cls := "java/lang/Object", name := "<init>", desc := "()V" } : Jvm.MethodName)) ∈ lw_all := lw_g (lw_at lw_m4 81 rfl) rfl
/-! GeeseKeys$Some -/
set_option maxRecDepth 100000
def RX18 : String := "GeeseKeys$Some"
def TX18 : u_T := fun k => match k with
  | 0 => ("GeeseKeys$Some", "isAll", "Z", true)
  | _ => ("GeeseKeys$Some", "of", "Ljava/util/ArrayList;", true)
def tyX18 : Nat → FieldType := fun k => match k with
  | 0 => .boolean
  | _ => .object "java/util/ArrayList"
abbrev wsX180 : List Cond := u_ws RX18 TX18 2
theorem nmX18 : ∀ a, a < 2 → ∀ b, b < 2 → a ≠ b → (TX18 a).2.1 ≠ (TX18 b).2.1 := by decide +kernel
theorem tyX18_ok : ∀ k, k < 2 → parseFieldDescriptor (TX18 k).2.2.1 = some (tyX18 k) := by decide +kernel
abbrev cX18_holds : ByteArray := prog_15_method_2_code
def yX18_holds : MethodName := ⟨RX18, "holds", "(LGeeseKeys$Look;)Z"⟩
def dkwX18_holds_2 : List UInt8 := [132, 2, 1, 167, 255, 207, 42, 180, 0, 16, 172]
abbrev dktX18_holds_2 : List UInt8 := dkwX18_holds_2 ++ []
def dkwX18_holds_1 : List UInt8 := [43, 182, 0, 28, 42, 180, 0, 16, 159, 0, 16, 42, 180, 0, 16, 154, 0, 7, 4, 167, 0, 4, 3, 172]
abbrev dktX18_holds_1 : List UInt8 := dkwX18_holds_1 ++ dktX18_holds_2
def dkwX18_holds_0 : List UInt8 := [3, 61, 28, 42, 180, 0, 10, 182, 0, 20, 162, 0, 44, 42, 180, 0, 10, 28, 182, 0, 24, 192, 0, 2]
abbrev dktX18_holds_0 : List UInt8 := dkwX18_holds_0 ++ dktX18_holds_1
theorem dksX18_holds_0 : cX18_holds.data.toList.drop 0 = dktX18_holds_0 := by decide +kernel
theorem dksX18_holds_1 : cX18_holds.data.toList.drop 24 = dktX18_holds_1 := dk_seg dksX18_holds_0 24 rfl rfl
theorem dksX18_holds_2 : cX18_holds.data.toList.drop 48 = dktX18_holds_2 := dk_seg dksX18_holds_1 24 rfl rfl
theorem dX18_holds_0 : decode cX18_holds 0 = .ok (.iconst 0, 1) := dk_3 (dk_at dksX18_holds_0 0 rfl rfl)
theorem dX18_holds_1 : decode cX18_holds 1 = .ok (.istore_n 2, 1) := dk_61 (dk_at dksX18_holds_0 1 rfl rfl)
theorem dX18_holds_2 : decode cX18_holds 2 = .ok (.iload_n 2, 1) := dk_28 (dk_at dksX18_holds_0 2 rfl rfl)
theorem dX18_holds_3 : decode cX18_holds 3 = .ok (.aload_n 0, 1) := dk_42 (dk_at dksX18_holds_0 3 rfl rfl)
theorem dX18_holds_4 : decode cX18_holds 4 = .ok (.getfield 10, 3) := dk_180 0 10 (dk_at dksX18_holds_0 4 rfl rfl)
theorem dX18_holds_7 : decode cX18_holds 7 = .ok (.invokevirtual 20, 3) := dk_182 0 20 (dk_at dksX18_holds_0 7 rfl rfl)
theorem dX18_holds_10 : decode cX18_holds 10 = .ok (.if_icmp .ge 44, 3) := dk_162 0 44 (dk_at dksX18_holds_0 10 rfl rfl)
theorem dX18_holds_13 : decode cX18_holds 13 = .ok (.aload_n 0, 1) := dk_42 (dk_at dksX18_holds_0 13 rfl rfl)
theorem dX18_holds_14 : decode cX18_holds 14 = .ok (.getfield 10, 3) := dk_180 0 10 (dk_at dksX18_holds_0 14 rfl rfl)
theorem dX18_holds_17 : decode cX18_holds 17 = .ok (.iload_n 2, 1) := dk_28 (dk_at dksX18_holds_0 17 rfl rfl)
theorem dX18_holds_18 : decode cX18_holds 18 = .ok (.invokevirtual 24, 3) := dk_182 0 24 (dk_at dksX18_holds_0 18 rfl rfl)
theorem dX18_holds_21 : decode cX18_holds 21 = .ok (.checkcast 2, 3) := dk_192 0 2 (dk_at dksX18_holds_0 21 rfl rfl)
theorem dX18_holds_24 : decode cX18_holds 24 = .ok (.aload_n 1, 1) := dk_43 (dk_at dksX18_holds_1 0 rfl rfl)
theorem dX18_holds_25 : decode cX18_holds 25 = .ok (.invokevirtual 28, 3) := dk_182 0 28 (dk_at dksX18_holds_1 1 rfl rfl)
theorem dX18_holds_28 : decode cX18_holds 28 = .ok (.aload_n 0, 1) := dk_42 (dk_at dksX18_holds_1 4 rfl rfl)
theorem dX18_holds_29 : decode cX18_holds 29 = .ok (.getfield 16, 3) := dk_180 0 16 (dk_at dksX18_holds_1 5 rfl rfl)
theorem dX18_holds_32 : decode cX18_holds 32 = .ok (.if_icmp .eq 16, 3) := dk_159 0 16 (dk_at dksX18_holds_1 8 rfl rfl)
theorem dX18_holds_35 : decode cX18_holds 35 = .ok (.aload_n 0, 1) := dk_42 (dk_at dksX18_holds_1 11 rfl rfl)
theorem dX18_holds_36 : decode cX18_holds 36 = .ok (.getfield 16, 3) := dk_180 0 16 (dk_at dksX18_holds_1 12 rfl rfl)
theorem dX18_holds_39 : decode cX18_holds 39 = .ok (.ifCond .ne 7, 3) := dk_154 0 7 (dk_at dksX18_holds_1 15 rfl rfl)
theorem dX18_holds_42 : decode cX18_holds 42 = .ok (.iconst 1, 1) := dk_4 (dk_at dksX18_holds_1 18 rfl rfl)
theorem dX18_holds_43 : decode cX18_holds 43 = .ok (.goto 4, 3) := dk_167 0 4 (dk_at dksX18_holds_1 19 rfl rfl)
theorem dX18_holds_46 : decode cX18_holds 46 = .ok (.iconst 0, 1) := dk_3 (dk_at dksX18_holds_1 22 rfl rfl)
theorem dX18_holds_47 : decode cX18_holds 47 = .ok (.ireturn, 1) := dk_172 (dk_at dksX18_holds_1 23 rfl rfl)
theorem dX18_holds_48 : decode cX18_holds 48 = .ok (.iinc 2 1, 3) := dk_132 2 1 (dk_at dksX18_holds_2 0 rfl rfl)
theorem dX18_holds_51 : decode cX18_holds 51 = .ok (.goto (-49), 3) := dk_167 255 207 (dk_at dksX18_holds_2 3 rfl rfl)
theorem dX18_holds_54 : decode cX18_holds 54 = .ok (.aload_n 0, 1) := dk_42 (dk_at dksX18_holds_2 6 rfl rfl)
theorem dX18_holds_55 : decode cX18_holds 55 = .ok (.getfield 16, 3) := dk_180 0 16 (dk_at dksX18_holds_2 7 rfl rfl)
theorem dX18_holds_58 : decode cX18_holds 58 = .ok (.ireturn, 1) := dk_172 (dk_at dksX18_holds_2 10 rfl rfl)
abbrev cX18_init : ByteArray := prog_15_method_1_code
def yX18_init : MethodName := ⟨RX18, "<init>", "(Z)V"⟩
def dkwX18_init_0 : List UInt8 := [42, 183, 0, 1, 42, 187, 0, 7, 89, 183, 0, 9, 181, 0, 10, 42, 27, 181, 0, 16, 177]
abbrev dktX18_init_0 : List UInt8 := dkwX18_init_0 ++ []
theorem dksX18_init_0 : cX18_init.data.toList.drop 0 = dktX18_init_0 := by decide +kernel
theorem dX18_init_0 : decode cX18_init 0 = .ok (.aload_n 0, 1) := dk_42 (dk_at dksX18_init_0 0 rfl rfl)
theorem dX18_init_1 : decode cX18_init 1 = .ok (.invokespecial 1, 3) := dk_183 0 1 (dk_at dksX18_init_0 1 rfl rfl)
theorem dX18_init_4 : decode cX18_init 4 = .ok (.aload_n 0, 1) := dk_42 (dk_at dksX18_init_0 4 rfl rfl)
theorem dX18_init_5 : decode cX18_init 5 = .ok (.new 7, 3) := dk_187 0 7 (dk_at dksX18_init_0 5 rfl rfl)
theorem dX18_init_8 : decode cX18_init 8 = .ok (.dup, 1) := dk_89 (dk_at dksX18_init_0 8 rfl rfl)
theorem dX18_init_9 : decode cX18_init 9 = .ok (.invokespecial 9, 3) := dk_183 0 9 (dk_at dksX18_init_0 9 rfl rfl)
theorem dX18_init_12 : decode cX18_init 12 = .ok (.putfield 10, 3) := dk_181 0 10 (dk_at dksX18_init_0 12 rfl rfl)
theorem dX18_init_15 : decode cX18_init 15 = .ok (.aload_n 0, 1) := dk_42 (dk_at dksX18_init_0 15 rfl rfl)
theorem dX18_init_16 : decode cX18_init 16 = .ok (.iload_n 1, 1) := dk_27 (dk_at dksX18_init_0 16 rfl rfl)
theorem dX18_init_17 : decode cX18_init 17 = .ok (.putfield 16, 3) := dk_181 0 16 (dk_at dksX18_init_0 17 rfl rfl)
theorem dX18_init_20 : decode cX18_init 20 = .ok (.return_, 1) := dk_177 (dk_at dksX18_init_0 20 rfl rfl)
theorem q106 : (Jvm.Cond.initialized "GeeseKeys$Some") ∈ lw_all := lw_g (lw_at lw_m1 30 rfl) rfl
theorem q589 : (Jvm.Cond.instanceMethod ({ cls := "GeeseKeys$Some", name := "holds", desc := "(LGeeseKeys$Look;)Z" } : Jvm.MethodName)) ∈ lw_all := lw_g (lw_at lw_m3 33 rfl) rfl
theorem q590 : (Jvm.Cond.code ({ cls := "GeeseKeys$Some", name := "holds", desc := "(LGeeseKeys$Look;)Z" } : Jvm.MethodName) prog_15_method_2_code (3 : Nat) (Option.some Jvm.ClassFile.FieldType.boolean)) ∈ lw_all := lw_g (lw_at lw_m3 34 rfl) rfl
theorem q591 : (Jvm.Cond.methodLink "GeeseKeys$Some" (20 : Nat) ({ cls := "java/util/ArrayList", name := "size", desc := "()I" } : Jvm.MethodName)) ∈ lw_all := lw_g (lw_at lw_m3 35 rfl) rfl
theorem q592 : (Jvm.Cond.methodLink "GeeseKeys$Some" (24 : Nat) ({ cls := "java/util/ArrayList", name := "get", desc := "(I)Ljava/lang/Object;" } : Jvm.MethodName)) ∈ lw_all := lw_g (lw_at lw_m3 36 rfl) rfl
theorem q593 : (Jvm.Cond.classLink "GeeseKeys$Some" (2 : Nat) "GeeseKeys$Test") ∈ lw_all := lw_g (lw_at lw_m3 37 rfl) rfl
theorem q594 : (Jvm.Cond.methodLink "GeeseKeys$Some" (28 : Nat) ({ cls := "GeeseKeys$Test", name := "holds", desc := "(LGeeseKeys$Look;)Z" } : Jvm.MethodName)) ∈ lw_all := lw_g (lw_at lw_m3 38 rfl) rfl
theorem q595 : (Jvm.Cond.selects "GeeseKeys$Some" ({ cls := "GeeseKeys$Test", name := "holds", desc := "(LGeeseKeys$Look;)Z" } : Jvm.MethodName) ({ cls := "GeeseKeys$Some", name := "holds", desc := "(LGeeseKeys$Look;)Z" } : Jvm.MethodName)) ∈ lw_all := lw_g (lw_at lw_m3 39 rfl) rfl
theorem q870 : (Jvm.Cond.instantiable "GeeseKeys$Some" (2 : Nat)) ∈ lw_all := lw_g (lw_at lw_m4 74 rfl) rfl
theorem q872 : (Jvm.Cond.instanceMethod ({ cls := "GeeseKeys$Some", name := "<init>", desc := "(Z)V" } : Jvm.MethodName)) ∈ lw_all := lw_g (lw_at lw_m4 76 rfl) rfl
theorem q873 : (Jvm.Cond.code ({ cls := "GeeseKeys$Some", name := "<init>", desc := "(Z)V" } : Jvm.MethodName) prog_15_method_1_code (2 : Nat) (Option.none : Option Jvm.ClassFile.FieldType)) ∈ lw_all := lw_g (lw_at lw_m4 77 rfl) rfl
theorem q874 : (Jvm.Cond.methodLinkNest "GeeseKeys$Some" (1 : Nat) ({ cls := "GeeseKeys$Test", name := "<init>", desc := "()V" } : Jvm.MethodName) "GeeseKeys") ∈ lw_tbl := lw_at lw_m4 78 rfl
theorem q878 : (Jvm.Cond.classLink "GeeseKeys$Some" (7 : Nat) "java/util/ArrayList") ∈ lw_all := lw_g (lw_at lw_m4 82 rfl) rfl
theorem q879 : (Jvm.Cond.methodLink "GeeseKeys$Some" (9 : Nat) ({ cls := "java/util/ArrayList", name := "<init>", desc := "()V" } : Jvm.MethodName)) ∈ lw_all := lw_g (lw_at lw_m4 83 rfl) rfl
theorem q880 : (Jvm.Cond.fieldLink "GeeseKeys$Some" (16 : Nat) "GeeseKeys$Some" "isAll" "Z") ∈ lw_all := lw_g (lw_at lw_m4 84 rfl) rfl
theorem q881 : (Jvm.Cond.fieldLink "GeeseKeys$Some" (10 : Nat) "GeeseKeys$Some" "of" "Ljava/util/ArrayList;") ∈ lw_all := lw_g (lw_at lw_m4 85 rfl) rfl
theorem q883 : (Jvm.Cond.laysFinal "GeeseKeys$Some" "GeeseKeys$Some" "isAll" "Z") ∈ lw_all := lw_g (lw_at lw_m4 87 rfl) rfl
theorem q884 : (Jvm.Cond.soleField "GeeseKeys$Some" "isAll") ∈ lw_all := lw_g (lw_at lw_m4 88 rfl) rfl
theorem q885 : (Jvm.Cond.laysFinal "GeeseKeys$Some" "GeeseKeys$Some" "of" "Ljava/util/ArrayList;") ∈ lw_all := lw_g (lw_at lw_m4 89 rfl) rfl
theorem q886 : (Jvm.Cond.soleField "GeeseKeys$Some" "of") ∈ lw_all := lw_g (lw_at lw_m4 90 rfl) rfl
theorem q887 : (Jvm.Cond.superclass "GeeseKeys$Some" "GeeseKeys$Test") ∈ lw_all := lw_g (lw_at lw_m4 91 rfl) rfl
theorem q972 : (Jvm.Cond.selects "GeeseKeys$Some" ({ cls := "java/lang/Object", name := "getClass", desc := "()Ljava/lang/Class;" } : Jvm.MethodName) ({ cls := "java/lang/Object", name := "getClass", desc := "()Ljava/lang/Class;" } : Jvm.MethodName)) ∈ lw_all := lw_g (lw_at lw_m4 176 rfl) rfl
theorem q1857 : (Jvm.Cond.castable "GeeseKeys$Some" "GeeseKeys$Test") ∈ lw_tbl := lw_at lw_m8 101 rfl
theorem q1885 : (Jvm.Cond.castable "GeeseKeys$Some" "java/lang/Object") ∈ lw_tbl := lw_at lw_m8 129 rfl
theorem in_X18 : ∀ w ∈ wsX180, w ∈ lw_all := lw_in wsX180 [883, 885] (by decide +kernel) (by decide +kernel)
/-! GeeseKeys$Not -/
set_option maxRecDepth 100000
def RX19 : String := "GeeseKeys$Not"
def TX19 : u_T := fun k => match k with
  | _ => ("GeeseKeys$Not", "of", "LGeeseKeys$Test;", true)
def tyX19 : Nat → FieldType := fun k => match k with
  | _ => .object "GeeseKeys$Test"
abbrev wsX190 : List Cond := u_ws RX19 TX19 1
theorem nmX19 : ∀ a, a < 1 → ∀ b, b < 1 → a ≠ b → (TX19 a).2.1 ≠ (TX19 b).2.1 := by decide +kernel
theorem tyX19_ok : ∀ k, k < 1 → parseFieldDescriptor (TX19 k).2.2.1 = some (tyX19 k) := by decide +kernel
abbrev cX19_holds : ByteArray := prog_10_method_2_code
def yX19_holds : MethodName := ⟨RX19, "holds", "(LGeeseKeys$Look;)Z"⟩
def dkwX19_holds_0 : List UInt8 := [42, 180, 0, 7, 43, 182, 0, 13, 154, 0, 7, 4, 167, 0, 4, 3, 172]
abbrev dktX19_holds_0 : List UInt8 := dkwX19_holds_0 ++ []
theorem dksX19_holds_0 : cX19_holds.data.toList.drop 0 = dktX19_holds_0 := by decide +kernel
theorem dX19_holds_0 : decode cX19_holds 0 = .ok (.aload_n 0, 1) := dk_42 (dk_at dksX19_holds_0 0 rfl rfl)
theorem dX19_holds_1 : decode cX19_holds 1 = .ok (.getfield 7, 3) := dk_180 0 7 (dk_at dksX19_holds_0 1 rfl rfl)
theorem dX19_holds_4 : decode cX19_holds 4 = .ok (.aload_n 1, 1) := dk_43 (dk_at dksX19_holds_0 4 rfl rfl)
theorem dX19_holds_5 : decode cX19_holds 5 = .ok (.invokevirtual 13, 3) := dk_182 0 13 (dk_at dksX19_holds_0 5 rfl rfl)
theorem dX19_holds_8 : decode cX19_holds 8 = .ok (.ifCond .ne 7, 3) := dk_154 0 7 (dk_at dksX19_holds_0 8 rfl rfl)
theorem dX19_holds_11 : decode cX19_holds 11 = .ok (.iconst 1, 1) := dk_4 (dk_at dksX19_holds_0 11 rfl rfl)
theorem dX19_holds_12 : decode cX19_holds 12 = .ok (.goto 4, 3) := dk_167 0 4 (dk_at dksX19_holds_0 12 rfl rfl)
theorem dX19_holds_15 : decode cX19_holds 15 = .ok (.iconst 0, 1) := dk_3 (dk_at dksX19_holds_0 15 rfl rfl)
theorem dX19_holds_16 : decode cX19_holds 16 = .ok (.ireturn, 1) := dk_172 (dk_at dksX19_holds_0 16 rfl rfl)
abbrev cX19_init : ByteArray := prog_10_method_1_code
def yX19_init : MethodName := ⟨RX19, "<init>", "(LGeeseKeys$Test;)V"⟩
def dkwX19_init_0 : List UInt8 := [42, 183, 0, 1, 42, 43, 181, 0, 7, 177]
abbrev dktX19_init_0 : List UInt8 := dkwX19_init_0 ++ []
theorem dksX19_init_0 : cX19_init.data.toList.drop 0 = dktX19_init_0 := by decide +kernel
theorem dX19_init_0 : decode cX19_init 0 = .ok (.aload_n 0, 1) := dk_42 (dk_at dksX19_init_0 0 rfl rfl)
theorem dX19_init_1 : decode cX19_init 1 = .ok (.invokespecial 1, 3) := dk_183 0 1 (dk_at dksX19_init_0 1 rfl rfl)
theorem dX19_init_4 : decode cX19_init 4 = .ok (.aload_n 0, 1) := dk_42 (dk_at dksX19_init_0 4 rfl rfl)
theorem dX19_init_5 : decode cX19_init 5 = .ok (.aload_n 1, 1) := dk_43 (dk_at dksX19_init_0 5 rfl rfl)
theorem dX19_init_6 : decode cX19_init 6 = .ok (.putfield 7, 3) := dk_181 0 7 (dk_at dksX19_init_0 6 rfl rfl)
theorem dX19_init_9 : decode cX19_init 9 = .ok (.return_, 1) := dk_177 (dk_at dksX19_init_0 9 rfl rfl)
theorem q107 : (Jvm.Cond.initialized "GeeseKeys$Not") ∈ lw_all := lw_g (lw_at lw_m1 31 rfl) rfl
theorem q585 : (Jvm.Cond.selects "GeeseKeys$Not" ({ cls := "GeeseKeys$Test", name := "holds", desc := "(LGeeseKeys$Look;)Z" } : Jvm.MethodName) ({ cls := "GeeseKeys$Not", name := "holds", desc := "(LGeeseKeys$Look;)Z" } : Jvm.MethodName)) ∈ lw_all := lw_g (lw_at lw_m3 29 rfl) rfl
theorem q586 : (Jvm.Cond.instanceMethod ({ cls := "GeeseKeys$Not", name := "holds", desc := "(LGeeseKeys$Look;)Z" } : Jvm.MethodName)) ∈ lw_all := lw_g (lw_at lw_m3 30 rfl) rfl
theorem q587 : (Jvm.Cond.code ({ cls := "GeeseKeys$Not", name := "holds", desc := "(LGeeseKeys$Look;)Z" } : Jvm.MethodName) prog_10_method_2_code (2 : Nat) (Option.some Jvm.ClassFile.FieldType.boolean)) ∈ lw_all := lw_g (lw_at lw_m3 31 rfl) rfl
theorem q588 : (Jvm.Cond.methodLink "GeeseKeys$Not" (13 : Nat) ({ cls := "GeeseKeys$Test", name := "holds", desc := "(LGeeseKeys$Look;)Z" } : Jvm.MethodName)) ∈ lw_all := lw_g (lw_at lw_m3 32 rfl) rfl
theorem q901 : (Jvm.Cond.instantiable "GeeseKeys$Not" (1 : Nat)) ∈ lw_all := lw_g (lw_at lw_m4 105 rfl) rfl
theorem q903 : (Jvm.Cond.instanceMethod ({ cls := "GeeseKeys$Not", name := "<init>", desc := "(LGeeseKeys$Test;)V" } : Jvm.MethodName)) ∈ lw_all := lw_g (lw_at lw_m4 107 rfl) rfl
theorem q904 : (Jvm.Cond.code ({ cls := "GeeseKeys$Not", name := "<init>", desc := "(LGeeseKeys$Test;)V" } : Jvm.MethodName) prog_10_method_1_code (2 : Nat) (Option.none : Option Jvm.ClassFile.FieldType)) ∈ lw_all := lw_g (lw_at lw_m4 108 rfl) rfl
theorem q905 : (Jvm.Cond.methodLinkNest "GeeseKeys$Not" (1 : Nat) ({ cls := "GeeseKeys$Test", name := "<init>", desc := "()V" } : Jvm.MethodName) "GeeseKeys") ∈ lw_tbl := lw_at lw_m4 109 rfl
theorem q906 : (Jvm.Cond.fieldLink "GeeseKeys$Not" (7 : Nat) "GeeseKeys$Not" "of" "LGeeseKeys$Test;") ∈ lw_all := lw_g (lw_at lw_m4 110 rfl) rfl
theorem q907 : (Jvm.Cond.laysFinal "GeeseKeys$Not" "GeeseKeys$Not" "of" "LGeeseKeys$Test;") ∈ lw_all := lw_g (lw_at lw_m4 111 rfl) rfl
theorem q908 : (Jvm.Cond.soleField "GeeseKeys$Not" "of") ∈ lw_all := lw_g (lw_at lw_m4 112 rfl) rfl
theorem q909 : (Jvm.Cond.superclass "GeeseKeys$Not" "GeeseKeys$Test") ∈ lw_all := lw_g (lw_at lw_m4 113 rfl) rfl
theorem q967 : (Jvm.Cond.selects "GeeseKeys$Not" ({ cls := "java/lang/Object", name := "getClass", desc := "()Ljava/lang/Class;" } : Jvm.MethodName) ({ cls := "java/lang/Object", name := "getClass", desc := "()Ljava/lang/Class;" } : Jvm.MethodName)) ∈ lw_all := lw_g (lw_at lw_m4 171 rfl) rfl
theorem q1856 : (Jvm.Cond.castable "GeeseKeys$Not" "GeeseKeys$Test") ∈ lw_tbl := lw_at lw_m8 100 rfl
theorem q1886 : (Jvm.Cond.castable "GeeseKeys$Not" "java/lang/Object") ∈ lw_tbl := lw_at lw_m8 130 rfl
theorem in_X19 : ∀ w ∈ wsX190, w ∈ lw_all := lw_in wsX190 [907] (by decide +kernel) (by decide +kernel)
/-! GeeseKeys$Fortress -/
set_option maxRecDepth 100000
def RX2 : String := "GeeseKeys$Fortress"
def TX2 : u_T := fun k => match k with
  | 0 => ("GeeseKeys$Fortress", "clauses", "Ljava/util/ArrayList;", true)
  | 1 => ("GeeseKeys$Fortress", "many", "I", false)
  | _ => ("GeeseKeys$Fortress", "eat", "I", false)
def tyX2 : Nat → FieldType := fun k => match k with
  | 0 => .object "java/util/ArrayList"
  | 1 => .int
  | _ => .int
abbrev wsX20 : List Cond := u_ws RX2 TX2 3
theorem nmX2 : ∀ a, a < 3 → ∀ b, b < 3 → a ≠ b → (TX2 a).2.1 ≠ (TX2 b).2.1 := by decide +kernel
theorem tyX2_ok : ∀ k, k < 3 → parseFieldDescriptor (TX2 k).2.2.1 = some (tyX2 k) := by decide +kernel
abbrev cX2_init : ByteArray := prog_4_method_1_code
def yX2_init : MethodName := ⟨RX2, "<init>", "()V"⟩
def dkwX2_init_0 : List UInt8 := [42, 183, 0, 3, 42, 187, 0, 9, 89, 183, 0, 11, 181, 0, 12, 42, 4, 181, 0, 18, 177]
abbrev dktX2_init_0 : List UInt8 := dkwX2_init_0 ++ []
theorem dksX2_init_0 : cX2_init.data.toList.drop 0 = dktX2_init_0 := by decide +kernel
theorem dX2_init_0 : decode cX2_init 0 = .ok (.aload_n 0, 1) := dk_42 (dk_at dksX2_init_0 0 rfl rfl)
theorem dX2_init_1 : decode cX2_init 1 = .ok (.invokespecial 3, 3) := dk_183 0 3 (dk_at dksX2_init_0 1 rfl rfl)
theorem dX2_init_4 : decode cX2_init 4 = .ok (.aload_n 0, 1) := dk_42 (dk_at dksX2_init_0 4 rfl rfl)
theorem dX2_init_5 : decode cX2_init 5 = .ok (.new 9, 3) := dk_187 0 9 (dk_at dksX2_init_0 5 rfl rfl)
theorem dX2_init_8 : decode cX2_init 8 = .ok (.dup, 1) := dk_89 (dk_at dksX2_init_0 8 rfl rfl)
theorem dX2_init_9 : decode cX2_init 9 = .ok (.invokespecial 11, 3) := dk_183 0 11 (dk_at dksX2_init_0 9 rfl rfl)
theorem dX2_init_12 : decode cX2_init 12 = .ok (.putfield 12, 3) := dk_181 0 12 (dk_at dksX2_init_0 12 rfl rfl)
theorem dX2_init_15 : decode cX2_init 15 = .ok (.aload_n 0, 1) := dk_42 (dk_at dksX2_init_0 15 rfl rfl)
theorem dX2_init_16 : decode cX2_init 16 = .ok (.iconst 1, 1) := dk_4 (dk_at dksX2_init_0 16 rfl rfl)
theorem dX2_init_17 : decode cX2_init 17 = .ok (.putfield 18, 3) := dk_181 0 18 (dk_at dksX2_init_0 17 rfl rfl)
theorem dX2_init_20 : decode cX2_init 20 = .ok (.return_, 1) := dk_177 (dk_at dksX2_init_0 20 rfl rfl)
abbrev cX2_more : ByteArray := prog_4_method_2_code
def yX2_more : MethodName := ⟨RX2, "more", "(LGeeseKeys$Look;)I"⟩
def dkwX2_more_2 : List UInt8 := [192, 0, 30, 180, 0, 42, 96, 61, 132, 3, 1, 167, 255, 204, 28, 172]
abbrev dktX2_more_2 : List UInt8 := dkwX2_more_2 ++ []
def dkwX2_more_1 : List UInt8 := [192, 0, 30, 180, 0, 32, 43, 182, 0, 36, 153, 0, 20, 28, 42, 180, 0, 12, 29, 182, 0, 26]
abbrev dktX2_more_1 : List UInt8 := dkwX2_more_1 ++ dktX2_more_2
def dkwX2_more_0 : List UInt8 := [3, 61, 3, 62, 29, 42, 180, 0, 12, 182, 0, 22, 162, 0, 47, 42, 180, 0, 12, 29, 182, 0, 26]
abbrev dktX2_more_0 : List UInt8 := dkwX2_more_0 ++ dktX2_more_1
theorem dksX2_more_0 : cX2_more.data.toList.drop 0 = dktX2_more_0 := by decide +kernel
theorem dksX2_more_1 : cX2_more.data.toList.drop 23 = dktX2_more_1 := dk_seg dksX2_more_0 23 rfl rfl
theorem dksX2_more_2 : cX2_more.data.toList.drop 45 = dktX2_more_2 := dk_seg dksX2_more_1 22 rfl rfl
theorem dX2_more_0 : decode cX2_more 0 = .ok (.iconst 0, 1) := dk_3 (dk_at dksX2_more_0 0 rfl rfl)
theorem dX2_more_1 : decode cX2_more 1 = .ok (.istore_n 2, 1) := dk_61 (dk_at dksX2_more_0 1 rfl rfl)
theorem dX2_more_2 : decode cX2_more 2 = .ok (.iconst 0, 1) := dk_3 (dk_at dksX2_more_0 2 rfl rfl)
theorem dX2_more_3 : decode cX2_more 3 = .ok (.istore_n 3, 1) := dk_62 (dk_at dksX2_more_0 3 rfl rfl)
theorem dX2_more_4 : decode cX2_more 4 = .ok (.iload_n 3, 1) := dk_29 (dk_at dksX2_more_0 4 rfl rfl)
theorem dX2_more_5 : decode cX2_more 5 = .ok (.aload_n 0, 1) := dk_42 (dk_at dksX2_more_0 5 rfl rfl)
theorem dX2_more_6 : decode cX2_more 6 = .ok (.getfield 12, 3) := dk_180 0 12 (dk_at dksX2_more_0 6 rfl rfl)
theorem dX2_more_9 : decode cX2_more 9 = .ok (.invokevirtual 22, 3) := dk_182 0 22 (dk_at dksX2_more_0 9 rfl rfl)
theorem dX2_more_12 : decode cX2_more 12 = .ok (.if_icmp .ge 47, 3) := dk_162 0 47 (dk_at dksX2_more_0 12 rfl rfl)
theorem dX2_more_15 : decode cX2_more 15 = .ok (.aload_n 0, 1) := dk_42 (dk_at dksX2_more_0 15 rfl rfl)
theorem dX2_more_16 : decode cX2_more 16 = .ok (.getfield 12, 3) := dk_180 0 12 (dk_at dksX2_more_0 16 rfl rfl)
theorem dX2_more_19 : decode cX2_more 19 = .ok (.iload_n 3, 1) := dk_29 (dk_at dksX2_more_0 19 rfl rfl)
theorem dX2_more_20 : decode cX2_more 20 = .ok (.invokevirtual 26, 3) := dk_182 0 26 (dk_at dksX2_more_0 20 rfl rfl)
theorem dX2_more_23 : decode cX2_more 23 = .ok (.checkcast 30, 3) := dk_192 0 30 (dk_at dksX2_more_1 0 rfl rfl)
theorem dX2_more_26 : decode cX2_more 26 = .ok (.getfield 32, 3) := dk_180 0 32 (dk_at dksX2_more_1 3 rfl rfl)
theorem dX2_more_29 : decode cX2_more 29 = .ok (.aload_n 1, 1) := dk_43 (dk_at dksX2_more_1 6 rfl rfl)
theorem dX2_more_30 : decode cX2_more 30 = .ok (.invokevirtual 36, 3) := dk_182 0 36 (dk_at dksX2_more_1 7 rfl rfl)
theorem dX2_more_33 : decode cX2_more 33 = .ok (.ifCond .eq 20, 3) := dk_153 0 20 (dk_at dksX2_more_1 10 rfl rfl)
theorem dX2_more_36 : decode cX2_more 36 = .ok (.iload_n 2, 1) := dk_28 (dk_at dksX2_more_1 13 rfl rfl)
theorem dX2_more_37 : decode cX2_more 37 = .ok (.aload_n 0, 1) := dk_42 (dk_at dksX2_more_1 14 rfl rfl)
theorem dX2_more_38 : decode cX2_more 38 = .ok (.getfield 12, 3) := dk_180 0 12 (dk_at dksX2_more_1 15 rfl rfl)
theorem dX2_more_41 : decode cX2_more 41 = .ok (.iload_n 3, 1) := dk_29 (dk_at dksX2_more_1 18 rfl rfl)
theorem dX2_more_42 : decode cX2_more 42 = .ok (.invokevirtual 26, 3) := dk_182 0 26 (dk_at dksX2_more_1 19 rfl rfl)
theorem dX2_more_45 : decode cX2_more 45 = .ok (.checkcast 30, 3) := dk_192 0 30 (dk_at dksX2_more_2 0 rfl rfl)
theorem dX2_more_48 : decode cX2_more 48 = .ok (.getfield 42, 3) := dk_180 0 42 (dk_at dksX2_more_2 3 rfl rfl)
theorem dX2_more_51 : decode cX2_more 51 = .ok (.iadd, 1) := dk_96 (dk_at dksX2_more_2 6 rfl rfl)
theorem dX2_more_52 : decode cX2_more 52 = .ok (.istore_n 2, 1) := dk_61 (dk_at dksX2_more_2 7 rfl rfl)
theorem dX2_more_53 : decode cX2_more 53 = .ok (.iinc 3 1, 3) := dk_132 3 1 (dk_at dksX2_more_2 8 rfl rfl)
theorem dX2_more_56 : decode cX2_more 56 = .ok (.goto (-52), 3) := dk_167 255 204 (dk_at dksX2_more_2 11 rfl rfl)
theorem dX2_more_59 : decode cX2_more 59 = .ok (.iload_n 2, 1) := dk_28 (dk_at dksX2_more_2 14 rfl rfl)
theorem dX2_more_60 : decode cX2_more 60 = .ok (.ireturn, 1) := dk_172 (dk_at dksX2_more_2 15 rfl rfl)
theorem q79 : (Jvm.Cond.initialized "GeeseKeys$Fortress") ∈ lw_all := lw_g (lw_at lw_m1 3 rfl) rfl
theorem q175 : (Jvm.Cond.instantiable "GeeseKeys$Fortress" (3 : Nat)) ∈ lw_all := lw_g (lw_at lw_m1 99 rfl) rfl
theorem q177 : (Jvm.Cond.instanceMethod ({ cls := "GeeseKeys$Fortress", name := "<init>", desc := "()V" } : Jvm.MethodName)) ∈ lw_all := lw_g (lw_at lw_m1 101 rfl) rfl
theorem q178 : (Jvm.Cond.code ({ cls := "GeeseKeys$Fortress", name := "<init>", desc := "()V" } : Jvm.MethodName) prog_4_method_1_code (1 : Nat) (Option.none : Option Jvm.ClassFile.FieldType)) ∈ lw_all := lw_g (lw_at lw_m1 102 rfl) rfl
theorem q179 : (Jvm.Cond.methodLink "GeeseKeys$Fortress" (3 : Nat) ({ cls := "java/lang/Object", name := "<init>", desc := "()V" } : Jvm.MethodName)) ∈ lw_all := lw_g (lw_at lw_m1 103 rfl) rfl
theorem q180 : (Jvm.Cond.classLink "GeeseKeys$Fortress" (9 : Nat) "java/util/ArrayList") ∈ lw_all := lw_g (lw_at lw_m1 104 rfl) rfl
theorem q182 : (Jvm.Cond.methodLink "GeeseKeys$Fortress" (11 : Nat) ({ cls := "java/util/ArrayList", name := "<init>", desc := "()V" } : Jvm.MethodName)) ∈ lw_all := lw_g (lw_at lw_m1 106 rfl) rfl
theorem q206 : (Jvm.Cond.fieldLink "GeeseKeys$Fortress" (12 : Nat) "GeeseKeys$Fortress" "clauses" "Ljava/util/ArrayList;") ∈ lw_all := lw_g (lw_at lw_m1 130 rfl) rfl
theorem q209 : (Jvm.Cond.fieldLink "GeeseKeys$Fortress" (18 : Nat) "GeeseKeys$Fortress" "eat" "I") ∈ lw_all := lw_g (lw_at lw_m1 133 rfl) rfl
theorem q212 : (Jvm.Cond.laysFinal "GeeseKeys$Fortress" "GeeseKeys$Fortress" "clauses" "Ljava/util/ArrayList;") ∈ lw_all := lw_g (lw_at lw_m1 136 rfl) rfl
theorem q213 : (Jvm.Cond.soleField "GeeseKeys$Fortress" "clauses") ∈ lw_all := lw_g (lw_at lw_m1 137 rfl) rfl
theorem q214 : (Jvm.Cond.lays "GeeseKeys$Fortress" "GeeseKeys$Fortress" "many" "I") ∈ lw_all := lw_g (lw_at lw_m1 138 rfl) rfl
theorem q215 : (Jvm.Cond.soleField "GeeseKeys$Fortress" "many") ∈ lw_all := lw_g (lw_at lw_m1 139 rfl) rfl
theorem q216 : (Jvm.Cond.lays "GeeseKeys$Fortress" "GeeseKeys$Fortress" "eat" "I") ∈ lw_all := lw_g (lw_at lw_m1 140 rfl) rfl
theorem q217 : (Jvm.Cond.soleField "GeeseKeys$Fortress" "eat") ∈ lw_all := lw_g (lw_at lw_m1 141 rfl) rfl
theorem q218 : (Jvm.Cond.superclass "GeeseKeys$Fortress" "java/lang/Object") ∈ lw_all := lw_g (lw_at lw_m1 142 rfl) rfl
theorem q553 : (Jvm.Cond.instanceMethod ({ cls := "GeeseKeys$Fortress", name := "more", desc := "(LGeeseKeys$Look;)I" } : Jvm.MethodName)) ∈ lw_all := lw_g (lw_at lw_m2 237 rfl) rfl
theorem q554 : (Jvm.Cond.selects "GeeseKeys$Fortress" ({ cls := "GeeseKeys$Fortress", name := "more", desc := "(LGeeseKeys$Look;)I" } : Jvm.MethodName) ({ cls := "GeeseKeys$Fortress", name := "more", desc := "(LGeeseKeys$Look;)I" } : Jvm.MethodName)) ∈ lw_all := lw_g (lw_at lw_m2 238 rfl) rfl
theorem q555 : (Jvm.Cond.code ({ cls := "GeeseKeys$Fortress", name := "more", desc := "(LGeeseKeys$Look;)I" } : Jvm.MethodName) prog_4_method_2_code (4 : Nat) (Option.some Jvm.ClassFile.FieldType.int)) ∈ lw_all := lw_g (lw_at lw_m2 239 rfl) rfl
theorem q556 : (Jvm.Cond.methodLink "GeeseKeys$Fortress" (22 : Nat) ({ cls := "java/util/ArrayList", name := "size", desc := "()I" } : Jvm.MethodName)) ∈ lw_all := lw_g (lw_at lw_m3 0 rfl) rfl
theorem q560 : (Jvm.Cond.methodLink "GeeseKeys$Fortress" (26 : Nat) ({ cls := "java/util/ArrayList", name := "get", desc := "(I)Ljava/lang/Object;" } : Jvm.MethodName)) ∈ lw_all := lw_g (lw_at lw_m3 4 rfl) rfl
theorem q574 : (Jvm.Cond.classLink "GeeseKeys$Fortress" (30 : Nat) "GeeseKeys$Clause") ∈ lw_all := lw_g (lw_at lw_m3 18 rfl) rfl
theorem q575 : (Jvm.Cond.methodLink "GeeseKeys$Fortress" (36 : Nat) ({ cls := "GeeseKeys$Test", name := "holds", desc := "(LGeeseKeys$Look;)Z" } : Jvm.MethodName)) ∈ lw_all := lw_g (lw_at lw_m3 19 rfl) rfl
theorem q961 : (Jvm.Cond.selects "GeeseKeys$Fortress" ({ cls := "java/lang/Object", name := "getClass", desc := "()Ljava/lang/Class;" } : Jvm.MethodName) ({ cls := "java/lang/Object", name := "getClass", desc := "()Ljava/lang/Class;" } : Jvm.MethodName)) ∈ lw_all := lw_g (lw_at lw_m4 165 rfl) rfl
theorem q1004 : (Jvm.Cond.fieldLinkNest "GeeseKeys$Fortress" (42 : Nat) "GeeseKeys$Clause" "n" "I" "GeeseKeys") ∈ lw_tbl := lw_at lw_m4 208 rfl
theorem q1006 : (Jvm.Cond.fieldLinkNest "GeeseKeys$Fortress" (32 : Nat) "GeeseKeys$Clause" "test" "LGeeseKeys$Test;" "GeeseKeys") ∈ lw_tbl := lw_at lw_m4 210 rfl
theorem q1871 : (Jvm.Cond.castable "GeeseKeys$Fortress" "java/lang/Object") ∈ lw_tbl := lw_at lw_m8 115 rfl
theorem in_X2 : ∀ w ∈ wsX20, w ∈ lw_all := lw_in wsX20 [212, 214, 216] (by decide +kernel) (by decide +kernel)
/-! GeeseKeys$Against -/
set_option maxRecDepth 100000
def RX20 : String := "GeeseKeys$Against"
def TX20 : u_T := fun k => match k with
  | 0 => ("GeeseKeys$Against", "letter", "I", true)
  | 1 => ("GeeseKeys$Against", "sign", "I", true)
  | _ => ("GeeseKeys$Against", "n", "I", true)
def tyX20 : Nat → FieldType := fun k => match k with
  | 0 => .int
  | 1 => .int
  | _ => .int
abbrev wsX200 : List Cond := u_ws RX20 TX20 3
theorem nmX20 : ∀ a, a < 3 → ∀ b, b < 3 → a ≠ b → (TX20 a).2.1 ≠ (TX20 b).2.1 := by decide +kernel
theorem tyX20_ok : ∀ k, k < 3 → parseFieldDescriptor (TX20 k).2.2.1 = some (tyX20 k) := by decide +kernel
abbrev cX20_holds : ByteArray := prog_2_method_2_code
def yX20_holds : MethodName := ⟨RX20, "holds", "(LGeeseKeys$Look;)Z"⟩
def dkwX20_holds_3 : List UInt8 := [182, 0, 19, 42, 180, 0, 16, 164, 0, 7, 4, 167, 0, 4, 3, 172]
abbrev dktX20_holds_3 : List UInt8 := dkwX20_holds_3 ++ []
def dkwX20_holds_2 : List UInt8 := [182, 0, 19, 42, 180, 0, 16, 160, 0, 7, 4, 167, 0, 27, 3, 167, 0, 23, 43, 42, 180, 0, 7]
abbrev dktX20_holds_2 : List UInt8 := dkwX20_holds_2 ++ dktX20_holds_3
def dkwX20_holds_1 : List UInt8 := [4, 167, 0, 59, 3, 167, 0, 55, 42, 180, 0, 13, 16, 61, 160, 0, 26, 43, 42, 180, 0, 7]
abbrev dktX20_holds_1 : List UInt8 := dkwX20_holds_1 ++ dktX20_holds_2
def dkwX20_holds_0 : List UInt8 := [42, 180, 0, 13, 16, 60, 160, 0, 26, 43, 42, 180, 0, 7, 182, 0, 19, 42, 180, 0, 16, 162, 0, 7]
abbrev dktX20_holds_0 : List UInt8 := dkwX20_holds_0 ++ dktX20_holds_1
theorem dksX20_holds_0 : cX20_holds.data.toList.drop 0 = dktX20_holds_0 := by decide +kernel
theorem dksX20_holds_1 : cX20_holds.data.toList.drop 24 = dktX20_holds_1 := dk_seg dksX20_holds_0 24 rfl rfl
theorem dksX20_holds_2 : cX20_holds.data.toList.drop 46 = dktX20_holds_2 := dk_seg dksX20_holds_1 22 rfl rfl
theorem dksX20_holds_3 : cX20_holds.data.toList.drop 69 = dktX20_holds_3 := dk_seg dksX20_holds_2 23 rfl rfl
theorem dX20_holds_0 : decode cX20_holds 0 = .ok (.aload_n 0, 1) := dk_42 (dk_at dksX20_holds_0 0 rfl rfl)
theorem dX20_holds_1 : decode cX20_holds 1 = .ok (.getfield 13, 3) := dk_180 0 13 (dk_at dksX20_holds_0 1 rfl rfl)
theorem dX20_holds_4 : decode cX20_holds 4 = .ok (.bipush 60, 2) := dk_16 60 (dk_at dksX20_holds_0 4 rfl rfl)
theorem dX20_holds_6 : decode cX20_holds 6 = .ok (.if_icmp .ne 26, 3) := dk_160 0 26 (dk_at dksX20_holds_0 6 rfl rfl)
theorem dX20_holds_9 : decode cX20_holds 9 = .ok (.aload_n 1, 1) := dk_43 (dk_at dksX20_holds_0 9 rfl rfl)
theorem dX20_holds_10 : decode cX20_holds 10 = .ok (.aload_n 0, 1) := dk_42 (dk_at dksX20_holds_0 10 rfl rfl)
theorem dX20_holds_11 : decode cX20_holds 11 = .ok (.getfield 7, 3) := dk_180 0 7 (dk_at dksX20_holds_0 11 rfl rfl)
theorem dX20_holds_14 : decode cX20_holds 14 = .ok (.invokevirtual 19, 3) := dk_182 0 19 (dk_at dksX20_holds_0 14 rfl rfl)
theorem dX20_holds_17 : decode cX20_holds 17 = .ok (.aload_n 0, 1) := dk_42 (dk_at dksX20_holds_0 17 rfl rfl)
theorem dX20_holds_18 : decode cX20_holds 18 = .ok (.getfield 16, 3) := dk_180 0 16 (dk_at dksX20_holds_0 18 rfl rfl)
theorem dX20_holds_21 : decode cX20_holds 21 = .ok (.if_icmp .ge 7, 3) := dk_162 0 7 (dk_at dksX20_holds_0 21 rfl rfl)
theorem dX20_holds_24 : decode cX20_holds 24 = .ok (.iconst 1, 1) := dk_4 (dk_at dksX20_holds_1 0 rfl rfl)
theorem dX20_holds_25 : decode cX20_holds 25 = .ok (.goto 59, 3) := dk_167 0 59 (dk_at dksX20_holds_1 1 rfl rfl)
theorem dX20_holds_28 : decode cX20_holds 28 = .ok (.iconst 0, 1) := dk_3 (dk_at dksX20_holds_1 4 rfl rfl)
theorem dX20_holds_29 : decode cX20_holds 29 = .ok (.goto 55, 3) := dk_167 0 55 (dk_at dksX20_holds_1 5 rfl rfl)
theorem dX20_holds_32 : decode cX20_holds 32 = .ok (.aload_n 0, 1) := dk_42 (dk_at dksX20_holds_1 8 rfl rfl)
theorem dX20_holds_33 : decode cX20_holds 33 = .ok (.getfield 13, 3) := dk_180 0 13 (dk_at dksX20_holds_1 9 rfl rfl)
theorem dX20_holds_36 : decode cX20_holds 36 = .ok (.bipush 61, 2) := dk_16 61 (dk_at dksX20_holds_1 12 rfl rfl)
theorem dX20_holds_38 : decode cX20_holds 38 = .ok (.if_icmp .ne 26, 3) := dk_160 0 26 (dk_at dksX20_holds_1 14 rfl rfl)
theorem dX20_holds_41 : decode cX20_holds 41 = .ok (.aload_n 1, 1) := dk_43 (dk_at dksX20_holds_1 17 rfl rfl)
theorem dX20_holds_42 : decode cX20_holds 42 = .ok (.aload_n 0, 1) := dk_42 (dk_at dksX20_holds_1 18 rfl rfl)
theorem dX20_holds_43 : decode cX20_holds 43 = .ok (.getfield 7, 3) := dk_180 0 7 (dk_at dksX20_holds_1 19 rfl rfl)
theorem dX20_holds_46 : decode cX20_holds 46 = .ok (.invokevirtual 19, 3) := dk_182 0 19 (dk_at dksX20_holds_2 0 rfl rfl)
theorem dX20_holds_49 : decode cX20_holds 49 = .ok (.aload_n 0, 1) := dk_42 (dk_at dksX20_holds_2 3 rfl rfl)
theorem dX20_holds_50 : decode cX20_holds 50 = .ok (.getfield 16, 3) := dk_180 0 16 (dk_at dksX20_holds_2 4 rfl rfl)
theorem dX20_holds_53 : decode cX20_holds 53 = .ok (.if_icmp .ne 7, 3) := dk_160 0 7 (dk_at dksX20_holds_2 7 rfl rfl)
theorem dX20_holds_56 : decode cX20_holds 56 = .ok (.iconst 1, 1) := dk_4 (dk_at dksX20_holds_2 10 rfl rfl)
theorem dX20_holds_57 : decode cX20_holds 57 = .ok (.goto 27, 3) := dk_167 0 27 (dk_at dksX20_holds_2 11 rfl rfl)
theorem dX20_holds_60 : decode cX20_holds 60 = .ok (.iconst 0, 1) := dk_3 (dk_at dksX20_holds_2 14 rfl rfl)
theorem dX20_holds_61 : decode cX20_holds 61 = .ok (.goto 23, 3) := dk_167 0 23 (dk_at dksX20_holds_2 15 rfl rfl)
theorem dX20_holds_64 : decode cX20_holds 64 = .ok (.aload_n 1, 1) := dk_43 (dk_at dksX20_holds_2 18 rfl rfl)
theorem dX20_holds_65 : decode cX20_holds 65 = .ok (.aload_n 0, 1) := dk_42 (dk_at dksX20_holds_2 19 rfl rfl)
theorem dX20_holds_66 : decode cX20_holds 66 = .ok (.getfield 7, 3) := dk_180 0 7 (dk_at dksX20_holds_2 20 rfl rfl)
theorem dX20_holds_69 : decode cX20_holds 69 = .ok (.invokevirtual 19, 3) := dk_182 0 19 (dk_at dksX20_holds_3 0 rfl rfl)
theorem dX20_holds_72 : decode cX20_holds 72 = .ok (.aload_n 0, 1) := dk_42 (dk_at dksX20_holds_3 3 rfl rfl)
theorem dX20_holds_73 : decode cX20_holds 73 = .ok (.getfield 16, 3) := dk_180 0 16 (dk_at dksX20_holds_3 4 rfl rfl)
theorem dX20_holds_76 : decode cX20_holds 76 = .ok (.if_icmp .le 7, 3) := dk_164 0 7 (dk_at dksX20_holds_3 7 rfl rfl)
theorem dX20_holds_79 : decode cX20_holds 79 = .ok (.iconst 1, 1) := dk_4 (dk_at dksX20_holds_3 10 rfl rfl)
theorem dX20_holds_80 : decode cX20_holds 80 = .ok (.goto 4, 3) := dk_167 0 4 (dk_at dksX20_holds_3 11 rfl rfl)
theorem dX20_holds_83 : decode cX20_holds 83 = .ok (.iconst 0, 1) := dk_3 (dk_at dksX20_holds_3 14 rfl rfl)
theorem dX20_holds_84 : decode cX20_holds 84 = .ok (.ireturn, 1) := dk_172 (dk_at dksX20_holds_3 15 rfl rfl)
abbrev cX20_init : ByteArray := prog_2_method_1_code
def yX20_init : MethodName := ⟨RX20, "<init>", "(III)V"⟩
def dkwX20_init_0 : List UInt8 := [42, 183, 0, 1, 42, 27, 181, 0, 7, 42, 28, 181, 0, 13, 42, 29, 181, 0, 16, 177]
abbrev dktX20_init_0 : List UInt8 := dkwX20_init_0 ++ []
theorem dksX20_init_0 : cX20_init.data.toList.drop 0 = dktX20_init_0 := by decide +kernel
theorem dX20_init_0 : decode cX20_init 0 = .ok (.aload_n 0, 1) := dk_42 (dk_at dksX20_init_0 0 rfl rfl)
theorem dX20_init_1 : decode cX20_init 1 = .ok (.invokespecial 1, 3) := dk_183 0 1 (dk_at dksX20_init_0 1 rfl rfl)
theorem dX20_init_4 : decode cX20_init 4 = .ok (.aload_n 0, 1) := dk_42 (dk_at dksX20_init_0 4 rfl rfl)
theorem dX20_init_5 : decode cX20_init 5 = .ok (.iload_n 1, 1) := dk_27 (dk_at dksX20_init_0 5 rfl rfl)
theorem dX20_init_6 : decode cX20_init 6 = .ok (.putfield 7, 3) := dk_181 0 7 (dk_at dksX20_init_0 6 rfl rfl)
theorem dX20_init_9 : decode cX20_init 9 = .ok (.aload_n 0, 1) := dk_42 (dk_at dksX20_init_0 9 rfl rfl)
theorem dX20_init_10 : decode cX20_init 10 = .ok (.iload_n 2, 1) := dk_28 (dk_at dksX20_init_0 10 rfl rfl)
theorem dX20_init_11 : decode cX20_init 11 = .ok (.putfield 13, 3) := dk_181 0 13 (dk_at dksX20_init_0 11 rfl rfl)
theorem dX20_init_14 : decode cX20_init 14 = .ok (.aload_n 0, 1) := dk_42 (dk_at dksX20_init_0 14 rfl rfl)
theorem dX20_init_15 : decode cX20_init 15 = .ok (.iload_n 3, 1) := dk_29 (dk_at dksX20_init_0 15 rfl rfl)
theorem dX20_init_16 : decode cX20_init 16 = .ok (.putfield 16, 3) := dk_181 0 16 (dk_at dksX20_init_0 16 rfl rfl)
theorem dX20_init_19 : decode cX20_init 19 = .ok (.return_, 1) := dk_177 (dk_at dksX20_init_0 19 rfl rfl)
theorem q108 : (Jvm.Cond.initialized "GeeseKeys$Against") ∈ lw_all := lw_g (lw_at lw_m1 32 rfl) rfl
theorem q578 : (Jvm.Cond.selects "GeeseKeys$Against" ({ cls := "GeeseKeys$Test", name := "holds", desc := "(LGeeseKeys$Look;)Z" } : Jvm.MethodName) ({ cls := "GeeseKeys$Against", name := "holds", desc := "(LGeeseKeys$Look;)Z" } : Jvm.MethodName)) ∈ lw_all := lw_g (lw_at lw_m3 22 rfl) rfl
theorem q579 : (Jvm.Cond.instanceMethod ({ cls := "GeeseKeys$Against", name := "holds", desc := "(LGeeseKeys$Look;)Z" } : Jvm.MethodName)) ∈ lw_all := lw_g (lw_at lw_m3 23 rfl) rfl
theorem q580 : (Jvm.Cond.code ({ cls := "GeeseKeys$Against", name := "holds", desc := "(LGeeseKeys$Look;)Z" } : Jvm.MethodName) prog_2_method_2_code (2 : Nat) (Option.some Jvm.ClassFile.FieldType.boolean)) ∈ lw_all := lw_g (lw_at lw_m3 24 rfl) rfl
theorem q581 : (Jvm.Cond.methodLink "GeeseKeys$Against" (19 : Nat) ({ cls := "GeeseKeys$Look", name := "of", desc := "(I)I" } : Jvm.MethodName)) ∈ lw_all := lw_g (lw_at lw_m3 25 rfl) rfl
theorem q911 : (Jvm.Cond.instantiable "GeeseKeys$Against" (3 : Nat)) ∈ lw_all := lw_g (lw_at lw_m4 115 rfl) rfl
theorem q913 : (Jvm.Cond.instanceMethod ({ cls := "GeeseKeys$Against", name := "<init>", desc := "(III)V" } : Jvm.MethodName)) ∈ lw_all := lw_g (lw_at lw_m4 117 rfl) rfl
theorem q914 : (Jvm.Cond.code ({ cls := "GeeseKeys$Against", name := "<init>", desc := "(III)V" } : Jvm.MethodName) prog_2_method_1_code (4 : Nat) (Option.none : Option Jvm.ClassFile.FieldType)) ∈ lw_all := lw_g (lw_at lw_m4 118 rfl) rfl
theorem q915 : (Jvm.Cond.methodLinkNest "GeeseKeys$Against" (1 : Nat) ({ cls := "GeeseKeys$Test", name := "<init>", desc := "()V" } : Jvm.MethodName) "GeeseKeys") ∈ lw_tbl := lw_at lw_m4 119 rfl
theorem q916 : (Jvm.Cond.fieldLink "GeeseKeys$Against" (7 : Nat) "GeeseKeys$Against" "letter" "I") ∈ lw_all := lw_g (lw_at lw_m4 120 rfl) rfl
theorem q917 : (Jvm.Cond.fieldLink "GeeseKeys$Against" (13 : Nat) "GeeseKeys$Against" "sign" "I") ∈ lw_all := lw_g (lw_at lw_m4 121 rfl) rfl
theorem q918 : (Jvm.Cond.fieldLink "GeeseKeys$Against" (16 : Nat) "GeeseKeys$Against" "n" "I") ∈ lw_all := lw_g (lw_at lw_m4 122 rfl) rfl
theorem q919 : (Jvm.Cond.laysFinal "GeeseKeys$Against" "GeeseKeys$Against" "letter" "I") ∈ lw_all := lw_g (lw_at lw_m4 123 rfl) rfl
theorem q920 : (Jvm.Cond.soleField "GeeseKeys$Against" "letter") ∈ lw_all := lw_g (lw_at lw_m4 124 rfl) rfl
theorem q921 : (Jvm.Cond.laysFinal "GeeseKeys$Against" "GeeseKeys$Against" "sign" "I") ∈ lw_all := lw_g (lw_at lw_m4 125 rfl) rfl
theorem q922 : (Jvm.Cond.soleField "GeeseKeys$Against" "sign") ∈ lw_all := lw_g (lw_at lw_m4 126 rfl) rfl
theorem q923 : (Jvm.Cond.laysFinal "GeeseKeys$Against" "GeeseKeys$Against" "n" "I") ∈ lw_all := lw_g (lw_at lw_m4 127 rfl) rfl
theorem q924 : (Jvm.Cond.soleField "GeeseKeys$Against" "n") ∈ lw_all := lw_g (lw_at lw_m4 128 rfl) rfl
theorem q925 : (Jvm.Cond.superclass "GeeseKeys$Against" "GeeseKeys$Test") ∈ lw_all := lw_g (lw_at lw_m4 129 rfl) rfl
theorem q959 : (Jvm.Cond.selects "GeeseKeys$Against" ({ cls := "java/lang/Object", name := "getClass", desc := "()Ljava/lang/Class;" } : Jvm.MethodName) ({ cls := "java/lang/Object", name := "getClass", desc := "()Ljava/lang/Class;" } : Jvm.MethodName)) ∈ lw_all := lw_g (lw_at lw_m4 163 rfl) rfl
theorem q1855 : (Jvm.Cond.castable "GeeseKeys$Against" "GeeseKeys$Test") ∈ lw_tbl := lw_at lw_m8 99 rfl
theorem q1887 : (Jvm.Cond.castable "GeeseKeys$Against" "java/lang/Object") ∈ lw_tbl := lw_at lw_m8 131 rfl
theorem in_X20 : ∀ w ∈ wsX200, w ∈ lw_all := lw_in wsX200 [919, 921, 923] (by decide +kernel) (by decide +kernel)
/-! GeeseKeys$Look -/
set_option maxRecDepth 100000
def RX3 : String := "GeeseKeys$Look"
def TX3 : u_T := fun k => match k with
  | 0 => ("GeeseKeys$Look", "goose", "I", false)
  | 1 => ("GeeseKeys$Look", "kind", "I", false)
  | 2 => ("GeeseKeys$Look", "v", "I", false)
  | 3 => ("GeeseKeys$Look", "court", "I", false)
  | 4 => ("GeeseKeys$Look", "grains", "I", false)
  | _ => ("GeeseKeys$Look", "hour", "I", false)
def tyX3 : Nat → FieldType := fun k => match k with
  | 0 => .int
  | 1 => .int
  | 2 => .int
  | 3 => .int
  | 4 => .int
  | _ => .int
abbrev wsX30 : List Cond := u_ws RX3 TX3 6
theorem nmX3 : ∀ a, a < 6 → ∀ b, b < 6 → a ≠ b → (TX3 a).2.1 ≠ (TX3 b).2.1 := by decide +kernel
theorem tyX3_ok : ∀ k, k < 6 → parseFieldDescriptor (TX3 k).2.2.1 = some (tyX3 k) := by decide +kernel
abbrev cX3_init : ByteArray := prog_9_method_1_code
def yX3_init : MethodName := ⟨RX3, "<init>", "()V"⟩
theorem dX3_init_0 : decode cX3_init 0 = .ok (.aload_n 0, 1) := by decide +kernel
theorem dX3_init_1 : decode cX3_init 1 = .ok (.invokespecial 1, 3) := by decide +kernel
theorem dX3_init_4 : decode cX3_init 4 = .ok (.return_, 1) := by decide +kernel
abbrev cX3_of : ByteArray := prog_9_method_2_code
def yX3_of : MethodName := ⟨RX3, "of", "(I)I"⟩
def dkwX3_of_3 : List UInt8 := [172, 42, 180, 0, 25, 172]
abbrev dktX3_of_3 : List UInt8 := dkwX3_of_3 ++ []
def dkwX3_of_2 : List UInt8 := [42, 180, 0, 7, 172, 42, 180, 0, 13, 172, 42, 180, 0, 16, 172, 42, 180, 0, 19, 172, 42, 180, 0, 22]
abbrev dktX3_of_2 : List UInt8 := dkwX3_of_2 ++ dktX3_of_3
def dkwX3_of_1 : List UInt8 := [171, 0, 0, 0, 0, 0, 76, 0, 0, 0, 5, 0, 0, 0, 99, 0, 0, 0, 66, 0, 0, 0, 103, 0, 0, 0, 71, 0, 0, 0, 107, 0, 0, 0, 56, 0, 0, 0, 112, 0, 0, 0, 51, 0, 0, 0, 118, 0, 0, 0, 61]
abbrev dktX3_of_1 : List UInt8 := dkwX3_of_1 ++ dktX3_of_2
def dkwX3_of_0 : List UInt8 := [27]
abbrev dktX3_of_0 : List UInt8 := dkwX3_of_0 ++ dktX3_of_1
theorem dksX3_of_0 : cX3_of.data.toList.drop 0 = dktX3_of_0 := by decide +kernel
theorem dksX3_of_1 : cX3_of.data.toList.drop 1 = dktX3_of_1 := dk_seg dksX3_of_0 1 rfl rfl
theorem dksX3_of_2 : cX3_of.data.toList.drop 52 = dktX3_of_2 := dk_seg dksX3_of_1 51 rfl rfl
theorem dksX3_of_3 : cX3_of.data.toList.drop 76 = dktX3_of_3 := dk_seg dksX3_of_2 24 rfl rfl
theorem dX3_of_0 : decode cX3_of 0 = .ok (.iload_n 1, 1) := dk_27 (dk_at dksX3_of_0 0 rfl rfl)
theorem dX3_of_1 : decode cX3_of 1 = .ok (.lookupswitch 76 #[(99, 66), (103, 71), (107, 56), (112, 51), (118, 61)], 51) := by decide +kernel
theorem dX3_of_52 : decode cX3_of 52 = .ok (.aload_n 0, 1) := dk_42 (dk_at dksX3_of_2 0 rfl rfl)
theorem dX3_of_53 : decode cX3_of 53 = .ok (.getfield 7, 3) := dk_180 0 7 (dk_at dksX3_of_2 1 rfl rfl)
theorem dX3_of_56 : decode cX3_of 56 = .ok (.ireturn, 1) := dk_172 (dk_at dksX3_of_2 4 rfl rfl)
theorem dX3_of_57 : decode cX3_of 57 = .ok (.aload_n 0, 1) := dk_42 (dk_at dksX3_of_2 5 rfl rfl)
theorem dX3_of_58 : decode cX3_of 58 = .ok (.getfield 13, 3) := dk_180 0 13 (dk_at dksX3_of_2 6 rfl rfl)
theorem dX3_of_61 : decode cX3_of 61 = .ok (.ireturn, 1) := dk_172 (dk_at dksX3_of_2 9 rfl rfl)
theorem dX3_of_62 : decode cX3_of 62 = .ok (.aload_n 0, 1) := dk_42 (dk_at dksX3_of_2 10 rfl rfl)
theorem dX3_of_63 : decode cX3_of 63 = .ok (.getfield 16, 3) := dk_180 0 16 (dk_at dksX3_of_2 11 rfl rfl)
theorem dX3_of_66 : decode cX3_of 66 = .ok (.ireturn, 1) := dk_172 (dk_at dksX3_of_2 14 rfl rfl)
theorem dX3_of_67 : decode cX3_of 67 = .ok (.aload_n 0, 1) := dk_42 (dk_at dksX3_of_2 15 rfl rfl)
theorem dX3_of_68 : decode cX3_of 68 = .ok (.getfield 19, 3) := dk_180 0 19 (dk_at dksX3_of_2 16 rfl rfl)
theorem dX3_of_71 : decode cX3_of 71 = .ok (.ireturn, 1) := dk_172 (dk_at dksX3_of_2 19 rfl rfl)
theorem dX3_of_72 : decode cX3_of 72 = .ok (.aload_n 0, 1) := dk_42 (dk_at dksX3_of_2 20 rfl rfl)
theorem dX3_of_73 : decode cX3_of 73 = .ok (.getfield 22, 3) := dk_180 0 22 (dk_at dksX3_of_2 21 rfl rfl)
theorem dX3_of_76 : decode cX3_of 76 = .ok (.ireturn, 1) := dk_172 (dk_at dksX3_of_3 0 rfl rfl)
theorem dX3_of_77 : decode cX3_of 77 = .ok (.aload_n 0, 1) := dk_42 (dk_at dksX3_of_3 1 rfl rfl)
theorem dX3_of_78 : decode cX3_of 78 = .ok (.getfield 25, 3) := dk_180 0 25 (dk_at dksX3_of_3 2 rfl rfl)
theorem dX3_of_81 : decode cX3_of 81 = .ok (.ireturn, 1) := dk_172 (dk_at dksX3_of_3 5 rfl rfl)
theorem q83 : (Jvm.Cond.initialized "GeeseKeys$Look") ∈ lw_all := lw_g (lw_at lw_m1 7 rfl) rfl
theorem q220 : (Jvm.Cond.instantiable "GeeseKeys$Look" (6 : Nat)) ∈ lw_all := lw_g (lw_at lw_m1 144 rfl) rfl
theorem q222 : (Jvm.Cond.instanceMethod ({ cls := "GeeseKeys$Look", name := "<init>", desc := "()V" } : Jvm.MethodName)) ∈ lw_all := lw_g (lw_at lw_m1 146 rfl) rfl
theorem q223 : (Jvm.Cond.code ({ cls := "GeeseKeys$Look", name := "<init>", desc := "()V" } : Jvm.MethodName) prog_9_method_1_code (1 : Nat) (Option.none : Option Jvm.ClassFile.FieldType)) ∈ lw_all := lw_g (lw_at lw_m1 147 rfl) rfl
theorem q224 : (Jvm.Cond.methodLink "GeeseKeys$Look" (1 : Nat) ({ cls := "java/lang/Object", name := "<init>", desc := "()V" } : Jvm.MethodName)) ∈ lw_all := lw_g (lw_at lw_m1 148 rfl) rfl
theorem q225 : (Jvm.Cond.fieldLink "GeeseKeys$Look" (7 : Nat) "GeeseKeys$Look" "goose" "I") ∈ lw_all := lw_g (lw_at lw_m1 149 rfl) rfl
theorem q227 : (Jvm.Cond.fieldLink "GeeseKeys$Look" (13 : Nat) "GeeseKeys$Look" "kind" "I") ∈ lw_all := lw_g (lw_at lw_m1 151 rfl) rfl
theorem q229 : (Jvm.Cond.fieldLink "GeeseKeys$Look" (16 : Nat) "GeeseKeys$Look" "v" "I") ∈ lw_all := lw_g (lw_at lw_m1 153 rfl) rfl
theorem q231 : (Jvm.Cond.fieldLink "GeeseKeys$Look" (19 : Nat) "GeeseKeys$Look" "court" "I") ∈ lw_all := lw_g (lw_at lw_m1 155 rfl) rfl
theorem q233 : (Jvm.Cond.fieldLink "GeeseKeys$Look" (22 : Nat) "GeeseKeys$Look" "grains" "I") ∈ lw_all := lw_g (lw_at lw_m1 157 rfl) rfl
theorem q235 : (Jvm.Cond.fieldLink "GeeseKeys$Look" (25 : Nat) "GeeseKeys$Look" "hour" "I") ∈ lw_all := lw_g (lw_at lw_m1 159 rfl) rfl
theorem q237 : (Jvm.Cond.lays "GeeseKeys$Look" "GeeseKeys$Look" "goose" "I") ∈ lw_all := lw_g (lw_at lw_m1 161 rfl) rfl
theorem q238 : (Jvm.Cond.soleField "GeeseKeys$Look" "goose") ∈ lw_all := lw_g (lw_at lw_m1 162 rfl) rfl
theorem q239 : (Jvm.Cond.lays "GeeseKeys$Look" "GeeseKeys$Look" "kind" "I") ∈ lw_all := lw_g (lw_at lw_m1 163 rfl) rfl
theorem q240 : (Jvm.Cond.soleField "GeeseKeys$Look" "kind") ∈ lw_all := lw_g (lw_at lw_m1 164 rfl) rfl
theorem q241 : (Jvm.Cond.lays "GeeseKeys$Look" "GeeseKeys$Look" "v" "I") ∈ lw_all := lw_g (lw_at lw_m1 165 rfl) rfl
theorem q242 : (Jvm.Cond.soleField "GeeseKeys$Look" "v") ∈ lw_all := lw_g (lw_at lw_m1 166 rfl) rfl
theorem q243 : (Jvm.Cond.lays "GeeseKeys$Look" "GeeseKeys$Look" "court" "I") ∈ lw_all := lw_g (lw_at lw_m1 167 rfl) rfl
theorem q244 : (Jvm.Cond.soleField "GeeseKeys$Look" "court") ∈ lw_all := lw_g (lw_at lw_m1 168 rfl) rfl
theorem q245 : (Jvm.Cond.lays "GeeseKeys$Look" "GeeseKeys$Look" "grains" "I") ∈ lw_all := lw_g (lw_at lw_m1 169 rfl) rfl
theorem q246 : (Jvm.Cond.soleField "GeeseKeys$Look" "grains") ∈ lw_all := lw_g (lw_at lw_m1 170 rfl) rfl
theorem q247 : (Jvm.Cond.lays "GeeseKeys$Look" "GeeseKeys$Look" "hour" "I") ∈ lw_all := lw_g (lw_at lw_m1 171 rfl) rfl
theorem q248 : (Jvm.Cond.soleField "GeeseKeys$Look" "hour") ∈ lw_all := lw_g (lw_at lw_m1 172 rfl) rfl
theorem q249 : (Jvm.Cond.superclass "GeeseKeys$Look" "java/lang/Object") ∈ lw_all := lw_g (lw_at lw_m1 173 rfl) rfl
theorem q582 : (Jvm.Cond.instanceMethod ({ cls := "GeeseKeys$Look", name := "of", desc := "(I)I" } : Jvm.MethodName)) ∈ lw_all := lw_g (lw_at lw_m3 26 rfl) rfl
theorem q583 : (Jvm.Cond.selects "GeeseKeys$Look" ({ cls := "GeeseKeys$Look", name := "of", desc := "(I)I" } : Jvm.MethodName) ({ cls := "GeeseKeys$Look", name := "of", desc := "(I)I" } : Jvm.MethodName)) ∈ lw_all := lw_g (lw_at lw_m3 27 rfl) rfl
theorem q584 : (Jvm.Cond.code ({ cls := "GeeseKeys$Look", name := "of", desc := "(I)I" } : Jvm.MethodName) prog_9_method_2_code (2 : Nat) (Option.some Jvm.ClassFile.FieldType.int)) ∈ lw_all := lw_g (lw_at lw_m3 28 rfl) rfl
theorem q966 : (Jvm.Cond.selects "GeeseKeys$Look" ({ cls := "java/lang/Object", name := "getClass", desc := "()Ljava/lang/Class;" } : Jvm.MethodName) ({ cls := "java/lang/Object", name := "getClass", desc := "()Ljava/lang/Class;" } : Jvm.MethodName)) ∈ lw_all := lw_g (lw_at lw_m4 170 rfl) rfl
theorem q1873 : (Jvm.Cond.castable "GeeseKeys$Look" "java/lang/Object") ∈ lw_tbl := lw_at lw_m8 117 rfl
theorem in_X3 : ∀ w ∈ wsX30, w ∈ lw_all := lw_in wsX30 [237, 239, 241, 243, 245, 247] (by decide +kernel) (by decide +kernel)
/-! GeeseKeys$Trace -/
set_option maxRecDepth 100000
def RX4 : String := "GeeseKeys$Trace"
def TX4 : u_T := fun k => match k with
  | 0 => ("GeeseKeys$Trace", "bodies", "[I", true)
  | _ => ("GeeseKeys$Trace", "count", "I", false)
def tyX4 : Nat → FieldType := fun k => match k with
  | 0 => .array .int
  | _ => .int
abbrev wsX40 : List Cond := u_ws RX4 TX4 2
theorem nmX4 : ∀ a, a < 2 → ∀ b, b < 2 → a ≠ b → (TX4 a).2.1 ≠ (TX4 b).2.1 := by decide +kernel
theorem tyX4_ok : ∀ k, k < 2 → parseFieldDescriptor (TX4 k).2.2.1 = some (tyX4 k) := by decide +kernel
abbrev cX4_init : ByteArray := prog_21_method_1_code
def yX4_init : MethodName := ⟨RX4, "<init>", "()V"⟩
def dkwX4_init_0 : List UInt8 := [42, 183, 0, 3, 42, 16, 20, 188, 10, 181, 0, 9, 177]
abbrev dktX4_init_0 : List UInt8 := dkwX4_init_0 ++ []
theorem dksX4_init_0 : cX4_init.data.toList.drop 0 = dktX4_init_0 := by decide +kernel
theorem dX4_init_0 : decode cX4_init 0 = .ok (.aload_n 0, 1) := dk_42 (dk_at dksX4_init_0 0 rfl rfl)
theorem dX4_init_1 : decode cX4_init 1 = .ok (.invokespecial 3, 3) := dk_183 0 3 (dk_at dksX4_init_0 1 rfl rfl)
theorem dX4_init_4 : decode cX4_init 4 = .ok (.aload_n 0, 1) := dk_42 (dk_at dksX4_init_0 4 rfl rfl)
theorem dX4_init_5 : decode cX4_init 5 = .ok (.bipush 20, 2) := dk_16 20 (dk_at dksX4_init_0 5 rfl rfl)
theorem dX4_init_7 : decode cX4_init 7 = .ok (.newarray .int, 2) := dk_188_10 (dk_at dksX4_init_0 7 rfl rfl)
theorem dX4_init_9 : decode cX4_init 9 = .ok (.putfield 9, 3) := dk_181 0 9 (dk_at dksX4_init_0 9 rfl rfl)
theorem dX4_init_12 : decode cX4_init 12 = .ok (.return_, 1) := dk_177 (dk_at dksX4_init_0 12 rfl rfl)
abbrev cX4_ran : ByteArray := prog_21_method_2_code
def yX4_ran : MethodName := ⟨RX4, "ran", "(I)V"⟩
def dkwX4_ran_1 : List UInt8 := [4, 96, 181, 0, 15, 177]
abbrev dktX4_ran_1 : List UInt8 := dkwX4_ran_1 ++ []
def dkwX4_ran_0 : List UInt8 := [42, 180, 0, 15, 16, 20, 162, 0, 13, 42, 180, 0, 9, 42, 180, 0, 15, 27, 79, 42, 89, 180, 0, 15]
abbrev dktX4_ran_0 : List UInt8 := dkwX4_ran_0 ++ dktX4_ran_1
theorem dksX4_ran_0 : cX4_ran.data.toList.drop 0 = dktX4_ran_0 := by decide +kernel
theorem dksX4_ran_1 : cX4_ran.data.toList.drop 24 = dktX4_ran_1 := dk_seg dksX4_ran_0 24 rfl rfl
theorem dX4_ran_0 : decode cX4_ran 0 = .ok (.aload_n 0, 1) := dk_42 (dk_at dksX4_ran_0 0 rfl rfl)
theorem dX4_ran_1 : decode cX4_ran 1 = .ok (.getfield 15, 3) := dk_180 0 15 (dk_at dksX4_ran_0 1 rfl rfl)
theorem dX4_ran_4 : decode cX4_ran 4 = .ok (.bipush 20, 2) := dk_16 20 (dk_at dksX4_ran_0 4 rfl rfl)
theorem dX4_ran_6 : decode cX4_ran 6 = .ok (.if_icmp .ge 13, 3) := dk_162 0 13 (dk_at dksX4_ran_0 6 rfl rfl)
theorem dX4_ran_9 : decode cX4_ran 9 = .ok (.aload_n 0, 1) := dk_42 (dk_at dksX4_ran_0 9 rfl rfl)
theorem dX4_ran_10 : decode cX4_ran 10 = .ok (.getfield 9, 3) := dk_180 0 9 (dk_at dksX4_ran_0 10 rfl rfl)
theorem dX4_ran_13 : decode cX4_ran 13 = .ok (.aload_n 0, 1) := dk_42 (dk_at dksX4_ran_0 13 rfl rfl)
theorem dX4_ran_14 : decode cX4_ran 14 = .ok (.getfield 15, 3) := dk_180 0 15 (dk_at dksX4_ran_0 14 rfl rfl)
theorem dX4_ran_17 : decode cX4_ran 17 = .ok (.iload_n 1, 1) := dk_27 (dk_at dksX4_ran_0 17 rfl rfl)
theorem dX4_ran_18 : decode cX4_ran 18 = .ok (.iastore, 1) := dk_79 (dk_at dksX4_ran_0 18 rfl rfl)
theorem dX4_ran_19 : decode cX4_ran 19 = .ok (.aload_n 0, 1) := dk_42 (dk_at dksX4_ran_0 19 rfl rfl)
theorem dX4_ran_20 : decode cX4_ran 20 = .ok (.dup, 1) := dk_89 (dk_at dksX4_ran_0 20 rfl rfl)
theorem dX4_ran_21 : decode cX4_ran 21 = .ok (.getfield 15, 3) := dk_180 0 15 (dk_at dksX4_ran_0 21 rfl rfl)
theorem dX4_ran_24 : decode cX4_ran 24 = .ok (.iconst 1, 1) := dk_4 (dk_at dksX4_ran_1 0 rfl rfl)
theorem dX4_ran_25 : decode cX4_ran 25 = .ok (.iadd, 1) := dk_96 (dk_at dksX4_ran_1 1 rfl rfl)
theorem dX4_ran_26 : decode cX4_ran 26 = .ok (.putfield 15, 3) := dk_181 0 15 (dk_at dksX4_ran_1 2 rfl rfl)
theorem dX4_ran_29 : decode cX4_ran 29 = .ok (.return_, 1) := dk_177 (dk_at dksX4_ran_1 5 rfl rfl)
theorem q84 : (Jvm.Cond.initialized "GeeseKeys$Trace") ∈ lw_all := lw_g (lw_at lw_m1 8 rfl) rfl
theorem q251 : (Jvm.Cond.instantiable "GeeseKeys$Trace" (2 : Nat)) ∈ lw_all := lw_g (lw_at lw_m1 175 rfl) rfl
theorem q253 : (Jvm.Cond.instanceMethod ({ cls := "GeeseKeys$Trace", name := "<init>", desc := "()V" } : Jvm.MethodName)) ∈ lw_all := lw_g (lw_at lw_m1 177 rfl) rfl
theorem q254 : (Jvm.Cond.code ({ cls := "GeeseKeys$Trace", name := "<init>", desc := "()V" } : Jvm.MethodName) prog_21_method_1_code (1 : Nat) (Option.none : Option Jvm.ClassFile.FieldType)) ∈ lw_all := lw_g (lw_at lw_m1 178 rfl) rfl
theorem q255 : (Jvm.Cond.methodLink "GeeseKeys$Trace" (3 : Nat) ({ cls := "java/lang/Object", name := "<init>", desc := "()V" } : Jvm.MethodName)) ∈ lw_all := lw_g (lw_at lw_m1 179 rfl) rfl
theorem q256 : (Jvm.Cond.fieldLink "GeeseKeys$Trace" (9 : Nat) "GeeseKeys$Trace" "bodies" "[I") ∈ lw_all := lw_g (lw_at lw_m1 180 rfl) rfl
theorem q258 : (Jvm.Cond.fieldLink "GeeseKeys$Trace" (15 : Nat) "GeeseKeys$Trace" "count" "I") ∈ lw_all := lw_g (lw_at lw_m1 182 rfl) rfl
theorem q260 : (Jvm.Cond.laysFinal "GeeseKeys$Trace" "GeeseKeys$Trace" "bodies" "[I") ∈ lw_all := lw_g (lw_at lw_m1 184 rfl) rfl
theorem q261 : (Jvm.Cond.soleField "GeeseKeys$Trace" "bodies") ∈ lw_all := lw_g (lw_at lw_m1 185 rfl) rfl
theorem q262 : (Jvm.Cond.lays "GeeseKeys$Trace" "GeeseKeys$Trace" "count" "I") ∈ lw_all := lw_g (lw_at lw_m1 186 rfl) rfl
theorem q263 : (Jvm.Cond.soleField "GeeseKeys$Trace" "count") ∈ lw_all := lw_g (lw_at lw_m1 187 rfl) rfl
theorem q264 : (Jvm.Cond.superclass "GeeseKeys$Trace" "java/lang/Object") ∈ lw_all := lw_g (lw_at lw_m1 188 rfl) rfl
theorem q976 : (Jvm.Cond.selects "GeeseKeys$Trace" ({ cls := "java/lang/Object", name := "getClass", desc := "()Ljava/lang/Class;" } : Jvm.MethodName) ({ cls := "java/lang/Object", name := "getClass", desc := "()Ljava/lang/Class;" } : Jvm.MethodName)) ∈ lw_all := lw_g (lw_at lw_m4 180 rfl) rfl
theorem q1250 : (Jvm.Cond.instanceMethod ({ cls := "GeeseKeys$Trace", name := "ran", desc := "(I)V" } : Jvm.MethodName)) ∈ lw_all := lw_g (lw_at lw_m5 214 rfl) rfl
theorem q1251 : (Jvm.Cond.selects "GeeseKeys$Trace" ({ cls := "GeeseKeys$Trace", name := "ran", desc := "(I)V" } : Jvm.MethodName) ({ cls := "GeeseKeys$Trace", name := "ran", desc := "(I)V" } : Jvm.MethodName)) ∈ lw_all := lw_g (lw_at lw_m5 215 rfl) rfl
theorem q1252 : (Jvm.Cond.code ({ cls := "GeeseKeys$Trace", name := "ran", desc := "(I)V" } : Jvm.MethodName) prog_21_method_2_code (2 : Nat) (Option.none : Option Jvm.ClassFile.FieldType)) ∈ lw_all := lw_g (lw_at lw_m5 216 rfl) rfl
theorem q1874 : (Jvm.Cond.castable "GeeseKeys$Trace" "java/lang/Object") ∈ lw_tbl := lw_at lw_m8 118 rfl
theorem in_X4 : ∀ w ∈ wsX40, w ∈ lw_all := lw_in wsX40 [260, 262] (by decide +kernel) (by decide +kernel)
/-! GeeseKeys$Tape -/
set_option maxRecDepth 100000
def RX5 : String := "GeeseKeys$Tape"
def TX5 : u_T := fun k => match k with
  | _ => ("GeeseKeys$Tape", "row", "Ljava/lang/Object;", false)
def tyX5 : Nat → FieldType := fun k => match k with
  | _ => .object "java/lang/Object"
abbrev wsX50 : List Cond := u_ws RX5 TX5 1
theorem nmX5 : ∀ a, a < 1 → ∀ b, b < 1 → a ≠ b → (TX5 a).2.1 ≠ (TX5 b).2.1 := by decide +kernel
theorem tyX5_ok : ∀ k, k < 1 → parseFieldDescriptor (TX5 k).2.2.1 = some (tyX5 k) := by decide +kernel
abbrev cX5_init : ByteArray := prog_16_method_1_code
def yX5_init : MethodName := ⟨RX5, "<init>", "()V"⟩
theorem dX5_init_0 : decode cX5_init 0 = .ok (.aload_n 0, 1) := by decide +kernel
theorem dX5_init_1 : decode cX5_init 1 = .ok (.invokespecial 3, 3) := by decide +kernel
theorem dX5_init_4 : decode cX5_init 4 = .ok (.return_, 1) := by decide +kernel
abbrev cX5_has : ByteArray := prog_16_method_3_code
def yX5_has : MethodName := ⟨RX5, "has", "(I)V"⟩
def dkwX5_has_1 : List UInt8 := [100, 184, 0, 34, 154, 0, 13, 187, 0, 25, 89, 16, 243, 183, 0, 27, 191, 177]
abbrev dktX5_has_1 : List UInt8 := dkwX5_has_1 ++ []
def dkwX5_has_0 : List UInt8 := [42, 180, 0, 9, 199, 0, 13, 187, 0, 25, 89, 16, 245, 183, 0, 27, 191, 27, 3, 42, 182, 0, 30, 4]
abbrev dktX5_has_0 : List UInt8 := dkwX5_has_0 ++ dktX5_has_1
theorem dksX5_has_0 : cX5_has.data.toList.drop 0 = dktX5_has_0 := by decide +kernel
theorem dksX5_has_1 : cX5_has.data.toList.drop 24 = dktX5_has_1 := dk_seg dksX5_has_0 24 rfl rfl
theorem dX5_has_0 : decode cX5_has 0 = .ok (.aload_n 0, 1) := dk_42 (dk_at dksX5_has_0 0 rfl rfl)
theorem dX5_has_1 : decode cX5_has 1 = .ok (.getfield 9, 3) := dk_180 0 9 (dk_at dksX5_has_0 1 rfl rfl)
theorem dX5_has_4 : decode cX5_has 4 = .ok (.ifnonnull 13, 3) := dk_199 0 13 (dk_at dksX5_has_0 4 rfl rfl)
theorem dX5_has_7 : decode cX5_has 7 = .ok (.new 25, 3) := dk_187 0 25 (dk_at dksX5_has_0 7 rfl rfl)
theorem dX5_has_10 : decode cX5_has 10 = .ok (.dup, 1) := dk_89 (dk_at dksX5_has_0 10 rfl rfl)
theorem dX5_has_11 : decode cX5_has 11 = .ok (.bipush (-11), 2) := dk_16 245 (dk_at dksX5_has_0 11 rfl rfl)
theorem dX5_has_13 : decode cX5_has 13 = .ok (.invokespecial 27, 3) := dk_183 0 27 (dk_at dksX5_has_0 13 rfl rfl)
theorem dX5_has_16 : decode cX5_has 16 = .ok (.athrow, 1) := dk_191 (dk_at dksX5_has_0 16 rfl rfl)
theorem dX5_has_17 : decode cX5_has 17 = .ok (.iload_n 1, 1) := dk_27 (dk_at dksX5_has_0 17 rfl rfl)
theorem dX5_has_18 : decode cX5_has 18 = .ok (.iconst 0, 1) := dk_3 (dk_at dksX5_has_0 18 rfl rfl)
theorem dX5_has_19 : decode cX5_has 19 = .ok (.aload_n 0, 1) := dk_42 (dk_at dksX5_has_0 19 rfl rfl)
theorem dX5_has_20 : decode cX5_has 20 = .ok (.invokevirtual 30, 3) := dk_182 0 30 (dk_at dksX5_has_0 20 rfl rfl)
theorem dX5_has_23 : decode cX5_has 23 = .ok (.iconst 1, 1) := dk_4 (dk_at dksX5_has_0 23 rfl rfl)
theorem dX5_has_24 : decode cX5_has 24 = .ok (.isub, 1) := dk_100 (dk_at dksX5_has_1 0 rfl rfl)
theorem dX5_has_25 : decode cX5_has 25 = .ok (.invokestatic 34, 3) := dk_184 0 34 (dk_at dksX5_has_1 1 rfl rfl)
theorem dX5_has_28 : decode cX5_has 28 = .ok (.ifCond .ne 13, 3) := dk_154 0 13 (dk_at dksX5_has_1 4 rfl rfl)
theorem dX5_has_31 : decode cX5_has 31 = .ok (.new 25, 3) := dk_187 0 25 (dk_at dksX5_has_1 7 rfl rfl)
theorem dX5_has_34 : decode cX5_has 34 = .ok (.dup, 1) := dk_89 (dk_at dksX5_has_1 10 rfl rfl)
theorem dX5_has_35 : decode cX5_has 35 = .ok (.bipush (-13), 2) := dk_16 243 (dk_at dksX5_has_1 11 rfl rfl)
theorem dX5_has_37 : decode cX5_has 37 = .ok (.invokespecial 27, 3) := dk_183 0 27 (dk_at dksX5_has_1 13 rfl rfl)
theorem dX5_has_40 : decode cX5_has 40 = .ok (.athrow, 1) := dk_191 (dk_at dksX5_has_1 16 rfl rfl)
theorem dX5_has_41 : decode cX5_has 41 = .ok (.return_, 1) := dk_177 (dk_at dksX5_has_1 17 rfl rfl)
abbrev cX5_size : ByteArray := prog_16_method_2_code
def yX5_size : MethodName := ⟨RX5, "size", "()I"⟩
def dkwX5_size_3 : List UInt8 := [153, 0, 13, 44, 192, 0, 21, 76, 43, 190, 167, 0, 11, 42, 180, 0, 9, 192, 0, 23, 190, 172]
abbrev dktX5_size_3 : List UInt8 := dkwX5_size_3 ++ []
def dkwX5_size_2 : List UInt8 := [193, 0, 19, 153, 0, 11, 44, 192, 0, 19, 76, 43, 190, 172, 42, 180, 0, 9, 77, 44, 193, 0, 21]
abbrev dktX5_size_2 : List UInt8 := dkwX5_size_2 ++ dktX5_size_3
def dkwX5_size_1 : List UInt8 := [77, 44, 193, 0, 17, 153, 0, 11, 44, 192, 0, 17, 76, 43, 190, 172, 42, 180, 0, 9, 77, 44]
abbrev dktX5_size_1 : List UInt8 := dkwX5_size_1 ++ dktX5_size_2
def dkwX5_size_0 : List UInt8 := [42, 180, 0, 9, 77, 44, 193, 0, 15, 153, 0, 11, 44, 192, 0, 15, 76, 43, 190, 172, 42, 180, 0, 9]
abbrev dktX5_size_0 : List UInt8 := dkwX5_size_0 ++ dktX5_size_1
theorem dksX5_size_0 : cX5_size.data.toList.drop 0 = dktX5_size_0 := by decide +kernel
theorem dksX5_size_1 : cX5_size.data.toList.drop 24 = dktX5_size_1 := dk_seg dksX5_size_0 24 rfl rfl
theorem dksX5_size_2 : cX5_size.data.toList.drop 46 = dktX5_size_2 := dk_seg dksX5_size_1 22 rfl rfl
theorem dksX5_size_3 : cX5_size.data.toList.drop 69 = dktX5_size_3 := dk_seg dksX5_size_2 23 rfl rfl
theorem dX5_size_0 : decode cX5_size 0 = .ok (.aload_n 0, 1) := dk_42 (dk_at dksX5_size_0 0 rfl rfl)
theorem dX5_size_1 : decode cX5_size 1 = .ok (.getfield 9, 3) := dk_180 0 9 (dk_at dksX5_size_0 1 rfl rfl)
theorem dX5_size_4 : decode cX5_size 4 = .ok (.astore_n 2, 1) := dk_77 (dk_at dksX5_size_0 4 rfl rfl)
theorem dX5_size_5 : decode cX5_size 5 = .ok (.aload_n 2, 1) := dk_44 (dk_at dksX5_size_0 5 rfl rfl)
theorem dX5_size_6 : decode cX5_size 6 = .ok (.instanceof 15, 3) := dk_193 0 15 (dk_at dksX5_size_0 6 rfl rfl)
theorem dX5_size_9 : decode cX5_size 9 = .ok (.ifCond .eq 11, 3) := dk_153 0 11 (dk_at dksX5_size_0 9 rfl rfl)
theorem dX5_size_12 : decode cX5_size 12 = .ok (.aload_n 2, 1) := dk_44 (dk_at dksX5_size_0 12 rfl rfl)
theorem dX5_size_13 : decode cX5_size 13 = .ok (.checkcast 15, 3) := dk_192 0 15 (dk_at dksX5_size_0 13 rfl rfl)
theorem dX5_size_16 : decode cX5_size 16 = .ok (.astore_n 1, 1) := dk_76 (dk_at dksX5_size_0 16 rfl rfl)
theorem dX5_size_17 : decode cX5_size 17 = .ok (.aload_n 1, 1) := dk_43 (dk_at dksX5_size_0 17 rfl rfl)
theorem dX5_size_18 : decode cX5_size 18 = .ok (.arraylength, 1) := dk_190 (dk_at dksX5_size_0 18 rfl rfl)
theorem dX5_size_19 : decode cX5_size 19 = .ok (.ireturn, 1) := dk_172 (dk_at dksX5_size_0 19 rfl rfl)
theorem dX5_size_20 : decode cX5_size 20 = .ok (.aload_n 0, 1) := dk_42 (dk_at dksX5_size_0 20 rfl rfl)
theorem dX5_size_21 : decode cX5_size 21 = .ok (.getfield 9, 3) := dk_180 0 9 (dk_at dksX5_size_0 21 rfl rfl)
theorem dX5_size_24 : decode cX5_size 24 = .ok (.astore_n 2, 1) := dk_77 (dk_at dksX5_size_1 0 rfl rfl)
theorem dX5_size_25 : decode cX5_size 25 = .ok (.aload_n 2, 1) := dk_44 (dk_at dksX5_size_1 1 rfl rfl)
theorem dX5_size_26 : decode cX5_size 26 = .ok (.instanceof 17, 3) := dk_193 0 17 (dk_at dksX5_size_1 2 rfl rfl)
theorem dX5_size_29 : decode cX5_size 29 = .ok (.ifCond .eq 11, 3) := dk_153 0 11 (dk_at dksX5_size_1 5 rfl rfl)
theorem dX5_size_32 : decode cX5_size 32 = .ok (.aload_n 2, 1) := dk_44 (dk_at dksX5_size_1 8 rfl rfl)
theorem dX5_size_33 : decode cX5_size 33 = .ok (.checkcast 17, 3) := dk_192 0 17 (dk_at dksX5_size_1 9 rfl rfl)
theorem dX5_size_36 : decode cX5_size 36 = .ok (.astore_n 1, 1) := dk_76 (dk_at dksX5_size_1 12 rfl rfl)
theorem dX5_size_37 : decode cX5_size 37 = .ok (.aload_n 1, 1) := dk_43 (dk_at dksX5_size_1 13 rfl rfl)
theorem dX5_size_38 : decode cX5_size 38 = .ok (.arraylength, 1) := dk_190 (dk_at dksX5_size_1 14 rfl rfl)
theorem dX5_size_39 : decode cX5_size 39 = .ok (.ireturn, 1) := dk_172 (dk_at dksX5_size_1 15 rfl rfl)
theorem dX5_size_40 : decode cX5_size 40 = .ok (.aload_n 0, 1) := dk_42 (dk_at dksX5_size_1 16 rfl rfl)
theorem dX5_size_41 : decode cX5_size 41 = .ok (.getfield 9, 3) := dk_180 0 9 (dk_at dksX5_size_1 17 rfl rfl)
theorem dX5_size_44 : decode cX5_size 44 = .ok (.astore_n 2, 1) := dk_77 (dk_at dksX5_size_1 20 rfl rfl)
theorem dX5_size_45 : decode cX5_size 45 = .ok (.aload_n 2, 1) := dk_44 (dk_at dksX5_size_1 21 rfl rfl)
theorem dX5_size_46 : decode cX5_size 46 = .ok (.instanceof 19, 3) := dk_193 0 19 (dk_at dksX5_size_2 0 rfl rfl)
theorem dX5_size_49 : decode cX5_size 49 = .ok (.ifCond .eq 11, 3) := dk_153 0 11 (dk_at dksX5_size_2 3 rfl rfl)
theorem dX5_size_52 : decode cX5_size 52 = .ok (.aload_n 2, 1) := dk_44 (dk_at dksX5_size_2 6 rfl rfl)
theorem dX5_size_53 : decode cX5_size 53 = .ok (.checkcast 19, 3) := dk_192 0 19 (dk_at dksX5_size_2 7 rfl rfl)
theorem dX5_size_56 : decode cX5_size 56 = .ok (.astore_n 1, 1) := dk_76 (dk_at dksX5_size_2 10 rfl rfl)
theorem dX5_size_57 : decode cX5_size 57 = .ok (.aload_n 1, 1) := dk_43 (dk_at dksX5_size_2 11 rfl rfl)
theorem dX5_size_58 : decode cX5_size 58 = .ok (.arraylength, 1) := dk_190 (dk_at dksX5_size_2 12 rfl rfl)
theorem dX5_size_59 : decode cX5_size 59 = .ok (.ireturn, 1) := dk_172 (dk_at dksX5_size_2 13 rfl rfl)
theorem dX5_size_60 : decode cX5_size 60 = .ok (.aload_n 0, 1) := dk_42 (dk_at dksX5_size_2 14 rfl rfl)
theorem dX5_size_61 : decode cX5_size 61 = .ok (.getfield 9, 3) := dk_180 0 9 (dk_at dksX5_size_2 15 rfl rfl)
theorem dX5_size_64 : decode cX5_size 64 = .ok (.astore_n 2, 1) := dk_77 (dk_at dksX5_size_2 18 rfl rfl)
theorem dX5_size_65 : decode cX5_size 65 = .ok (.aload_n 2, 1) := dk_44 (dk_at dksX5_size_2 19 rfl rfl)
theorem dX5_size_66 : decode cX5_size 66 = .ok (.instanceof 21, 3) := dk_193 0 21 (dk_at dksX5_size_2 20 rfl rfl)
theorem dX5_size_69 : decode cX5_size 69 = .ok (.ifCond .eq 13, 3) := dk_153 0 13 (dk_at dksX5_size_3 0 rfl rfl)
theorem dX5_size_72 : decode cX5_size 72 = .ok (.aload_n 2, 1) := dk_44 (dk_at dksX5_size_3 3 rfl rfl)
theorem dX5_size_73 : decode cX5_size 73 = .ok (.checkcast 21, 3) := dk_192 0 21 (dk_at dksX5_size_3 4 rfl rfl)
theorem dX5_size_76 : decode cX5_size 76 = .ok (.astore_n 1, 1) := dk_76 (dk_at dksX5_size_3 7 rfl rfl)
theorem dX5_size_77 : decode cX5_size 77 = .ok (.aload_n 1, 1) := dk_43 (dk_at dksX5_size_3 8 rfl rfl)
theorem dX5_size_78 : decode cX5_size 78 = .ok (.arraylength, 1) := dk_190 (dk_at dksX5_size_3 9 rfl rfl)
theorem dX5_size_79 : decode cX5_size 79 = .ok (.goto 11, 3) := dk_167 0 11 (dk_at dksX5_size_3 10 rfl rfl)
theorem dX5_size_82 : decode cX5_size 82 = .ok (.aload_n 0, 1) := dk_42 (dk_at dksX5_size_3 13 rfl rfl)
theorem dX5_size_83 : decode cX5_size 83 = .ok (.getfield 9, 3) := dk_180 0 9 (dk_at dksX5_size_3 14 rfl rfl)
theorem dX5_size_86 : decode cX5_size 86 = .ok (.checkcast 23, 3) := dk_192 0 23 (dk_at dksX5_size_3 17 rfl rfl)
theorem dX5_size_89 : decode cX5_size 89 = .ok (.arraylength, 1) := dk_190 (dk_at dksX5_size_3 20 rfl rfl)
theorem dX5_size_90 : decode cX5_size 90 = .ok (.ireturn, 1) := dk_172 (dk_at dksX5_size_3 21 rfl rfl)
theorem q85 : (Jvm.Cond.initialized "GeeseKeys$Tape") ∈ lw_all := lw_g (lw_at lw_m1 9 rfl) rfl
theorem q267 : (Jvm.Cond.instantiable "GeeseKeys$Tape" (1 : Nat)) ∈ lw_all := lw_g (lw_at lw_m1 191 rfl) rfl
theorem q269 : (Jvm.Cond.instanceMethod ({ cls := "GeeseKeys$Tape", name := "<init>", desc := "()V" } : Jvm.MethodName)) ∈ lw_all := lw_g (lw_at lw_m1 193 rfl) rfl
theorem q270 : (Jvm.Cond.code ({ cls := "GeeseKeys$Tape", name := "<init>", desc := "()V" } : Jvm.MethodName) prog_16_method_1_code (1 : Nat) (Option.none : Option Jvm.ClassFile.FieldType)) ∈ lw_all := lw_g (lw_at lw_m1 194 rfl) rfl
theorem q271 : (Jvm.Cond.methodLink "GeeseKeys$Tape" (3 : Nat) ({ cls := "java/lang/Object", name := "<init>", desc := "()V" } : Jvm.MethodName)) ∈ lw_all := lw_g (lw_at lw_m1 195 rfl) rfl
theorem q272 : (Jvm.Cond.fieldLink "GeeseKeys$Tape" (9 : Nat) "GeeseKeys$Tape" "row" "Ljava/lang/Object;") ∈ lw_all := lw_g (lw_at lw_m1 196 rfl) rfl
theorem q274 : (Jvm.Cond.lays "GeeseKeys$Tape" "GeeseKeys$Tape" "row" "Ljava/lang/Object;") ∈ lw_all := lw_g (lw_at lw_m1 198 rfl) rfl
theorem q275 : (Jvm.Cond.soleField "GeeseKeys$Tape" "row") ∈ lw_all := lw_g (lw_at lw_m1 199 rfl) rfl
theorem q276 : (Jvm.Cond.superclass "GeeseKeys$Tape" "java/lang/Object") ∈ lw_all := lw_g (lw_at lw_m1 200 rfl) rfl
theorem q973 : (Jvm.Cond.selects "GeeseKeys$Tape" ({ cls := "java/lang/Object", name := "getClass", desc := "()Ljava/lang/Class;" } : Jvm.MethodName) ({ cls := "java/lang/Object", name := "getClass", desc := "()Ljava/lang/Class;" } : Jvm.MethodName)) ∈ lw_all := lw_g (lw_at lw_m4 177 rfl) rfl
theorem q1365 : (Jvm.Cond.privateMethod ({ cls := "GeeseKeys$Tape", name := "has", desc := "(I)V" } : Jvm.MethodName)) ∈ lw_tbl := lw_at lw_m6 89 rfl
theorem q1366 : (Jvm.Cond.instanceMethod ({ cls := "GeeseKeys$Tape", name := "has", desc := "(I)V" } : Jvm.MethodName)) ∈ lw_all := lw_g (lw_at lw_m6 90 rfl) rfl
theorem q1367 : (Jvm.Cond.code ({ cls := "GeeseKeys$Tape", name := "has", desc := "(I)V" } : Jvm.MethodName) prog_16_method_3_code (2 : Nat) (Option.none : Option Jvm.ClassFile.FieldType)) ∈ lw_all := lw_g (lw_at lw_m6 91 rfl) rfl
theorem q1368 : (Jvm.Cond.classLink "GeeseKeys$Tape" (25 : Nat) "GeeseKeys$Off") ∈ lw_all := lw_g (lw_at lw_m6 92 rfl) rfl
theorem q1369 : (Jvm.Cond.methodLink "GeeseKeys$Tape" (27 : Nat) ({ cls := "GeeseKeys$Off", name := "<init>", desc := "(I)V" } : Jvm.MethodName)) ∈ lw_all := lw_g (lw_at lw_m6 93 rfl) rfl
theorem q1370 : (Jvm.Cond.methodLink "GeeseKeys$Tape" (30 : Nat) ({ cls := "GeeseKeys$Tape", name := "size", desc := "()I" } : Jvm.MethodName)) ∈ lw_all := lw_g (lw_at lw_m6 94 rfl) rfl
theorem q1371 : (Jvm.Cond.privateMethod ({ cls := "GeeseKeys$Tape", name := "size", desc := "()I" } : Jvm.MethodName)) ∈ lw_tbl := lw_at lw_m6 95 rfl
theorem q1372 : (Jvm.Cond.instanceMethod ({ cls := "GeeseKeys$Tape", name := "size", desc := "()I" } : Jvm.MethodName)) ∈ lw_all := lw_g (lw_at lw_m6 96 rfl) rfl
theorem q1373 : (Jvm.Cond.code ({ cls := "GeeseKeys$Tape", name := "size", desc := "()I" } : Jvm.MethodName) prog_16_method_2_code (3 : Nat) (Option.some Jvm.ClassFile.FieldType.int)) ∈ lw_all := lw_g (lw_at lw_m6 97 rfl) rfl
theorem q1374 : (Jvm.Cond.classLink "GeeseKeys$Tape" (15 : Nat) "[B") ∈ lw_all := lw_g (lw_at lw_m6 98 rfl) rfl
theorem q1375 : (Jvm.Cond.classLink "GeeseKeys$Tape" (17 : Nat) "[S") ∈ lw_all := lw_g (lw_at lw_m6 99 rfl) rfl
theorem q1376 : (Jvm.Cond.classLink "GeeseKeys$Tape" (19 : Nat) "[I") ∈ lw_all := lw_g (lw_at lw_m6 100 rfl) rfl
theorem q1377 : (Jvm.Cond.classLink "GeeseKeys$Tape" (21 : Nat) "[J") ∈ lw_all := lw_g (lw_at lw_m6 101 rfl) rfl
theorem q1378 : (Jvm.Cond.classLink "GeeseKeys$Tape" (23 : Nat) "[Z") ∈ lw_all := lw_g (lw_at lw_m6 102 rfl) rfl
theorem q1379 : (Jvm.Cond.methodLinkNest "GeeseKeys$Tape" (34 : Nat) ({ cls := "GeeseKeys", name := "in", desc := "(III)Z" } : Jvm.MethodName) "GeeseKeys") ∈ lw_tbl := lw_at lw_m6 103 rfl
theorem q1868 : (Jvm.Cond.castable "GeeseKeys$Tape" "java/lang/Object") ∈ lw_tbl := lw_at lw_m8 112 rfl
theorem in_X5 : ∀ w ∈ wsX50, w ∈ lw_all := lw_in wsX50 [274] (by decide +kernel) (by decide +kernel)
/-! GeeseKeys$Goose -/
set_option maxRecDepth 100000
def RX7 : String := "GeeseKeys$Goose"
def TX7 : u_T := fun k => match k with
  | 0 => ("GeeseKeys$Goose", "trace", "LGeeseKeys$Trace;", true)
  | 1 => ("GeeseKeys$Goose", "number", "I", true)
  | _ => ("GeeseKeys$Goose", "v", "I", false)
def tyX7 : Nat → FieldType := fun k => match k with
  | 0 => .object "GeeseKeys$Trace"
  | 1 => .int
  | _ => .int
abbrev wsX70 : List Cond := u_ws RX7 TX7 3
theorem nmX7 : ∀ a, a < 3 → ∀ b, b < 3 → a ≠ b → (TX7 a).2.1 ≠ (TX7 b).2.1 := by decide +kernel
theorem tyX7_ok : ∀ k, k < 3 → parseFieldDescriptor (TX7 k).2.2.1 = some (tyX7 k) := by decide +kernel
abbrev cX7_init : ByteArray := prog_6_method_1_code
def yX7_init : MethodName := ⟨RX7, "<init>", "(LGeeseKeys$Trace;II)V"⟩
def dkwX7_init_0 : List UInt8 := [42, 183, 0, 1, 42, 43, 181, 0, 7, 42, 28, 181, 0, 13, 42, 29, 181, 0, 17, 177]
abbrev dktX7_init_0 : List UInt8 := dkwX7_init_0 ++ []
theorem dksX7_init_0 : cX7_init.data.toList.drop 0 = dktX7_init_0 := by decide +kernel
theorem dX7_init_0 : decode cX7_init 0 = .ok (.aload_n 0, 1) := dk_42 (dk_at dksX7_init_0 0 rfl rfl)
theorem dX7_init_1 : decode cX7_init 1 = .ok (.invokespecial 1, 3) := dk_183 0 1 (dk_at dksX7_init_0 1 rfl rfl)
theorem dX7_init_4 : decode cX7_init 4 = .ok (.aload_n 0, 1) := dk_42 (dk_at dksX7_init_0 4 rfl rfl)
theorem dX7_init_5 : decode cX7_init 5 = .ok (.aload_n 1, 1) := dk_43 (dk_at dksX7_init_0 5 rfl rfl)
theorem dX7_init_6 : decode cX7_init 6 = .ok (.putfield 7, 3) := dk_181 0 7 (dk_at dksX7_init_0 6 rfl rfl)
theorem dX7_init_9 : decode cX7_init 9 = .ok (.aload_n 0, 1) := dk_42 (dk_at dksX7_init_0 9 rfl rfl)
theorem dX7_init_10 : decode cX7_init 10 = .ok (.iload_n 2, 1) := dk_28 (dk_at dksX7_init_0 10 rfl rfl)
theorem dX7_init_11 : decode cX7_init 11 = .ok (.putfield 13, 3) := dk_181 0 13 (dk_at dksX7_init_0 11 rfl rfl)
theorem dX7_init_14 : decode cX7_init 14 = .ok (.aload_n 0, 1) := dk_42 (dk_at dksX7_init_0 14 rfl rfl)
theorem dX7_init_15 : decode cX7_init 15 = .ok (.iload_n 3, 1) := dk_29 (dk_at dksX7_init_0 15 rfl rfl)
theorem dX7_init_16 : decode cX7_init 16 = .ok (.putfield 17, 3) := dk_181 0 17 (dk_at dksX7_init_0 16 rfl rfl)
theorem dX7_init_19 : decode cX7_init 19 = .ok (.return_, 1) := dk_177 (dk_at dksX7_init_0 19 rfl rfl)
abbrev cX7_kind : ByteArray := prog_6_method_2_code
def yX7_kind : MethodName := ⟨RX7, "kind", "()I"⟩
theorem dX7_kind_0 : decode cX7_kind 0 = .ok (.iconst 0, 1) := by decide +kernel
theorem dX7_kind_1 : decode cX7_kind 1 = .ok (.ireturn, 1) := by decide +kernel
abbrev cX7_feels : ByteArray := prog_6_method_3_code
def yX7_feels : MethodName := ⟨RX7, "feels", "(IIZZZ)I"⟩
theorem dX7_feels_0 : decode cX7_feels 0 = .ok (.iload_n 1, 1) := by decide +kernel
theorem dX7_feels_1 : decode cX7_feels 1 = .ok (.ireturn, 1) := by decide +kernel
abbrev cX7_honks : ByteArray := prog_6_method_4_code
def yX7_honks : MethodName := ⟨RX7, "honks", "(I)I"⟩
def dkwX7_honks_0 : List UInt8 := [42, 180, 0, 7, 16, 10, 182, 0, 20, 27, 42, 180, 0, 13, 96, 172]
abbrev dktX7_honks_0 : List UInt8 := dkwX7_honks_0 ++ []
theorem dksX7_honks_0 : cX7_honks.data.toList.drop 0 = dktX7_honks_0 := by decide +kernel
theorem dX7_honks_0 : decode cX7_honks 0 = .ok (.aload_n 0, 1) := dk_42 (dk_at dksX7_honks_0 0 rfl rfl)
theorem dX7_honks_1 : decode cX7_honks 1 = .ok (.getfield 7, 3) := dk_180 0 7 (dk_at dksX7_honks_0 1 rfl rfl)
theorem dX7_honks_4 : decode cX7_honks 4 = .ok (.bipush 10, 2) := dk_16 10 (dk_at dksX7_honks_0 4 rfl rfl)
theorem dX7_honks_6 : decode cX7_honks 6 = .ok (.invokevirtual 20, 3) := dk_182 0 20 (dk_at dksX7_honks_0 6 rfl rfl)
theorem dX7_honks_9 : decode cX7_honks 9 = .ok (.iload_n 1, 1) := dk_27 (dk_at dksX7_honks_0 9 rfl rfl)
theorem dX7_honks_10 : decode cX7_honks 10 = .ok (.aload_n 0, 1) := dk_42 (dk_at dksX7_honks_0 10 rfl rfl)
theorem dX7_honks_11 : decode cX7_honks 11 = .ok (.getfield 13, 3) := dk_180 0 13 (dk_at dksX7_honks_0 11 rfl rfl)
theorem dX7_honks_14 : decode cX7_honks 14 = .ok (.iadd, 1) := dk_96 (dk_at dksX7_honks_0 14 rfl rfl)
theorem dX7_honks_15 : decode cX7_honks 15 = .ok (.ireturn, 1) := dk_172 (dk_at dksX7_honks_0 15 rfl rfl)
abbrev cX7_struts : ByteArray := prog_6_method_5_code
def yX7_struts : MethodName := ⟨RX7, "struts", "(I)I"⟩
def dkwX7_struts_0 : List UInt8 := [42, 180, 0, 7, 16, 11, 182, 0, 20, 42, 27, 182, 0, 26, 42, 180, 0, 17, 100, 172]
abbrev dktX7_struts_0 : List UInt8 := dkwX7_struts_0 ++ []
theorem dksX7_struts_0 : cX7_struts.data.toList.drop 0 = dktX7_struts_0 := by decide +kernel
theorem dX7_struts_0 : decode cX7_struts 0 = .ok (.aload_n 0, 1) := dk_42 (dk_at dksX7_struts_0 0 rfl rfl)
theorem dX7_struts_1 : decode cX7_struts 1 = .ok (.getfield 7, 3) := dk_180 0 7 (dk_at dksX7_struts_0 1 rfl rfl)
theorem dX7_struts_4 : decode cX7_struts 4 = .ok (.bipush 11, 2) := dk_16 11 (dk_at dksX7_struts_0 4 rfl rfl)
theorem dX7_struts_6 : decode cX7_struts 6 = .ok (.invokevirtual 20, 3) := dk_182 0 20 (dk_at dksX7_struts_0 6 rfl rfl)
theorem dX7_struts_9 : decode cX7_struts 9 = .ok (.aload_n 0, 1) := dk_42 (dk_at dksX7_struts_0 9 rfl rfl)
theorem dX7_struts_10 : decode cX7_struts 10 = .ok (.iload_n 1, 1) := dk_27 (dk_at dksX7_struts_0 10 rfl rfl)
theorem dX7_struts_11 : decode cX7_struts 11 = .ok (.invokevirtual 26, 3) := dk_182 0 26 (dk_at dksX7_struts_0 11 rfl rfl)
theorem dX7_struts_14 : decode cX7_struts 14 = .ok (.aload_n 0, 1) := dk_42 (dk_at dksX7_struts_0 14 rfl rfl)
theorem dX7_struts_15 : decode cX7_struts 15 = .ok (.getfield 17, 3) := dk_180 0 17 (dk_at dksX7_struts_0 15 rfl rfl)
theorem dX7_struts_18 : decode cX7_struts 18 = .ok (.isub, 1) := dk_100 (dk_at dksX7_struts_0 18 rfl rfl)
theorem dX7_struts_19 : decode cX7_struts 19 = .ok (.ireturn, 1) := dk_172 (dk_at dksX7_struts_0 19 rfl rfl)
abbrev cX7_tells : ByteArray := prog_6_method_6_code
def yX7_tells : MethodName := ⟨RX7, "tells", "(I)I"⟩
def dkwX7_tells_0 : List UInt8 := [42, 180, 0, 7, 16, 12, 182, 0, 20, 42, 27, 182, 0, 30, 5, 104, 172]
abbrev dktX7_tells_0 : List UInt8 := dkwX7_tells_0 ++ []
theorem dksX7_tells_0 : cX7_tells.data.toList.drop 0 = dktX7_tells_0 := by decide +kernel
theorem dX7_tells_0 : decode cX7_tells 0 = .ok (.aload_n 0, 1) := dk_42 (dk_at dksX7_tells_0 0 rfl rfl)
theorem dX7_tells_1 : decode cX7_tells 1 = .ok (.getfield 7, 3) := dk_180 0 7 (dk_at dksX7_tells_0 1 rfl rfl)
theorem dX7_tells_4 : decode cX7_tells 4 = .ok (.bipush 12, 2) := dk_16 12 (dk_at dksX7_tells_0 4 rfl rfl)
theorem dX7_tells_6 : decode cX7_tells 6 = .ok (.invokevirtual 20, 3) := dk_182 0 20 (dk_at dksX7_tells_0 6 rfl rfl)
theorem dX7_tells_9 : decode cX7_tells 9 = .ok (.aload_n 0, 1) := dk_42 (dk_at dksX7_tells_0 9 rfl rfl)
theorem dX7_tells_10 : decode cX7_tells 10 = .ok (.iload_n 1, 1) := dk_27 (dk_at dksX7_tells_0 10 rfl rfl)
theorem dX7_tells_11 : decode cX7_tells 11 = .ok (.invokevirtual 30, 3) := dk_182 0 30 (dk_at dksX7_tells_0 11 rfl rfl)
theorem dX7_tells_14 : decode cX7_tells 14 = .ok (.iconst 2, 1) := dk_5 (dk_at dksX7_tells_0 14 rfl rfl)
theorem dX7_tells_15 : decode cX7_tells 15 = .ok (.imul, 1) := dk_104 (dk_at dksX7_tells_0 15 rfl rfl)
theorem dX7_tells_16 : decode cX7_tells 16 = .ok (.ireturn, 1) := dk_172 (dk_at dksX7_tells_0 16 rfl rfl)
theorem q87 : (Jvm.Cond.initialized "GeeseKeys$Goose") ∈ lw_all := lw_g (lw_at lw_m1 11 rfl) rfl
theorem q410 : (Jvm.Cond.instanceMethod ({ cls := "GeeseKeys$Goose", name := "<init>", desc := "(LGeeseKeys$Trace;II)V" } : Jvm.MethodName)) ∈ lw_all := lw_g (lw_at lw_m2 94 rfl) rfl
theorem q411 : (Jvm.Cond.code ({ cls := "GeeseKeys$Goose", name := "<init>", desc := "(LGeeseKeys$Trace;II)V" } : Jvm.MethodName) prog_6_method_1_code (4 : Nat) (Option.none : Option Jvm.ClassFile.FieldType)) ∈ lw_all := lw_g (lw_at lw_m2 95 rfl) rfl
theorem q412 : (Jvm.Cond.methodLink "GeeseKeys$Goose" (1 : Nat) ({ cls := "java/lang/Object", name := "<init>", desc := "()V" } : Jvm.MethodName)) ∈ lw_all := lw_g (lw_at lw_m2 96 rfl) rfl
theorem q413 : (Jvm.Cond.fieldLink "GeeseKeys$Goose" (7 : Nat) "GeeseKeys$Goose" "trace" "LGeeseKeys$Trace;") ∈ lw_all := lw_g (lw_at lw_m2 97 rfl) rfl
theorem q426 : (Jvm.Cond.fieldLink "GeeseKeys$Goose" (13 : Nat) "GeeseKeys$Goose" "number" "I") ∈ lw_all := lw_g (lw_at lw_m2 110 rfl) rfl
theorem q431 : (Jvm.Cond.fieldLink "GeeseKeys$Goose" (17 : Nat) "GeeseKeys$Goose" "v" "I") ∈ lw_all := lw_g (lw_at lw_m2 115 rfl) rfl
theorem q438 : (Jvm.Cond.soleField "GeeseKeys$Goose" "trace") ∈ lw_all := lw_g (lw_at lw_m2 122 rfl) rfl
theorem q440 : (Jvm.Cond.soleField "GeeseKeys$Goose" "number") ∈ lw_all := lw_g (lw_at lw_m2 124 rfl) rfl
theorem q442 : (Jvm.Cond.soleField "GeeseKeys$Goose" "v") ∈ lw_all := lw_g (lw_at lw_m2 126 rfl) rfl
theorem q497 : (Jvm.Cond.instantiable "GeeseKeys$Goose" (3 : Nat)) ∈ lw_all := lw_g (lw_at lw_m2 181 rfl) rfl
theorem q499 : (Jvm.Cond.laysFinal "GeeseKeys$Goose" "GeeseKeys$Goose" "trace" "LGeeseKeys$Trace;") ∈ lw_all := lw_g (lw_at lw_m2 183 rfl) rfl
theorem q500 : (Jvm.Cond.laysFinal "GeeseKeys$Goose" "GeeseKeys$Goose" "number" "I") ∈ lw_all := lw_g (lw_at lw_m2 184 rfl) rfl
theorem q501 : (Jvm.Cond.lays "GeeseKeys$Goose" "GeeseKeys$Goose" "v" "I") ∈ lw_all := lw_g (lw_at lw_m2 185 rfl) rfl
theorem q502 : (Jvm.Cond.superclass "GeeseKeys$Goose" "java/lang/Object") ∈ lw_all := lw_g (lw_at lw_m2 186 rfl) rfl
theorem q515 : (Jvm.Cond.instanceMethod ({ cls := "GeeseKeys$Goose", name := "kind", desc := "()I" } : Jvm.MethodName)) ∈ lw_all := lw_g (lw_at lw_m2 199 rfl) rfl
theorem q516 : (Jvm.Cond.selects "GeeseKeys$Goose" ({ cls := "GeeseKeys$Goose", name := "kind", desc := "()I" } : Jvm.MethodName) ({ cls := "GeeseKeys$Goose", name := "kind", desc := "()I" } : Jvm.MethodName)) ∈ lw_all := lw_g (lw_at lw_m2 200 rfl) rfl
theorem q517 : (Jvm.Cond.sameMethod "GeeseKeys$Goose" "GeeseKeys$Goose" "kind" "()I") ∈ lw_all := lw_g (lw_at lw_m2 201 rfl) rfl
theorem q536 : (Jvm.Cond.code ({ cls := "GeeseKeys$Goose", name := "kind", desc := "()I" } : Jvm.MethodName) prog_6_method_2_code (1 : Nat) (Option.some Jvm.ClassFile.FieldType.int)) ∈ lw_all := lw_g (lw_at lw_m2 220 rfl) rfl
theorem q610 : (Jvm.Cond.instanceMethod ({ cls := "GeeseKeys$Goose", name := "feels", desc := "(IIZZZ)I" } : Jvm.MethodName)) ∈ lw_all := lw_g (lw_at lw_m3 54 rfl) rfl
theorem q611 : (Jvm.Cond.selects "GeeseKeys$Goose" ({ cls := "GeeseKeys$Goose", name := "feels", desc := "(IIZZZ)I" } : Jvm.MethodName) ({ cls := "GeeseKeys$Goose", name := "feels", desc := "(IIZZZ)I" } : Jvm.MethodName)) ∈ lw_all := lw_g (lw_at lw_m3 55 rfl) rfl
theorem q612 : (Jvm.Cond.sameMethod "GeeseKeys$Goose" "GeeseKeys$Goose" "feels" "(IIZZZ)I") ∈ lw_all := lw_g (lw_at lw_m3 56 rfl) rfl
theorem q617 : (Jvm.Cond.code ({ cls := "GeeseKeys$Goose", name := "feels", desc := "(IIZZZ)I" } : Jvm.MethodName) prog_6_method_3_code (6 : Nat) (Option.some Jvm.ClassFile.FieldType.int)) ∈ lw_all := lw_g (lw_at lw_m3 61 rfl) rfl
theorem q963 : (Jvm.Cond.selects "GeeseKeys$Goose" ({ cls := "java/lang/Object", name := "getClass", desc := "()Ljava/lang/Class;" } : Jvm.MethodName) ({ cls := "java/lang/Object", name := "getClass", desc := "()Ljava/lang/Class;" } : Jvm.MethodName)) ∈ lw_all := lw_g (lw_at lw_m4 167 rfl) rfl
theorem q1242 : (Jvm.Cond.instanceMethod ({ cls := "GeeseKeys$Goose", name := "honks", desc := "(I)I" } : Jvm.MethodName)) ∈ lw_all := lw_g (lw_at lw_m5 206 rfl) rfl
theorem q1243 : (Jvm.Cond.selects "GeeseKeys$Goose" ({ cls := "GeeseKeys$Goose", name := "honks", desc := "(I)I" } : Jvm.MethodName) ({ cls := "GeeseKeys$Goose", name := "honks", desc := "(I)I" } : Jvm.MethodName)) ∈ lw_all := lw_g (lw_at lw_m5 207 rfl) rfl
theorem q1244 : (Jvm.Cond.sameMethod "GeeseKeys$Goose" "GeeseKeys$Goose" "honks" "(I)I") ∈ lw_all := lw_g (lw_at lw_m5 208 rfl) rfl
theorem q1254 : (Jvm.Cond.code ({ cls := "GeeseKeys$Goose", name := "honks", desc := "(I)I" } : Jvm.MethodName) prog_6_method_4_code (2 : Nat) (Option.some Jvm.ClassFile.FieldType.int)) ∈ lw_all := lw_g (lw_at lw_m5 218 rfl) rfl
theorem q1255 : (Jvm.Cond.methodLink "GeeseKeys$Goose" (20 : Nat) ({ cls := "GeeseKeys$Trace", name := "ran", desc := "(I)V" } : Jvm.MethodName)) ∈ lw_all := lw_g (lw_at lw_m5 219 rfl) rfl
theorem q1264 : (Jvm.Cond.declares ({ cls := "GeeseKeys$Goose", name := "honks", desc := "(I)I" } : Jvm.MethodName)) ∈ lw_tbl := lw_at lw_m5 228 rfl
theorem q1272 : (Jvm.Cond.instanceMethod ({ cls := "GeeseKeys$Goose", name := "struts", desc := "(I)I" } : Jvm.MethodName)) ∈ lw_all := lw_g (lw_at lw_m5 236 rfl) rfl
theorem q1273 : (Jvm.Cond.selects "GeeseKeys$Goose" ({ cls := "GeeseKeys$Goose", name := "struts", desc := "(I)I" } : Jvm.MethodName) ({ cls := "GeeseKeys$Goose", name := "struts", desc := "(I)I" } : Jvm.MethodName)) ∈ lw_all := lw_g (lw_at lw_m5 237 rfl) rfl
theorem q1274 : (Jvm.Cond.sameMethod "GeeseKeys$Goose" "GeeseKeys$Goose" "struts" "(I)I") ∈ lw_all := lw_g (lw_at lw_m5 238 rfl) rfl
theorem q1280 : (Jvm.Cond.code ({ cls := "GeeseKeys$Goose", name := "struts", desc := "(I)I" } : Jvm.MethodName) prog_6_method_5_code (2 : Nat) (Option.some Jvm.ClassFile.FieldType.int)) ∈ lw_all := lw_g (lw_at lw_m6 4 rfl) rfl
theorem q1281 : (Jvm.Cond.methodLink "GeeseKeys$Goose" (26 : Nat) ({ cls := "GeeseKeys$Goose", name := "honks", desc := "(I)I" } : Jvm.MethodName)) ∈ lw_all := lw_g (lw_at lw_m6 5 rfl) rfl
theorem q1294 : (Jvm.Cond.declares ({ cls := "GeeseKeys$Goose", name := "struts", desc := "(I)I" } : Jvm.MethodName)) ∈ lw_tbl := lw_at lw_m6 18 rfl
theorem q1296 : (Jvm.Cond.instanceMethod ({ cls := "GeeseKeys$Goose", name := "tells", desc := "(I)I" } : Jvm.MethodName)) ∈ lw_all := lw_g (lw_at lw_m6 20 rfl) rfl
theorem q1297 : (Jvm.Cond.selects "GeeseKeys$Goose" ({ cls := "GeeseKeys$Goose", name := "tells", desc := "(I)I" } : Jvm.MethodName) ({ cls := "GeeseKeys$Goose", name := "tells", desc := "(I)I" } : Jvm.MethodName)) ∈ lw_all := lw_g (lw_at lw_m6 21 rfl) rfl
theorem q1298 : (Jvm.Cond.sameMethod "GeeseKeys$Goose" "GeeseKeys$Goose" "tells" "(I)I") ∈ lw_all := lw_g (lw_at lw_m6 22 rfl) rfl
theorem q1307 : (Jvm.Cond.declares ({ cls := "GeeseKeys$Goose", name := "tells", desc := "(I)I" } : Jvm.MethodName)) ∈ lw_tbl := lw_at lw_m6 31 rfl
theorem q1308 : (Jvm.Cond.code ({ cls := "GeeseKeys$Goose", name := "tells", desc := "(I)I" } : Jvm.MethodName) prog_6_method_6_code (2 : Nat) (Option.some Jvm.ClassFile.FieldType.int)) ∈ lw_all := lw_g (lw_at lw_m6 32 rfl) rfl
theorem q1309 : (Jvm.Cond.methodLink "GeeseKeys$Goose" (30 : Nat) ({ cls := "GeeseKeys$Goose", name := "struts", desc := "(I)I" } : Jvm.MethodName)) ∈ lw_all := lw_g (lw_at lw_m6 33 rfl) rfl
theorem q1867 : (Jvm.Cond.castable "GeeseKeys$Goose" "java/lang/Object") ∈ lw_tbl := lw_at lw_m8 111 rfl
theorem in_X7 : ∀ w ∈ wsX70, w ∈ lw_all := lw_in wsX70 [499, 500, 501] (by decide +kernel) (by decide +kernel)
/-! GeeseKeys$Gander -/
set_option maxRecDepth 100000
def RX8 : String := "GeeseKeys$Gander"
def TX8 : u_T := fun k => match k with
  | 0 => ("GeeseKeys$Goose", "trace", "LGeeseKeys$Trace;", true)
  | 1 => ("GeeseKeys$Goose", "number", "I", true)
  | _ => ("GeeseKeys$Goose", "v", "I", false)
def tyX8 : Nat → FieldType := fun k => match k with
  | 0 => .object "GeeseKeys$Trace"
  | 1 => .int
  | _ => .int
abbrev wsX80 : List Cond := u_ws RX8 TX8 3
theorem nmX8 : ∀ a, a < 3 → ∀ b, b < 3 → a ≠ b → (TX8 a).2.1 ≠ (TX8 b).2.1 := by decide +kernel
theorem tyX8_ok : ∀ k, k < 3 → parseFieldDescriptor (TX8 k).2.2.1 = some (tyX8 k) := by decide +kernel
abbrev cX8_init : ByteArray := prog_5_method_1_code
def yX8_init : MethodName := ⟨RX8, "<init>", "(LGeeseKeys$Trace;II)V"⟩
def dkwX8_init_0 : List UInt8 := [42, 43, 28, 29, 183, 0, 3, 177]
abbrev dktX8_init_0 : List UInt8 := dkwX8_init_0 ++ []
theorem dksX8_init_0 : cX8_init.data.toList.drop 0 = dktX8_init_0 := by decide +kernel
theorem dX8_init_0 : decode cX8_init 0 = .ok (.aload_n 0, 1) := dk_42 (dk_at dksX8_init_0 0 rfl rfl)
theorem dX8_init_1 : decode cX8_init 1 = .ok (.aload_n 1, 1) := dk_43 (dk_at dksX8_init_0 1 rfl rfl)
theorem dX8_init_2 : decode cX8_init 2 = .ok (.iload_n 2, 1) := dk_28 (dk_at dksX8_init_0 2 rfl rfl)
theorem dX8_init_3 : decode cX8_init 3 = .ok (.iload_n 3, 1) := dk_29 (dk_at dksX8_init_0 3 rfl rfl)
theorem dX8_init_4 : decode cX8_init 4 = .ok (.invokespecial 3, 3) := dk_183 0 3 (dk_at dksX8_init_0 4 rfl rfl)
theorem dX8_init_7 : decode cX8_init 7 = .ok (.return_, 1) := dk_177 (dk_at dksX8_init_0 7 rfl rfl)
abbrev cX8_kind : ByteArray := prog_5_method_2_code
def yX8_kind : MethodName := ⟨RX8, "kind", "()I"⟩
theorem dX8_kind_0 : decode cX8_kind 0 = .ok (.iconst 1, 1) := by decide +kernel
theorem dX8_kind_1 : decode cX8_kind 1 = .ok (.ireturn, 1) := by decide +kernel
abbrev cX8_feels : ByteArray := prog_5_method_3_code
def yX8_feels : MethodName := ⟨RX8, "feels", "(IIZZZ)I"⟩
def dkwX8_feels_1 : List UInt8 := [100, 172]
abbrev dktX8_feels_1 : List UInt8 := dkwX8_feels_1 ++ []
def dkwX8_feels_0 : List UInt8 := [42, 27, 28, 29, 21, 4, 21, 5, 183, 0, 9, 21, 4, 153, 0, 10, 42, 180, 0, 13, 167, 0, 4, 3]
abbrev dktX8_feels_0 : List UInt8 := dkwX8_feels_0 ++ dktX8_feels_1
theorem dksX8_feels_0 : cX8_feels.data.toList.drop 0 = dktX8_feels_0 := by decide +kernel
theorem dksX8_feels_1 : cX8_feels.data.toList.drop 24 = dktX8_feels_1 := dk_seg dksX8_feels_0 24 rfl rfl
theorem dX8_feels_0 : decode cX8_feels 0 = .ok (.aload_n 0, 1) := dk_42 (dk_at dksX8_feels_0 0 rfl rfl)
theorem dX8_feels_1 : decode cX8_feels 1 = .ok (.iload_n 1, 1) := dk_27 (dk_at dksX8_feels_0 1 rfl rfl)
theorem dX8_feels_2 : decode cX8_feels 2 = .ok (.iload_n 2, 1) := dk_28 (dk_at dksX8_feels_0 2 rfl rfl)
theorem dX8_feels_3 : decode cX8_feels 3 = .ok (.iload_n 3, 1) := dk_29 (dk_at dksX8_feels_0 3 rfl rfl)
theorem dX8_feels_4 : decode cX8_feels 4 = .ok (.iload 4, 2) := dk_21 4 (dk_at dksX8_feels_0 4 rfl rfl)
theorem dX8_feels_6 : decode cX8_feels 6 = .ok (.iload 5, 2) := dk_21 5 (dk_at dksX8_feels_0 6 rfl rfl)
theorem dX8_feels_8 : decode cX8_feels 8 = .ok (.invokespecial 9, 3) := dk_183 0 9 (dk_at dksX8_feels_0 8 rfl rfl)
theorem dX8_feels_11 : decode cX8_feels 11 = .ok (.iload 4, 2) := dk_21 4 (dk_at dksX8_feels_0 11 rfl rfl)
theorem dX8_feels_13 : decode cX8_feels 13 = .ok (.ifCond .eq 10, 3) := dk_153 0 10 (dk_at dksX8_feels_0 13 rfl rfl)
theorem dX8_feels_16 : decode cX8_feels 16 = .ok (.aload_n 0, 1) := dk_42 (dk_at dksX8_feels_0 16 rfl rfl)
theorem dX8_feels_17 : decode cX8_feels 17 = .ok (.getfield 13, 3) := dk_180 0 13 (dk_at dksX8_feels_0 17 rfl rfl)
theorem dX8_feels_20 : decode cX8_feels 20 = .ok (.goto 4, 3) := dk_167 0 4 (dk_at dksX8_feels_0 20 rfl rfl)
theorem dX8_feels_23 : decode cX8_feels 23 = .ok (.iconst 0, 1) := dk_3 (dk_at dksX8_feels_0 23 rfl rfl)
theorem dX8_feels_24 : decode cX8_feels 24 = .ok (.isub, 1) := dk_100 (dk_at dksX8_feels_1 0 rfl rfl)
theorem dX8_feels_25 : decode cX8_feels 25 = .ok (.ireturn, 1) := dk_172 (dk_at dksX8_feels_1 1 rfl rfl)
abbrev cX8_struts : ByteArray := prog_5_method_4_code
def yX8_struts : MethodName := ⟨RX8, "struts", "(I)I"⟩
def dkwX8_struts_0 : List UInt8 := [42, 180, 0, 19, 16, 20, 182, 0, 23, 42, 27, 183, 0, 29, 16, 6, 130, 172]
abbrev dktX8_struts_0 : List UInt8 := dkwX8_struts_0 ++ []
theorem dksX8_struts_0 : cX8_struts.data.toList.drop 0 = dktX8_struts_0 := by decide +kernel
theorem dX8_struts_0 : decode cX8_struts 0 = .ok (.aload_n 0, 1) := dk_42 (dk_at dksX8_struts_0 0 rfl rfl)
theorem dX8_struts_1 : decode cX8_struts 1 = .ok (.getfield 19, 3) := dk_180 0 19 (dk_at dksX8_struts_0 1 rfl rfl)
theorem dX8_struts_4 : decode cX8_struts 4 = .ok (.bipush 20, 2) := dk_16 20 (dk_at dksX8_struts_0 4 rfl rfl)
theorem dX8_struts_6 : decode cX8_struts 6 = .ok (.invokevirtual 23, 3) := dk_182 0 23 (dk_at dksX8_struts_0 6 rfl rfl)
theorem dX8_struts_9 : decode cX8_struts 9 = .ok (.aload_n 0, 1) := dk_42 (dk_at dksX8_struts_0 9 rfl rfl)
theorem dX8_struts_10 : decode cX8_struts 10 = .ok (.iload_n 1, 1) := dk_27 (dk_at dksX8_struts_0 10 rfl rfl)
theorem dX8_struts_11 : decode cX8_struts 11 = .ok (.invokespecial 29, 3) := dk_183 0 29 (dk_at dksX8_struts_0 11 rfl rfl)
theorem dX8_struts_14 : decode cX8_struts 14 = .ok (.bipush 6, 2) := dk_16 6 (dk_at dksX8_struts_0 14 rfl rfl)
theorem dX8_struts_16 : decode cX8_struts 16 = .ok (.ixor, 1) := dk_130 (dk_at dksX8_struts_0 16 rfl rfl)
theorem dX8_struts_17 : decode cX8_struts 17 = .ok (.ireturn, 1) := dk_172 (dk_at dksX8_struts_0 17 rfl rfl)
theorem q88 : (Jvm.Cond.initialized "GeeseKeys$Gander") ∈ lw_all := lw_g (lw_at lw_m1 12 rfl) rfl
theorem q405 : (Jvm.Cond.instantiable "GeeseKeys$Gander" (3 : Nat)) ∈ lw_all := lw_g (lw_at lw_m2 89 rfl) rfl
theorem q407 : (Jvm.Cond.instanceMethod ({ cls := "GeeseKeys$Gander", name := "<init>", desc := "(LGeeseKeys$Trace;II)V" } : Jvm.MethodName)) ∈ lw_all := lw_g (lw_at lw_m2 91 rfl) rfl
theorem q408 : (Jvm.Cond.code ({ cls := "GeeseKeys$Gander", name := "<init>", desc := "(LGeeseKeys$Trace;II)V" } : Jvm.MethodName) prog_5_method_1_code (4 : Nat) (Option.none : Option Jvm.ClassFile.FieldType)) ∈ lw_all := lw_g (lw_at lw_m2 92 rfl) rfl
theorem q409 : (Jvm.Cond.methodLink "GeeseKeys$Gander" (3 : Nat) ({ cls := "GeeseKeys$Goose", name := "<init>", desc := "(LGeeseKeys$Trace;II)V" } : Jvm.MethodName)) ∈ lw_all := lw_g (lw_at lw_m2 93 rfl) rfl
theorem q418 : (Jvm.Cond.fieldLink "GeeseKeys$Gander" (19 : Nat) "GeeseKeys$Gander" "trace" "LGeeseKeys$Trace;") ∈ lw_all := lw_g (lw_at lw_m2 102 rfl) rfl
theorem q419 : (Jvm.Cond.sameField "GeeseKeys$Gander" "GeeseKeys$Goose" "trace" "LGeeseKeys$Trace;") ∈ lw_all := lw_g (lw_at lw_m2 103 rfl) rfl
theorem q432 : (Jvm.Cond.fieldLink "GeeseKeys$Gander" (13 : Nat) "GeeseKeys$Gander" "v" "I") ∈ lw_all := lw_g (lw_at lw_m2 116 rfl) rfl
theorem q433 : (Jvm.Cond.sameField "GeeseKeys$Gander" "GeeseKeys$Goose" "v" "I") ∈ lw_all := lw_g (lw_at lw_m2 117 rfl) rfl
theorem q437 : (Jvm.Cond.laysFinal "GeeseKeys$Gander" "GeeseKeys$Goose" "trace" "LGeeseKeys$Trace;") ∈ lw_all := lw_g (lw_at lw_m2 121 rfl) rfl
theorem q439 : (Jvm.Cond.laysFinal "GeeseKeys$Gander" "GeeseKeys$Goose" "number" "I") ∈ lw_all := lw_g (lw_at lw_m2 123 rfl) rfl
theorem q441 : (Jvm.Cond.lays "GeeseKeys$Gander" "GeeseKeys$Goose" "v" "I") ∈ lw_all := lw_g (lw_at lw_m2 125 rfl) rfl
theorem q443 : (Jvm.Cond.superclass "GeeseKeys$Gander" "GeeseKeys$Goose") ∈ lw_all := lw_g (lw_at lw_m2 127 rfl) rfl
theorem q518 : (Jvm.Cond.selects "GeeseKeys$Gander" ({ cls := "GeeseKeys$Goose", name := "kind", desc := "()I" } : Jvm.MethodName) ({ cls := "GeeseKeys$Gander", name := "kind", desc := "()I" } : Jvm.MethodName)) ∈ lw_all := lw_g (lw_at lw_m2 202 rfl) rfl
theorem q519 : (Jvm.Cond.instanceMethod ({ cls := "GeeseKeys$Gander", name := "kind", desc := "()I" } : Jvm.MethodName)) ∈ lw_all := lw_g (lw_at lw_m2 203 rfl) rfl
theorem q520 : (Jvm.Cond.code ({ cls := "GeeseKeys$Gander", name := "kind", desc := "()I" } : Jvm.MethodName) prog_5_method_2_code (1 : Nat) (Option.some Jvm.ClassFile.FieldType.int)) ∈ lw_all := lw_g (lw_at lw_m2 204 rfl) rfl
theorem q613 : (Jvm.Cond.selects "GeeseKeys$Gander" ({ cls := "GeeseKeys$Goose", name := "feels", desc := "(IIZZZ)I" } : Jvm.MethodName) ({ cls := "GeeseKeys$Gander", name := "feels", desc := "(IIZZZ)I" } : Jvm.MethodName)) ∈ lw_all := lw_g (lw_at lw_m3 57 rfl) rfl
theorem q614 : (Jvm.Cond.instanceMethod ({ cls := "GeeseKeys$Gander", name := "feels", desc := "(IIZZZ)I" } : Jvm.MethodName)) ∈ lw_all := lw_g (lw_at lw_m3 58 rfl) rfl
theorem q615 : (Jvm.Cond.code ({ cls := "GeeseKeys$Gander", name := "feels", desc := "(IIZZZ)I" } : Jvm.MethodName) prog_5_method_3_code (6 : Nat) (Option.some Jvm.ClassFile.FieldType.int)) ∈ lw_all := lw_g (lw_at lw_m3 59 rfl) rfl
theorem q616 : (Jvm.Cond.methodLink "GeeseKeys$Gander" (9 : Nat) ({ cls := "GeeseKeys$Goose", name := "feels", desc := "(IIZZZ)I" } : Jvm.MethodName)) ∈ lw_all := lw_g (lw_at lw_m3 60 rfl) rfl
theorem q962 : (Jvm.Cond.selects "GeeseKeys$Gander" ({ cls := "java/lang/Object", name := "getClass", desc := "()Ljava/lang/Class;" } : Jvm.MethodName) ({ cls := "java/lang/Object", name := "getClass", desc := "()Ljava/lang/Class;" } : Jvm.MethodName)) ∈ lw_all := lw_g (lw_at lw_m4 166 rfl) rfl
theorem q1245 : (Jvm.Cond.selects "GeeseKeys$Gander" ({ cls := "GeeseKeys$Goose", name := "honks", desc := "(I)I" } : Jvm.MethodName) ({ cls := "GeeseKeys$Goose", name := "honks", desc := "(I)I" } : Jvm.MethodName)) ∈ lw_all := lw_g (lw_at lw_m5 209 rfl) rfl
theorem q1263 : (Jvm.Cond.sameMethod "GeeseKeys$Gander" "GeeseKeys$Goose" "honks" "(I)I") ∈ lw_all := lw_g (lw_at lw_m5 227 rfl) rfl
theorem q1275 : (Jvm.Cond.selects "GeeseKeys$Gander" ({ cls := "GeeseKeys$Goose", name := "struts", desc := "(I)I" } : Jvm.MethodName) ({ cls := "GeeseKeys$Gander", name := "struts", desc := "(I)I" } : Jvm.MethodName)) ∈ lw_all := lw_g (lw_at lw_m5 239 rfl) rfl
theorem q1276 : (Jvm.Cond.instanceMethod ({ cls := "GeeseKeys$Gander", name := "struts", desc := "(I)I" } : Jvm.MethodName)) ∈ lw_all := lw_g (lw_at lw_m6 0 rfl) rfl
theorem q1277 : (Jvm.Cond.code ({ cls := "GeeseKeys$Gander", name := "struts", desc := "(I)I" } : Jvm.MethodName) prog_5_method_4_code (2 : Nat) (Option.some Jvm.ClassFile.FieldType.int)) ∈ lw_all := lw_g (lw_at lw_m6 1 rfl) rfl
theorem q1278 : (Jvm.Cond.methodLink "GeeseKeys$Gander" (23 : Nat) ({ cls := "GeeseKeys$Trace", name := "ran", desc := "(I)V" } : Jvm.MethodName)) ∈ lw_all := lw_g (lw_at lw_m6 2 rfl) rfl
theorem q1279 : (Jvm.Cond.methodLink "GeeseKeys$Gander" (29 : Nat) ({ cls := "GeeseKeys$Goose", name := "struts", desc := "(I)I" } : Jvm.MethodName)) ∈ lw_all := lw_g (lw_at lw_m6 3 rfl) rfl
theorem q1299 : (Jvm.Cond.selects "GeeseKeys$Gander" ({ cls := "GeeseKeys$Goose", name := "tells", desc := "(I)I" } : Jvm.MethodName) ({ cls := "GeeseKeys$Goose", name := "tells", desc := "(I)I" } : Jvm.MethodName)) ∈ lw_all := lw_g (lw_at lw_m6 23 rfl) rfl
theorem q1849 : (Jvm.Cond.sameMethod "GeeseKeys$Gander" "GeeseKeys$Gander" "feels" "(IIZZZ)I") ∈ lw_all := lw_g (lw_at lw_m8 93 rfl) rfl
theorem q1852 : (Jvm.Cond.sameMethod "GeeseKeys$Gander" "GeeseKeys$Gander" "struts" "(I)I") ∈ lw_all := lw_g (lw_at lw_m8 96 rfl) rfl
theorem q1858 : (Jvm.Cond.castable "GeeseKeys$Gander" "GeeseKeys$Goose") ∈ lw_tbl := lw_at lw_m8 102 rfl
theorem q1876 : (Jvm.Cond.castable "GeeseKeys$Gander" "java/lang/Object") ∈ lw_tbl := lw_at lw_m8 120 rfl
theorem in_X8 : ∀ w ∈ wsX80, w ∈ lw_all := lw_in wsX80 [437, 439, 441] (by decide +kernel) (by decide +kernel)
/-! GeeseKeys$Gosling -/
set_option maxRecDepth 100000
def RX9 : String := "GeeseKeys$Gosling"
def TX9 : u_T := fun k => match k with
  | 0 => ("GeeseKeys$Goose", "trace", "LGeeseKeys$Trace;", true)
  | 1 => ("GeeseKeys$Goose", "number", "I", true)
  | _ => ("GeeseKeys$Goose", "v", "I", false)
def tyX9 : Nat → FieldType := fun k => match k with
  | 0 => .object "GeeseKeys$Trace"
  | 1 => .int
  | _ => .int
abbrev wsX90 : List Cond := u_ws RX9 TX9 3
theorem nmX9 : ∀ a, a < 3 → ∀ b, b < 3 → a ≠ b → (TX9 a).2.1 ≠ (TX9 b).2.1 := by decide +kernel
theorem tyX9_ok : ∀ k, k < 3 → parseFieldDescriptor (TX9 k).2.2.1 = some (tyX9 k) := by decide +kernel
abbrev cX9_init : ByteArray := prog_7_method_1_code
def yX9_init : MethodName := ⟨RX9, "<init>", "(LGeeseKeys$Trace;II)V"⟩
def dkwX9_init_0 : List UInt8 := [42, 43, 28, 29, 183, 0, 3, 177]
abbrev dktX9_init_0 : List UInt8 := dkwX9_init_0 ++ []
theorem dksX9_init_0 : cX9_init.data.toList.drop 0 = dktX9_init_0 := by decide +kernel
theorem dX9_init_0 : decode cX9_init 0 = .ok (.aload_n 0, 1) := dk_42 (dk_at dksX9_init_0 0 rfl rfl)
theorem dX9_init_1 : decode cX9_init 1 = .ok (.aload_n 1, 1) := dk_43 (dk_at dksX9_init_0 1 rfl rfl)
theorem dX9_init_2 : decode cX9_init 2 = .ok (.iload_n 2, 1) := dk_28 (dk_at dksX9_init_0 2 rfl rfl)
theorem dX9_init_3 : decode cX9_init 3 = .ok (.iload_n 3, 1) := dk_29 (dk_at dksX9_init_0 3 rfl rfl)
theorem dX9_init_4 : decode cX9_init 4 = .ok (.invokespecial 3, 3) := dk_183 0 3 (dk_at dksX9_init_0 4 rfl rfl)
theorem dX9_init_7 : decode cX9_init 7 = .ok (.return_, 1) := dk_177 (dk_at dksX9_init_0 7 rfl rfl)
abbrev cX9_kind : ByteArray := prog_7_method_2_code
def yX9_kind : MethodName := ⟨RX9, "kind", "()I"⟩
theorem dX9_kind_0 : decode cX9_kind 0 = .ok (.iconst 2, 1) := by decide +kernel
theorem dX9_kind_1 : decode cX9_kind 1 = .ok (.ireturn, 1) := by decide +kernel
abbrev cX9_feels : ByteArray := prog_7_method_3_code
def yX9_feels : MethodName := ⟨RX9, "feels", "(IIZZZ)I"⟩
def dkwX9_feels_0 : List UInt8 := [42, 27, 28, 29, 21, 4, 21, 5, 183, 0, 9, 5, 108, 172]
abbrev dktX9_feels_0 : List UInt8 := dkwX9_feels_0 ++ []
theorem dksX9_feels_0 : cX9_feels.data.toList.drop 0 = dktX9_feels_0 := by decide +kernel
theorem dX9_feels_0 : decode cX9_feels 0 = .ok (.aload_n 0, 1) := dk_42 (dk_at dksX9_feels_0 0 rfl rfl)
theorem dX9_feels_1 : decode cX9_feels 1 = .ok (.iload_n 1, 1) := dk_27 (dk_at dksX9_feels_0 1 rfl rfl)
theorem dX9_feels_2 : decode cX9_feels 2 = .ok (.iload_n 2, 1) := dk_28 (dk_at dksX9_feels_0 2 rfl rfl)
theorem dX9_feels_3 : decode cX9_feels 3 = .ok (.iload_n 3, 1) := dk_29 (dk_at dksX9_feels_0 3 rfl rfl)
theorem dX9_feels_4 : decode cX9_feels 4 = .ok (.iload 4, 2) := dk_21 4 (dk_at dksX9_feels_0 4 rfl rfl)
theorem dX9_feels_6 : decode cX9_feels 6 = .ok (.iload 5, 2) := dk_21 5 (dk_at dksX9_feels_0 6 rfl rfl)
theorem dX9_feels_8 : decode cX9_feels 8 = .ok (.invokespecial 9, 3) := dk_183 0 9 (dk_at dksX9_feels_0 8 rfl rfl)
theorem dX9_feels_11 : decode cX9_feels 11 = .ok (.iconst 2, 1) := dk_5 (dk_at dksX9_feels_0 11 rfl rfl)
theorem dX9_feels_12 : decode cX9_feels 12 = .ok (.idiv, 1) := dk_108 (dk_at dksX9_feels_0 12 rfl rfl)
theorem dX9_feels_13 : decode cX9_feels 13 = .ok (.ireturn, 1) := dk_172 (dk_at dksX9_feels_0 13 rfl rfl)
abbrev cX9_honks : ByteArray := prog_7_method_4_code
def yX9_honks : MethodName := ⟨RX9, "honks", "(I)I"⟩
def dkwX9_honks_0 : List UInt8 := [42, 180, 0, 13, 16, 30, 182, 0, 19, 42, 27, 6, 104, 183, 0, 25, 172]
abbrev dktX9_honks_0 : List UInt8 := dkwX9_honks_0 ++ []
theorem dksX9_honks_0 : cX9_honks.data.toList.drop 0 = dktX9_honks_0 := by decide +kernel
theorem dX9_honks_0 : decode cX9_honks 0 = .ok (.aload_n 0, 1) := dk_42 (dk_at dksX9_honks_0 0 rfl rfl)
theorem dX9_honks_1 : decode cX9_honks 1 = .ok (.getfield 13, 3) := dk_180 0 13 (dk_at dksX9_honks_0 1 rfl rfl)
theorem dX9_honks_4 : decode cX9_honks 4 = .ok (.bipush 30, 2) := dk_16 30 (dk_at dksX9_honks_0 4 rfl rfl)
theorem dX9_honks_6 : decode cX9_honks 6 = .ok (.invokevirtual 19, 3) := dk_182 0 19 (dk_at dksX9_honks_0 6 rfl rfl)
theorem dX9_honks_9 : decode cX9_honks 9 = .ok (.aload_n 0, 1) := dk_42 (dk_at dksX9_honks_0 9 rfl rfl)
theorem dX9_honks_10 : decode cX9_honks 10 = .ok (.iload_n 1, 1) := dk_27 (dk_at dksX9_honks_0 10 rfl rfl)
theorem dX9_honks_11 : decode cX9_honks 11 = .ok (.iconst 3, 1) := dk_6 (dk_at dksX9_honks_0 11 rfl rfl)
theorem dX9_honks_12 : decode cX9_honks 12 = .ok (.imul, 1) := dk_104 (dk_at dksX9_honks_0 12 rfl rfl)
theorem dX9_honks_13 : decode cX9_honks 13 = .ok (.invokespecial 25, 3) := dk_183 0 25 (dk_at dksX9_honks_0 13 rfl rfl)
theorem dX9_honks_16 : decode cX9_honks 16 = .ok (.ireturn, 1) := dk_172 (dk_at dksX9_honks_0 16 rfl rfl)
theorem q89 : (Jvm.Cond.initialized "GeeseKeys$Gosling") ∈ lw_all := lw_g (lw_at lw_m1 13 rfl) rfl
theorem q414 : (Jvm.Cond.fieldLink "GeeseKeys$Gosling" (13 : Nat) "GeeseKeys$Gosling" "trace" "LGeeseKeys$Trace;") ∈ lw_all := lw_g (lw_at lw_m2 98 rfl) rfl
theorem q415 : (Jvm.Cond.sameField "GeeseKeys$Gosling" "GeeseKeys$Goose" "trace" "LGeeseKeys$Trace;") ∈ lw_all := lw_g (lw_at lw_m2 99 rfl) rfl
theorem q445 : (Jvm.Cond.instantiable "GeeseKeys$Gosling" (3 : Nat)) ∈ lw_all := lw_g (lw_at lw_m2 129 rfl) rfl
theorem q447 : (Jvm.Cond.instanceMethod ({ cls := "GeeseKeys$Gosling", name := "<init>", desc := "(LGeeseKeys$Trace;II)V" } : Jvm.MethodName)) ∈ lw_all := lw_g (lw_at lw_m2 131 rfl) rfl
theorem q448 : (Jvm.Cond.code ({ cls := "GeeseKeys$Gosling", name := "<init>", desc := "(LGeeseKeys$Trace;II)V" } : Jvm.MethodName) prog_7_method_1_code (4 : Nat) (Option.none : Option Jvm.ClassFile.FieldType)) ∈ lw_all := lw_g (lw_at lw_m2 132 rfl) rfl
theorem q449 : (Jvm.Cond.methodLink "GeeseKeys$Gosling" (3 : Nat) ({ cls := "GeeseKeys$Goose", name := "<init>", desc := "(LGeeseKeys$Trace;II)V" } : Jvm.MethodName)) ∈ lw_all := lw_g (lw_at lw_m2 133 rfl) rfl
theorem q450 : (Jvm.Cond.laysFinal "GeeseKeys$Gosling" "GeeseKeys$Goose" "trace" "LGeeseKeys$Trace;") ∈ lw_all := lw_g (lw_at lw_m2 134 rfl) rfl
theorem q451 : (Jvm.Cond.laysFinal "GeeseKeys$Gosling" "GeeseKeys$Goose" "number" "I") ∈ lw_all := lw_g (lw_at lw_m2 135 rfl) rfl
theorem q452 : (Jvm.Cond.lays "GeeseKeys$Gosling" "GeeseKeys$Goose" "v" "I") ∈ lw_all := lw_g (lw_at lw_m2 136 rfl) rfl
theorem q453 : (Jvm.Cond.superclass "GeeseKeys$Gosling" "GeeseKeys$Goose") ∈ lw_all := lw_g (lw_at lw_m2 137 rfl) rfl
theorem q521 : (Jvm.Cond.selects "GeeseKeys$Gosling" ({ cls := "GeeseKeys$Goose", name := "kind", desc := "()I" } : Jvm.MethodName) ({ cls := "GeeseKeys$Gosling", name := "kind", desc := "()I" } : Jvm.MethodName)) ∈ lw_all := lw_g (lw_at lw_m2 205 rfl) rfl
theorem q522 : (Jvm.Cond.instanceMethod ({ cls := "GeeseKeys$Gosling", name := "kind", desc := "()I" } : Jvm.MethodName)) ∈ lw_all := lw_g (lw_at lw_m2 206 rfl) rfl
theorem q523 : (Jvm.Cond.code ({ cls := "GeeseKeys$Gosling", name := "kind", desc := "()I" } : Jvm.MethodName) prog_7_method_2_code (1 : Nat) (Option.some Jvm.ClassFile.FieldType.int)) ∈ lw_all := lw_g (lw_at lw_m2 207 rfl) rfl
theorem q618 : (Jvm.Cond.selects "GeeseKeys$Gosling" ({ cls := "GeeseKeys$Goose", name := "feels", desc := "(IIZZZ)I" } : Jvm.MethodName) ({ cls := "GeeseKeys$Gosling", name := "feels", desc := "(IIZZZ)I" } : Jvm.MethodName)) ∈ lw_all := lw_g (lw_at lw_m3 62 rfl) rfl
theorem q619 : (Jvm.Cond.instanceMethod ({ cls := "GeeseKeys$Gosling", name := "feels", desc := "(IIZZZ)I" } : Jvm.MethodName)) ∈ lw_all := lw_g (lw_at lw_m3 63 rfl) rfl
theorem q620 : (Jvm.Cond.code ({ cls := "GeeseKeys$Gosling", name := "feels", desc := "(IIZZZ)I" } : Jvm.MethodName) prog_7_method_3_code (6 : Nat) (Option.some Jvm.ClassFile.FieldType.int)) ∈ lw_all := lw_g (lw_at lw_m3 64 rfl) rfl
theorem q621 : (Jvm.Cond.methodLink "GeeseKeys$Gosling" (9 : Nat) ({ cls := "GeeseKeys$Goose", name := "feels", desc := "(IIZZZ)I" } : Jvm.MethodName)) ∈ lw_all := lw_g (lw_at lw_m3 65 rfl) rfl
theorem q964 : (Jvm.Cond.selects "GeeseKeys$Gosling" ({ cls := "java/lang/Object", name := "getClass", desc := "()Ljava/lang/Class;" } : Jvm.MethodName) ({ cls := "java/lang/Object", name := "getClass", desc := "()Ljava/lang/Class;" } : Jvm.MethodName)) ∈ lw_all := lw_g (lw_at lw_m4 168 rfl) rfl
theorem q1246 : (Jvm.Cond.selects "GeeseKeys$Gosling" ({ cls := "GeeseKeys$Goose", name := "honks", desc := "(I)I" } : Jvm.MethodName) ({ cls := "GeeseKeys$Gosling", name := "honks", desc := "(I)I" } : Jvm.MethodName)) ∈ lw_all := lw_g (lw_at lw_m5 210 rfl) rfl
theorem q1247 : (Jvm.Cond.instanceMethod ({ cls := "GeeseKeys$Gosling", name := "honks", desc := "(I)I" } : Jvm.MethodName)) ∈ lw_all := lw_g (lw_at lw_m5 211 rfl) rfl
theorem q1248 : (Jvm.Cond.code ({ cls := "GeeseKeys$Gosling", name := "honks", desc := "(I)I" } : Jvm.MethodName) prog_7_method_4_code (2 : Nat) (Option.some Jvm.ClassFile.FieldType.int)) ∈ lw_all := lw_g (lw_at lw_m5 212 rfl) rfl
theorem q1249 : (Jvm.Cond.methodLink "GeeseKeys$Gosling" (19 : Nat) ({ cls := "GeeseKeys$Trace", name := "ran", desc := "(I)V" } : Jvm.MethodName)) ∈ lw_all := lw_g (lw_at lw_m5 213 rfl) rfl
theorem q1253 : (Jvm.Cond.methodLink "GeeseKeys$Gosling" (25 : Nat) ({ cls := "GeeseKeys$Goose", name := "honks", desc := "(I)I" } : Jvm.MethodName)) ∈ lw_all := lw_g (lw_at lw_m5 217 rfl) rfl
theorem q1282 : (Jvm.Cond.selects "GeeseKeys$Gosling" ({ cls := "GeeseKeys$Goose", name := "struts", desc := "(I)I" } : Jvm.MethodName) ({ cls := "GeeseKeys$Goose", name := "struts", desc := "(I)I" } : Jvm.MethodName)) ∈ lw_all := lw_g (lw_at lw_m6 6 rfl) rfl
theorem q1300 : (Jvm.Cond.selects "GeeseKeys$Gosling" ({ cls := "GeeseKeys$Goose", name := "tells", desc := "(I)I" } : Jvm.MethodName) ({ cls := "GeeseKeys$Goose", name := "tells", desc := "(I)I" } : Jvm.MethodName)) ∈ lw_all := lw_g (lw_at lw_m6 24 rfl) rfl
theorem q1306 : (Jvm.Cond.sameMethod "GeeseKeys$Gosling" "GeeseKeys$Goose" "tells" "(I)I") ∈ lw_all := lw_g (lw_at lw_m6 30 rfl) rfl
theorem q1848 : (Jvm.Cond.sameMethod "GeeseKeys$Gosling" "GeeseKeys$Gosling" "feels" "(IIZZZ)I") ∈ lw_all := lw_g (lw_at lw_m8 92 rfl) rfl
theorem q1859 : (Jvm.Cond.castable "GeeseKeys$Gosling" "GeeseKeys$Goose") ∈ lw_tbl := lw_at lw_m8 103 rfl
theorem q1877 : (Jvm.Cond.castable "GeeseKeys$Gosling" "java/lang/Object") ∈ lw_tbl := lw_at lw_m8 121 rfl
theorem in_X9 : ∀ w ∈ wsX90, w ∈ lw_all := lw_in wsX90 [450, 451, 452] (by decide +kernel) (by decide +kernel)
